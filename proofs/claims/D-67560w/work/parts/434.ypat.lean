/-! what methods do, written by wip/D-67560w/tools/gen_parts.py -/
set_option maxRecDepth 100000
set_option maxHeartbeats 4000000
/-! 226 PathStoreModel.patch (I)I -/
def w226_18 : List UInt8 := [153, 0, 10, 42, 180, 1, 154, 167, 0, 4, 3, 172]
abbrev u226_18 : List UInt8 := w226_18 ++ []
def w226_17 : List UInt8 := [153, 0, 19, 42, 180, 0, 84, 27, 42, 180, 0, 109, 42, 180, 1, 154, 182, 1, 57, 42, 182, 1, 61]
abbrev u226_17 : List UInt8 := w226_17 ++ u226_18
def w226_16 : List UInt8 := [132, 5, 1, 42, 180, 0, 106, 180, 0, 24, 21, 6, 46, 54, 6, 167, 255, 73, 42, 182, 1, 54]
abbrev u226_16 : List UInt8 := w226_16 ++ u226_17
def w226_15 : List UInt8 := [162, 0, 23, 42, 180, 0, 109, 21, 7, 42, 180, 0, 98, 21, 7, 51, 84, 132, 7, 1, 167, 255, 230]
abbrev u226_15 : List UInt8 := w226_15 ++ u226_16
def w226_14 : List UInt8 := [154, 0, 5, 3, 172, 42, 42, 180, 0, 252, 181, 1, 154, 3, 54, 7, 21, 7, 42, 180, 0, 252]
abbrev u226_14 : List UInt8 := w226_14 ++ u226_15
def w226_13 : List UInt8 := [154, 0, 17, 42, 180, 0, 252, 17, 1, 224, 163, 0, 7, 4, 167, 0, 4, 3, 16, 6, 182, 0, 142]
abbrev u226_13 : List UInt8 := w226_13 ++ u226_14
def w226_12 : List UInt8 := [3, 172, 42, 182, 1, 46, 42, 42, 180, 0, 102, 42, 180, 1, 91, 182, 1, 23, 42, 42, 180, 0, 255]
abbrev u226_12 : List UInt8 := w226_12 ++ u226_13
def w226_11 : List UInt8 := [180, 1, 91, 182, 1, 160, 16, 32, 163, 0, 7, 4, 167, 0, 4, 3, 16, 6, 182, 0, 142, 154, 0, 5]
abbrev u226_11 : List UInt8 := w226_11 ++ u226_12
def w226_10 : List UInt8 := [154, 0, 16, 42, 21, 5, 181, 0, 74, 42, 8, 181, 0, 136, 3, 172, 42, 42, 180, 0, 102, 42]
abbrev u226_10 : List UInt8 := w226_10 ++ u226_11
def w226_9 : List UInt8 := [42, 180, 0, 109, 42, 180, 1, 154, 42, 180, 0, 102, 182, 1, 42, 181, 1, 91, 42, 21, 6, 182, 1, 157]
abbrev u226_9 : List UInt8 := w226_9 ++ u226_10
def w226_8 : List UInt8 := [167, 255, 224, 3, 54, 5, 42, 180, 0, 106, 180, 0, 17, 29, 46, 54, 6, 21, 6, 155, 0, 184, 42, 42]
abbrev u226_8 : List UInt8 := w226_8 ++ u226_9
def w226_7 : List UInt8 := [180, 0, 109, 21, 5, 42, 180, 0, 84, 180, 1, 69, 21, 4, 50, 21, 5, 51, 84, 132, 5, 1]
abbrev u226_7 : List UInt8 := w226_7 ++ u226_8
def w226_6 : List UInt8 := [180, 1, 68, 21, 4, 46, 181, 1, 154, 3, 54, 5, 21, 5, 42, 180, 1, 154, 162, 0, 29, 42]
abbrev u226_6 : List UInt8 := w226_6 ++ u226_7
def w226_5 : List UInt8 := [160, 0, 7, 4, 167, 0, 4, 3, 8, 182, 0, 142, 154, 0, 5, 3, 172, 42, 42, 180, 0, 84]
abbrev u226_5 : List UInt8 := w226_5 ++ u226_6
def w226_4 : List UInt8 := [167, 0, 4, 3, 7, 182, 0, 142, 153, 0, 29, 42, 42, 180, 0, 106, 180, 0, 1, 29, 46, 8]
abbrev u226_4 : List UInt8 := w226_4 ++ u226_5
def w226_3 : List UInt8 := [42, 6, 181, 0, 136, 3, 172, 42, 180, 0, 84, 27, 182, 1, 49, 54, 4, 42, 21, 4, 155, 0, 7, 4]
abbrev u226_3 : List UInt8 := w226_3 ++ u226_4
def w226_2 : List UInt8 := [180, 0, 66, 28, 42, 180, 0, 106, 182, 1, 42, 62, 29, 156, 0, 18, 42, 42, 180, 0, 164, 181, 0, 74]
abbrev u226_2 : List UInt8 := w226_2 ++ u226_3
def w226_1 : List UInt8 := [154, 0, 7, 4, 167, 0, 4, 3, 5, 182, 0, 142, 154, 0, 5, 3, 172, 42, 2, 181, 0, 74, 42, 42]
abbrev u226_1 : List UInt8 := w226_1 ++ u226_2
def w226_0 : List UInt8 := [42, 27, 184, 1, 37, 4, 182, 0, 142, 154, 0, 5, 3, 172, 42, 182, 1, 40, 61, 42, 42, 180, 1, 27]
abbrev u226_0 : List UInt8 := w226_0 ++ u226_1
theorem s226_0 : (prog_32_method_58_code).data.toList.drop 0 = u226_0 := by decide +kernel
theorem s226_1 : (prog_32_method_58_code).data.toList.drop 24 = u226_1 := dk_seg s226_0 24 rfl rfl
theorem s226_2 : (prog_32_method_58_code).data.toList.drop 48 = u226_2 := dk_seg s226_1 24 rfl rfl
theorem s226_3 : (prog_32_method_58_code).data.toList.drop 72 = u226_3 := dk_seg s226_2 24 rfl rfl
theorem s226_4 : (prog_32_method_58_code).data.toList.drop 96 = u226_4 := dk_seg s226_3 24 rfl rfl
theorem s226_5 : (prog_32_method_58_code).data.toList.drop 118 = u226_5 := dk_seg s226_4 22 rfl rfl
theorem s226_6 : (prog_32_method_58_code).data.toList.drop 140 = u226_6 := dk_seg s226_5 22 rfl rfl
theorem s226_7 : (prog_32_method_58_code).data.toList.drop 162 = u226_7 := dk_seg s226_6 22 rfl rfl
theorem s226_8 : (prog_32_method_58_code).data.toList.drop 184 = u226_8 := dk_seg s226_7 22 rfl rfl
theorem s226_9 : (prog_32_method_58_code).data.toList.drop 208 = u226_9 := dk_seg s226_8 24 rfl rfl
theorem s226_10 : (prog_32_method_58_code).data.toList.drop 232 = u226_10 := dk_seg s226_9 24 rfl rfl
theorem s226_11 : (prog_32_method_58_code).data.toList.drop 254 = u226_11 := dk_seg s226_10 22 rfl rfl
theorem s226_12 : (prog_32_method_58_code).data.toList.drop 278 = u226_12 := dk_seg s226_11 24 rfl rfl
theorem s226_13 : (prog_32_method_58_code).data.toList.drop 301 = u226_13 := dk_seg s226_12 23 rfl rfl
theorem s226_14 : (prog_32_method_58_code).data.toList.drop 324 = u226_14 := dk_seg s226_13 23 rfl rfl
theorem s226_15 : (prog_32_method_58_code).data.toList.drop 346 = u226_15 := dk_seg s226_14 22 rfl rfl
theorem s226_16 : (prog_32_method_58_code).data.toList.drop 369 = u226_16 := dk_seg s226_15 23 rfl rfl
theorem s226_17 : (prog_32_method_58_code).data.toList.drop 391 = u226_17 := dk_seg s226_16 22 rfl rfl
theorem s226_18 : (prog_32_method_58_code).data.toList.drop 414 = u226_18 := dk_seg s226_17 23 rfl rfl
theorem Fm226 {pc len : Nat} {i : Instr} (h : decode (prog_32_method_58_code) pc = .ok (i, len)) (hl : len = ilen i len) : ft 226 pc = some (11, 1, 0, i, len) := ft_mk rfl h hl
theorem f226_0 : ft 226 0 = some (11, 1, 0, .aload_n 0, 1) := Fm226 (dk_42 (dk_at s226_0 0 rfl rfl)) rfl
theorem f226_1 : ft 226 1 = some (11, 1, 0, .iload_n 1, 1) := Fm226 (dk_27 (dk_at s226_0 1 rfl rfl)) rfl
theorem f226_2 : ft 226 2 = some (11, 1, 0, .invokestatic 293, 3) := Fm226 (dk_184 1 37 (dk_at s226_0 2 rfl rfl)) rfl
theorem f226_5 : ft 226 5 = some (11, 1, 0, .iconst 1, 1) := Fm226 (dk_4 (dk_at s226_0 5 rfl rfl)) rfl
theorem f226_6 : ft 226 6 = some (11, 1, 0, .invokevirtual 142, 3) := Fm226 (dk_182 0 142 (dk_at s226_0 6 rfl rfl)) rfl
theorem f226_9 : ft 226 9 = some (11, 1, 0, .ifCond .ne 5, 3) := Fm226 (dk_154 0 5 (dk_at s226_0 9 rfl rfl)) rfl
theorem f226_12 : ft 226 12 = some (11, 1, 0, .iconst 0, 1) := Fm226 (dk_3 (dk_at s226_0 12 rfl rfl)) rfl
theorem f226_13 : ft 226 13 = some (11, 1, 0, .ireturn, 1) := Fm226 (dk_172 (dk_at s226_0 13 rfl rfl)) rfl
theorem f226_14 : ft 226 14 = some (11, 1, 0, .aload_n 0, 1) := Fm226 (dk_42 (dk_at s226_0 14 rfl rfl)) rfl
theorem f226_15 : ft 226 15 = some (11, 1, 0, .invokevirtual 296, 3) := Fm226 (dk_182 1 40 (dk_at s226_0 15 rfl rfl)) rfl
theorem f226_18 : ft 226 18 = some (11, 1, 0, .istore_n 2, 1) := Fm226 (dk_61 (dk_at s226_0 18 rfl rfl)) rfl
theorem f226_19 : ft 226 19 = some (11, 1, 0, .aload_n 0, 1) := Fm226 (dk_42 (dk_at s226_0 19 rfl rfl)) rfl
theorem f226_20 : ft 226 20 = some (11, 1, 0, .aload_n 0, 1) := Fm226 (dk_42 (dk_at s226_0 20 rfl rfl)) rfl
theorem f226_21 : ft 226 21 = some (11, 1, 0, .getfield 283, 3) := Fm226 (dk_180 1 27 (dk_at s226_0 21 rfl rfl)) rfl
theorem f226_24 : ft 226 24 = some (11, 1, 0, .ifCond .ne 7, 3) := Fm226 (dk_154 0 7 (dk_at s226_1 0 rfl rfl)) rfl
theorem f226_27 : ft 226 27 = some (11, 1, 0, .iconst 1, 1) := Fm226 (dk_4 (dk_at s226_1 3 rfl rfl)) rfl
theorem f226_28 : ft 226 28 = some (11, 1, 0, .goto 4, 3) := Fm226 (dk_167 0 4 (dk_at s226_1 4 rfl rfl)) rfl
theorem f226_31 : ft 226 31 = some (11, 1, 0, .iconst 0, 1) := Fm226 (dk_3 (dk_at s226_1 7 rfl rfl)) rfl
theorem f226_32 : ft 226 32 = some (11, 1, 0, .iconst 2, 1) := Fm226 (dk_5 (dk_at s226_1 8 rfl rfl)) rfl
theorem f226_33 : ft 226 33 = some (11, 1, 0, .invokevirtual 142, 3) := Fm226 (dk_182 0 142 (dk_at s226_1 9 rfl rfl)) rfl
theorem f226_36 : ft 226 36 = some (11, 1, 0, .ifCond .ne 5, 3) := Fm226 (dk_154 0 5 (dk_at s226_1 12 rfl rfl)) rfl
theorem f226_39 : ft 226 39 = some (11, 1, 0, .iconst 0, 1) := Fm226 (dk_3 (dk_at s226_1 15 rfl rfl)) rfl
theorem f226_40 : ft 226 40 = some (11, 1, 0, .ireturn, 1) := Fm226 (dk_172 (dk_at s226_1 16 rfl rfl)) rfl
theorem f226_41 : ft 226 41 = some (11, 1, 0, .aload_n 0, 1) := Fm226 (dk_42 (dk_at s226_1 17 rfl rfl)) rfl
theorem f226_42 : ft 226 42 = some (11, 1, 0, .iconst (-1), 1) := Fm226 (dk_2 (dk_at s226_1 18 rfl rfl)) rfl
theorem f226_43 : ft 226 43 = some (11, 1, 0, .putfield 74, 3) := Fm226 (dk_181 0 74 (dk_at s226_1 19 rfl rfl)) rfl
theorem f226_46 : ft 226 46 = some (11, 1, 0, .aload_n 0, 1) := Fm226 (dk_42 (dk_at s226_1 22 rfl rfl)) rfl
theorem f226_47 : ft 226 47 = some (11, 1, 0, .aload_n 0, 1) := Fm226 (dk_42 (dk_at s226_1 23 rfl rfl)) rfl
theorem f226_48 : ft 226 48 = some (11, 1, 0, .getfield 66, 3) := Fm226 (dk_180 0 66 (dk_at s226_2 0 rfl rfl)) rfl
theorem f226_51 : ft 226 51 = some (11, 1, 0, .iload_n 2, 1) := Fm226 (dk_28 (dk_at s226_2 3 rfl rfl)) rfl
theorem f226_52 : ft 226 52 = some (11, 1, 0, .aload_n 0, 1) := Fm226 (dk_42 (dk_at s226_2 4 rfl rfl)) rfl
theorem f226_53 : ft 226 53 = some (11, 1, 0, .getfield 106, 3) := Fm226 (dk_180 0 106 (dk_at s226_2 5 rfl rfl)) rfl
theorem f226_56 : ft 226 56 = some (11, 1, 0, .invokevirtual 298, 3) := Fm226 (dk_182 1 42 (dk_at s226_2 8 rfl rfl)) rfl
theorem f226_59 : ft 226 59 = some (11, 1, 0, .istore_n 3, 1) := Fm226 (dk_62 (dk_at s226_2 11 rfl rfl)) rfl
theorem f226_60 : ft 226 60 = some (11, 1, 0, .iload_n 3, 1) := Fm226 (dk_29 (dk_at s226_2 12 rfl rfl)) rfl
theorem f226_61 : ft 226 61 = some (11, 1, 0, .ifCond .ge 18, 3) := Fm226 (dk_156 0 18 (dk_at s226_2 13 rfl rfl)) rfl
theorem f226_64 : ft 226 64 = some (11, 1, 0, .aload_n 0, 1) := Fm226 (dk_42 (dk_at s226_2 16 rfl rfl)) rfl
theorem f226_65 : ft 226 65 = some (11, 1, 0, .aload_n 0, 1) := Fm226 (dk_42 (dk_at s226_2 17 rfl rfl)) rfl
theorem f226_66 : ft 226 66 = some (11, 1, 0, .getfield 164, 3) := Fm226 (dk_180 0 164 (dk_at s226_2 18 rfl rfl)) rfl
theorem f226_69 : ft 226 69 = some (11, 1, 0, .putfield 74, 3) := Fm226 (dk_181 0 74 (dk_at s226_2 21 rfl rfl)) rfl
theorem f226_72 : ft 226 72 = some (11, 1, 0, .aload_n 0, 1) := Fm226 (dk_42 (dk_at s226_3 0 rfl rfl)) rfl
theorem f226_73 : ft 226 73 = some (11, 1, 0, .iconst 3, 1) := Fm226 (dk_6 (dk_at s226_3 1 rfl rfl)) rfl
theorem f226_74 : ft 226 74 = some (11, 1, 0, .putfield 136, 3) := Fm226 (dk_181 0 136 (dk_at s226_3 2 rfl rfl)) rfl
theorem f226_77 : ft 226 77 = some (11, 1, 0, .iconst 0, 1) := Fm226 (dk_3 (dk_at s226_3 5 rfl rfl)) rfl
theorem f226_78 : ft 226 78 = some (11, 1, 0, .ireturn, 1) := Fm226 (dk_172 (dk_at s226_3 6 rfl rfl)) rfl
theorem f226_79 : ft 226 79 = some (11, 1, 0, .aload_n 0, 1) := Fm226 (dk_42 (dk_at s226_3 7 rfl rfl)) rfl
theorem f226_80 : ft 226 80 = some (11, 1, 0, .getfield 84, 3) := Fm226 (dk_180 0 84 (dk_at s226_3 8 rfl rfl)) rfl
theorem f226_83 : ft 226 83 = some (11, 1, 0, .iload_n 1, 1) := Fm226 (dk_27 (dk_at s226_3 11 rfl rfl)) rfl
theorem f226_84 : ft 226 84 = some (11, 1, 0, .invokevirtual 305, 3) := Fm226 (dk_182 1 49 (dk_at s226_3 12 rfl rfl)) rfl
theorem f226_87 : ft 226 87 = some (11, 1, 0, .istore 4, 2) := Fm226 (dk_54 4 (dk_at s226_3 15 rfl rfl)) rfl
theorem f226_89 : ft 226 89 = some (11, 1, 0, .aload_n 0, 1) := Fm226 (dk_42 (dk_at s226_3 17 rfl rfl)) rfl
theorem f226_90 : ft 226 90 = some (11, 1, 0, .iload 4, 2) := Fm226 (dk_21 4 (dk_at s226_3 18 rfl rfl)) rfl
theorem f226_92 : ft 226 92 = some (11, 1, 0, .ifCond .lt 7, 3) := Fm226 (dk_155 0 7 (dk_at s226_3 20 rfl rfl)) rfl
theorem f226_95 : ft 226 95 = some (11, 1, 0, .iconst 1, 1) := Fm226 (dk_4 (dk_at s226_3 23 rfl rfl)) rfl
theorem f226_96 : ft 226 96 = some (11, 1, 0, .goto 4, 3) := Fm226 (dk_167 0 4 (dk_at s226_4 0 rfl rfl)) rfl
theorem f226_99 : ft 226 99 = some (11, 1, 0, .iconst 0, 1) := Fm226 (dk_3 (dk_at s226_4 3 rfl rfl)) rfl
theorem f226_100 : ft 226 100 = some (11, 1, 0, .iconst 4, 1) := Fm226 (dk_7 (dk_at s226_4 4 rfl rfl)) rfl
theorem f226_101 : ft 226 101 = some (11, 1, 0, .invokevirtual 142, 3) := Fm226 (dk_182 0 142 (dk_at s226_4 5 rfl rfl)) rfl
theorem f226_104 : ft 226 104 = some (11, 1, 0, .ifCond .eq 29, 3) := Fm226 (dk_153 0 29 (dk_at s226_4 8 rfl rfl)) rfl
theorem f226_107 : ft 226 107 = some (11, 1, 0, .aload_n 0, 1) := Fm226 (dk_42 (dk_at s226_4 11 rfl rfl)) rfl
theorem f226_108 : ft 226 108 = some (11, 1, 0, .aload_n 0, 1) := Fm226 (dk_42 (dk_at s226_4 12 rfl rfl)) rfl
theorem f226_109 : ft 226 109 = some (11, 1, 0, .getfield 106, 3) := Fm226 (dk_180 0 106 (dk_at s226_4 13 rfl rfl)) rfl
theorem f226_112 : ft 226 112 = some (11, 1, 0, .getfield 1, 3) := Fm226 (dk_180 0 1 (dk_at s226_4 16 rfl rfl)) rfl
theorem f226_115 : ft 226 115 = some (11, 1, 0, .iload_n 3, 1) := Fm226 (dk_29 (dk_at s226_4 19 rfl rfl)) rfl
theorem f226_116 : ft 226 116 = some (11, 1, 0, .iaload, 1) := Fm226 (dk_46 (dk_at s226_4 20 rfl rfl)) rfl
theorem f226_117 : ft 226 117 = some (11, 1, 0, .iconst 5, 1) := Fm226 (dk_8 (dk_at s226_4 21 rfl rfl)) rfl
theorem f226_118 : ft 226 118 = some (11, 1, 0, .if_icmp .ne 7, 3) := Fm226 (dk_160 0 7 (dk_at s226_5 0 rfl rfl)) rfl
theorem f226_121 : ft 226 121 = some (11, 1, 0, .iconst 1, 1) := Fm226 (dk_4 (dk_at s226_5 3 rfl rfl)) rfl
theorem f226_122 : ft 226 122 = some (11, 1, 0, .goto 4, 3) := Fm226 (dk_167 0 4 (dk_at s226_5 4 rfl rfl)) rfl
theorem f226_125 : ft 226 125 = some (11, 1, 0, .iconst 0, 1) := Fm226 (dk_3 (dk_at s226_5 7 rfl rfl)) rfl
theorem f226_126 : ft 226 126 = some (11, 1, 0, .iconst 5, 1) := Fm226 (dk_8 (dk_at s226_5 8 rfl rfl)) rfl
theorem f226_127 : ft 226 127 = some (11, 1, 0, .invokevirtual 142, 3) := Fm226 (dk_182 0 142 (dk_at s226_5 9 rfl rfl)) rfl
theorem f226_130 : ft 226 130 = some (11, 1, 0, .ifCond .ne 5, 3) := Fm226 (dk_154 0 5 (dk_at s226_5 12 rfl rfl)) rfl
theorem f226_133 : ft 226 133 = some (11, 1, 0, .iconst 0, 1) := Fm226 (dk_3 (dk_at s226_5 15 rfl rfl)) rfl
theorem f226_134 : ft 226 134 = some (11, 1, 0, .ireturn, 1) := Fm226 (dk_172 (dk_at s226_5 16 rfl rfl)) rfl
theorem f226_135 : ft 226 135 = some (11, 1, 0, .aload_n 0, 1) := Fm226 (dk_42 (dk_at s226_5 17 rfl rfl)) rfl
theorem f226_136 : ft 226 136 = some (11, 1, 0, .aload_n 0, 1) := Fm226 (dk_42 (dk_at s226_5 18 rfl rfl)) rfl
theorem f226_137 : ft 226 137 = some (11, 1, 0, .getfield 84, 3) := Fm226 (dk_180 0 84 (dk_at s226_5 19 rfl rfl)) rfl
theorem f226_140 : ft 226 140 = some (11, 1, 0, .getfield 324, 3) := Fm226 (dk_180 1 68 (dk_at s226_6 0 rfl rfl)) rfl
theorem f226_143 : ft 226 143 = some (11, 1, 0, .iload 4, 2) := Fm226 (dk_21 4 (dk_at s226_6 3 rfl rfl)) rfl
theorem f226_145 : ft 226 145 = some (11, 1, 0, .iaload, 1) := Fm226 (dk_46 (dk_at s226_6 5 rfl rfl)) rfl
theorem f226_146 : ft 226 146 = some (11, 1, 0, .putfield 410, 3) := Fm226 (dk_181 1 154 (dk_at s226_6 6 rfl rfl)) rfl
theorem f226_149 : ft 226 149 = some (11, 1, 0, .iconst 0, 1) := Fm226 (dk_3 (dk_at s226_6 9 rfl rfl)) rfl
theorem f226_150 : ft 226 150 = some (11, 1, 0, .istore 5, 2) := Fm226 (dk_54 5 (dk_at s226_6 10 rfl rfl)) rfl
theorem f226_152 : ft 226 152 = some (11, 1, 0, .iload 5, 2) := Fm226 (dk_21 5 (dk_at s226_6 12 rfl rfl)) rfl
theorem f226_154 : ft 226 154 = some (11, 1, 0, .aload_n 0, 1) := Fm226 (dk_42 (dk_at s226_6 14 rfl rfl)) rfl
theorem f226_155 : ft 226 155 = some (11, 1, 0, .getfield 410, 3) := Fm226 (dk_180 1 154 (dk_at s226_6 15 rfl rfl)) rfl
theorem f226_158 : ft 226 158 = some (11, 1, 0, .if_icmp .ge 29, 3) := Fm226 (dk_162 0 29 (dk_at s226_6 18 rfl rfl)) rfl
theorem f226_161 : ft 226 161 = some (11, 1, 0, .aload_n 0, 1) := Fm226 (dk_42 (dk_at s226_6 21 rfl rfl)) rfl
theorem f226_162 : ft 226 162 = some (11, 1, 0, .getfield 109, 3) := Fm226 (dk_180 0 109 (dk_at s226_7 0 rfl rfl)) rfl
theorem f226_165 : ft 226 165 = some (11, 1, 0, .iload 5, 2) := Fm226 (dk_21 5 (dk_at s226_7 3 rfl rfl)) rfl
theorem f226_167 : ft 226 167 = some (11, 1, 0, .aload_n 0, 1) := Fm226 (dk_42 (dk_at s226_7 5 rfl rfl)) rfl
theorem f226_168 : ft 226 168 = some (11, 1, 0, .getfield 84, 3) := Fm226 (dk_180 0 84 (dk_at s226_7 6 rfl rfl)) rfl
theorem f226_171 : ft 226 171 = some (11, 1, 0, .getfield 325, 3) := Fm226 (dk_180 1 69 (dk_at s226_7 9 rfl rfl)) rfl
theorem f226_174 : ft 226 174 = some (11, 1, 0, .iload 4, 2) := Fm226 (dk_21 4 (dk_at s226_7 12 rfl rfl)) rfl
theorem f226_176 : ft 226 176 = some (11, 1, 0, .aaload, 1) := Fm226 (dk_50 (dk_at s226_7 14 rfl rfl)) rfl
theorem f226_177 : ft 226 177 = some (11, 1, 0, .iload 5, 2) := Fm226 (dk_21 5 (dk_at s226_7 15 rfl rfl)) rfl
theorem f226_179 : ft 226 179 = some (11, 1, 0, .baload, 1) := Fm226 (dk_51 (dk_at s226_7 17 rfl rfl)) rfl
theorem f226_180 : ft 226 180 = some (11, 1, 0, .bastore, 1) := Fm226 (dk_84 (dk_at s226_7 18 rfl rfl)) rfl
theorem f226_181 : ft 226 181 = some (11, 1, 0, .iinc 5 1, 3) := Fm226 (dk_132 5 1 (dk_at s226_7 19 rfl rfl)) rfl
theorem f226_184 : ft 226 184 = some (11, 1, 0, .goto (-32), 3) := Fm226 (dk_167 255 224 (dk_at s226_8 0 rfl rfl)) rfl
theorem f226_187 : ft 226 187 = some (11, 1, 0, .iconst 0, 1) := Fm226 (dk_3 (dk_at s226_8 3 rfl rfl)) rfl
theorem f226_188 : ft 226 188 = some (11, 1, 0, .istore 5, 2) := Fm226 (dk_54 5 (dk_at s226_8 4 rfl rfl)) rfl
theorem f226_190 : ft 226 190 = some (11, 1, 0, .aload_n 0, 1) := Fm226 (dk_42 (dk_at s226_8 6 rfl rfl)) rfl
theorem f226_191 : ft 226 191 = some (11, 1, 0, .getfield 106, 3) := Fm226 (dk_180 0 106 (dk_at s226_8 7 rfl rfl)) rfl
theorem f226_194 : ft 226 194 = some (11, 1, 0, .getfield 17, 3) := Fm226 (dk_180 0 17 (dk_at s226_8 10 rfl rfl)) rfl
theorem f226_197 : ft 226 197 = some (11, 1, 0, .iload_n 3, 1) := Fm226 (dk_29 (dk_at s226_8 13 rfl rfl)) rfl
theorem f226_198 : ft 226 198 = some (11, 1, 0, .iaload, 1) := Fm226 (dk_46 (dk_at s226_8 14 rfl rfl)) rfl
theorem f226_199 : ft 226 199 = some (11, 1, 0, .istore 6, 2) := Fm226 (dk_54 6 (dk_at s226_8 15 rfl rfl)) rfl
theorem f226_201 : ft 226 201 = some (11, 1, 0, .iload 6, 2) := Fm226 (dk_21 6 (dk_at s226_8 17 rfl rfl)) rfl
theorem f226_203 : ft 226 203 = some (11, 1, 0, .ifCond .lt 184, 3) := Fm226 (dk_155 0 184 (dk_at s226_8 19 rfl rfl)) rfl
theorem f226_206 : ft 226 206 = some (11, 1, 0, .aload_n 0, 1) := Fm226 (dk_42 (dk_at s226_8 22 rfl rfl)) rfl
theorem f226_207 : ft 226 207 = some (11, 1, 0, .aload_n 0, 1) := Fm226 (dk_42 (dk_at s226_8 23 rfl rfl)) rfl
theorem f226_208 : ft 226 208 = some (11, 1, 0, .aload_n 0, 1) := Fm226 (dk_42 (dk_at s226_9 0 rfl rfl)) rfl
theorem f226_209 : ft 226 209 = some (11, 1, 0, .getfield 109, 3) := Fm226 (dk_180 0 109 (dk_at s226_9 1 rfl rfl)) rfl
theorem f226_212 : ft 226 212 = some (11, 1, 0, .aload_n 0, 1) := Fm226 (dk_42 (dk_at s226_9 4 rfl rfl)) rfl
theorem f226_213 : ft 226 213 = some (11, 1, 0, .getfield 410, 3) := Fm226 (dk_180 1 154 (dk_at s226_9 5 rfl rfl)) rfl
theorem f226_216 : ft 226 216 = some (11, 1, 0, .aload_n 0, 1) := Fm226 (dk_42 (dk_at s226_9 8 rfl rfl)) rfl
theorem f226_217 : ft 226 217 = some (11, 1, 0, .getfield 102, 3) := Fm226 (dk_180 0 102 (dk_at s226_9 9 rfl rfl)) rfl
theorem f226_220 : ft 226 220 = some (11, 1, 0, .invokevirtual 298, 3) := Fm226 (dk_182 1 42 (dk_at s226_9 12 rfl rfl)) rfl
theorem f226_223 : ft 226 223 = some (11, 1, 0, .putfield 347, 3) := Fm226 (dk_181 1 91 (dk_at s226_9 15 rfl rfl)) rfl
theorem f226_226 : ft 226 226 = some (11, 1, 0, .aload_n 0, 1) := Fm226 (dk_42 (dk_at s226_9 18 rfl rfl)) rfl
theorem f226_227 : ft 226 227 = some (11, 1, 0, .iload 6, 2) := Fm226 (dk_21 6 (dk_at s226_9 19 rfl rfl)) rfl
theorem f226_229 : ft 226 229 = some (11, 1, 0, .invokevirtual 413, 3) := Fm226 (dk_182 1 157 (dk_at s226_9 21 rfl rfl)) rfl
theorem f226_232 : ft 226 232 = some (11, 1, 0, .ifCond .ne 16, 3) := Fm226 (dk_154 0 16 (dk_at s226_10 0 rfl rfl)) rfl
theorem f226_235 : ft 226 235 = some (11, 1, 0, .aload_n 0, 1) := Fm226 (dk_42 (dk_at s226_10 3 rfl rfl)) rfl
theorem f226_236 : ft 226 236 = some (11, 1, 0, .iload 5, 2) := Fm226 (dk_21 5 (dk_at s226_10 4 rfl rfl)) rfl
theorem f226_238 : ft 226 238 = some (11, 1, 0, .putfield 74, 3) := Fm226 (dk_181 0 74 (dk_at s226_10 6 rfl rfl)) rfl
theorem f226_241 : ft 226 241 = some (11, 1, 0, .aload_n 0, 1) := Fm226 (dk_42 (dk_at s226_10 9 rfl rfl)) rfl
theorem f226_242 : ft 226 242 = some (11, 1, 0, .iconst 5, 1) := Fm226 (dk_8 (dk_at s226_10 10 rfl rfl)) rfl
theorem f226_243 : ft 226 243 = some (11, 1, 0, .putfield 136, 3) := Fm226 (dk_181 0 136 (dk_at s226_10 11 rfl rfl)) rfl
theorem f226_246 : ft 226 246 = some (11, 1, 0, .iconst 0, 1) := Fm226 (dk_3 (dk_at s226_10 14 rfl rfl)) rfl
theorem f226_247 : ft 226 247 = some (11, 1, 0, .ireturn, 1) := Fm226 (dk_172 (dk_at s226_10 15 rfl rfl)) rfl
theorem f226_248 : ft 226 248 = some (11, 1, 0, .aload_n 0, 1) := Fm226 (dk_42 (dk_at s226_10 16 rfl rfl)) rfl
theorem f226_249 : ft 226 249 = some (11, 1, 0, .aload_n 0, 1) := Fm226 (dk_42 (dk_at s226_10 17 rfl rfl)) rfl
theorem f226_250 : ft 226 250 = some (11, 1, 0, .getfield 102, 3) := Fm226 (dk_180 0 102 (dk_at s226_10 18 rfl rfl)) rfl
theorem f226_253 : ft 226 253 = some (11, 1, 0, .aload_n 0, 1) := Fm226 (dk_42 (dk_at s226_10 21 rfl rfl)) rfl
theorem f226_254 : ft 226 254 = some (11, 1, 0, .getfield 347, 3) := Fm226 (dk_180 1 91 (dk_at s226_11 0 rfl rfl)) rfl
theorem f226_257 : ft 226 257 = some (11, 1, 0, .invokevirtual 416, 3) := Fm226 (dk_182 1 160 (dk_at s226_11 3 rfl rfl)) rfl
theorem f226_260 : ft 226 260 = some (11, 1, 0, .bipush 32, 2) := Fm226 (dk_16 32 (dk_at s226_11 6 rfl rfl)) rfl
theorem f226_262 : ft 226 262 = some (11, 1, 0, .if_icmp .gt 7, 3) := Fm226 (dk_163 0 7 (dk_at s226_11 8 rfl rfl)) rfl
theorem f226_265 : ft 226 265 = some (11, 1, 0, .iconst 1, 1) := Fm226 (dk_4 (dk_at s226_11 11 rfl rfl)) rfl
theorem f226_266 : ft 226 266 = some (11, 1, 0, .goto 4, 3) := Fm226 (dk_167 0 4 (dk_at s226_11 12 rfl rfl)) rfl
theorem f226_269 : ft 226 269 = some (11, 1, 0, .iconst 0, 1) := Fm226 (dk_3 (dk_at s226_11 15 rfl rfl)) rfl
theorem f226_270 : ft 226 270 = some (11, 1, 0, .bipush 6, 2) := Fm226 (dk_16 6 (dk_at s226_11 16 rfl rfl)) rfl
theorem f226_272 : ft 226 272 = some (11, 1, 0, .invokevirtual 142, 3) := Fm226 (dk_182 0 142 (dk_at s226_11 18 rfl rfl)) rfl
theorem f226_275 : ft 226 275 = some (11, 1, 0, .ifCond .ne 5, 3) := Fm226 (dk_154 0 5 (dk_at s226_11 21 rfl rfl)) rfl
theorem f226_278 : ft 226 278 = some (11, 1, 0, .iconst 0, 1) := Fm226 (dk_3 (dk_at s226_12 0 rfl rfl)) rfl
theorem f226_279 : ft 226 279 = some (11, 1, 0, .ireturn, 1) := Fm226 (dk_172 (dk_at s226_12 1 rfl rfl)) rfl
theorem f226_280 : ft 226 280 = some (11, 1, 0, .aload_n 0, 1) := Fm226 (dk_42 (dk_at s226_12 2 rfl rfl)) rfl
theorem f226_281 : ft 226 281 = some (11, 1, 0, .invokevirtual 302, 3) := Fm226 (dk_182 1 46 (dk_at s226_12 3 rfl rfl)) rfl
theorem f226_284 : ft 226 284 = some (11, 1, 0, .aload_n 0, 1) := Fm226 (dk_42 (dk_at s226_12 6 rfl rfl)) rfl
theorem f226_285 : ft 226 285 = some (11, 1, 0, .aload_n 0, 1) := Fm226 (dk_42 (dk_at s226_12 7 rfl rfl)) rfl
theorem f226_286 : ft 226 286 = some (11, 1, 0, .getfield 102, 3) := Fm226 (dk_180 0 102 (dk_at s226_12 8 rfl rfl)) rfl
theorem f226_289 : ft 226 289 = some (11, 1, 0, .aload_n 0, 1) := Fm226 (dk_42 (dk_at s226_12 11 rfl rfl)) rfl
theorem f226_290 : ft 226 290 = some (11, 1, 0, .getfield 347, 3) := Fm226 (dk_180 1 91 (dk_at s226_12 12 rfl rfl)) rfl
theorem f226_293 : ft 226 293 = some (11, 1, 0, .invokevirtual 279, 3) := Fm226 (dk_182 1 23 (dk_at s226_12 15 rfl rfl)) rfl
theorem f226_296 : ft 226 296 = some (11, 1, 0, .aload_n 0, 1) := Fm226 (dk_42 (dk_at s226_12 18 rfl rfl)) rfl
theorem f226_297 : ft 226 297 = some (11, 1, 0, .aload_n 0, 1) := Fm226 (dk_42 (dk_at s226_12 19 rfl rfl)) rfl
theorem f226_298 : ft 226 298 = some (11, 1, 0, .getfield 255, 3) := Fm226 (dk_180 0 255 (dk_at s226_12 20 rfl rfl)) rfl
theorem f226_301 : ft 226 301 = some (11, 1, 0, .ifCond .ne 17, 3) := Fm226 (dk_154 0 17 (dk_at s226_13 0 rfl rfl)) rfl
theorem f226_304 : ft 226 304 = some (11, 1, 0, .aload_n 0, 1) := Fm226 (dk_42 (dk_at s226_13 3 rfl rfl)) rfl
theorem f226_305 : ft 226 305 = some (11, 1, 0, .getfield 252, 3) := Fm226 (dk_180 0 252 (dk_at s226_13 4 rfl rfl)) rfl
theorem f226_308 : ft 226 308 = some (11, 1, 0, .sipush 480, 3) := Fm226 (dk_17 1 224 (dk_at s226_13 7 rfl rfl)) rfl
theorem f226_311 : ft 226 311 = some (11, 1, 0, .if_icmp .gt 7, 3) := Fm226 (dk_163 0 7 (dk_at s226_13 10 rfl rfl)) rfl
theorem f226_314 : ft 226 314 = some (11, 1, 0, .iconst 1, 1) := Fm226 (dk_4 (dk_at s226_13 13 rfl rfl)) rfl
theorem f226_315 : ft 226 315 = some (11, 1, 0, .goto 4, 3) := Fm226 (dk_167 0 4 (dk_at s226_13 14 rfl rfl)) rfl
theorem f226_318 : ft 226 318 = some (11, 1, 0, .iconst 0, 1) := Fm226 (dk_3 (dk_at s226_13 17 rfl rfl)) rfl
theorem f226_319 : ft 226 319 = some (11, 1, 0, .bipush 6, 2) := Fm226 (dk_16 6 (dk_at s226_13 18 rfl rfl)) rfl
theorem f226_321 : ft 226 321 = some (11, 1, 0, .invokevirtual 142, 3) := Fm226 (dk_182 0 142 (dk_at s226_13 20 rfl rfl)) rfl
theorem f226_324 : ft 226 324 = some (11, 1, 0, .ifCond .ne 5, 3) := Fm226 (dk_154 0 5 (dk_at s226_14 0 rfl rfl)) rfl
theorem f226_327 : ft 226 327 = some (11, 1, 0, .iconst 0, 1) := Fm226 (dk_3 (dk_at s226_14 3 rfl rfl)) rfl
theorem f226_328 : ft 226 328 = some (11, 1, 0, .ireturn, 1) := Fm226 (dk_172 (dk_at s226_14 4 rfl rfl)) rfl
theorem f226_329 : ft 226 329 = some (11, 1, 0, .aload_n 0, 1) := Fm226 (dk_42 (dk_at s226_14 5 rfl rfl)) rfl
theorem f226_330 : ft 226 330 = some (11, 1, 0, .aload_n 0, 1) := Fm226 (dk_42 (dk_at s226_14 6 rfl rfl)) rfl
theorem f226_331 : ft 226 331 = some (11, 1, 0, .getfield 252, 3) := Fm226 (dk_180 0 252 (dk_at s226_14 7 rfl rfl)) rfl
theorem f226_334 : ft 226 334 = some (11, 1, 0, .putfield 410, 3) := Fm226 (dk_181 1 154 (dk_at s226_14 10 rfl rfl)) rfl
theorem f226_337 : ft 226 337 = some (11, 1, 0, .iconst 0, 1) := Fm226 (dk_3 (dk_at s226_14 13 rfl rfl)) rfl
theorem f226_338 : ft 226 338 = some (11, 1, 0, .istore 7, 2) := Fm226 (dk_54 7 (dk_at s226_14 14 rfl rfl)) rfl
theorem f226_340 : ft 226 340 = some (11, 1, 0, .iload 7, 2) := Fm226 (dk_21 7 (dk_at s226_14 16 rfl rfl)) rfl
theorem f226_342 : ft 226 342 = some (11, 1, 0, .aload_n 0, 1) := Fm226 (dk_42 (dk_at s226_14 18 rfl rfl)) rfl
theorem f226_343 : ft 226 343 = some (11, 1, 0, .getfield 252, 3) := Fm226 (dk_180 0 252 (dk_at s226_14 19 rfl rfl)) rfl
theorem f226_346 : ft 226 346 = some (11, 1, 0, .if_icmp .ge 23, 3) := Fm226 (dk_162 0 23 (dk_at s226_15 0 rfl rfl)) rfl
theorem f226_349 : ft 226 349 = some (11, 1, 0, .aload_n 0, 1) := Fm226 (dk_42 (dk_at s226_15 3 rfl rfl)) rfl
theorem f226_350 : ft 226 350 = some (11, 1, 0, .getfield 109, 3) := Fm226 (dk_180 0 109 (dk_at s226_15 4 rfl rfl)) rfl
theorem f226_353 : ft 226 353 = some (11, 1, 0, .iload 7, 2) := Fm226 (dk_21 7 (dk_at s226_15 7 rfl rfl)) rfl
theorem f226_355 : ft 226 355 = some (11, 1, 0, .aload_n 0, 1) := Fm226 (dk_42 (dk_at s226_15 9 rfl rfl)) rfl
theorem f226_356 : ft 226 356 = some (11, 1, 0, .getfield 98, 3) := Fm226 (dk_180 0 98 (dk_at s226_15 10 rfl rfl)) rfl
theorem f226_359 : ft 226 359 = some (11, 1, 0, .iload 7, 2) := Fm226 (dk_21 7 (dk_at s226_15 13 rfl rfl)) rfl
theorem f226_361 : ft 226 361 = some (11, 1, 0, .baload, 1) := Fm226 (dk_51 (dk_at s226_15 15 rfl rfl)) rfl
theorem f226_362 : ft 226 362 = some (11, 1, 0, .bastore, 1) := Fm226 (dk_84 (dk_at s226_15 16 rfl rfl)) rfl
theorem f226_363 : ft 226 363 = some (11, 1, 0, .iinc 7 1, 3) := Fm226 (dk_132 7 1 (dk_at s226_15 17 rfl rfl)) rfl
theorem f226_366 : ft 226 366 = some (11, 1, 0, .goto (-26), 3) := Fm226 (dk_167 255 230 (dk_at s226_15 20 rfl rfl)) rfl
theorem f226_369 : ft 226 369 = some (11, 1, 0, .iinc 5 1, 3) := Fm226 (dk_132 5 1 (dk_at s226_16 0 rfl rfl)) rfl
theorem f226_372 : ft 226 372 = some (11, 1, 0, .aload_n 0, 1) := Fm226 (dk_42 (dk_at s226_16 3 rfl rfl)) rfl
theorem f226_373 : ft 226 373 = some (11, 1, 0, .getfield 106, 3) := Fm226 (dk_180 0 106 (dk_at s226_16 4 rfl rfl)) rfl
theorem f226_376 : ft 226 376 = some (11, 1, 0, .getfield 24, 3) := Fm226 (dk_180 0 24 (dk_at s226_16 7 rfl rfl)) rfl
theorem f226_379 : ft 226 379 = some (11, 1, 0, .iload 6, 2) := Fm226 (dk_21 6 (dk_at s226_16 10 rfl rfl)) rfl
theorem f226_381 : ft 226 381 = some (11, 1, 0, .iaload, 1) := Fm226 (dk_46 (dk_at s226_16 12 rfl rfl)) rfl
theorem f226_382 : ft 226 382 = some (11, 1, 0, .istore 6, 2) := Fm226 (dk_54 6 (dk_at s226_16 13 rfl rfl)) rfl
theorem f226_384 : ft 226 384 = some (11, 1, 0, .goto (-183), 3) := Fm226 (dk_167 255 73 (dk_at s226_16 15 rfl rfl)) rfl
theorem f226_387 : ft 226 387 = some (11, 1, 0, .aload_n 0, 1) := Fm226 (dk_42 (dk_at s226_16 18 rfl rfl)) rfl
theorem f226_388 : ft 226 388 = some (11, 1, 0, .invokevirtual 310, 3) := Fm226 (dk_182 1 54 (dk_at s226_16 19 rfl rfl)) rfl
theorem f226_391 : ft 226 391 = some (11, 1, 0, .ifCond .eq 19, 3) := Fm226 (dk_153 0 19 (dk_at s226_17 0 rfl rfl)) rfl
theorem f226_394 : ft 226 394 = some (11, 1, 0, .aload_n 0, 1) := Fm226 (dk_42 (dk_at s226_17 3 rfl rfl)) rfl
theorem f226_395 : ft 226 395 = some (11, 1, 0, .getfield 84, 3) := Fm226 (dk_180 0 84 (dk_at s226_17 4 rfl rfl)) rfl
theorem f226_398 : ft 226 398 = some (11, 1, 0, .iload_n 1, 1) := Fm226 (dk_27 (dk_at s226_17 7 rfl rfl)) rfl
theorem f226_399 : ft 226 399 = some (11, 1, 0, .aload_n 0, 1) := Fm226 (dk_42 (dk_at s226_17 8 rfl rfl)) rfl
theorem f226_400 : ft 226 400 = some (11, 1, 0, .getfield 109, 3) := Fm226 (dk_180 0 109 (dk_at s226_17 9 rfl rfl)) rfl
theorem f226_403 : ft 226 403 = some (11, 1, 0, .aload_n 0, 1) := Fm226 (dk_42 (dk_at s226_17 12 rfl rfl)) rfl
theorem f226_404 : ft 226 404 = some (11, 1, 0, .getfield 410, 3) := Fm226 (dk_180 1 154 (dk_at s226_17 13 rfl rfl)) rfl
theorem f226_407 : ft 226 407 = some (11, 1, 0, .invokevirtual 313, 3) := Fm226 (dk_182 1 57 (dk_at s226_17 16 rfl rfl)) rfl
theorem f226_410 : ft 226 410 = some (11, 1, 0, .aload_n 0, 1) := Fm226 (dk_42 (dk_at s226_17 19 rfl rfl)) rfl
theorem f226_411 : ft 226 411 = some (11, 1, 0, .invokevirtual 317, 3) := Fm226 (dk_182 1 61 (dk_at s226_17 20 rfl rfl)) rfl
theorem f226_414 : ft 226 414 = some (11, 1, 0, .ifCond .eq 10, 3) := Fm226 (dk_153 0 10 (dk_at s226_18 0 rfl rfl)) rfl
theorem f226_417 : ft 226 417 = some (11, 1, 0, .aload_n 0, 1) := Fm226 (dk_42 (dk_at s226_18 3 rfl rfl)) rfl
theorem f226_418 : ft 226 418 = some (11, 1, 0, .getfield 410, 3) := Fm226 (dk_180 1 154 (dk_at s226_18 4 rfl rfl)) rfl
theorem f226_421 : ft 226 421 = some (11, 1, 0, .goto 4, 3) := Fm226 (dk_167 0 4 (dk_at s226_18 7 rfl rfl)) rfl
theorem f226_424 : ft 226 424 = some (11, 1, 0, .iconst 0, 1) := Fm226 (dk_3 (dk_at s226_18 10 rfl rfl)) rfl
theorem f226_425 : ft 226 425 = some (11, 1, 0, .ireturn, 1) := Fm226 (dk_172 (dk_at s226_18 11 rfl rfl)) rfl
theorem q226 {d : Nat} {m : Mem} {a0 a1 : Int} (hd : 0 < d) (hz : TZ m) : le2 (bI (cl (d - 1) 194 [pI a1] m) fun v1 m1 => gd (tg m1 a0 = 11) <| bI (cl (d - 1) 188 [pR a0, pI v1, pI 1] m1) fun v2 m2 => if v2 = 0 then (some (.inl (some (pI 0)), m2)) else bI (cl (d - 1) 195 [pR a0] m2) fun v3 m3 => if (vl m3 a0 6) = 0 then (rn d 226 32 [pR a0, pI a1, pI v3, pU, pU, pU, pU, pU] [pI 1, pR a0] m3) else rn d 226 32 [pR a0, pI a1, pI v3, pU, pU, pU, pU, pU] [pI 0, pR a0] m3) (cl d 226 [pR a0, pI a1] m) := by
  refine q_in (n := 8) (L := [pR a0, pI a1, pU, pU, pU, pU, pU, pU]) rfl rfl rfl ?_
  refine r_aln0 (p := 1) f226_0 rfl ?_
  refine r_iln1 (p := 2) f226_1 rfl ?_
  refine r_istI (p := 5) f226_2 rfl rfl rfl hd (Nat.le_of_ble_eq_true rfl) rfl rfl rfl (fun _ => rfl) (fun v1 m1 c1 => ?_)
  have hz1 := z_k c1 hz
  refine r_iconst (p := 6) f226_5 rfl (pinD rfl rfl) ?_
  refine le2_gd (fun h1 => ?_)
  refine r_invI (p := 9) f226_6 rfl rfl rfl (Or.inl h1) hd (Nat.le_of_ble_eq_true rfl) rfl rfl rfl (fun _ => rfl) (fun v2 m2 c2 => ?_)
  have hz2 := z_k c2 hz1
  refine r_ifne (t := 14) (p := 12) f226_9 (by decide) rfl rfl ?_ ?_
  · refine r_iconst (p := 13) f226_12 rfl (pinD rfl rfl) ?_
    exact r_iret1 f226_13
  · refine r_aln0 (p := 15) f226_14 rfl ?_
    have h2 := k_t1 c2 hz1 h1 (by decide)
    refine r_invI (p := 18) f226_15 rfl rfl rfl (Or.inl h2) hd (Nat.le_of_ble_eq_true rfl) rfl rfl rfl (fun _ => rfl) (fun v3 m3 c3 => ?_)
    have hz3 := z_k c3 hz2
    refine r_isn2 (p := 19) f226_18 rfl rfl ?_
    refine r_aln0 (p := 20) f226_19 rfl ?_
    refine r_aln0 (p := 21) f226_20 rfl ?_
    have h3 := k_t1 c3 hz2 h2 (by decide)
    refine r_gfIZ (f := 6) (p := 24) f226_21 rfl rfl rfl (Or.inl h3) rfl ?_
    refine r_ifne (t := 31) (p := 27) f226_24 (by decide) rfl rfl ?_ ?_
    · refine r_iconst (p := 28) f226_27 rfl (pinD rfl rfl) ?_
      refine r_goto (p := 32) f226_28 (by decide) rfl ?_
      exact le2_refl _
    · refine r_iconst (p := 32) f226_31 rfl (pinD rfl rfl) ?_
      exact le2_refl _
theorem q226_32 {d : Nat} {m : Mem} {a0 a1 a2 s1 s0 : Int} (hd : 0 < d) (hz : TZ m) : le2 (gd (tg m s0 = 11) <| bI (cl (d - 1) 188 [pR s0, pI s1, pI 2] m) fun v1 m1 => if v1 = 0 then (some (.inl (some (pI 0)), m1)) else gd (tg m1 a0 = 11) <| bI (cl (d - 1) 196 [pR a0, pR (vl m1 a0 0), pI a2, pR (vl m1 a0 19)] (mst m1 a0 5 (-1))) fun v2 m2 => if v2 < 0 then (some (.inl (some (pI 0)), (mst (mst m2 a0 5 (vl m2 a0 14)) a0 4 3))) else nm (vl m2 a0 8) fun v4 => gd (tg m2 v4 = 12) <| bI (cl (d - 1) 278 [pR v4, pI a1] m2) fun v3 m3 => if v3 < 0 then (rn d 226 100 [pR a0, pI a1, pI a2, pI v2, pI v3, pU, pU, pU] [pI 0, pR a0] m3) else rn d 226 100 [pR a0, pI a1, pI a2, pI v2, pI v3, pU, pU, pU] [pI 1, pR a0] m3) (rn d 226 32 [pR a0, pI a1, pI a2, pU, pU, pU, pU, pU] [pI s1, pR s0] m) := by
  refine r_iconst (p := 33) f226_32 rfl (pinD rfl rfl) ?_
  refine le2_gd (fun h1 => ?_)
  refine r_invI (p := 36) f226_33 rfl rfl rfl (Or.inl h1) hd (Nat.le_of_ble_eq_true rfl) rfl rfl rfl (fun _ => rfl) (fun v1 m1 c1 => ?_)
  have hz1 := z_k c1 hz
  refine r_ifne (t := 41) (p := 39) f226_36 (by decide) rfl rfl ?_ ?_
  · refine r_iconst (p := 40) f226_39 rfl (pinD rfl rfl) ?_
    exact r_iret1 f226_40
  · refine r_aln0 (p := 42) f226_41 rfl ?_
    refine r_iconst (p := 43) f226_42 rfl (pinD rfl rfl) ?_
    refine le2_gd (fun h2 => ?_)
    refine r_pfI (f := 5) (p := 46) f226_43 rfl rfl rfl (by decide) (by decide) (Or.inl h2) rfl ?_
    refine r_aln0 (p := 47) f226_46 rfl ?_
    refine r_aln0 (p := 48) f226_47 rfl ?_
    refine r_gfR (f := 0) (p := 51) f226_48 rfl rfl rfl (Or.inl h2) (sk_f (by decide)) ?_
    refine r_iln2 (p := 52) f226_51 rfl ?_
    refine r_aln0 (p := 53) f226_52 rfl ?_
    refine r_gfR (f := 19) (p := 56) f226_53 rfl rfl rfl (Or.inl h2) (sk_f (by decide)) ?_
    refine r_invI (p := 59) f226_56 rfl rfl rfl (Or.inl h2) hd (Nat.le_of_ble_eq_true rfl) rfl rfl rfl (fun _ => rfl) (fun v2 m2 c2 => ?_)
    have hz2 := z_k c2 hz1
    refine r_isn3 (p := 60) f226_59 rfl rfl ?_
    refine r_iln3 (p := 61) f226_60 rfl ?_
    refine r_ifge (t := 79) (p := 64) f226_61 (by decide) rfl rfl ?_ ?_
    · refine r_aln0 (p := 65) f226_64 rfl ?_
      refine r_aln0 (p := 66) f226_65 rfl ?_
      have h5 := k_t1 c2 hz1 h2 (by decide)
      refine r_gfI (f := 14) (p := 69) f226_66 rfl rfl rfl (Or.inl h5) rfl ?_
      refine r_pfI (f := 5) (p := 72) f226_69 rfl rfl rfl (by decide) (by decide) (Or.inl h5) rfl ?_
      refine r_aln0 (p := 73) f226_72 rfl ?_
      refine r_iconst (p := 74) f226_73 rfl (pinD rfl rfl) ?_
      refine r_pfI (f := 4) (p := 77) f226_74 rfl rfl rfl (by decide) (by decide) (Or.inl h5) rfl ?_
      refine r_iconst (p := 78) f226_77 rfl (pinD rfl rfl) ?_
      exact r_iret1 f226_78
    · refine r_aln0 (p := 80) f226_79 rfl ?_
      have h3 := k_t1 c2 hz1 h2 (by decide)
      refine r_gfR (f := 8) (p := 83) f226_80 rfl rfl rfl (Or.inl h3) rfl ?_
      refine r_nmR (fun v4 ev4 => ?_)
      refine r_iln1 (p := 84) f226_83 rfl ?_
      refine le2_gd (fun h4 => ?_)
      refine r_invI (p := 87) f226_84 rfl rfl rfl (Or.inl h4) hd (Nat.le_of_ble_eq_true rfl) rfl rfl rfl (fun _ => rfl) (fun v3 m3 c3 => ?_)
      have hz3 := z_k c3 hz2
      refine r_isw4 (p := 89) f226_87 rfl rfl ?_
      refine r_aln0 (p := 90) f226_89 rfl ?_
      refine r_ilw4 (p := 92) f226_90 rfl ?_
      refine r_iflt (t := 99) (p := 95) f226_92 (by decide) rfl rfl ?_ ?_
      · refine r_iconst (p := 100) f226_99 rfl (pinD rfl rfl) ?_
        exact le2_refl _
      · refine r_iconst (p := 96) f226_95 rfl (pinD rfl rfl) ?_
        refine r_goto (p := 100) f226_96 (by decide) rfl ?_
        exact le2_refl _
theorem q226_100 {d : Nat} {m : Mem} {a0 a1 a2 a3 a4 s1 s0 : Int} (hd : 0 < d) (hz : TZ m) : le2 (gd (tg m s0 = 11) <| bI (cl (d - 1) 188 [pR s0, pI s1, pI 4] m) fun v1 m1 => if v1 = 0 then (some (.inl (some (pI 0)), m1)) else gd (tg m1 a0 = 11) <| nm (vl m1 a0 19) fun v2 => gd (tg m1 v2 = 13) <| nm (vl m1 v2 0) fun v3 => gd (tg m1 v3 = 284101 ∨ tg m1 v3 = 287101) <| gd ((0 : Int) ≤ a3 ∧ a3 < ln m1 v3) <| if (vl m1 v3 a3) = 5 then (rn d 226 126 [pR a0, pI a1, pI a2, pI a3, pI a4, pU, pU, pU] [pI 1, pR a0] m1) else rn d 226 126 [pR a0, pI a1, pI a2, pI a3, pI a4, pU, pU, pU] [pI 0, pR a0] m1) (rn d 226 100 [pR a0, pI a1, pI a2, pI a3, pI a4, pU, pU, pU] [pI s1, pR s0] m) := by
  refine r_iconst (p := 101) f226_100 rfl (pinD rfl rfl) ?_
  refine le2_gd (fun h1 => ?_)
  refine r_invI (p := 104) f226_101 rfl rfl rfl (Or.inl h1) hd (Nat.le_of_ble_eq_true rfl) rfl rfl rfl (fun _ => rfl) (fun v1 m1 c1 => ?_)
  have hz1 := z_k c1 hz
  refine r_ifeq (t := 133) (p := 107) f226_104 (by decide) rfl rfl ?_ ?_
  · refine r_iconst (p := 134) f226_133 rfl (pinD rfl rfl) ?_
    exact r_iret1 f226_134
  · refine r_aln0 (p := 108) f226_107 rfl ?_
    refine r_aln0 (p := 109) f226_108 rfl ?_
    refine le2_gd (fun h2 => ?_)
    refine r_gfR (f := 19) (p := 112) f226_109 rfl rfl rfl (Or.inl h2) rfl ?_
    refine r_nmR (fun v2 ev2 => ?_)
    refine le2_gd (fun h3 => ?_)
    refine r_gfR (f := 0) (p := 115) f226_112 rfl rfl rfl (Or.inl h3) rfl ?_
    refine r_nmR (fun v3 ev3 => ?_)
    refine r_iln3 (p := 116) f226_115 rfl ?_
    refine le2_gd (fun h4 => ?_)
    refine le2_gd (fun h5 => ?_)
    refine r_iaload (p := 117) f226_116 rfl (dj2 (fun x => x % 1000 = 101) h4 (by decide) (by decide)) h5 rfl ?_
    refine r_iconst (p := 118) f226_117 rfl (pinD rfl rfl) ?_
    refine r_icne (t := 125) (p := 121) f226_118 (by decide) rfl rfl ?_ ?_
    · refine r_iconst (p := 122) f226_121 rfl (pinD rfl rfl) ?_
      refine r_goto (p := 126) f226_122 (by decide) rfl ?_
      exact le2_refl _
    · refine r_iconst (p := 126) f226_125 rfl (pinD rfl rfl) ?_
      exact le2_refl _
theorem q226_126 {d : Nat} {m : Mem} {a0 a1 a2 a3 a4 s1 s0 : Int} (hd : 0 < d) (hz : TZ m) : le2 (gd (tg m s0 = 11) <| bI (cl (d - 1) 188 [pR s0, pI s1, pI 5] m) fun v1 m1 => if v1 = 0 then (some (.inl (some (pI 0)), m1)) else gd (tg m1 a0 = 11) <| nm (vl m1 a0 8) fun v2 => gd (tg m1 v2 = 12) <| nm (vl m1 v2 1) fun v3 => gd (tg m1 v3 = 278101) <| gd ((0 : Int) ≤ a4 ∧ a4 < ln m1 v3) <| rn d 226 152 [pR a0, pI a1, pI a2, pI a3, pI a4, pI 0, pU, pU] [] (mst m1 a0 21 (vl m1 v3 a4))) (rn d 226 126 [pR a0, pI a1, pI a2, pI a3, pI a4, pU, pU, pU] [pI s1, pR s0] m) := by
  refine r_iconst (p := 127) f226_126 rfl (pinD rfl rfl) ?_
  refine le2_gd (fun h1 => ?_)
  refine r_invI (p := 130) f226_127 rfl rfl rfl (Or.inl h1) hd (Nat.le_of_ble_eq_true rfl) rfl rfl rfl (fun _ => rfl) (fun v1 m1 c1 => ?_)
  have hz1 := z_k c1 hz
  refine r_ifne (t := 135) (p := 133) f226_130 (by decide) rfl rfl ?_ ?_
  · refine r_iconst (p := 134) f226_133 rfl (pinD rfl rfl) ?_
    exact r_iret1 f226_134
  · refine r_aln0 (p := 136) f226_135 rfl ?_
    refine r_aln0 (p := 137) f226_136 rfl ?_
    refine le2_gd (fun h2 => ?_)
    refine r_gfR (f := 8) (p := 140) f226_137 rfl rfl rfl (Or.inl h2) rfl ?_
    refine r_nmR (fun v2 ev2 => ?_)
    refine le2_gd (fun h3 => ?_)
    refine r_gfR (f := 1) (p := 143) f226_140 rfl rfl rfl (Or.inl h3) rfl ?_
    refine r_nmR (fun v3 ev3 => ?_)
    refine r_ilw4 (p := 145) f226_143 rfl ?_
    refine le2_gd (fun h4 => ?_)
    refine le2_gd (fun h5 => ?_)
    refine r_iaload (p := 146) f226_145 rfl (dj1 (fun x => x % 1000 = 101) h4 (by decide)) h5 rfl ?_
    refine r_pfI (f := 21) (p := 149) f226_146 rfl rfl rfl (by decide) (by decide) (Or.inl h2) rfl ?_
    refine r_iconst (p := 150) f226_149 rfl (pinD rfl rfl) ?_
    refine r_isw5 (p := 152) f226_150 rfl rfl ?_
    exact le2_refl _
theorem q226_152 {d : Nat} {m : Mem} {a0 a1 a2 a3 a4 a5 : Int} (hz : TZ m) : le2 (gd (tg m a0 = 11) <| if a5 < (vl m a0 21) then (nm (vl m a0 20) fun v1 => nm (vl m a0 8) fun v2 => gd (tg m v2 = 12) <| nm (vl m v2 2) fun v3 => gd (tg m v3 = 278118) <| gd ((0 : Int) ≤ a4 ∧ a4 < ln m v3) <| nm (vl m v3 a4) fun v4 => gd (tg m v4 = 278103) <| gd ((0 : Int) ≤ a5 ∧ a5 < ln m v4) <| gd (tg m v1 = 186103) <| gd ((0 : Int) ≤ a5 ∧ a5 < ln m v1) <| rn d 226 152 [pR a0, pI a1, pI a2, pI a3, pI a4, pI (w32 (a5 + 1)), pU, pU] [] (mst m v1 a5 (w8 (vl m v4 a5)))) else nm (vl m a0 19) fun v5 => gd (tg m v5 = 13) <| nm (vl m v5 4) fun v6 => gd (tg m v6 = 284101 ∨ tg m v6 = 287101) <| gd ((0 : Int) ≤ a3 ∧ a3 < ln m v6) <| rn d 226 201 [pR a0, pI a1, pI a2, pI a3, pI a4, pI 0, pI (vl m v6 a3), pU] [] m) (rn d 226 152 [pR a0, pI a1, pI a2, pI a3, pI a4, pI a5, pU, pU] [] m) := by
  refine r_ilw5 (p := 154) f226_152 rfl ?_
  refine r_aln0 (p := 155) f226_154 rfl ?_
  refine le2_gd (fun h1 => ?_)
  refine r_gfI (f := 21) (p := 158) f226_155 rfl rfl rfl (Or.inl h1) rfl ?_
  refine r_icge (t := 187) (p := 161) f226_158 (by decide) rfl rfl ?_ ?_
  · refine r_aln0 (p := 162) f226_161 rfl ?_
    refine r_gfR (f := 20) (p := 165) f226_162 rfl rfl rfl (Or.inl h1) rfl ?_
    refine r_nmR (fun v1 ev1 => ?_)
    refine r_ilw5 (p := 167) f226_165 rfl ?_
    refine r_aln0 (p := 168) f226_167 rfl ?_
    refine r_gfR (f := 8) (p := 171) f226_168 rfl rfl rfl (Or.inl h1) rfl ?_
    refine r_nmR (fun v2 ev2 => ?_)
    refine le2_gd (fun h5 => ?_)
    refine r_gfR (f := 2) (p := 174) f226_171 rfl rfl rfl (Or.inl h5) rfl ?_
    refine r_nmR (fun v3 ev3 => ?_)
    refine r_ilw4 (p := 176) f226_174 rfl ?_
    refine le2_gd (fun h6 => ?_)
    refine le2_gd (fun h7 => ?_)
    refine r_aaload (p := 177) f226_176 rfl (dj1 (fun x => 110 < x % 1000 ∧ x % 1000 < 119) h6 (by decide)) h7 rfl ?_
    refine r_nmR (fun v4 ev4 => ?_)
    refine r_ilw5 (p := 179) f226_177 rfl ?_
    refine le2_gd (fun h8 => ?_)
    refine le2_gd (fun h9 => ?_)
    refine r_baload (p := 180) f226_179 rfl (dj1 (fun x => x % 1000 = 103 ∨ x % 1000 = 105) h8 (by decide)) h9 rfl ?_
    refine le2_gd (fun h10 => ?_)
    refine le2_gd (fun h11 => ?_)
    refine r_bastore (p := 181) f226_180 rfl (dj1 (fun x => 1000 ≤ x ∧ x % 1000 = 103 ∧ Nat.testBit (eM 226) (bix x 0) = true) h10 (by decide)) h11 ?_
    refine r_iinc5 (p := 184) f226_181 rfl rfl ?_
    refine r_goto (p := 152) f226_184 (by decide) rfl ?_
    exact le2_refl _
  · refine r_iconst (p := 188) f226_187 rfl (pinD rfl rfl) ?_
    refine r_isw5 (p := 190) f226_188 rfl rfl ?_
    refine r_aln0 (p := 191) f226_190 rfl ?_
    refine r_gfR (f := 19) (p := 194) f226_191 rfl rfl rfl (Or.inl h1) rfl ?_
    refine r_nmR (fun v5 ev5 => ?_)
    refine le2_gd (fun h2 => ?_)
    refine r_gfR (f := 4) (p := 197) f226_194 rfl rfl rfl (Or.inl h2) rfl ?_
    refine r_nmR (fun v6 ev6 => ?_)
    refine r_iln3 (p := 198) f226_197 rfl ?_
    refine le2_gd (fun h3 => ?_)
    refine le2_gd (fun h4 => ?_)
    refine r_iaload (p := 199) f226_198 rfl (dj2 (fun x => x % 1000 = 101) h3 (by decide) (by decide)) h4 rfl ?_
    refine r_isw6 (p := 201) f226_199 rfl rfl ?_
    exact le2_refl _
theorem q226_201 {d : Nat} {m : Mem} {a0 a1 a2 a3 a4 a5 a6 : Int} {z7 : PV} (hd : 0 < d) (hz : TZ m) (hcz7 : cat z7 = 1) : le2 (if a6 < 0 then (gd (tg m a0 = 11) <| bI (cl (d - 1) 215 [pR a0] m) fun v1 m1 => if v1 = 0 then (rn d 226 410 [pR a0, pI a1, pI a2, pI a3, pI a4, pI a5, pI a6, z7] [] m1) else nm (vl m1 a0 8) fun v6 => gd (tg m1 v6 = 12) <| bV (cl (d - 1) 279 [pR v6, pI a1, pR (vl m1 a0 20), pI (vl m1 a0 21)] m1) fun m2 => rn d 226 410 [pR a0, pI a1, pI a2, pI a3, pI a4, pI a5, pI a6, z7] [] m2) else gd (tg m a0 = 11) <| bI (cl (d - 1) 196 [pR a0, pR (vl m a0 20), pI (vl m a0 21), pR (vl m a0 18)] m) fun v3 m3 => bI (cl (d - 1) 227 [pR a0, pI a6] (mst m3 a0 26 v3)) fun v4 m4 => if v4 = 0 then (some (.inl (some (pI 0)), (mst (mst m4 a0 5 a5) a0 4 5))) else nm (vl m4 a0 18) fun v7 => gd (tg m4 v7 = 13) <| bI (cl (d - 1) 296 [pR v7, pI (vl m4 a0 26)] m4) fun v5 m5 => if 32 < v5 then (rn d 226 270 [pR a0, pI a1, pI a2, pI a3, pI a4, pI a5, pI a6, z7] [pI 0, pR a0] m5) else rn d 226 270 [pR a0, pI a1, pI a2, pI a3, pI a4, pI a5, pI a6, z7] [pI 1, pR a0] m5) (rn d 226 201 [pR a0, pI a1, pI a2, pI a3, pI a4, pI a5, pI a6, z7] [] m) := by
  refine r_ilw6 (p := 203) f226_201 rfl ?_
  refine r_iflt (t := 387) (p := 206) f226_203 (by decide) rfl rfl ?_ ?_
  · refine r_aln0 (p := 388) f226_387 rfl ?_
    refine le2_gd (fun h1 => ?_)
    refine r_invI (p := 391) f226_388 rfl rfl rfl (Or.inl h1) hd (Nat.le_of_ble_eq_true rfl) rfl rfl rfl (fun _ => rfl) (fun v1 m1 c1 => ?_)
    have hz1 := z_k c1 hz
    refine r_ifeq (t := 410) (p := 394) f226_391 (by decide) rfl rfl ?_ ?_
    · exact le2_refl _
    · refine r_aln0 (p := 395) f226_394 rfl ?_
      have h2 := k_t1 c1 hz h1 (by decide)
      refine r_gfR (f := 8) (p := 398) f226_395 rfl rfl rfl (Or.inl h2) rfl ?_
      refine r_nmR (fun v6 ev6 => ?_)
      refine r_iln1 (p := 399) f226_398 rfl ?_
      refine r_aln0 (p := 400) f226_399 rfl ?_
      refine r_gfR (f := 20) (p := 403) f226_400 rfl rfl rfl (Or.inl h2) rfl ?_
      refine r_aln0 (p := 404) f226_403 rfl ?_
      refine r_gfI (f := 21) (p := 407) f226_404 rfl rfl rfl (Or.inl h2) rfl ?_
      refine le2_gd (fun h3 => ?_)
      refine r_invV (p := 410) f226_407 rfl rfl rfl (Or.inl h3) hd (Nat.le_of_ble_eq_true rfl) rfl rfl rfl (fun _ => rfl) (fun m2 c2 => ?_)
      have hz2 := z_k c2 hz1
      exact le2_refl _
  · refine r_aln0 (p := 207) f226_206 rfl ?_
    refine r_aln0 (p := 208) f226_207 rfl ?_
    refine r_aln0 (p := 209) f226_208 rfl ?_
    refine le2_gd (fun h4 => ?_)
    refine r_gfR (f := 20) (p := 212) f226_209 rfl rfl rfl (Or.inl h4) rfl ?_
    refine r_aln0 (p := 213) f226_212 rfl ?_
    refine r_gfI (f := 21) (p := 216) f226_213 rfl rfl rfl (Or.inl h4) rfl ?_
    refine r_aln0 (p := 217) f226_216 rfl ?_
    refine r_gfR (f := 18) (p := 220) f226_217 rfl rfl rfl (Or.inl h4) rfl ?_
    refine r_invI (p := 223) f226_220 rfl rfl rfl (Or.inl h4) hd (Nat.le_of_ble_eq_true rfl) rfl rfl rfl (fun _ => rfl) (fun v3 m3 c3 => ?_)
    have hz3 := z_k c3 hz
    have h5 := k_t1 c3 hz h4 (by decide)
    refine r_pfI (f := 26) (p := 226) f226_223 rfl rfl rfl (by decide) (by decide) (Or.inl h5) rfl ?_
    refine r_aln0 (p := 227) f226_226 rfl ?_
    refine r_ilw6 (p := 229) f226_227 rfl ?_
    refine r_invI (p := 232) f226_229 rfl rfl rfl (Or.inl h5) hd (Nat.le_of_ble_eq_true rfl) rfl rfl rfl (fun _ => rfl) (fun v4 m4 c4 => ?_)
    have hz4 := z_k c4 hz3
    refine r_ifne (t := 248) (p := 235) f226_232 (by decide) rfl rfl ?_ ?_
    · refine r_aln0 (p := 236) f226_235 rfl ?_
      refine r_ilw5 (p := 238) f226_236 rfl ?_
      have h8 := k_t1 c4 hz3 h5 (by decide)
      refine r_pfI (f := 5) (p := 241) f226_238 rfl rfl rfl (by decide) (by decide) (Or.inl h8) rfl ?_
      refine r_aln0 (p := 242) f226_241 rfl ?_
      refine r_iconst (p := 243) f226_242 rfl (pinD rfl rfl) ?_
      refine r_pfI (f := 4) (p := 246) f226_243 rfl rfl rfl (by decide) (by decide) (Or.inl h8) rfl ?_
      refine r_iconst (p := 247) f226_246 rfl (pinD rfl rfl) ?_
      exact r_iret1 f226_247
    · refine r_aln0 (p := 249) f226_248 rfl ?_
      refine r_aln0 (p := 250) f226_249 rfl ?_
      have h6 := k_t1 c4 hz3 h5 (by decide)
      refine r_gfR (f := 18) (p := 253) f226_250 rfl rfl rfl (Or.inl h6) rfl ?_
      refine r_nmR (fun v7 ev7 => ?_)
      refine r_aln0 (p := 254) f226_253 rfl ?_
      refine r_gfI (f := 26) (p := 257) f226_254 rfl rfl rfl (Or.inl h6) rfl ?_
      refine le2_gd (fun h7 => ?_)
      refine r_invI (p := 260) f226_257 rfl rfl rfl (Or.inl h7) hd (Nat.le_of_ble_eq_true rfl) rfl rfl rfl (fun _ => rfl) (fun v5 m5 c5 => ?_)
      have hz5 := z_k c5 hz4
      refine r_bipush (p := 262) f226_260 rfl (pinD rfl rfl) ?_
      refine r_icgt (t := 269) (p := 265) f226_262 (by decide) rfl rfl ?_ ?_
      · refine r_iconst (p := 270) f226_269 rfl (pinD rfl rfl) ?_
        exact le2_refl _
      · refine r_iconst (p := 266) f226_265 rfl (pinD rfl rfl) ?_
        refine r_goto (p := 270) f226_266 (by decide) rfl ?_
        exact le2_refl _
theorem q226_270 {d : Nat} {m : Mem} {a0 a1 a2 a3 a4 a5 a6 s1 s0 : Int} {z7 : PV} (hd : 0 < d) (hz : TZ m) (hcz7 : cat z7 = 1) : le2 (gd (tg m s0 = 11) <| bI (cl (d - 1) 188 [pR s0, pI s1, pI 6] m) fun v1 m1 => if v1 = 0 then (some (.inl (some (pI 0)), m1)) else gd (tg m1 a0 = 11) <| bV (cl (d - 1) 209 [pR a0] m1) fun m2 => bV (cl (d - 1) 210 [pR a0, pR (vl m2 a0 18), pI (vl m2 a0 26)] m2) fun m3 => if (vl m3 a0 17) = 0 then (if 480 < (vl m3 a0 16) then (rn d 226 319 [pR a0, pI a1, pI a2, pI a3, pI a4, pI a5, pI a6, z7] [pI 0, pR a0] m3) else rn d 226 319 [pR a0, pI a1, pI a2, pI a3, pI a4, pI a5, pI a6, z7] [pI 1, pR a0] m3) else rn d 226 319 [pR a0, pI a1, pI a2, pI a3, pI a4, pI a5, pI a6, z7] [pI 0, pR a0] m3) (rn d 226 270 [pR a0, pI a1, pI a2, pI a3, pI a4, pI a5, pI a6, z7] [pI s1, pR s0] m) := by
  refine r_bipush (p := 272) f226_270 rfl (pinD rfl rfl) ?_
  refine le2_gd (fun h1 => ?_)
  refine r_invI (p := 275) f226_272 rfl rfl rfl (Or.inl h1) hd (Nat.le_of_ble_eq_true rfl) rfl rfl rfl (fun _ => rfl) (fun v1 m1 c1 => ?_)
  have hz1 := z_k c1 hz
  refine r_ifne (t := 280) (p := 278) f226_275 (by decide) rfl rfl ?_ ?_
  · refine r_iconst (p := 279) f226_278 rfl (pinD rfl rfl) ?_
    exact r_iret1 f226_279
  · refine r_aln0 (p := 281) f226_280 rfl ?_
    refine le2_gd (fun h2 => ?_)
    refine r_invV (p := 284) f226_281 rfl rfl rfl (Or.inl h2) hd (Nat.le_of_ble_eq_true rfl) rfl rfl rfl (fun _ => rfl) (fun m2 c2 => ?_)
    have hz2 := z_k c2 hz1
    refine r_aln0 (p := 285) f226_284 rfl ?_
    refine r_aln0 (p := 286) f226_285 rfl ?_
    have h3 := k_t1 c2 hz1 h2 (by decide)
    refine r_gfR (f := 18) (p := 289) f226_286 rfl rfl rfl (Or.inl h3) rfl ?_
    refine r_aln0 (p := 290) f226_289 rfl ?_
    refine r_gfI (f := 26) (p := 293) f226_290 rfl rfl rfl (Or.inl h3) rfl ?_
    refine r_invV (p := 296) f226_293 rfl rfl rfl (Or.inl h3) hd (Nat.le_of_ble_eq_true rfl) rfl rfl rfl (fun _ => rfl) (fun m3 c3 => ?_)
    have hz3 := z_k c3 hz2
    refine r_aln0 (p := 297) f226_296 rfl ?_
    refine r_aln0 (p := 298) f226_297 rfl ?_
    have h4 := k_t1 c3 hz2 h3 (by decide)
    refine r_gfIZ (f := 17) (p := 301) f226_298 rfl rfl rfl (Or.inl h4) rfl ?_
    refine r_ifne (t := 318) (p := 304) f226_301 (by decide) rfl rfl ?_ ?_
    · refine r_aln0 (p := 305) f226_304 rfl ?_
      refine r_gfI (f := 16) (p := 308) f226_305 rfl rfl rfl (Or.inl h4) rfl ?_
      refine r_sipush (p := 311) f226_308 rfl (pinD rfl rfl) ?_
      refine r_icgt (t := 318) (p := 314) f226_311 (by decide) rfl rfl ?_ ?_
      · refine r_iconst (p := 319) f226_318 rfl (pinD rfl rfl) ?_
        exact le2_refl _
      · refine r_iconst (p := 315) f226_314 rfl (pinD rfl rfl) ?_
        refine r_goto (p := 319) f226_315 (by decide) rfl ?_
        exact le2_refl _
    · refine r_iconst (p := 319) f226_318 rfl (pinD rfl rfl) ?_
      exact le2_refl _
theorem q226_319 {d : Nat} {m : Mem} {a0 a1 a2 a3 a4 a5 a6 s1 s0 : Int} {z7 : PV} (hd : 0 < d) (hz : TZ m) (hcz7 : cat z7 = 1) : le2 (gd (tg m s0 = 11) <| bI (cl (d - 1) 188 [pR s0, pI s1, pI 6] m) fun v1 m1 => if v1 = 0 then (some (.inl (some (pI 0)), m1)) else gd (tg m1 a0 = 11) <| rn d 226 340 [pR a0, pI a1, pI a2, pI a3, pI a4, pI a5, pI a6, pI 0] [] (mst m1 a0 21 (vl m1 a0 16))) (rn d 226 319 [pR a0, pI a1, pI a2, pI a3, pI a4, pI a5, pI a6, z7] [pI s1, pR s0] m) := by
  refine r_bipush (p := 321) f226_319 rfl (pinD rfl rfl) ?_
  refine le2_gd (fun h1 => ?_)
  refine r_invI (p := 324) f226_321 rfl rfl rfl (Or.inl h1) hd (Nat.le_of_ble_eq_true rfl) rfl rfl rfl (fun _ => rfl) (fun v1 m1 c1 => ?_)
  have hz1 := z_k c1 hz
  refine r_ifne (t := 329) (p := 327) f226_324 (by decide) rfl rfl ?_ ?_
  · refine r_iconst (p := 328) f226_327 rfl (pinD rfl rfl) ?_
    exact r_iret1 f226_328
  · refine r_aln0 (p := 330) f226_329 rfl ?_
    refine r_aln0 (p := 331) f226_330 rfl ?_
    refine le2_gd (fun h2 => ?_)
    refine r_gfI (f := 16) (p := 334) f226_331 rfl rfl rfl (Or.inl h2) rfl ?_
    refine r_pfI (f := 21) (p := 337) f226_334 rfl rfl rfl (by decide) (by decide) (Or.inl h2) rfl ?_
    refine r_iconst (p := 338) f226_337 rfl (pinD rfl rfl) ?_
    refine r_isw7 (p := 340) f226_338 rfl rfl ?_
    exact le2_refl _
theorem q226_340 {d : Nat} {m : Mem} {a0 a1 a2 a3 a4 a5 a6 a7 : Int} (hz : TZ m) : le2 (gd (tg m a0 = 11) <| if a7 < (vl m a0 16) then (nm (vl m a0 20) fun v1 => nm (vl m a0 15) fun v2 => gd (tg m v2 = 186103) <| gd ((0 : Int) ≤ a7 ∧ a7 < ln m v2) <| gd (tg m v1 = 186103) <| gd ((0 : Int) ≤ a7 ∧ a7 < ln m v1) <| rn d 226 340 [pR a0, pI a1, pI a2, pI a3, pI a4, pI a5, pI a6, pI (w32 (a7 + 1))] [] (mst m v1 a7 (w8 (vl m v2 a7)))) else nm (vl m a0 19) fun v3 => gd (tg m v3 = 13) <| nm (vl m v3 5) fun v4 => gd (tg m v4 = 284101 ∨ tg m v4 = 287101) <| gd ((0 : Int) ≤ a6 ∧ a6 < ln m v4) <| rn d 226 201 [pR a0, pI a1, pI a2, pI a3, pI a4, pI (w32 (a5 + 1)), pI (vl m v4 a6), pI a7] [] m) (rn d 226 340 [pR a0, pI a1, pI a2, pI a3, pI a4, pI a5, pI a6, pI a7] [] m) := by
  refine r_ilw7 (p := 342) f226_340 rfl ?_
  refine r_aln0 (p := 343) f226_342 rfl ?_
  refine le2_gd (fun h1 => ?_)
  refine r_gfI (f := 16) (p := 346) f226_343 rfl rfl rfl (Or.inl h1) rfl ?_
  refine r_icge (t := 369) (p := 349) f226_346 (by decide) rfl rfl ?_ ?_
  · refine r_aln0 (p := 350) f226_349 rfl ?_
    refine r_gfR (f := 20) (p := 353) f226_350 rfl rfl rfl (Or.inl h1) rfl ?_
    refine r_nmR (fun v1 ev1 => ?_)
    refine r_ilw7 (p := 355) f226_353 rfl ?_
    refine r_aln0 (p := 356) f226_355 rfl ?_
    refine r_gfR (f := 15) (p := 359) f226_356 rfl rfl rfl (Or.inl h1) rfl ?_
    refine r_nmR (fun v2 ev2 => ?_)
    refine r_ilw7 (p := 361) f226_359 rfl ?_
    refine le2_gd (fun h5 => ?_)
    refine le2_gd (fun h6 => ?_)
    refine r_baload (p := 362) f226_361 rfl (dj1 (fun x => x % 1000 = 103 ∨ x % 1000 = 105) h5 (by decide)) h6 rfl ?_
    refine le2_gd (fun h7 => ?_)
    refine le2_gd (fun h8 => ?_)
    refine r_bastore (p := 363) f226_362 rfl (dj1 (fun x => 1000 ≤ x ∧ x % 1000 = 103 ∧ Nat.testBit (eM 226) (bix x 0) = true) h7 (by decide)) h8 ?_
    refine r_iinc7 (p := 366) f226_363 rfl rfl ?_
    refine r_goto (p := 340) f226_366 (by decide) rfl ?_
    exact le2_refl _
  · refine r_iinc5 (p := 372) f226_369 rfl rfl ?_
    refine r_aln0 (p := 373) f226_372 rfl ?_
    refine r_gfR (f := 19) (p := 376) f226_373 rfl rfl rfl (Or.inl h1) rfl ?_
    refine r_nmR (fun v3 ev3 => ?_)
    refine le2_gd (fun h2 => ?_)
    refine r_gfR (f := 5) (p := 379) f226_376 rfl rfl rfl (Or.inl h2) rfl ?_
    refine r_nmR (fun v4 ev4 => ?_)
    refine r_ilw6 (p := 381) f226_379 rfl ?_
    refine le2_gd (fun h3 => ?_)
    refine le2_gd (fun h4 => ?_)
    refine r_iaload (p := 382) f226_381 rfl (dj2 (fun x => x % 1000 = 101) h3 (by decide) (by decide)) h4 rfl ?_
    refine r_isw6 (p := 384) f226_382 rfl rfl ?_
    refine r_goto (p := 201) f226_384 (by decide) rfl ?_
    exact le2_refl _
theorem q226_410 {d : Nat} {m : Mem} {a0 a1 a2 a3 a4 a5 a6 : Int} {z7 : PV} (hd : 0 < d) (hz : TZ m) (hcz7 : cat z7 = 1) : le2 (gd (tg m a0 = 11) <| bI (cl (d - 1) 216 [pR a0] m) fun v1 m1 => if v1 = 0 then (some (.inl (some (pI 0)), m1)) else some (.inl (some (pI (vl m1 a0 21))), m1)) (rn d 226 410 [pR a0, pI a1, pI a2, pI a3, pI a4, pI a5, pI a6, z7] [] m) := by
  refine r_aln0 (p := 411) f226_410 rfl ?_
  refine le2_gd (fun h1 => ?_)
  refine r_invI (p := 414) f226_411 rfl rfl rfl (Or.inl h1) hd (Nat.le_of_ble_eq_true rfl) rfl rfl rfl (fun _ => rfl) (fun v1 m1 c1 => ?_)
  have hz1 := z_k c1 hz
  refine r_ifeq (t := 424) (p := 417) f226_414 (by decide) rfl rfl ?_ ?_
  · refine r_iconst (p := 425) f226_424 rfl (pinD rfl rfl) ?_
    exact r_iret1 f226_425
  · refine r_aln0 (p := 418) f226_417 rfl ?_
    have h2 := k_t1 c1 hz h1 (by decide)
    refine r_gfI (f := 21) (p := 421) f226_418 rfl rfl rfl (Or.inl h2) rfl ?_
    refine r_goto (p := 425) f226_421 (by decide) rfl ?_
    exact r_iret1 f226_425
/-! 227 PathStoreModel.operate (I)Z -/
def w227_20 : List UInt8 := [172]
abbrev u227_20 : List UInt8 := w227_20 ++ []
def w227_19 : List UInt8 := [153, 0, 12, 42, 180, 0, 102, 21, 9, 182, 1, 112, 42, 29, 182, 1, 123, 87, 42, 21, 10, 182, 1, 141]
abbrev u227_19 : List UInt8 := w227_19 ++ u227_20
def w227_18 : List UInt8 := [153, 0, 5, 4, 172, 42, 180, 0, 102, 42, 180, 0, 102, 21, 9, 182, 1, 138, 54, 10, 21, 7]
abbrev u227_18 : List UInt8 := w227_18 ++ u227_19
def w227_17 : List UInt8 := [21, 8, 182, 1, 147, 153, 0, 5, 3, 172, 21, 7, 153, 0, 15, 42, 29, 21, 8, 182, 1, 151]
abbrev u227_17 : List UInt8 := w227_17 ++ u227_18
def w227_16 : List UInt8 := [180, 1, 91, 42, 180, 1, 78, 182, 1, 94, 54, 9, 21, 9, 155, 0, 18, 21, 7, 153, 0, 15, 42, 29]
abbrev u227_16 : List UInt8 := w227_16 ++ u227_17
def w227_15 : List UInt8 := [182, 1, 119, 54, 8, 21, 8, 155, 0, 12, 42, 21, 8, 182, 1, 123, 154, 0, 5, 3, 172, 42, 42]
abbrev u227_15 : List UInt8 := w227_15 ++ u227_16
def w227_14 : List UInt8 := [172, 21, 7, 154, 0, 16, 42, 28, 19, 1, 144, 182, 1, 127, 154, 0, 5, 3, 172, 42, 27, 19, 1, 145]
abbrev u227_14 : List UInt8 := w227_14 ++ u227_15
def w227_13 : List UInt8 := [155, 0, 12, 21, 8, 42, 180, 1, 91, 160, 0, 5, 3, 172, 42, 180, 0, 102, 21, 8, 182, 1, 112, 4]
abbrev u227_13 : List UInt8 := w227_13 ++ u227_14
def w227_12 : List UInt8 := [182, 1, 127, 153, 0, 44, 42, 42, 180, 1, 91, 42, 180, 1, 78, 182, 1, 94, 54, 8, 21, 8]
abbrev u227_12 : List UInt8 := w227_12 ++ u227_13
def w227_11 : List UInt8 := [180, 0, 34, 21, 9, 46, 79, 42, 21, 9, 21, 10, 182, 1, 102, 4, 172, 42, 28, 19, 1, 143]
abbrev u227_11 : List UInt8 := w227_11 ++ u227_12
def w227_10 : List UInt8 := [42, 180, 0, 102, 180, 0, 31, 21, 9, 46, 79, 42, 180, 0, 102, 180, 0, 34, 21, 10, 42, 180, 0, 102]
abbrev u227_10 : List UInt8 := w227_10 ++ u227_11
def w227_9 : List UInt8 := [42, 180, 1, 91, 160, 0, 11, 42, 21, 10, 181, 1, 91, 4, 172, 42, 180, 0, 102, 180, 0, 31, 21, 10]
abbrev u227_9 : List UInt8 := w227_9 ++ u227_10
def w227_8 : List UInt8 := [180, 0, 106, 21, 8, 182, 1, 138, 54, 10, 21, 4, 153, 0, 10, 42, 21, 10, 182, 1, 141, 172, 21, 9]
abbrev u227_8 : List UInt8 := w227_8 ++ u227_9
def w227_7 : List UInt8 := [153, 0, 19, 42, 180, 0, 106, 21, 8, 42, 180, 0, 102, 21, 9, 184, 0, 20, 172, 42, 180, 0, 102, 42]
abbrev u227_7 : List UInt8 := w227_7 ++ u227_8
def w227_6 : List UInt8 := [180, 1, 78, 182, 1, 94, 54, 9, 21, 4, 154, 0, 10, 21, 9, 156, 0, 5, 3, 172, 21, 6]
abbrev u227_6 : List UInt8 := w227_6 ++ u227_7
def w227_5 : List UInt8 := [21, 8, 156, 0, 5, 3, 172, 21, 4, 153, 0, 7, 2, 167, 0, 15, 42, 42, 180, 1, 91, 42]
abbrev u227_5 : List UInt8 := w227_5 ++ u227_6
def w227_4 : List UInt8 := [154, 0, 13, 21, 5, 154, 0, 8, 21, 6, 153, 0, 170, 42, 27, 19, 1, 137, 182, 1, 113, 54, 8]
abbrev u227_4 : List UInt8 := w227_4 ++ u227_5
def w227_3 : List UInt8 := [54, 5, 42, 28, 19, 1, 133, 182, 1, 127, 54, 6, 42, 28, 19, 1, 135, 182, 1, 127, 54, 7, 21, 4]
abbrev u227_3 : List UInt8 := w227_3 ++ u227_4
def w227_2 : List UInt8 := [154, 0, 5, 3, 172, 42, 28, 19, 1, 126, 182, 1, 127, 54, 4, 42, 28, 19, 1, 131, 182, 1, 127]
abbrev u227_2 : List UInt8 := w227_2 ++ u227_3
def w227_1 : List UInt8 := [61, 42, 27, 19, 1, 121, 182, 1, 119, 62, 28, 155, 0, 15, 29, 155, 0, 11, 42, 29, 182, 1, 123]
abbrev u227_1 : List UInt8 := w227_1 ++ u227_2
def w227_0 : List UInt8 := [42, 180, 0, 106, 180, 0, 1, 27, 46, 16, 6, 159, 0, 5, 3, 172, 42, 27, 19, 1, 117, 182, 1, 119]
abbrev u227_0 : List UInt8 := w227_0 ++ u227_1
theorem s227_0 : (prog_32_method_57_code).data.toList.drop 0 = u227_0 := by decide +kernel
theorem s227_1 : (prog_32_method_57_code).data.toList.drop 24 = u227_1 := dk_seg s227_0 24 rfl rfl
theorem s227_2 : (prog_32_method_57_code).data.toList.drop 47 = u227_2 := dk_seg s227_1 23 rfl rfl
theorem s227_3 : (prog_32_method_57_code).data.toList.drop 70 = u227_3 := dk_seg s227_2 23 rfl rfl
theorem s227_4 : (prog_32_method_57_code).data.toList.drop 94 = u227_4 := dk_seg s227_3 24 rfl rfl
theorem s227_5 : (prog_32_method_57_code).data.toList.drop 117 = u227_5 := dk_seg s227_4 23 rfl rfl
theorem s227_6 : (prog_32_method_57_code).data.toList.drop 139 = u227_6 := dk_seg s227_5 22 rfl rfl
theorem s227_7 : (prog_32_method_57_code).data.toList.drop 161 = u227_7 := dk_seg s227_6 22 rfl rfl
theorem s227_8 : (prog_32_method_57_code).data.toList.drop 185 = u227_8 := dk_seg s227_7 24 rfl rfl
theorem s227_9 : (prog_32_method_57_code).data.toList.drop 209 = u227_9 := dk_seg s227_8 24 rfl rfl
theorem s227_10 : (prog_32_method_57_code).data.toList.drop 233 = u227_10 := dk_seg s227_9 24 rfl rfl
theorem s227_11 : (prog_32_method_57_code).data.toList.drop 257 = u227_11 := dk_seg s227_10 24 rfl rfl
theorem s227_12 : (prog_32_method_57_code).data.toList.drop 279 = u227_12 := dk_seg s227_11 22 rfl rfl
theorem s227_13 : (prog_32_method_57_code).data.toList.drop 301 = u227_13 := dk_seg s227_12 22 rfl rfl
theorem s227_14 : (prog_32_method_57_code).data.toList.drop 325 = u227_14 := dk_seg s227_13 24 rfl rfl
theorem s227_15 : (prog_32_method_57_code).data.toList.drop 349 = u227_15 := dk_seg s227_14 24 rfl rfl
theorem s227_16 : (prog_32_method_57_code).data.toList.drop 372 = u227_16 := dk_seg s227_15 23 rfl rfl
theorem s227_17 : (prog_32_method_57_code).data.toList.drop 396 = u227_17 := dk_seg s227_16 24 rfl rfl
theorem s227_18 : (prog_32_method_57_code).data.toList.drop 418 = u227_18 := dk_seg s227_17 22 rfl rfl
theorem s227_19 : (prog_32_method_57_code).data.toList.drop 440 = u227_19 := dk_seg s227_18 22 rfl rfl
theorem s227_20 : (prog_32_method_57_code).data.toList.drop 464 = u227_20 := dk_seg s227_19 24 rfl rfl
theorem Fm227 {pc len : Nat} {i : Instr} (h : decode (prog_32_method_57_code) pc = .ok (i, len)) (hl : len = ilen i len) : ft 227 pc = some (11, 4, 0, i, len) := ft_mk rfl h hl
theorem f227_0 : ft 227 0 = some (11, 4, 0, .aload_n 0, 1) := Fm227 (dk_42 (dk_at s227_0 0 rfl rfl)) rfl
theorem f227_1 : ft 227 1 = some (11, 4, 0, .getfield 106, 3) := Fm227 (dk_180 0 106 (dk_at s227_0 1 rfl rfl)) rfl
theorem f227_4 : ft 227 4 = some (11, 4, 0, .getfield 1, 3) := Fm227 (dk_180 0 1 (dk_at s227_0 4 rfl rfl)) rfl
theorem f227_7 : ft 227 7 = some (11, 4, 0, .iload_n 1, 1) := Fm227 (dk_27 (dk_at s227_0 7 rfl rfl)) rfl
theorem f227_8 : ft 227 8 = some (11, 4, 0, .iaload, 1) := Fm227 (dk_46 (dk_at s227_0 8 rfl rfl)) rfl
theorem f227_9 : ft 227 9 = some (11, 4, 0, .bipush 6, 2) := Fm227 (dk_16 6 (dk_at s227_0 9 rfl rfl)) rfl
theorem f227_11 : ft 227 11 = some (11, 4, 0, .if_icmp .eq 5, 3) := Fm227 (dk_159 0 5 (dk_at s227_0 11 rfl rfl)) rfl
theorem f227_14 : ft 227 14 = some (11, 4, 0, .iconst 0, 1) := Fm227 (dk_3 (dk_at s227_0 14 rfl rfl)) rfl
theorem f227_15 : ft 227 15 = some (11, 4, 0, .ireturn, 1) := Fm227 (dk_172 (dk_at s227_0 15 rfl rfl)) rfl
theorem f227_16 : ft 227 16 = some (11, 4, 0, .aload_n 0, 1) := Fm227 (dk_42 (dk_at s227_0 16 rfl rfl)) rfl
theorem f227_17 : ft 227 17 = some (11, 4, 0, .iload_n 1, 1) := Fm227 (dk_27 (dk_at s227_0 17 rfl rfl)) rfl
theorem f227_18 : ft 227 18 = some (11, 4, 0, .ldc_w 373, 3) := Fm227 (dk_19 1 117 (dk_at s227_0 18 rfl rfl)) rfl
theorem f227_21 : ft 227 21 = some (11, 4, 0, .invokevirtual 375, 3) := Fm227 (dk_182 1 119 (dk_at s227_0 21 rfl rfl)) rfl
theorem f227_24 : ft 227 24 = some (11, 4, 0, .istore_n 2, 1) := Fm227 (dk_61 (dk_at s227_1 0 rfl rfl)) rfl
theorem f227_25 : ft 227 25 = some (11, 4, 0, .aload_n 0, 1) := Fm227 (dk_42 (dk_at s227_1 1 rfl rfl)) rfl
theorem f227_26 : ft 227 26 = some (11, 4, 0, .iload_n 1, 1) := Fm227 (dk_27 (dk_at s227_1 2 rfl rfl)) rfl
theorem f227_27 : ft 227 27 = some (11, 4, 0, .ldc_w 377, 3) := Fm227 (dk_19 1 121 (dk_at s227_1 3 rfl rfl)) rfl
theorem f227_30 : ft 227 30 = some (11, 4, 0, .invokevirtual 375, 3) := Fm227 (dk_182 1 119 (dk_at s227_1 6 rfl rfl)) rfl
theorem f227_33 : ft 227 33 = some (11, 4, 0, .istore_n 3, 1) := Fm227 (dk_62 (dk_at s227_1 9 rfl rfl)) rfl
theorem f227_34 : ft 227 34 = some (11, 4, 0, .iload_n 2, 1) := Fm227 (dk_28 (dk_at s227_1 10 rfl rfl)) rfl
theorem f227_35 : ft 227 35 = some (11, 4, 0, .ifCond .lt 15, 3) := Fm227 (dk_155 0 15 (dk_at s227_1 11 rfl rfl)) rfl
theorem f227_38 : ft 227 38 = some (11, 4, 0, .iload_n 3, 1) := Fm227 (dk_29 (dk_at s227_1 14 rfl rfl)) rfl
theorem f227_39 : ft 227 39 = some (11, 4, 0, .ifCond .lt 11, 3) := Fm227 (dk_155 0 11 (dk_at s227_1 15 rfl rfl)) rfl
theorem f227_42 : ft 227 42 = some (11, 4, 0, .aload_n 0, 1) := Fm227 (dk_42 (dk_at s227_1 18 rfl rfl)) rfl
theorem f227_43 : ft 227 43 = some (11, 4, 0, .iload_n 3, 1) := Fm227 (dk_29 (dk_at s227_1 19 rfl rfl)) rfl
theorem f227_44 : ft 227 44 = some (11, 4, 0, .invokevirtual 379, 3) := Fm227 (dk_182 1 123 (dk_at s227_1 20 rfl rfl)) rfl
theorem f227_47 : ft 227 47 = some (11, 4, 0, .ifCond .ne 5, 3) := Fm227 (dk_154 0 5 (dk_at s227_2 0 rfl rfl)) rfl
theorem f227_50 : ft 227 50 = some (11, 4, 0, .iconst 0, 1) := Fm227 (dk_3 (dk_at s227_2 3 rfl rfl)) rfl
theorem f227_51 : ft 227 51 = some (11, 4, 0, .ireturn, 1) := Fm227 (dk_172 (dk_at s227_2 4 rfl rfl)) rfl
theorem f227_52 : ft 227 52 = some (11, 4, 0, .aload_n 0, 1) := Fm227 (dk_42 (dk_at s227_2 5 rfl rfl)) rfl
theorem f227_53 : ft 227 53 = some (11, 4, 0, .iload_n 2, 1) := Fm227 (dk_28 (dk_at s227_2 6 rfl rfl)) rfl
theorem f227_54 : ft 227 54 = some (11, 4, 0, .ldc_w 382, 3) := Fm227 (dk_19 1 126 (dk_at s227_2 7 rfl rfl)) rfl
theorem f227_57 : ft 227 57 = some (11, 4, 0, .invokevirtual 383, 3) := Fm227 (dk_182 1 127 (dk_at s227_2 10 rfl rfl)) rfl
theorem f227_60 : ft 227 60 = some (11, 4, 0, .istore 4, 2) := Fm227 (dk_54 4 (dk_at s227_2 13 rfl rfl)) rfl
theorem f227_62 : ft 227 62 = some (11, 4, 0, .aload_n 0, 1) := Fm227 (dk_42 (dk_at s227_2 15 rfl rfl)) rfl
theorem f227_63 : ft 227 63 = some (11, 4, 0, .iload_n 2, 1) := Fm227 (dk_28 (dk_at s227_2 16 rfl rfl)) rfl
theorem f227_64 : ft 227 64 = some (11, 4, 0, .ldc_w 387, 3) := Fm227 (dk_19 1 131 (dk_at s227_2 17 rfl rfl)) rfl
theorem f227_67 : ft 227 67 = some (11, 4, 0, .invokevirtual 383, 3) := Fm227 (dk_182 1 127 (dk_at s227_2 20 rfl rfl)) rfl
theorem f227_70 : ft 227 70 = some (11, 4, 0, .istore 5, 2) := Fm227 (dk_54 5 (dk_at s227_3 0 rfl rfl)) rfl
theorem f227_72 : ft 227 72 = some (11, 4, 0, .aload_n 0, 1) := Fm227 (dk_42 (dk_at s227_3 2 rfl rfl)) rfl
theorem f227_73 : ft 227 73 = some (11, 4, 0, .iload_n 2, 1) := Fm227 (dk_28 (dk_at s227_3 3 rfl rfl)) rfl
theorem f227_74 : ft 227 74 = some (11, 4, 0, .ldc_w 389, 3) := Fm227 (dk_19 1 133 (dk_at s227_3 4 rfl rfl)) rfl
theorem f227_77 : ft 227 77 = some (11, 4, 0, .invokevirtual 383, 3) := Fm227 (dk_182 1 127 (dk_at s227_3 7 rfl rfl)) rfl
theorem f227_80 : ft 227 80 = some (11, 4, 0, .istore 6, 2) := Fm227 (dk_54 6 (dk_at s227_3 10 rfl rfl)) rfl
theorem f227_82 : ft 227 82 = some (11, 4, 0, .aload_n 0, 1) := Fm227 (dk_42 (dk_at s227_3 12 rfl rfl)) rfl
theorem f227_83 : ft 227 83 = some (11, 4, 0, .iload_n 2, 1) := Fm227 (dk_28 (dk_at s227_3 13 rfl rfl)) rfl
theorem f227_84 : ft 227 84 = some (11, 4, 0, .ldc_w 391, 3) := Fm227 (dk_19 1 135 (dk_at s227_3 14 rfl rfl)) rfl
theorem f227_87 : ft 227 87 = some (11, 4, 0, .invokevirtual 383, 3) := Fm227 (dk_182 1 127 (dk_at s227_3 17 rfl rfl)) rfl
theorem f227_90 : ft 227 90 = some (11, 4, 0, .istore 7, 2) := Fm227 (dk_54 7 (dk_at s227_3 20 rfl rfl)) rfl
theorem f227_92 : ft 227 92 = some (11, 4, 0, .iload 4, 2) := Fm227 (dk_21 4 (dk_at s227_3 22 rfl rfl)) rfl
theorem f227_94 : ft 227 94 = some (11, 4, 0, .ifCond .ne 13, 3) := Fm227 (dk_154 0 13 (dk_at s227_4 0 rfl rfl)) rfl
theorem f227_97 : ft 227 97 = some (11, 4, 0, .iload 5, 2) := Fm227 (dk_21 5 (dk_at s227_4 3 rfl rfl)) rfl
theorem f227_99 : ft 227 99 = some (11, 4, 0, .ifCond .ne 8, 3) := Fm227 (dk_154 0 8 (dk_at s227_4 5 rfl rfl)) rfl
theorem f227_102 : ft 227 102 = some (11, 4, 0, .iload 6, 2) := Fm227 (dk_21 6 (dk_at s227_4 8 rfl rfl)) rfl
theorem f227_104 : ft 227 104 = some (11, 4, 0, .ifCond .eq 170, 3) := Fm227 (dk_153 0 170 (dk_at s227_4 10 rfl rfl)) rfl
theorem f227_107 : ft 227 107 = some (11, 4, 0, .aload_n 0, 1) := Fm227 (dk_42 (dk_at s227_4 13 rfl rfl)) rfl
theorem f227_108 : ft 227 108 = some (11, 4, 0, .iload_n 1, 1) := Fm227 (dk_27 (dk_at s227_4 14 rfl rfl)) rfl
theorem f227_109 : ft 227 109 = some (11, 4, 0, .ldc_w 393, 3) := Fm227 (dk_19 1 137 (dk_at s227_4 15 rfl rfl)) rfl
theorem f227_112 : ft 227 112 = some (11, 4, 0, .invokevirtual 369, 3) := Fm227 (dk_182 1 113 (dk_at s227_4 18 rfl rfl)) rfl
theorem f227_115 : ft 227 115 = some (11, 4, 0, .istore 8, 2) := Fm227 (dk_54 8 (dk_at s227_4 21 rfl rfl)) rfl
theorem f227_117 : ft 227 117 = some (11, 4, 0, .iload 8, 2) := Fm227 (dk_21 8 (dk_at s227_5 0 rfl rfl)) rfl
theorem f227_119 : ft 227 119 = some (11, 4, 0, .ifCond .ge 5, 3) := Fm227 (dk_156 0 5 (dk_at s227_5 2 rfl rfl)) rfl
theorem f227_122 : ft 227 122 = some (11, 4, 0, .iconst 0, 1) := Fm227 (dk_3 (dk_at s227_5 5 rfl rfl)) rfl
theorem f227_123 : ft 227 123 = some (11, 4, 0, .ireturn, 1) := Fm227 (dk_172 (dk_at s227_5 6 rfl rfl)) rfl
theorem f227_124 : ft 227 124 = some (11, 4, 0, .iload 4, 2) := Fm227 (dk_21 4 (dk_at s227_5 7 rfl rfl)) rfl
theorem f227_126 : ft 227 126 = some (11, 4, 0, .ifCond .eq 7, 3) := Fm227 (dk_153 0 7 (dk_at s227_5 9 rfl rfl)) rfl
theorem f227_129 : ft 227 129 = some (11, 4, 0, .iconst (-1), 1) := Fm227 (dk_2 (dk_at s227_5 12 rfl rfl)) rfl
theorem f227_130 : ft 227 130 = some (11, 4, 0, .goto 15, 3) := Fm227 (dk_167 0 15 (dk_at s227_5 13 rfl rfl)) rfl
theorem f227_133 : ft 227 133 = some (11, 4, 0, .aload_n 0, 1) := Fm227 (dk_42 (dk_at s227_5 16 rfl rfl)) rfl
theorem f227_134 : ft 227 134 = some (11, 4, 0, .aload_n 0, 1) := Fm227 (dk_42 (dk_at s227_5 17 rfl rfl)) rfl
theorem f227_135 : ft 227 135 = some (11, 4, 0, .getfield 347, 3) := Fm227 (dk_180 1 91 (dk_at s227_5 18 rfl rfl)) rfl
theorem f227_138 : ft 227 138 = some (11, 4, 0, .aload_n 0, 1) := Fm227 (dk_42 (dk_at s227_5 21 rfl rfl)) rfl
theorem f227_139 : ft 227 139 = some (11, 4, 0, .getfield 334, 3) := Fm227 (dk_180 1 78 (dk_at s227_6 0 rfl rfl)) rfl
theorem f227_142 : ft 227 142 = some (11, 4, 0, .invokevirtual 350, 3) := Fm227 (dk_182 1 94 (dk_at s227_6 3 rfl rfl)) rfl
theorem f227_145 : ft 227 145 = some (11, 4, 0, .istore 9, 2) := Fm227 (dk_54 9 (dk_at s227_6 6 rfl rfl)) rfl
theorem f227_147 : ft 227 147 = some (11, 4, 0, .iload 4, 2) := Fm227 (dk_21 4 (dk_at s227_6 8 rfl rfl)) rfl
theorem f227_149 : ft 227 149 = some (11, 4, 0, .ifCond .ne 10, 3) := Fm227 (dk_154 0 10 (dk_at s227_6 10 rfl rfl)) rfl
theorem f227_152 : ft 227 152 = some (11, 4, 0, .iload 9, 2) := Fm227 (dk_21 9 (dk_at s227_6 13 rfl rfl)) rfl
theorem f227_154 : ft 227 154 = some (11, 4, 0, .ifCond .ge 5, 3) := Fm227 (dk_156 0 5 (dk_at s227_6 15 rfl rfl)) rfl
theorem f227_157 : ft 227 157 = some (11, 4, 0, .iconst 0, 1) := Fm227 (dk_3 (dk_at s227_6 18 rfl rfl)) rfl
theorem f227_158 : ft 227 158 = some (11, 4, 0, .ireturn, 1) := Fm227 (dk_172 (dk_at s227_6 19 rfl rfl)) rfl
theorem f227_159 : ft 227 159 = some (11, 4, 0, .iload 6, 2) := Fm227 (dk_21 6 (dk_at s227_6 20 rfl rfl)) rfl
theorem f227_161 : ft 227 161 = some (11, 4, 0, .ifCond .eq 19, 3) := Fm227 (dk_153 0 19 (dk_at s227_7 0 rfl rfl)) rfl
theorem f227_164 : ft 227 164 = some (11, 4, 0, .aload_n 0, 1) := Fm227 (dk_42 (dk_at s227_7 3 rfl rfl)) rfl
theorem f227_165 : ft 227 165 = some (11, 4, 0, .getfield 106, 3) := Fm227 (dk_180 0 106 (dk_at s227_7 4 rfl rfl)) rfl
theorem f227_168 : ft 227 168 = some (11, 4, 0, .iload 8, 2) := Fm227 (dk_21 8 (dk_at s227_7 7 rfl rfl)) rfl
theorem f227_170 : ft 227 170 = some (11, 4, 0, .aload_n 0, 1) := Fm227 (dk_42 (dk_at s227_7 9 rfl rfl)) rfl
theorem f227_171 : ft 227 171 = some (11, 4, 0, .getfield 102, 3) := Fm227 (dk_180 0 102 (dk_at s227_7 10 rfl rfl)) rfl
theorem f227_174 : ft 227 174 = some (11, 4, 0, .iload 9, 2) := Fm227 (dk_21 9 (dk_at s227_7 13 rfl rfl)) rfl
theorem f227_176 : ft 227 176 = some (11, 4, 0, .invokestatic 20, 3) := Fm227 (dk_184 0 20 (dk_at s227_7 15 rfl rfl)) rfl
theorem f227_179 : ft 227 179 = some (11, 4, 0, .ireturn, 1) := Fm227 (dk_172 (dk_at s227_7 18 rfl rfl)) rfl
theorem f227_180 : ft 227 180 = some (11, 4, 0, .aload_n 0, 1) := Fm227 (dk_42 (dk_at s227_7 19 rfl rfl)) rfl
theorem f227_181 : ft 227 181 = some (11, 4, 0, .getfield 102, 3) := Fm227 (dk_180 0 102 (dk_at s227_7 20 rfl rfl)) rfl
theorem f227_184 : ft 227 184 = some (11, 4, 0, .aload_n 0, 1) := Fm227 (dk_42 (dk_at s227_7 23 rfl rfl)) rfl
theorem f227_185 : ft 227 185 = some (11, 4, 0, .getfield 106, 3) := Fm227 (dk_180 0 106 (dk_at s227_8 0 rfl rfl)) rfl
theorem f227_188 : ft 227 188 = some (11, 4, 0, .iload 8, 2) := Fm227 (dk_21 8 (dk_at s227_8 3 rfl rfl)) rfl
theorem f227_190 : ft 227 190 = some (11, 4, 0, .invokevirtual 394, 3) := Fm227 (dk_182 1 138 (dk_at s227_8 5 rfl rfl)) rfl
theorem f227_193 : ft 227 193 = some (11, 4, 0, .istore 10, 2) := Fm227 (dk_54 10 (dk_at s227_8 8 rfl rfl)) rfl
theorem f227_195 : ft 227 195 = some (11, 4, 0, .iload 4, 2) := Fm227 (dk_21 4 (dk_at s227_8 10 rfl rfl)) rfl
theorem f227_197 : ft 227 197 = some (11, 4, 0, .ifCond .eq 10, 3) := Fm227 (dk_153 0 10 (dk_at s227_8 12 rfl rfl)) rfl
theorem f227_200 : ft 227 200 = some (11, 4, 0, .aload_n 0, 1) := Fm227 (dk_42 (dk_at s227_8 15 rfl rfl)) rfl
theorem f227_201 : ft 227 201 = some (11, 4, 0, .iload 10, 2) := Fm227 (dk_21 10 (dk_at s227_8 16 rfl rfl)) rfl
theorem f227_203 : ft 227 203 = some (11, 4, 0, .invokevirtual 397, 3) := Fm227 (dk_182 1 141 (dk_at s227_8 18 rfl rfl)) rfl
theorem f227_206 : ft 227 206 = some (11, 4, 0, .ireturn, 1) := Fm227 (dk_172 (dk_at s227_8 21 rfl rfl)) rfl
theorem f227_207 : ft 227 207 = some (11, 4, 0, .iload 9, 2) := Fm227 (dk_21 9 (dk_at s227_8 22 rfl rfl)) rfl
theorem f227_209 : ft 227 209 = some (11, 4, 0, .aload_n 0, 1) := Fm227 (dk_42 (dk_at s227_9 0 rfl rfl)) rfl
theorem f227_210 : ft 227 210 = some (11, 4, 0, .getfield 347, 3) := Fm227 (dk_180 1 91 (dk_at s227_9 1 rfl rfl)) rfl
theorem f227_213 : ft 227 213 = some (11, 4, 0, .if_icmp .ne 11, 3) := Fm227 (dk_160 0 11 (dk_at s227_9 4 rfl rfl)) rfl
theorem f227_216 : ft 227 216 = some (11, 4, 0, .aload_n 0, 1) := Fm227 (dk_42 (dk_at s227_9 7 rfl rfl)) rfl
theorem f227_217 : ft 227 217 = some (11, 4, 0, .iload 10, 2) := Fm227 (dk_21 10 (dk_at s227_9 8 rfl rfl)) rfl
theorem f227_219 : ft 227 219 = some (11, 4, 0, .putfield 347, 3) := Fm227 (dk_181 1 91 (dk_at s227_9 10 rfl rfl)) rfl
theorem f227_222 : ft 227 222 = some (11, 4, 0, .iconst 1, 1) := Fm227 (dk_4 (dk_at s227_9 13 rfl rfl)) rfl
theorem f227_223 : ft 227 223 = some (11, 4, 0, .ireturn, 1) := Fm227 (dk_172 (dk_at s227_9 14 rfl rfl)) rfl
theorem f227_224 : ft 227 224 = some (11, 4, 0, .aload_n 0, 1) := Fm227 (dk_42 (dk_at s227_9 15 rfl rfl)) rfl
theorem f227_225 : ft 227 225 = some (11, 4, 0, .getfield 102, 3) := Fm227 (dk_180 0 102 (dk_at s227_9 16 rfl rfl)) rfl
theorem f227_228 : ft 227 228 = some (11, 4, 0, .getfield 31, 3) := Fm227 (dk_180 0 31 (dk_at s227_9 19 rfl rfl)) rfl
theorem f227_231 : ft 227 231 = some (11, 4, 0, .iload 10, 2) := Fm227 (dk_21 10 (dk_at s227_9 22 rfl rfl)) rfl
theorem f227_233 : ft 227 233 = some (11, 4, 0, .aload_n 0, 1) := Fm227 (dk_42 (dk_at s227_10 0 rfl rfl)) rfl
theorem f227_234 : ft 227 234 = some (11, 4, 0, .getfield 102, 3) := Fm227 (dk_180 0 102 (dk_at s227_10 1 rfl rfl)) rfl
theorem f227_237 : ft 227 237 = some (11, 4, 0, .getfield 31, 3) := Fm227 (dk_180 0 31 (dk_at s227_10 4 rfl rfl)) rfl
theorem f227_240 : ft 227 240 = some (11, 4, 0, .iload 9, 2) := Fm227 (dk_21 9 (dk_at s227_10 7 rfl rfl)) rfl
theorem f227_242 : ft 227 242 = some (11, 4, 0, .iaload, 1) := Fm227 (dk_46 (dk_at s227_10 9 rfl rfl)) rfl
theorem f227_243 : ft 227 243 = some (11, 4, 0, .iastore, 1) := Fm227 (dk_79 (dk_at s227_10 10 rfl rfl)) rfl
theorem f227_244 : ft 227 244 = some (11, 4, 0, .aload_n 0, 1) := Fm227 (dk_42 (dk_at s227_10 11 rfl rfl)) rfl
theorem f227_245 : ft 227 245 = some (11, 4, 0, .getfield 102, 3) := Fm227 (dk_180 0 102 (dk_at s227_10 12 rfl rfl)) rfl
theorem f227_248 : ft 227 248 = some (11, 4, 0, .getfield 34, 3) := Fm227 (dk_180 0 34 (dk_at s227_10 15 rfl rfl)) rfl
theorem f227_251 : ft 227 251 = some (11, 4, 0, .iload 10, 2) := Fm227 (dk_21 10 (dk_at s227_10 18 rfl rfl)) rfl
theorem f227_253 : ft 227 253 = some (11, 4, 0, .aload_n 0, 1) := Fm227 (dk_42 (dk_at s227_10 20 rfl rfl)) rfl
theorem f227_254 : ft 227 254 = some (11, 4, 0, .getfield 102, 3) := Fm227 (dk_180 0 102 (dk_at s227_10 21 rfl rfl)) rfl
theorem f227_257 : ft 227 257 = some (11, 4, 0, .getfield 34, 3) := Fm227 (dk_180 0 34 (dk_at s227_11 0 rfl rfl)) rfl
theorem f227_260 : ft 227 260 = some (11, 4, 0, .iload 9, 2) := Fm227 (dk_21 9 (dk_at s227_11 3 rfl rfl)) rfl
theorem f227_262 : ft 227 262 = some (11, 4, 0, .iaload, 1) := Fm227 (dk_46 (dk_at s227_11 5 rfl rfl)) rfl
theorem f227_263 : ft 227 263 = some (11, 4, 0, .iastore, 1) := Fm227 (dk_79 (dk_at s227_11 6 rfl rfl)) rfl
theorem f227_264 : ft 227 264 = some (11, 4, 0, .aload_n 0, 1) := Fm227 (dk_42 (dk_at s227_11 7 rfl rfl)) rfl
theorem f227_265 : ft 227 265 = some (11, 4, 0, .iload 9, 2) := Fm227 (dk_21 9 (dk_at s227_11 8 rfl rfl)) rfl
theorem f227_267 : ft 227 267 = some (11, 4, 0, .iload 10, 2) := Fm227 (dk_21 10 (dk_at s227_11 10 rfl rfl)) rfl
theorem f227_269 : ft 227 269 = some (11, 4, 0, .invokevirtual 358, 3) := Fm227 (dk_182 1 102 (dk_at s227_11 12 rfl rfl)) rfl
theorem f227_272 : ft 227 272 = some (11, 4, 0, .iconst 1, 1) := Fm227 (dk_4 (dk_at s227_11 15 rfl rfl)) rfl
theorem f227_273 : ft 227 273 = some (11, 4, 0, .ireturn, 1) := Fm227 (dk_172 (dk_at s227_11 16 rfl rfl)) rfl
theorem f227_274 : ft 227 274 = some (11, 4, 0, .aload_n 0, 1) := Fm227 (dk_42 (dk_at s227_11 17 rfl rfl)) rfl
theorem f227_275 : ft 227 275 = some (11, 4, 0, .iload_n 2, 1) := Fm227 (dk_28 (dk_at s227_11 18 rfl rfl)) rfl
theorem f227_276 : ft 227 276 = some (11, 4, 0, .ldc_w 399, 3) := Fm227 (dk_19 1 143 (dk_at s227_11 19 rfl rfl)) rfl
theorem f227_279 : ft 227 279 = some (11, 4, 0, .invokevirtual 383, 3) := Fm227 (dk_182 1 127 (dk_at s227_12 0 rfl rfl)) rfl
theorem f227_282 : ft 227 282 = some (11, 4, 0, .ifCond .eq 44, 3) := Fm227 (dk_153 0 44 (dk_at s227_12 3 rfl rfl)) rfl
theorem f227_285 : ft 227 285 = some (11, 4, 0, .aload_n 0, 1) := Fm227 (dk_42 (dk_at s227_12 6 rfl rfl)) rfl
theorem f227_286 : ft 227 286 = some (11, 4, 0, .aload_n 0, 1) := Fm227 (dk_42 (dk_at s227_12 7 rfl rfl)) rfl
theorem f227_287 : ft 227 287 = some (11, 4, 0, .getfield 347, 3) := Fm227 (dk_180 1 91 (dk_at s227_12 8 rfl rfl)) rfl
theorem f227_290 : ft 227 290 = some (11, 4, 0, .aload_n 0, 1) := Fm227 (dk_42 (dk_at s227_12 11 rfl rfl)) rfl
theorem f227_291 : ft 227 291 = some (11, 4, 0, .getfield 334, 3) := Fm227 (dk_180 1 78 (dk_at s227_12 12 rfl rfl)) rfl
theorem f227_294 : ft 227 294 = some (11, 4, 0, .invokevirtual 350, 3) := Fm227 (dk_182 1 94 (dk_at s227_12 15 rfl rfl)) rfl
theorem f227_297 : ft 227 297 = some (11, 4, 0, .istore 8, 2) := Fm227 (dk_54 8 (dk_at s227_12 18 rfl rfl)) rfl
theorem f227_299 : ft 227 299 = some (11, 4, 0, .iload 8, 2) := Fm227 (dk_21 8 (dk_at s227_12 20 rfl rfl)) rfl
theorem f227_301 : ft 227 301 = some (11, 4, 0, .ifCond .lt 12, 3) := Fm227 (dk_155 0 12 (dk_at s227_13 0 rfl rfl)) rfl
theorem f227_304 : ft 227 304 = some (11, 4, 0, .iload 8, 2) := Fm227 (dk_21 8 (dk_at s227_13 3 rfl rfl)) rfl
theorem f227_306 : ft 227 306 = some (11, 4, 0, .aload_n 0, 1) := Fm227 (dk_42 (dk_at s227_13 5 rfl rfl)) rfl
theorem f227_307 : ft 227 307 = some (11, 4, 0, .getfield 347, 3) := Fm227 (dk_180 1 91 (dk_at s227_13 6 rfl rfl)) rfl
theorem f227_310 : ft 227 310 = some (11, 4, 0, .if_icmp .ne 5, 3) := Fm227 (dk_160 0 5 (dk_at s227_13 9 rfl rfl)) rfl
theorem f227_313 : ft 227 313 = some (11, 4, 0, .iconst 0, 1) := Fm227 (dk_3 (dk_at s227_13 12 rfl rfl)) rfl
theorem f227_314 : ft 227 314 = some (11, 4, 0, .ireturn, 1) := Fm227 (dk_172 (dk_at s227_13 13 rfl rfl)) rfl
theorem f227_315 : ft 227 315 = some (11, 4, 0, .aload_n 0, 1) := Fm227 (dk_42 (dk_at s227_13 14 rfl rfl)) rfl
theorem f227_316 : ft 227 316 = some (11, 4, 0, .getfield 102, 3) := Fm227 (dk_180 0 102 (dk_at s227_13 15 rfl rfl)) rfl
theorem f227_319 : ft 227 319 = some (11, 4, 0, .iload 8, 2) := Fm227 (dk_21 8 (dk_at s227_13 18 rfl rfl)) rfl
theorem f227_321 : ft 227 321 = some (11, 4, 0, .invokevirtual 368, 3) := Fm227 (dk_182 1 112 (dk_at s227_13 20 rfl rfl)) rfl
theorem f227_324 : ft 227 324 = some (11, 4, 0, .iconst 1, 1) := Fm227 (dk_4 (dk_at s227_13 23 rfl rfl)) rfl
theorem f227_325 : ft 227 325 = some (11, 4, 0, .ireturn, 1) := Fm227 (dk_172 (dk_at s227_14 0 rfl rfl)) rfl
theorem f227_326 : ft 227 326 = some (11, 4, 0, .iload 7, 2) := Fm227 (dk_21 7 (dk_at s227_14 1 rfl rfl)) rfl
theorem f227_328 : ft 227 328 = some (11, 4, 0, .ifCond .ne 16, 3) := Fm227 (dk_154 0 16 (dk_at s227_14 3 rfl rfl)) rfl
theorem f227_331 : ft 227 331 = some (11, 4, 0, .aload_n 0, 1) := Fm227 (dk_42 (dk_at s227_14 6 rfl rfl)) rfl
theorem f227_332 : ft 227 332 = some (11, 4, 0, .iload_n 2, 1) := Fm227 (dk_28 (dk_at s227_14 7 rfl rfl)) rfl
theorem f227_333 : ft 227 333 = some (11, 4, 0, .ldc_w 400, 3) := Fm227 (dk_19 1 144 (dk_at s227_14 8 rfl rfl)) rfl
theorem f227_336 : ft 227 336 = some (11, 4, 0, .invokevirtual 383, 3) := Fm227 (dk_182 1 127 (dk_at s227_14 11 rfl rfl)) rfl
theorem f227_339 : ft 227 339 = some (11, 4, 0, .ifCond .ne 5, 3) := Fm227 (dk_154 0 5 (dk_at s227_14 14 rfl rfl)) rfl
theorem f227_342 : ft 227 342 = some (11, 4, 0, .iconst 0, 1) := Fm227 (dk_3 (dk_at s227_14 17 rfl rfl)) rfl
theorem f227_343 : ft 227 343 = some (11, 4, 0, .ireturn, 1) := Fm227 (dk_172 (dk_at s227_14 18 rfl rfl)) rfl
theorem f227_344 : ft 227 344 = some (11, 4, 0, .aload_n 0, 1) := Fm227 (dk_42 (dk_at s227_14 19 rfl rfl)) rfl
theorem f227_345 : ft 227 345 = some (11, 4, 0, .iload_n 1, 1) := Fm227 (dk_27 (dk_at s227_14 20 rfl rfl)) rfl
theorem f227_346 : ft 227 346 = some (11, 4, 0, .ldc_w 401, 3) := Fm227 (dk_19 1 145 (dk_at s227_14 21 rfl rfl)) rfl
theorem f227_349 : ft 227 349 = some (11, 4, 0, .invokevirtual 375, 3) := Fm227 (dk_182 1 119 (dk_at s227_15 0 rfl rfl)) rfl
theorem f227_352 : ft 227 352 = some (11, 4, 0, .istore 8, 2) := Fm227 (dk_54 8 (dk_at s227_15 3 rfl rfl)) rfl
theorem f227_354 : ft 227 354 = some (11, 4, 0, .iload 8, 2) := Fm227 (dk_21 8 (dk_at s227_15 5 rfl rfl)) rfl
theorem f227_356 : ft 227 356 = some (11, 4, 0, .ifCond .lt 12, 3) := Fm227 (dk_155 0 12 (dk_at s227_15 7 rfl rfl)) rfl
theorem f227_359 : ft 227 359 = some (11, 4, 0, .aload_n 0, 1) := Fm227 (dk_42 (dk_at s227_15 10 rfl rfl)) rfl
theorem f227_360 : ft 227 360 = some (11, 4, 0, .iload 8, 2) := Fm227 (dk_21 8 (dk_at s227_15 11 rfl rfl)) rfl
theorem f227_362 : ft 227 362 = some (11, 4, 0, .invokevirtual 379, 3) := Fm227 (dk_182 1 123 (dk_at s227_15 13 rfl rfl)) rfl
theorem f227_365 : ft 227 365 = some (11, 4, 0, .ifCond .ne 5, 3) := Fm227 (dk_154 0 5 (dk_at s227_15 16 rfl rfl)) rfl
theorem f227_368 : ft 227 368 = some (11, 4, 0, .iconst 0, 1) := Fm227 (dk_3 (dk_at s227_15 19 rfl rfl)) rfl
theorem f227_369 : ft 227 369 = some (11, 4, 0, .ireturn, 1) := Fm227 (dk_172 (dk_at s227_15 20 rfl rfl)) rfl
theorem f227_370 : ft 227 370 = some (11, 4, 0, .aload_n 0, 1) := Fm227 (dk_42 (dk_at s227_15 21 rfl rfl)) rfl
theorem f227_371 : ft 227 371 = some (11, 4, 0, .aload_n 0, 1) := Fm227 (dk_42 (dk_at s227_15 22 rfl rfl)) rfl
theorem f227_372 : ft 227 372 = some (11, 4, 0, .getfield 347, 3) := Fm227 (dk_180 1 91 (dk_at s227_16 0 rfl rfl)) rfl
theorem f227_375 : ft 227 375 = some (11, 4, 0, .aload_n 0, 1) := Fm227 (dk_42 (dk_at s227_16 3 rfl rfl)) rfl
theorem f227_376 : ft 227 376 = some (11, 4, 0, .getfield 334, 3) := Fm227 (dk_180 1 78 (dk_at s227_16 4 rfl rfl)) rfl
theorem f227_379 : ft 227 379 = some (11, 4, 0, .invokevirtual 350, 3) := Fm227 (dk_182 1 94 (dk_at s227_16 7 rfl rfl)) rfl
theorem f227_382 : ft 227 382 = some (11, 4, 0, .istore 9, 2) := Fm227 (dk_54 9 (dk_at s227_16 10 rfl rfl)) rfl
theorem f227_384 : ft 227 384 = some (11, 4, 0, .iload 9, 2) := Fm227 (dk_21 9 (dk_at s227_16 12 rfl rfl)) rfl
theorem f227_386 : ft 227 386 = some (11, 4, 0, .ifCond .lt 18, 3) := Fm227 (dk_155 0 18 (dk_at s227_16 14 rfl rfl)) rfl
theorem f227_389 : ft 227 389 = some (11, 4, 0, .iload 7, 2) := Fm227 (dk_21 7 (dk_at s227_16 17 rfl rfl)) rfl
theorem f227_391 : ft 227 391 = some (11, 4, 0, .ifCond .eq 15, 3) := Fm227 (dk_153 0 15 (dk_at s227_16 19 rfl rfl)) rfl
theorem f227_394 : ft 227 394 = some (11, 4, 0, .aload_n 0, 1) := Fm227 (dk_42 (dk_at s227_16 22 rfl rfl)) rfl
theorem f227_395 : ft 227 395 = some (11, 4, 0, .iload_n 3, 1) := Fm227 (dk_29 (dk_at s227_16 23 rfl rfl)) rfl
theorem f227_396 : ft 227 396 = some (11, 4, 0, .iload 8, 2) := Fm227 (dk_21 8 (dk_at s227_17 0 rfl rfl)) rfl
theorem f227_398 : ft 227 398 = some (11, 4, 0, .invokevirtual 403, 3) := Fm227 (dk_182 1 147 (dk_at s227_17 2 rfl rfl)) rfl
theorem f227_401 : ft 227 401 = some (11, 4, 0, .ifCond .eq 5, 3) := Fm227 (dk_153 0 5 (dk_at s227_17 5 rfl rfl)) rfl
theorem f227_404 : ft 227 404 = some (11, 4, 0, .iconst 0, 1) := Fm227 (dk_3 (dk_at s227_17 8 rfl rfl)) rfl
theorem f227_405 : ft 227 405 = some (11, 4, 0, .ireturn, 1) := Fm227 (dk_172 (dk_at s227_17 9 rfl rfl)) rfl
theorem f227_406 : ft 227 406 = some (11, 4, 0, .iload 7, 2) := Fm227 (dk_21 7 (dk_at s227_17 10 rfl rfl)) rfl
theorem f227_408 : ft 227 408 = some (11, 4, 0, .ifCond .eq 15, 3) := Fm227 (dk_153 0 15 (dk_at s227_17 12 rfl rfl)) rfl
theorem f227_411 : ft 227 411 = some (11, 4, 0, .aload_n 0, 1) := Fm227 (dk_42 (dk_at s227_17 15 rfl rfl)) rfl
theorem f227_412 : ft 227 412 = some (11, 4, 0, .iload_n 3, 1) := Fm227 (dk_29 (dk_at s227_17 16 rfl rfl)) rfl
theorem f227_413 : ft 227 413 = some (11, 4, 0, .iload 8, 2) := Fm227 (dk_21 8 (dk_at s227_17 17 rfl rfl)) rfl
theorem f227_415 : ft 227 415 = some (11, 4, 0, .invokevirtual 407, 3) := Fm227 (dk_182 1 151 (dk_at s227_17 19 rfl rfl)) rfl
theorem f227_418 : ft 227 418 = some (11, 4, 0, .ifCond .eq 5, 3) := Fm227 (dk_153 0 5 (dk_at s227_18 0 rfl rfl)) rfl
theorem f227_421 : ft 227 421 = some (11, 4, 0, .iconst 1, 1) := Fm227 (dk_4 (dk_at s227_18 3 rfl rfl)) rfl
theorem f227_422 : ft 227 422 = some (11, 4, 0, .ireturn, 1) := Fm227 (dk_172 (dk_at s227_18 4 rfl rfl)) rfl
theorem f227_423 : ft 227 423 = some (11, 4, 0, .aload_n 0, 1) := Fm227 (dk_42 (dk_at s227_18 5 rfl rfl)) rfl
theorem f227_424 : ft 227 424 = some (11, 4, 0, .getfield 102, 3) := Fm227 (dk_180 0 102 (dk_at s227_18 6 rfl rfl)) rfl
theorem f227_427 : ft 227 427 = some (11, 4, 0, .aload_n 0, 1) := Fm227 (dk_42 (dk_at s227_18 9 rfl rfl)) rfl
theorem f227_428 : ft 227 428 = some (11, 4, 0, .getfield 102, 3) := Fm227 (dk_180 0 102 (dk_at s227_18 10 rfl rfl)) rfl
theorem f227_431 : ft 227 431 = some (11, 4, 0, .iload 9, 2) := Fm227 (dk_21 9 (dk_at s227_18 13 rfl rfl)) rfl
theorem f227_433 : ft 227 433 = some (11, 4, 0, .invokevirtual 394, 3) := Fm227 (dk_182 1 138 (dk_at s227_18 15 rfl rfl)) rfl
theorem f227_436 : ft 227 436 = some (11, 4, 0, .istore 10, 2) := Fm227 (dk_54 10 (dk_at s227_18 18 rfl rfl)) rfl
theorem f227_438 : ft 227 438 = some (11, 4, 0, .iload 7, 2) := Fm227 (dk_21 7 (dk_at s227_18 20 rfl rfl)) rfl
theorem f227_440 : ft 227 440 = some (11, 4, 0, .ifCond .eq 12, 3) := Fm227 (dk_153 0 12 (dk_at s227_19 0 rfl rfl)) rfl
theorem f227_443 : ft 227 443 = some (11, 4, 0, .aload_n 0, 1) := Fm227 (dk_42 (dk_at s227_19 3 rfl rfl)) rfl
theorem f227_444 : ft 227 444 = some (11, 4, 0, .getfield 102, 3) := Fm227 (dk_180 0 102 (dk_at s227_19 4 rfl rfl)) rfl
theorem f227_447 : ft 227 447 = some (11, 4, 0, .iload 9, 2) := Fm227 (dk_21 9 (dk_at s227_19 7 rfl rfl)) rfl
theorem f227_449 : ft 227 449 = some (11, 4, 0, .invokevirtual 368, 3) := Fm227 (dk_182 1 112 (dk_at s227_19 9 rfl rfl)) rfl
theorem f227_452 : ft 227 452 = some (11, 4, 0, .aload_n 0, 1) := Fm227 (dk_42 (dk_at s227_19 12 rfl rfl)) rfl
theorem f227_453 : ft 227 453 = some (11, 4, 0, .iload_n 3, 1) := Fm227 (dk_29 (dk_at s227_19 13 rfl rfl)) rfl
theorem f227_454 : ft 227 454 = some (11, 4, 0, .invokevirtual 379, 3) := Fm227 (dk_182 1 123 (dk_at s227_19 14 rfl rfl)) rfl
theorem f227_457 : ft 227 457 = some (11, 4, 0, .pop, 1) := Fm227 (dk_87 (dk_at s227_19 17 rfl rfl)) rfl
theorem f227_458 : ft 227 458 = some (11, 4, 0, .aload_n 0, 1) := Fm227 (dk_42 (dk_at s227_19 18 rfl rfl)) rfl
theorem f227_459 : ft 227 459 = some (11, 4, 0, .iload 10, 2) := Fm227 (dk_21 10 (dk_at s227_19 19 rfl rfl)) rfl
theorem f227_461 : ft 227 461 = some (11, 4, 0, .invokevirtual 397, 3) := Fm227 (dk_182 1 141 (dk_at s227_19 21 rfl rfl)) rfl
theorem f227_464 : ft 227 464 = some (11, 4, 0, .ireturn, 1) := Fm227 (dk_172 (dk_at s227_20 0 rfl rfl)) rfl
theorem q227 {d : Nat} {m : Mem} {a0 a1 : Int} (hd : 0 < d) (hz : TZ m) : le2 (gd (tg m a0 = 11) <| nm (vl m a0 19) fun v12 => gd (tg m v12 = 13) <| nm (vl m v12 0) fun v13 => gd (tg m v13 = 284101 ∨ tg m v13 = 287101) <| gd ((0 : Int) ≤ a1 ∧ a1 < ln m v13) <| if (vl m v13 a1) = 6 then (bI (cl (d - 1) 228 [pR a0, pI a1, pR 60] m) fun v1 m1 => bI (cl (d - 1) 228 [pR a0, pI a1, pR 62] m1) fun v2 m2 => if v1 < 0 then (some (.inl (some (pI 0)), m2)) else if v2 < 0 then (some (.inl (some (pI 0)), m2)) else bI (cl (d - 1) 230 [pR a0, pI v2] m2) fun v3 m3 => if v3 = 0 then (some (.inl (some (pI 0)), m3)) else bI (cl (d - 1) 231 [pR a0, pI v1, pR 64] m3) fun v4 m4 => bI (cl (d - 1) 231 [pR a0, pI v1, pR 66] m4) fun v5 m5 => bI (cl (d - 1) 231 [pR a0, pI v1, pR 68] m5) fun v6 m6 => bI (cl (d - 1) 231 [pR a0, pI v1, pR 70] m6) fun v7 m7 => if v4 = 0 then (if v5 = 0 then (if v6 = 0 then (bI (cl (d - 1) 231 [pR a0, pI v1, pR 74] m7) fun v8 m8 => if v8 = 0 then (if v7 = 0 then (bI (cl (d - 1) 231 [pR a0, pI v1, pR 76] m8) fun v9 m9 => if v9 = 0 then (some (.inl (some (pI 0)), m9)) else rn d 227 344 [pR a0, pI a1, pI v1, pI v2, pI v4, pI v5, pI v6, pI v7, pU, pU, pU] [] m9) else rn d 227 344 [pR a0, pI a1, pI v1, pI v2, pI v4, pI v5, pI v6, pI v7, pU, pU, pU] [] m8) else bI (cl (d - 1) 232 [pR a0, pI (vl m8 a0 26), pI (vl m8 a0 24)] m8) fun v10 m10 => if v10 < 0 then (some (.inl (some (pI 0)), m10)) else if v10 = (vl m10 a0 26) then (some (.inl (some (pI 0)), m10)) else nm (vl m10 a0 18) fun v14 => gd (tg m10 v14 = 13) <| bV (cl (d - 1) 294 [pR v14, pI v10] m10) fun m11 => some (.inl (some (pI 1)), m11)) else rn d 227 107 [pR a0, pI a1, pI v1, pI v2, pI v4, pI v5, pI v6, pI v7, pU, pU, pU] [] m7) else rn d 227 107 [pR a0, pI a1, pI v1, pI v2, pI v4, pI v5, pI v6, pI v7, pU, pU, pU] [] m7) else rn d 227 107 [pR a0, pI a1, pI v1, pI v2, pI v4, pI v5, pI v6, pI v7, pU, pU, pU] [] m7) else some (.inl (some (pI 0)), m)) (cl d 227 [pR a0, pI a1] m) := by
  refine q_in (n := 11) (L := [pR a0, pI a1, pU, pU, pU, pU, pU, pU, pU, pU, pU]) rfl rfl rfl ?_
  refine r_aln0 (p := 1) f227_0 rfl ?_
  refine le2_gd (fun h1 => ?_)
  refine r_gfR (f := 19) (p := 4) f227_1 rfl rfl rfl (Or.inl h1) rfl ?_
  refine r_nmR (fun v12 ev12 => ?_)
  refine le2_gd (fun h2 => ?_)
  refine r_gfR (f := 0) (p := 7) f227_4 rfl rfl rfl (Or.inl h2) rfl ?_
  refine r_nmR (fun v13 ev13 => ?_)
  refine r_iln1 (p := 8) f227_7 rfl ?_
  refine le2_gd (fun h3 => ?_)
  refine le2_gd (fun h4 => ?_)
  refine r_iaload (p := 9) f227_8 rfl (dj2 (fun x => x % 1000 = 101) h3 (by decide) (by decide)) h4 rfl ?_
  refine r_bipush (p := 11) f227_9 rfl (pinD rfl rfl) ?_
  refine r_iceq (t := 16) (p := 14) f227_11 (by decide) rfl rfl ?_ ?_
  · refine r_aln0 (p := 17) f227_16 rfl ?_
    refine r_iln1 (p := 18) f227_17 rfl ?_
    refine r_ldc_wR (p := 21) f227_18 rfl rfl ?_
    refine r_invI (p := 24) f227_21 rfl rfl rfl (Or.inl h1) hd (Nat.le_of_ble_eq_true rfl) rfl rfl rfl (fun _ => rfl) (fun v1 m1 c1 => ?_)
    have hz1 := z_k c1 hz
    refine r_isn2 (p := 25) f227_24 rfl rfl ?_
    refine r_aln0 (p := 26) f227_25 rfl ?_
    refine r_iln1 (p := 27) f227_26 rfl ?_
    refine r_ldc_wR (p := 30) f227_27 rfl rfl ?_
    have h5 := k_t1 c1 hz h1 (by decide)
    refine r_invI (p := 33) f227_30 rfl rfl rfl (Or.inl h5) hd (Nat.le_of_ble_eq_true rfl) rfl rfl rfl (fun _ => rfl) (fun v2 m2 c2 => ?_)
    have hz2 := z_k c2 hz1
    refine r_isn3 (p := 34) f227_33 rfl rfl ?_
    refine r_iln2 (p := 35) f227_34 rfl ?_
    refine r_iflt (t := 50) (p := 38) f227_35 (by decide) rfl rfl ?_ ?_
    · refine r_iconst (p := 51) f227_50 rfl (pinD rfl rfl) ?_
      exact r_iret4 f227_51 (by decide)
    · refine r_iln3 (p := 39) f227_38 rfl ?_
      refine r_iflt (t := 50) (p := 42) f227_39 (by decide) rfl rfl ?_ ?_
      · refine r_iconst (p := 51) f227_50 rfl (pinD rfl rfl) ?_
        exact r_iret4 f227_51 (by decide)
      · refine r_aln0 (p := 43) f227_42 rfl ?_
        refine r_iln3 (p := 44) f227_43 rfl ?_
        have h6 := k_t1 c2 hz1 h5 (by decide)
        refine r_invI (p := 47) f227_44 rfl rfl rfl (Or.inl h6) hd (Nat.le_of_ble_eq_true rfl) rfl rfl rfl (fun _ => rfl) (fun v3 m3 c3 => ?_)
        have hz3 := z_k c3 hz2
        refine r_ifne (t := 52) (p := 50) f227_47 (by decide) rfl rfl ?_ ?_
        · refine r_iconst (p := 51) f227_50 rfl (pinD rfl rfl) ?_
          exact r_iret4 f227_51 (by decide)
        · refine r_aln0 (p := 53) f227_52 rfl ?_
          refine r_iln2 (p := 54) f227_53 rfl ?_
          refine r_ldc_wR (p := 57) f227_54 rfl rfl ?_
          have h7 := k_t1 c3 hz2 h6 (by decide)
          refine r_invI (p := 60) f227_57 rfl rfl rfl (Or.inl h7) hd (Nat.le_of_ble_eq_true rfl) rfl rfl rfl (fun _ => rfl) (fun v4 m4 c4 => ?_)
          have hz4 := z_k c4 hz3
          refine r_isw4 (p := 62) f227_60 rfl rfl ?_
          refine r_aln0 (p := 63) f227_62 rfl ?_
          refine r_iln2 (p := 64) f227_63 rfl ?_
          refine r_ldc_wR (p := 67) f227_64 rfl rfl ?_
          have h8 := k_t1 c4 hz3 h7 (by decide)
          refine r_invI (p := 70) f227_67 rfl rfl rfl (Or.inl h8) hd (Nat.le_of_ble_eq_true rfl) rfl rfl rfl (fun _ => rfl) (fun v5 m5 c5 => ?_)
          have hz5 := z_k c5 hz4
          refine r_isw5 (p := 72) f227_70 rfl rfl ?_
          refine r_aln0 (p := 73) f227_72 rfl ?_
          refine r_iln2 (p := 74) f227_73 rfl ?_
          refine r_ldc_wR (p := 77) f227_74 rfl rfl ?_
          have h9 := k_t1 c5 hz4 h8 (by decide)
          refine r_invI (p := 80) f227_77 rfl rfl rfl (Or.inl h9) hd (Nat.le_of_ble_eq_true rfl) rfl rfl rfl (fun _ => rfl) (fun v6 m6 c6 => ?_)
          have hz6 := z_k c6 hz5
          refine r_isw6 (p := 82) f227_80 rfl rfl ?_
          refine r_aln0 (p := 83) f227_82 rfl ?_
          refine r_iln2 (p := 84) f227_83 rfl ?_
          refine r_ldc_wR (p := 87) f227_84 rfl rfl ?_
          have h10 := k_t1 c6 hz5 h9 (by decide)
          refine r_invI (p := 90) f227_87 rfl rfl rfl (Or.inl h10) hd (Nat.le_of_ble_eq_true rfl) rfl rfl rfl (fun _ => rfl) (fun v7 m7 c7 => ?_)
          have hz7 := z_k c7 hz6
          refine r_isw7 (p := 92) f227_90 rfl rfl ?_
          refine r_ilw4 (p := 94) f227_92 rfl ?_
          refine r_ifne (t := 107) (p := 97) f227_94 (by decide) rfl rfl ?_ ?_
          · refine r_ilw5 (p := 99) f227_97 rfl ?_
            refine r_ifne (t := 107) (p := 102) f227_99 (by decide) rfl rfl ?_ ?_
            · refine r_ilw6 (p := 104) f227_102 rfl ?_
              refine r_ifeq (t := 274) (p := 107) f227_104 (by decide) rfl rfl ?_ ?_
              · refine r_aln0 (p := 275) f227_274 rfl ?_
                refine r_iln2 (p := 276) f227_275 rfl ?_
                refine r_ldc_wR (p := 279) f227_276 rfl rfl ?_
                have h11 := k_t1 c7 hz6 h10 (by decide)
                refine r_invI (p := 282) f227_279 rfl rfl rfl (Or.inl h11) hd (Nat.le_of_ble_eq_true rfl) rfl rfl rfl (fun _ => rfl) (fun v8 m8 c8 => ?_)
                have hz8 := z_k c8 hz7
                refine r_ifeq (t := 326) (p := 285) f227_282 (by decide) rfl rfl ?_ ?_
                · refine r_ilw7 (p := 328) f227_326 rfl ?_
                  refine r_ifne (t := 344) (p := 331) f227_328 (by decide) rfl rfl ?_ ?_
                  · refine r_aln0 (p := 332) f227_331 rfl ?_
                    refine r_iln2 (p := 333) f227_332 rfl ?_
                    refine r_ldc_wR (p := 336) f227_333 rfl rfl ?_
                    have h12 := k_t1 c8 hz7 h11 (by decide)
                    refine r_invI (p := 339) f227_336 rfl rfl rfl (Or.inl h12) hd (Nat.le_of_ble_eq_true rfl) rfl rfl rfl (fun _ => rfl) (fun v9 m9 c9 => ?_)
                    have hz9 := z_k c9 hz8
                    refine r_ifne (t := 344) (p := 342) f227_339 (by decide) rfl rfl ?_ ?_
                    · refine r_iconst (p := 343) f227_342 rfl (pinD rfl rfl) ?_
                      exact r_iret4 f227_343 (by decide)
                    · exact le2_refl _
                  · exact le2_refl _
                · refine r_aln0 (p := 286) f227_285 rfl ?_
                  refine r_aln0 (p := 287) f227_286 rfl ?_
                  have h13 := k_t1 c8 hz7 h11 (by decide)
                  refine r_gfI (f := 26) (p := 290) f227_287 rfl rfl rfl (Or.inl h13) rfl ?_
                  refine r_aln0 (p := 291) f227_290 rfl ?_
                  refine r_gfI (f := 24) (p := 294) f227_291 rfl rfl rfl (Or.inl h13) rfl ?_
                  refine r_invI (p := 297) f227_294 rfl rfl rfl (Or.inl h13) hd (Nat.le_of_ble_eq_true rfl) rfl rfl rfl (fun _ => rfl) (fun v10 m10 c10 => ?_)
                  have hz10 := z_k c10 hz8
                  refine r_isw8 (p := 299) f227_297 rfl rfl ?_
                  refine r_ilw8 (p := 301) f227_299 rfl ?_
                  refine r_iflt (t := 313) (p := 304) f227_301 (by decide) rfl rfl ?_ ?_
                  · refine r_iconst (p := 314) f227_313 rfl (pinD rfl rfl) ?_
                    exact r_iret4 f227_314 (by decide)
                  · refine r_ilw8 (p := 306) f227_304 rfl ?_
                    refine r_aln0 (p := 307) f227_306 rfl ?_
                    have h14 := k_t1 c10 hz8 h13 (by decide)
                    refine r_gfI (f := 26) (p := 310) f227_307 rfl rfl rfl (Or.inl h14) rfl ?_
                    refine r_icne (t := 315) (p := 313) f227_310 (by decide) rfl rfl ?_ ?_
                    · refine r_iconst (p := 314) f227_313 rfl (pinD rfl rfl) ?_
                      exact r_iret4 f227_314 (by decide)
                    · refine r_aln0 (p := 316) f227_315 rfl ?_
                      refine r_gfR (f := 18) (p := 319) f227_316 rfl rfl rfl (Or.inl h14) rfl ?_
                      refine r_nmR (fun v14 ev14 => ?_)
                      refine r_ilw8 (p := 321) f227_319 rfl ?_
                      refine le2_gd (fun h15 => ?_)
                      refine r_invV (p := 324) f227_321 rfl rfl rfl (Or.inl h15) hd (Nat.le_of_ble_eq_true rfl) rfl rfl rfl (fun _ => rfl) (fun m11 c11 => ?_)
                      have hz11 := z_k c11 hz10
                      refine r_iconst (p := 325) f227_324 rfl (pinD rfl rfl) ?_
                      exact r_iret4 f227_325 (by decide)
              · exact le2_refl _
            · exact le2_refl _
          · exact le2_refl _
  · refine r_iconst (p := 15) f227_14 rfl (pinD rfl rfl) ?_
    exact r_iret4 f227_15 (by decide)
theorem q227_107 {d : Nat} {m : Mem} {a0 a1 a2 a3 a4 a5 a6 a7 : Int} (hd : 0 < d) (hz : TZ m) : le2 (gd (tg m a0 = 11) <| bI (cl (d - 1) 229 [pR a0, pI a1, pR 72] m) fun v1 m1 => if v1 < 0 then (some (.inl (some (pI 0)), m1)) else if a4 = 0 then (bI (cl (d - 1) 232 [pR a0, pI (vl m1 a0 26), pI (vl m1 a0 24)] m1) fun v2 m2 => if a4 = 0 then (if v2 < 0 then (some (.inl (some (pI 0)), m2)) else rn d 227 159 [pR a0, pI a1, pI a2, pI a3, pI a4, pI a5, pI a6, pI a7, pI v1, pI v2, pU] [] m2) else rn d 227 159 [pR a0, pI a1, pI a2, pI a3, pI a4, pI a5, pI a6, pI a7, pI v1, pI v2, pU] [] m2) else if a4 = 0 then (if ((-1) : Int) < 0 then (some (.inl (some (pI 0)), m1)) else rn d 227 159 [pR a0, pI a1, pI a2, pI a3, pI a4, pI a5, pI a6, pI a7, pI v1, pI (-1), pU] [] m1) else rn d 227 159 [pR a0, pI a1, pI a2, pI a3, pI a4, pI a5, pI a6, pI a7, pI v1, pI (-1), pU] [] m1) (rn d 227 107 [pR a0, pI a1, pI a2, pI a3, pI a4, pI a5, pI a6, pI a7, pU, pU, pU] [] m) := by
  refine r_aln0 (p := 108) f227_107 rfl ?_
  refine r_iln1 (p := 109) f227_108 rfl ?_
  refine r_ldc_wR (p := 112) f227_109 rfl rfl ?_
  refine le2_gd (fun h1 => ?_)
  refine r_invI (p := 115) f227_112 rfl rfl rfl (Or.inl h1) hd (Nat.le_of_ble_eq_true rfl) rfl rfl rfl (fun _ => rfl) (fun v1 m1 c1 => ?_)
  have hz1 := z_k c1 hz
  refine r_isw8 (p := 117) f227_115 rfl rfl ?_
  refine r_ilw8 (p := 119) f227_117 rfl ?_
  refine r_ifge (t := 124) (p := 122) f227_119 (by decide) rfl rfl ?_ ?_
  · refine r_iconst (p := 123) f227_122 rfl (pinD rfl rfl) ?_
    exact r_iret4 f227_123 (by decide)
  · refine r_ilw4 (p := 126) f227_124 rfl ?_
    refine r_ifeq (t := 133) (p := 129) f227_126 (by decide) rfl rfl ?_ ?_
    · refine r_aln0 (p := 134) f227_133 rfl ?_
      refine r_aln0 (p := 135) f227_134 rfl ?_
      have h2 := k_t1 c1 hz h1 (by decide)
      refine r_gfI (f := 26) (p := 138) f227_135 rfl rfl rfl (Or.inl h2) rfl ?_
      refine r_aln0 (p := 139) f227_138 rfl ?_
      refine r_gfI (f := 24) (p := 142) f227_139 rfl rfl rfl (Or.inl h2) rfl ?_
      refine r_invI (p := 145) f227_142 rfl rfl rfl (Or.inl h2) hd (Nat.le_of_ble_eq_true rfl) rfl rfl rfl (fun _ => rfl) (fun v2 m2 c2 => ?_)
      have hz2 := z_k c2 hz1
      refine r_isw9 (p := 147) f227_145 rfl rfl ?_
      refine r_ilw4 (p := 149) f227_147 rfl ?_
      refine r_ifne (t := 159) (p := 152) f227_149 (by decide) rfl rfl ?_ ?_
      · refine r_ilw9 (p := 154) f227_152 rfl ?_
        refine r_ifge (t := 159) (p := 157) f227_154 (by decide) rfl rfl ?_ ?_
        · refine r_iconst (p := 158) f227_157 rfl (pinD rfl rfl) ?_
          exact r_iret4 f227_158 (by decide)
        · exact le2_refl _
      · exact le2_refl _
    · refine r_iconst (p := 130) f227_129 rfl (pinD rfl rfl) ?_
      refine r_goto (p := 145) f227_130 (by decide) rfl ?_
      refine r_isw9 (p := 147) f227_145 rfl rfl ?_
      refine r_ilw4 (p := 149) f227_147 rfl ?_
      refine r_ifne (t := 159) (p := 152) f227_149 (by decide) rfl rfl ?_ ?_
      · refine r_ilw9 (p := 154) f227_152 rfl ?_
        refine r_ifge (t := 159) (p := 157) f227_154 (by decide) rfl rfl ?_ ?_
        · refine r_iconst (p := 158) f227_157 rfl (pinD rfl rfl) ?_
          exact r_iret4 f227_158 (by decide)
        · exact le2_refl _
      · exact le2_refl _
theorem q227_159 {d : Nat} {m : Mem} {a0 a1 a2 a3 a4 a5 a6 a7 a8 a9 : Int} (hd : 0 < d) (hz : TZ m) : le2 (if a6 = 0 then (gd (tg m a0 = 11) <| nm (vl m a0 18) fun v5 => gd (tg m v5 = 13) <| bI (cl (d - 1) 292 [pR v5, pR (vl m a0 19), pI a8] m) fun v1 m1 => if a4 = 0 then (if a9 = (vl m1 a0 26) then (some (.inl (some (pI 1)), (mst m1 a0 26 v1))) else nm (vl m1 a0 18) fun v6 => gd (tg m1 v6 = 13) <| nm (vl m1 v6 6) fun v7 => gd (tg m1 v7 = 284101 ∨ tg m1 v7 = 287101) <| gd ((0 : Int) ≤ a9 ∧ a9 < ln m1 v7) <| gd ((0 : Int) ≤ v1 ∧ v1 < ln m1 v7) <| nm (vl m1 v6 7) fun v8 => gd (tg m1 v8 = 284101 ∨ tg m1 v8 = 287101) <| gd ((0 : Int) ≤ a9 ∧ a9 < ln m1 v8) <| gd ((0 : Int) ≤ v1 ∧ v1 < ln m1 v8) <| bV (cl (d - 1) 239 [pR a0, pI a9, pI v1] (mst (mst m1 v7 v1 (vl m1 v7 a9)) v8 v1 (vl (mst m1 v7 v1 (vl m1 v7 a9)) v8 a9))) fun m2 => some (.inl (some (pI 1)), m2)) else bI (cl (d - 1) 238 [pR a0, pI v1] m1) fun v3 m3 => gd (v3 = 0 ∨ v3 = 1) <| some (.inl (some (pI v3)), m3)) else gd (tg m a0 = 11) <| bI (cl (d - 1) 235 [pR (vl m a0 19), pI a8, pR (vl m a0 18), pI a9] m) fun v4 m4 => gd (v4 = 0 ∨ v4 = 1) <| some (.inl (some (pI v4)), m4)) (rn d 227 159 [pR a0, pI a1, pI a2, pI a3, pI a4, pI a5, pI a6, pI a7, pI a8, pI a9, pU] [] m) := by
  refine r_ilw6 (p := 161) f227_159 rfl ?_
  refine r_ifeq (t := 180) (p := 164) f227_161 (by decide) rfl rfl ?_ ?_
  · refine r_aln0 (p := 181) f227_180 rfl ?_
    refine le2_gd (fun h1 => ?_)
    refine r_gfR (f := 18) (p := 184) f227_181 rfl rfl rfl (Or.inl h1) rfl ?_
    refine r_nmR (fun v5 ev5 => ?_)
    refine r_aln0 (p := 185) f227_184 rfl ?_
    refine r_gfR (f := 19) (p := 188) f227_185 rfl rfl rfl (Or.inl h1) rfl ?_
    refine r_ilw8 (p := 190) f227_188 rfl ?_
    refine le2_gd (fun h2 => ?_)
    refine r_invI (p := 193) f227_190 rfl rfl rfl (Or.inl h2) hd (Nat.le_of_ble_eq_true rfl) rfl rfl rfl (fun _ => rfl) (fun v1 m1 c1 => ?_)
    have hz1 := z_k c1 hz
    refine r_isw10 (p := 195) f227_193 rfl rfl ?_
    refine r_ilw4 (p := 197) f227_195 rfl ?_
    refine r_ifeq (t := 207) (p := 200) f227_197 (by decide) rfl rfl ?_ ?_
    · refine r_ilw9 (p := 209) f227_207 rfl ?_
      refine r_aln0 (p := 210) f227_209 rfl ?_
      have h3 := k_t1 c1 hz h1 (by decide)
      refine r_gfI (f := 26) (p := 213) f227_210 rfl rfl rfl (Or.inl h3) rfl ?_
      refine r_icne (t := 224) (p := 216) f227_213 (by decide) rfl rfl ?_ ?_
      · refine r_aln0 (p := 217) f227_216 rfl ?_
        refine r_ilw10 (p := 219) f227_217 rfl ?_
        refine r_pfI (f := 26) (p := 222) f227_219 rfl rfl rfl (by decide) (by decide) (Or.inl h3) rfl ?_
        refine r_iconst (p := 223) f227_222 rfl (pinD rfl rfl) ?_
        exact r_iret4 f227_223 (by decide)
      · refine r_aln0 (p := 225) f227_224 rfl ?_
        refine r_gfR (f := 18) (p := 228) f227_225 rfl rfl rfl (Or.inl h3) rfl ?_
        refine r_nmR (fun v6 ev6 => ?_)
        refine le2_gd (fun h4 => ?_)
        refine r_gfR (f := 6) (p := 231) f227_228 rfl rfl rfl (Or.inl h4) rfl ?_
        refine r_nmR (fun v7 ev7 => ?_)
        refine r_ilw10 (p := 233) f227_231 rfl ?_
        refine r_aln0 (p := 234) f227_233 rfl ?_
        refine r_gfR (f := 18) (p := 237) f227_234 rfl rfl rfl (Or.inl h3) ev6.symm ?_
        refine r_gfR (f := 6) (p := 240) f227_237 rfl rfl rfl (Or.inl h4) ev7.symm ?_
        refine r_ilw9 (p := 242) f227_240 rfl ?_
        refine le2_gd (fun h5 => ?_)
        refine le2_gd (fun h6 => ?_)
        refine r_iaload (p := 243) f227_242 rfl (dj2 (fun x => x % 1000 = 101) h5 (by decide) (by decide)) h6 rfl ?_
        refine le2_gd (fun h7 => ?_)
        refine r_iastore (p := 244) f227_243 rfl (dj2 (fun x => 1000 ≤ x ∧ x % 1000 = 101 ∧ Nat.testBit (eM 227) (bix x 0) = true) h5 (by decide) (by decide)) h7 ?_
        refine r_aln0 (p := 245) f227_244 rfl ?_
        refine r_gfR (f := 18) (p := 248) f227_245 rfl rfl rfl (Or.inl h3) (Eq.trans (sk_o (ne_oa (dj1 (fun x => x < 100) h3 (by decide)) (dj2 (fun x => ¬ x < 100) h5 (by decide) (by decide)))) ev6.symm) ?_
        refine r_gfR (f := 7) (p := 251) f227_248 rfl rfl rfl (Or.inl h4) (sk_o (ne_oa (dj1 (fun x => x < 100) h4 (by decide)) (dj2 (fun x => ¬ x < 100) h5 (by decide) (by decide)))) ?_
        refine r_nmR (fun v8 ev8 => ?_)
        refine r_ilw10 (p := 253) f227_251 rfl ?_
        refine r_aln0 (p := 254) f227_253 rfl ?_
        refine r_gfR (f := 18) (p := 257) f227_254 rfl rfl rfl (Or.inl h3) (Eq.trans (sk_o (ne_oa (dj1 (fun x => x < 100) h3 (by decide)) (dj2 (fun x => ¬ x < 100) h5 (by decide) (by decide)))) ev6.symm) ?_
        refine r_gfR (f := 7) (p := 260) f227_257 rfl rfl rfl (Or.inl h4) (Eq.trans (sk_o (ne_oa (dj1 (fun x => x < 100) h4 (by decide)) (dj2 (fun x => ¬ x < 100) h5 (by decide) (by decide)))) ev8.symm) ?_
        refine r_ilw9 (p := 262) f227_260 rfl ?_
        refine le2_gd (fun h8 => ?_)
        refine le2_gd (fun h9 => ?_)
        refine r_iaload (p := 263) f227_262 rfl (dj2 (fun x => x % 1000 = 101) h8 (by decide) (by decide)) h9 rfl ?_
        refine le2_gd (fun h10 => ?_)
        refine r_iastore (p := 264) f227_263 rfl (dj2 (fun x => 1000 ≤ x ∧ x % 1000 = 101 ∧ Nat.testBit (eM 227) (bix x 0) = true) h8 (by decide) (by decide)) h10 ?_
        refine r_aln0 (p := 265) f227_264 rfl ?_
        refine r_ilw9 (p := 267) f227_265 rfl ?_
        refine r_ilw10 (p := 269) f227_267 rfl ?_
        refine r_invV (p := 272) f227_269 rfl rfl rfl (Or.inl h3) hd (Nat.le_of_ble_eq_true rfl) rfl rfl rfl (fun _ => rfl) (fun m2 c2 => ?_)
        have hz2 := z_k c2 hz1
        refine r_iconst (p := 273) f227_272 rfl (pinD rfl rfl) ?_
        exact r_iret4 f227_273 (by decide)
    · refine r_aln0 (p := 201) f227_200 rfl ?_
      refine r_ilw10 (p := 203) f227_201 rfl ?_
      have h11 := k_t1 c1 hz h1 (by decide)
      refine r_invI (p := 206) f227_203 rfl rfl rfl (Or.inl h11) hd (Nat.le_of_ble_eq_true rfl) rfl rfl rfl (fun _ => rfl) (fun v3 m3 c3 => ?_)
      have hz3 := z_k c3 hz1
      refine le2_gd (fun h12 => ?_)
      exact r_iret4 f227_206 h12
  · refine r_aln0 (p := 165) f227_164 rfl ?_
    refine le2_gd (fun h13 => ?_)
    refine r_gfR (f := 19) (p := 168) f227_165 rfl rfl rfl (Or.inl h13) rfl ?_
    refine r_ilw8 (p := 170) f227_168 rfl ?_
    refine r_aln0 (p := 171) f227_170 rfl ?_
    refine r_gfR (f := 18) (p := 174) f227_171 rfl rfl rfl (Or.inl h13) rfl ?_
    refine r_ilw9 (p := 176) f227_174 rfl ?_
    refine r_istI (p := 179) f227_176 rfl rfl rfl hd (Nat.le_of_ble_eq_true rfl) rfl rfl rfl (fun _ => rfl) (fun v4 m4 c4 => ?_)
    have hz4 := z_k c4 hz
    refine le2_gd (fun h14 => ?_)
    exact r_iret4 f227_179 h14
theorem q227_344 {d : Nat} {m : Mem} {a0 a1 a2 a3 a4 a5 a6 a7 : Int} (hd : 0 < d) (hz : TZ m) : le2 (gd (tg m a0 = 11) <| bI (cl (d - 1) 228 [pR a0, pI a1, pR 78] m) fun v1 m1 => if v1 < 0 then (some (.inl (some (pI 0)), m1)) else bI (cl (d - 1) 230 [pR a0, pI v1] m1) fun v2 m2 => if v2 = 0 then (some (.inl (some (pI 0)), m2)) else bI (cl (d - 1) 232 [pR a0, pI (vl m2 a0 26), pI (vl m2 a0 24)] m2) fun v3 m3 => if v3 < 0 then (some (.inl (some (pI 0)), m3)) else if a7 = 0 then (rn d 227 406 [pR a0, pI a1, pI a2, pI a3, pI a4, pI a5, pI a6, pI a7, pI v1, pI v3, pU] [] m3) else bI (cl (d - 1) 240 [pR a0, pI a3, pI v1] m3) fun v4 m4 => if v4 = 0 then (rn d 227 406 [pR a0, pI a1, pI a2, pI a3, pI a4, pI a5, pI a6, pI a7, pI v1, pI v3, pU] [] m4) else some (.inl (some (pI 0)), m4)) (rn d 227 344 [pR a0, pI a1, pI a2, pI a3, pI a4, pI a5, pI a6, pI a7, pU, pU, pU] [] m) := by
  refine r_aln0 (p := 345) f227_344 rfl ?_
  refine r_iln1 (p := 346) f227_345 rfl ?_
  refine r_ldc_wR (p := 349) f227_346 rfl rfl ?_
  refine le2_gd (fun h1 => ?_)
  refine r_invI (p := 352) f227_349 rfl rfl rfl (Or.inl h1) hd (Nat.le_of_ble_eq_true rfl) rfl rfl rfl (fun _ => rfl) (fun v1 m1 c1 => ?_)
  have hz1 := z_k c1 hz
  refine r_isw8 (p := 354) f227_352 rfl rfl ?_
  refine r_ilw8 (p := 356) f227_354 rfl ?_
  refine r_iflt (t := 368) (p := 359) f227_356 (by decide) rfl rfl ?_ ?_
  · refine r_iconst (p := 369) f227_368 rfl (pinD rfl rfl) ?_
    exact r_iret4 f227_369 (by decide)
  · refine r_aln0 (p := 360) f227_359 rfl ?_
    refine r_ilw8 (p := 362) f227_360 rfl ?_
    have h2 := k_t1 c1 hz h1 (by decide)
    refine r_invI (p := 365) f227_362 rfl rfl rfl (Or.inl h2) hd (Nat.le_of_ble_eq_true rfl) rfl rfl rfl (fun _ => rfl) (fun v2 m2 c2 => ?_)
    have hz2 := z_k c2 hz1
    refine r_ifne (t := 370) (p := 368) f227_365 (by decide) rfl rfl ?_ ?_
    · refine r_iconst (p := 369) f227_368 rfl (pinD rfl rfl) ?_
      exact r_iret4 f227_369 (by decide)
    · refine r_aln0 (p := 371) f227_370 rfl ?_
      refine r_aln0 (p := 372) f227_371 rfl ?_
      have h3 := k_t1 c2 hz1 h2 (by decide)
      refine r_gfI (f := 26) (p := 375) f227_372 rfl rfl rfl (Or.inl h3) rfl ?_
      refine r_aln0 (p := 376) f227_375 rfl ?_
      refine r_gfI (f := 24) (p := 379) f227_376 rfl rfl rfl (Or.inl h3) rfl ?_
      refine r_invI (p := 382) f227_379 rfl rfl rfl (Or.inl h3) hd (Nat.le_of_ble_eq_true rfl) rfl rfl rfl (fun _ => rfl) (fun v3 m3 c3 => ?_)
      have hz3 := z_k c3 hz2
      refine r_isw9 (p := 384) f227_382 rfl rfl ?_
      refine r_ilw9 (p := 386) f227_384 rfl ?_
      refine r_iflt (t := 404) (p := 389) f227_386 (by decide) rfl rfl ?_ ?_
      · refine r_iconst (p := 405) f227_404 rfl (pinD rfl rfl) ?_
        exact r_iret4 f227_405 (by decide)
      · refine r_ilw7 (p := 391) f227_389 rfl ?_
        refine r_ifeq (t := 406) (p := 394) f227_391 (by decide) rfl rfl ?_ ?_
        · exact le2_refl _
        · refine r_aln0 (p := 395) f227_394 rfl ?_
          refine r_iln3 (p := 396) f227_395 rfl ?_
          refine r_ilw8 (p := 398) f227_396 rfl ?_
          have h4 := k_t1 c3 hz2 h3 (by decide)
          refine r_invI (p := 401) f227_398 rfl rfl rfl (Or.inl h4) hd (Nat.le_of_ble_eq_true rfl) rfl rfl rfl (fun _ => rfl) (fun v4 m4 c4 => ?_)
          have hz4 := z_k c4 hz3
          refine r_ifeq (t := 406) (p := 404) f227_401 (by decide) rfl rfl ?_ ?_
          · exact le2_refl _
          · refine r_iconst (p := 405) f227_404 rfl (pinD rfl rfl) ?_
            exact r_iret4 f227_405 (by decide)
theorem q227_406 {d : Nat} {m : Mem} {a0 a1 a2 a3 a4 a5 a6 a7 a8 a9 : Int} (hd : 0 < d) (hz : TZ m) : le2 (if a7 = 0 then (rn d 227 423 [pR a0, pI a1, pI a2, pI a3, pI a4, pI a5, pI a6, pI a7, pI a8, pI a9, pU] [] m) else gd (tg m a0 = 11) <| bI (cl (d - 1) 241 [pR a0, pI a3, pI a8] m) fun v1 m1 => if v1 = 0 then (rn d 227 423 [pR a0, pI a1, pI a2, pI a3, pI a4, pI a5, pI a6, pI a7, pI a8, pI a9, pU] [] m1) else some (.inl (some (pI 1)), m1)) (rn d 227 406 [pR a0, pI a1, pI a2, pI a3, pI a4, pI a5, pI a6, pI a7, pI a8, pI a9, pU] [] m) := by
  refine r_ilw7 (p := 408) f227_406 rfl ?_
  refine r_ifeq (t := 423) (p := 411) f227_408 (by decide) rfl rfl ?_ ?_
  · exact le2_refl _
  · refine r_aln0 (p := 412) f227_411 rfl ?_
    refine r_iln3 (p := 413) f227_412 rfl ?_
    refine r_ilw8 (p := 415) f227_413 rfl ?_
    refine le2_gd (fun h1 => ?_)
    refine r_invI (p := 418) f227_415 rfl rfl rfl (Or.inl h1) hd (Nat.le_of_ble_eq_true rfl) rfl rfl rfl (fun _ => rfl) (fun v1 m1 c1 => ?_)
    have hz1 := z_k c1 hz
    refine r_ifeq (t := 423) (p := 421) f227_418 (by decide) rfl rfl ?_ ?_
    · exact le2_refl _
    · refine r_iconst (p := 422) f227_421 rfl (pinD rfl rfl) ?_
      exact r_iret4 f227_422 (by decide)
theorem q227_423 {d : Nat} {m : Mem} {a0 a1 a2 a3 a4 a5 a6 a7 a8 a9 : Int} (hd : 0 < d) (hz : TZ m) : le2 (gd (tg m a0 = 11) <| nm (vl m a0 18) fun v3 => gd (tg m v3 = 13) <| bI (cl (d - 1) 292 [pR v3, pR v3, pI a9] m) fun v1 m1 => if a7 = 0 then (rn d 227 452 [pR a0, pI a1, pI a2, pI a3, pI a4, pI a5, pI a6, pI a7, pI a8, pI a9, pI v1] [] m1) else nm (vl m1 a0 18) fun v4 => gd (tg m1 v4 = 13) <| bV (cl (d - 1) 294 [pR v4, pI a9] m1) fun m2 => rn d 227 452 [pR a0, pI a1, pI a2, pI a3, pI a4, pI a5, pI a6, pI a7, pI a8, pI a9, pI v1] [] m2) (rn d 227 423 [pR a0, pI a1, pI a2, pI a3, pI a4, pI a5, pI a6, pI a7, pI a8, pI a9, pU] [] m) := by
  refine r_aln0 (p := 424) f227_423 rfl ?_
  refine le2_gd (fun h1 => ?_)
  refine r_gfR (f := 18) (p := 427) f227_424 rfl rfl rfl (Or.inl h1) rfl ?_
  refine r_nmR (fun v3 ev3 => ?_)
  refine r_aln0 (p := 428) f227_427 rfl ?_
  refine r_gfR (f := 18) (p := 431) f227_428 rfl rfl rfl (Or.inl h1) ev3.symm ?_
  refine r_ilw9 (p := 433) f227_431 rfl ?_
  refine le2_gd (fun h2 => ?_)
  refine r_invI (p := 436) f227_433 rfl rfl rfl (Or.inl h2) hd (Nat.le_of_ble_eq_true rfl) rfl rfl rfl (fun _ => rfl) (fun v1 m1 c1 => ?_)
  have hz1 := z_k c1 hz
  refine r_isw10 (p := 438) f227_436 rfl rfl ?_
  refine r_ilw7 (p := 440) f227_438 rfl ?_
  refine r_ifeq (t := 452) (p := 443) f227_440 (by decide) rfl rfl ?_ ?_
  · exact le2_refl _
  · refine r_aln0 (p := 444) f227_443 rfl ?_
    have h3 := k_t1 c1 hz h1 (by decide)
    refine r_gfR (f := 18) (p := 447) f227_444 rfl rfl rfl (Or.inl h3) rfl ?_
    refine r_nmR (fun v4 ev4 => ?_)
    refine r_ilw9 (p := 449) f227_447 rfl ?_
    refine le2_gd (fun h4 => ?_)
    refine r_invV (p := 452) f227_449 rfl rfl rfl (Or.inl h4) hd (Nat.le_of_ble_eq_true rfl) rfl rfl rfl (fun _ => rfl) (fun m2 c2 => ?_)
    have hz2 := z_k c2 hz1
    exact le2_refl _
theorem q227_452 {d : Nat} {m : Mem} {a0 a1 a2 a3 a4 a5 a6 a7 a8 a9 a10 : Int} (hd : 0 < d) (hz : TZ m) : le2 (gd (tg m a0 = 11) <| bI (cl (d - 1) 230 [pR a0, pI a3] m) fun v1 m1 => bI (cl (d - 1) 238 [pR a0, pI a10] m1) fun v2 m2 => gd (v2 = 0 ∨ v2 = 1) <| some (.inl (some (pI v2)), m2)) (rn d 227 452 [pR a0, pI a1, pI a2, pI a3, pI a4, pI a5, pI a6, pI a7, pI a8, pI a9, pI a10] [] m) := by
  refine r_aln0 (p := 453) f227_452 rfl ?_
  refine r_iln3 (p := 454) f227_453 rfl ?_
  refine le2_gd (fun h1 => ?_)
  refine r_invI (p := 457) f227_454 rfl rfl rfl (Or.inl h1) hd (Nat.le_of_ble_eq_true rfl) rfl rfl rfl (fun _ => rfl) (fun v1 m1 c1 => ?_)
  have hz1 := z_k c1 hz
  refine r_pop (p := 458) f227_457 rfl rfl ?_
  refine r_aln0 (p := 459) f227_458 rfl ?_
  refine r_ilw10 (p := 461) f227_459 rfl ?_
  have h2 := k_t1 c1 hz h1 (by decide)
  refine r_invI (p := 464) f227_461 rfl rfl rfl (Or.inl h2) hd (Nat.le_of_ble_eq_true rfl) rfl rfl rfl (fun _ => rfl) (fun v2 m2 c2 => ?_)
  have hz2 := z_k c2 hz1
  refine le2_gd (fun h3 => ?_)
  exact r_iret4 f227_464 h3
/-! 228 PathStoreModel.text (ILjava/lang/String;)I -/
def w228_1 : List UInt8 := [29, 167, 0, 4, 2, 172]
abbrev u228_1 : List UInt8 := w228_1 ++ []
def w228_0 : List UInt8 := [42, 27, 44, 182, 1, 113, 62, 29, 155, 0, 20, 42, 180, 0, 106, 180, 0, 1, 29, 46, 7, 160, 0, 7]
abbrev u228_0 : List UInt8 := w228_0 ++ u228_1
theorem s228_0 : (prog_32_method_54_code).data.toList.drop 0 = u228_0 := by decide +kernel
theorem s228_1 : (prog_32_method_54_code).data.toList.drop 24 = u228_1 := dk_seg s228_0 24 rfl rfl
theorem Fm228 {pc len : Nat} {i : Instr} (h : decode (prog_32_method_54_code) pc = .ok (i, len)) (hl : len = ilen i len) : ft 228 pc = some (11, 1, 0, i, len) := ft_mk rfl h hl
theorem f228_0 : ft 228 0 = some (11, 1, 0, .aload_n 0, 1) := Fm228 (dk_42 (dk_at s228_0 0 rfl rfl)) rfl
theorem f228_1 : ft 228 1 = some (11, 1, 0, .iload_n 1, 1) := Fm228 (dk_27 (dk_at s228_0 1 rfl rfl)) rfl
theorem f228_2 : ft 228 2 = some (11, 1, 0, .aload_n 2, 1) := Fm228 (dk_44 (dk_at s228_0 2 rfl rfl)) rfl
theorem f228_3 : ft 228 3 = some (11, 1, 0, .invokevirtual 369, 3) := Fm228 (dk_182 1 113 (dk_at s228_0 3 rfl rfl)) rfl
theorem f228_6 : ft 228 6 = some (11, 1, 0, .istore_n 3, 1) := Fm228 (dk_62 (dk_at s228_0 6 rfl rfl)) rfl
theorem f228_7 : ft 228 7 = some (11, 1, 0, .iload_n 3, 1) := Fm228 (dk_29 (dk_at s228_0 7 rfl rfl)) rfl
theorem f228_8 : ft 228 8 = some (11, 1, 0, .ifCond .lt 20, 3) := Fm228 (dk_155 0 20 (dk_at s228_0 8 rfl rfl)) rfl
theorem f228_11 : ft 228 11 = some (11, 1, 0, .aload_n 0, 1) := Fm228 (dk_42 (dk_at s228_0 11 rfl rfl)) rfl
theorem f228_12 : ft 228 12 = some (11, 1, 0, .getfield 106, 3) := Fm228 (dk_180 0 106 (dk_at s228_0 12 rfl rfl)) rfl
theorem f228_15 : ft 228 15 = some (11, 1, 0, .getfield 1, 3) := Fm228 (dk_180 0 1 (dk_at s228_0 15 rfl rfl)) rfl
theorem f228_18 : ft 228 18 = some (11, 1, 0, .iload_n 3, 1) := Fm228 (dk_29 (dk_at s228_0 18 rfl rfl)) rfl
theorem f228_19 : ft 228 19 = some (11, 1, 0, .iaload, 1) := Fm228 (dk_46 (dk_at s228_0 19 rfl rfl)) rfl
theorem f228_20 : ft 228 20 = some (11, 1, 0, .iconst 4, 1) := Fm228 (dk_7 (dk_at s228_0 20 rfl rfl)) rfl
theorem f228_21 : ft 228 21 = some (11, 1, 0, .if_icmp .ne 7, 3) := Fm228 (dk_160 0 7 (dk_at s228_0 21 rfl rfl)) rfl
theorem f228_24 : ft 228 24 = some (11, 1, 0, .iload_n 3, 1) := Fm228 (dk_29 (dk_at s228_1 0 rfl rfl)) rfl
theorem f228_25 : ft 228 25 = some (11, 1, 0, .goto 4, 3) := Fm228 (dk_167 0 4 (dk_at s228_1 1 rfl rfl)) rfl
theorem f228_28 : ft 228 28 = some (11, 1, 0, .iconst (-1), 1) := Fm228 (dk_2 (dk_at s228_1 4 rfl rfl)) rfl
theorem f228_29 : ft 228 29 = some (11, 1, 0, .ireturn, 1) := Fm228 (dk_172 (dk_at s228_1 5 rfl rfl)) rfl
theorem q228 {d : Nat} {m : Mem} {a0 a1 a2 : Int} (hd : 0 < d) (hz : TZ m) : le2 (gd (tg m a0 = 11) <| bI (cl (d - 1) 229 [pR a0, pI a1, pR a2] m) fun v1 m1 => if v1 < 0 then (some (.inl (some (pI (-1))), m1)) else nm (vl m1 a0 19) fun v2 => gd (tg m1 v2 = 13) <| nm (vl m1 v2 0) fun v3 => gd (tg m1 v3 = 284101 ∨ tg m1 v3 = 287101) <| gd ((0 : Int) ≤ v1 ∧ v1 < ln m1 v3) <| if (vl m1 v3 v1) = 4 then (some (.inl (some (pI v1)), m1)) else some (.inl (some (pI (-1))), m1)) (cl d 228 [pR a0, pI a1, pR a2] m) := by
  refine q_in (n := 4) (L := [pR a0, pI a1, pR a2, pU]) rfl rfl rfl ?_
  refine r_aln0 (p := 1) f228_0 rfl ?_
  refine r_iln1 (p := 2) f228_1 rfl ?_
  refine r_aln2 (p := 3) f228_2 rfl ?_
  refine le2_gd (fun h1 => ?_)
  refine r_invI (p := 6) f228_3 rfl rfl rfl (Or.inl h1) hd (Nat.le_of_ble_eq_true rfl) rfl rfl rfl (fun _ => rfl) (fun v1 m1 c1 => ?_)
  have hz1 := z_k c1 hz
  refine r_isn3 (p := 7) f228_6 rfl rfl ?_
  refine r_iln3 (p := 8) f228_7 rfl ?_
  refine r_iflt (t := 28) (p := 11) f228_8 (by decide) rfl rfl ?_ ?_
  · refine r_iconst (p := 29) f228_28 rfl (pinD rfl rfl) ?_
    exact r_iret1 f228_29
  · refine r_aln0 (p := 12) f228_11 rfl ?_
    have h2 := k_t1 c1 hz h1 (by decide)
    refine r_gfR (f := 19) (p := 15) f228_12 rfl rfl rfl (Or.inl h2) rfl ?_
    refine r_nmR (fun v2 ev2 => ?_)
    refine le2_gd (fun h3 => ?_)
    refine r_gfR (f := 0) (p := 18) f228_15 rfl rfl rfl (Or.inl h3) rfl ?_
    refine r_nmR (fun v3 ev3 => ?_)
    refine r_iln3 (p := 19) f228_18 rfl ?_
    refine le2_gd (fun h4 => ?_)
    refine le2_gd (fun h5 => ?_)
    refine r_iaload (p := 20) f228_19 rfl (dj2 (fun x => x % 1000 = 101) h4 (by decide) (by decide)) h5 rfl ?_
    refine r_iconst (p := 21) f228_20 rfl (pinD rfl rfl) ?_
    refine r_icne (t := 28) (p := 24) f228_21 (by decide) rfl rfl ?_ ?_
    · refine r_iln3 (p := 25) f228_24 rfl ?_
      refine r_goto (p := 29) f228_25 (by decide) rfl ?_
      exact r_iret1 f228_29
    · refine r_iconst (p := 29) f228_28 rfl (pinD rfl rfl) ?_
      exact r_iret1 f228_29
/-! 229 PathStoreModel.member (ILjava/lang/String;)I -/
def w229_5 : List UInt8 := [172]
abbrev u229_5 : List UInt8 := w229_5 ++ []
def w229_4 : List UInt8 := [167, 255, 203, 21, 4, 153, 0, 5, 29, 172, 42, 180, 0, 106, 180, 0, 24, 29, 46, 62, 167, 255, 153, 2]
abbrev u229_4 : List UInt8 := w229_4 ++ u229_5
def w229_3 : List UInt8 := [21, 5, 96, 52, 44, 21, 5, 182, 0, 179, 160, 0, 7, 4, 167, 0, 4, 3, 54, 4, 132, 5, 1]
abbrev u229_3 : List UInt8 := w229_3 ++ u229_4
def w229_2 : List UInt8 := [162, 0, 50, 21, 4, 153, 0, 45, 42, 180, 0, 106, 180, 0, 51, 42, 180, 0, 106, 180, 0, 31, 29, 46]
abbrev u229_2 : List UInt8 := w229_2 ++ u229_3
def w229_1 : List UInt8 := [182, 0, 175, 160, 0, 7, 4, 167, 0, 4, 3, 54, 4, 3, 54, 5, 21, 5, 44, 182, 0, 175]
abbrev u229_1 : List UInt8 := w229_1 ++ u229_2
def w229_0 : List UInt8 := [42, 180, 0, 106, 180, 0, 17, 27, 46, 62, 29, 155, 0, 105, 42, 180, 0, 106, 180, 0, 34, 29, 46, 44]
abbrev u229_0 : List UInt8 := w229_0 ++ u229_1
theorem s229_0 : (prog_32_method_52_code).data.toList.drop 0 = u229_0 := by decide +kernel
theorem s229_1 : (prog_32_method_52_code).data.toList.drop 24 = u229_1 := dk_seg s229_0 24 rfl rfl
theorem s229_2 : (prog_32_method_52_code).data.toList.drop 46 = u229_2 := dk_seg s229_1 22 rfl rfl
theorem s229_3 : (prog_32_method_52_code).data.toList.drop 70 = u229_3 := dk_seg s229_2 24 rfl rfl
theorem s229_4 : (prog_32_method_52_code).data.toList.drop 93 = u229_4 := dk_seg s229_3 23 rfl rfl
theorem s229_5 : (prog_32_method_52_code).data.toList.drop 117 = u229_5 := dk_seg s229_4 24 rfl rfl
theorem Fm229 {pc len : Nat} {i : Instr} (h : decode (prog_32_method_52_code) pc = .ok (i, len)) (hl : len = ilen i len) : ft 229 pc = some (11, 1, 0, i, len) := ft_mk rfl h hl
theorem f229_0 : ft 229 0 = some (11, 1, 0, .aload_n 0, 1) := Fm229 (dk_42 (dk_at s229_0 0 rfl rfl)) rfl
theorem f229_1 : ft 229 1 = some (11, 1, 0, .getfield 106, 3) := Fm229 (dk_180 0 106 (dk_at s229_0 1 rfl rfl)) rfl
theorem f229_4 : ft 229 4 = some (11, 1, 0, .getfield 17, 3) := Fm229 (dk_180 0 17 (dk_at s229_0 4 rfl rfl)) rfl
theorem f229_7 : ft 229 7 = some (11, 1, 0, .iload_n 1, 1) := Fm229 (dk_27 (dk_at s229_0 7 rfl rfl)) rfl
theorem f229_8 : ft 229 8 = some (11, 1, 0, .iaload, 1) := Fm229 (dk_46 (dk_at s229_0 8 rfl rfl)) rfl
theorem f229_9 : ft 229 9 = some (11, 1, 0, .istore_n 3, 1) := Fm229 (dk_62 (dk_at s229_0 9 rfl rfl)) rfl
theorem f229_10 : ft 229 10 = some (11, 1, 0, .iload_n 3, 1) := Fm229 (dk_29 (dk_at s229_0 10 rfl rfl)) rfl
theorem f229_11 : ft 229 11 = some (11, 1, 0, .ifCond .lt 105, 3) := Fm229 (dk_155 0 105 (dk_at s229_0 11 rfl rfl)) rfl
theorem f229_14 : ft 229 14 = some (11, 1, 0, .aload_n 0, 1) := Fm229 (dk_42 (dk_at s229_0 14 rfl rfl)) rfl
theorem f229_15 : ft 229 15 = some (11, 1, 0, .getfield 106, 3) := Fm229 (dk_180 0 106 (dk_at s229_0 15 rfl rfl)) rfl
theorem f229_18 : ft 229 18 = some (11, 1, 0, .getfield 34, 3) := Fm229 (dk_180 0 34 (dk_at s229_0 18 rfl rfl)) rfl
theorem f229_21 : ft 229 21 = some (11, 1, 0, .iload_n 3, 1) := Fm229 (dk_29 (dk_at s229_0 21 rfl rfl)) rfl
theorem f229_22 : ft 229 22 = some (11, 1, 0, .iaload, 1) := Fm229 (dk_46 (dk_at s229_0 22 rfl rfl)) rfl
theorem f229_23 : ft 229 23 = some (11, 1, 0, .aload_n 2, 1) := Fm229 (dk_44 (dk_at s229_0 23 rfl rfl)) rfl
theorem f229_24 : ft 229 24 = some (11, 1, 0, .invokevirtual 175, 3) := Fm229 (dk_182 0 175 (dk_at s229_1 0 rfl rfl)) rfl
theorem f229_27 : ft 229 27 = some (11, 1, 0, .if_icmp .ne 7, 3) := Fm229 (dk_160 0 7 (dk_at s229_1 3 rfl rfl)) rfl
theorem f229_30 : ft 229 30 = some (11, 1, 0, .iconst 1, 1) := Fm229 (dk_4 (dk_at s229_1 6 rfl rfl)) rfl
theorem f229_31 : ft 229 31 = some (11, 1, 0, .goto 4, 3) := Fm229 (dk_167 0 4 (dk_at s229_1 7 rfl rfl)) rfl
theorem f229_34 : ft 229 34 = some (11, 1, 0, .iconst 0, 1) := Fm229 (dk_3 (dk_at s229_1 10 rfl rfl)) rfl
theorem f229_35 : ft 229 35 = some (11, 1, 0, .istore 4, 2) := Fm229 (dk_54 4 (dk_at s229_1 11 rfl rfl)) rfl
theorem f229_37 : ft 229 37 = some (11, 1, 0, .iconst 0, 1) := Fm229 (dk_3 (dk_at s229_1 13 rfl rfl)) rfl
theorem f229_38 : ft 229 38 = some (11, 1, 0, .istore 5, 2) := Fm229 (dk_54 5 (dk_at s229_1 14 rfl rfl)) rfl
theorem f229_40 : ft 229 40 = some (11, 1, 0, .iload 5, 2) := Fm229 (dk_21 5 (dk_at s229_1 16 rfl rfl)) rfl
theorem f229_42 : ft 229 42 = some (11, 1, 0, .aload_n 2, 1) := Fm229 (dk_44 (dk_at s229_1 18 rfl rfl)) rfl
theorem f229_43 : ft 229 43 = some (11, 1, 0, .invokevirtual 175, 3) := Fm229 (dk_182 0 175 (dk_at s229_1 19 rfl rfl)) rfl
theorem f229_46 : ft 229 46 = some (11, 1, 0, .if_icmp .ge 50, 3) := Fm229 (dk_162 0 50 (dk_at s229_2 0 rfl rfl)) rfl
theorem f229_49 : ft 229 49 = some (11, 1, 0, .iload 4, 2) := Fm229 (dk_21 4 (dk_at s229_2 3 rfl rfl)) rfl
theorem f229_51 : ft 229 51 = some (11, 1, 0, .ifCond .eq 45, 3) := Fm229 (dk_153 0 45 (dk_at s229_2 5 rfl rfl)) rfl
theorem f229_54 : ft 229 54 = some (11, 1, 0, .aload_n 0, 1) := Fm229 (dk_42 (dk_at s229_2 8 rfl rfl)) rfl
theorem f229_55 : ft 229 55 = some (11, 1, 0, .getfield 106, 3) := Fm229 (dk_180 0 106 (dk_at s229_2 9 rfl rfl)) rfl
theorem f229_58 : ft 229 58 = some (11, 1, 0, .getfield 51, 3) := Fm229 (dk_180 0 51 (dk_at s229_2 12 rfl rfl)) rfl
theorem f229_61 : ft 229 61 = some (11, 1, 0, .aload_n 0, 1) := Fm229 (dk_42 (dk_at s229_2 15 rfl rfl)) rfl
theorem f229_62 : ft 229 62 = some (11, 1, 0, .getfield 106, 3) := Fm229 (dk_180 0 106 (dk_at s229_2 16 rfl rfl)) rfl
theorem f229_65 : ft 229 65 = some (11, 1, 0, .getfield 31, 3) := Fm229 (dk_180 0 31 (dk_at s229_2 19 rfl rfl)) rfl
theorem f229_68 : ft 229 68 = some (11, 1, 0, .iload_n 3, 1) := Fm229 (dk_29 (dk_at s229_2 22 rfl rfl)) rfl
theorem f229_69 : ft 229 69 = some (11, 1, 0, .iaload, 1) := Fm229 (dk_46 (dk_at s229_2 23 rfl rfl)) rfl
theorem f229_70 : ft 229 70 = some (11, 1, 0, .iload 5, 2) := Fm229 (dk_21 5 (dk_at s229_3 0 rfl rfl)) rfl
theorem f229_72 : ft 229 72 = some (11, 1, 0, .iadd, 1) := Fm229 (dk_96 (dk_at s229_3 2 rfl rfl)) rfl
theorem f229_73 : ft 229 73 = some (11, 1, 0, .caload, 1) := Fm229 (dk_52 (dk_at s229_3 3 rfl rfl)) rfl
theorem f229_74 : ft 229 74 = some (11, 1, 0, .aload_n 2, 1) := Fm229 (dk_44 (dk_at s229_3 4 rfl rfl)) rfl
theorem f229_75 : ft 229 75 = some (11, 1, 0, .iload 5, 2) := Fm229 (dk_21 5 (dk_at s229_3 5 rfl rfl)) rfl
theorem f229_77 : ft 229 77 = some (11, 1, 0, .invokevirtual 179, 3) := Fm229 (dk_182 0 179 (dk_at s229_3 7 rfl rfl)) rfl
theorem f229_80 : ft 229 80 = some (11, 1, 0, .if_icmp .ne 7, 3) := Fm229 (dk_160 0 7 (dk_at s229_3 10 rfl rfl)) rfl
theorem f229_83 : ft 229 83 = some (11, 1, 0, .iconst 1, 1) := Fm229 (dk_4 (dk_at s229_3 13 rfl rfl)) rfl
theorem f229_84 : ft 229 84 = some (11, 1, 0, .goto 4, 3) := Fm229 (dk_167 0 4 (dk_at s229_3 14 rfl rfl)) rfl
theorem f229_87 : ft 229 87 = some (11, 1, 0, .iconst 0, 1) := Fm229 (dk_3 (dk_at s229_3 17 rfl rfl)) rfl
theorem f229_88 : ft 229 88 = some (11, 1, 0, .istore 4, 2) := Fm229 (dk_54 4 (dk_at s229_3 18 rfl rfl)) rfl
theorem f229_90 : ft 229 90 = some (11, 1, 0, .iinc 5 1, 3) := Fm229 (dk_132 5 1 (dk_at s229_3 20 rfl rfl)) rfl
theorem f229_93 : ft 229 93 = some (11, 1, 0, .goto (-53), 3) := Fm229 (dk_167 255 203 (dk_at s229_4 0 rfl rfl)) rfl
theorem f229_96 : ft 229 96 = some (11, 1, 0, .iload 4, 2) := Fm229 (dk_21 4 (dk_at s229_4 3 rfl rfl)) rfl
theorem f229_98 : ft 229 98 = some (11, 1, 0, .ifCond .eq 5, 3) := Fm229 (dk_153 0 5 (dk_at s229_4 5 rfl rfl)) rfl
theorem f229_101 : ft 229 101 = some (11, 1, 0, .iload_n 3, 1) := Fm229 (dk_29 (dk_at s229_4 8 rfl rfl)) rfl
theorem f229_102 : ft 229 102 = some (11, 1, 0, .ireturn, 1) := Fm229 (dk_172 (dk_at s229_4 9 rfl rfl)) rfl
theorem f229_103 : ft 229 103 = some (11, 1, 0, .aload_n 0, 1) := Fm229 (dk_42 (dk_at s229_4 10 rfl rfl)) rfl
theorem f229_104 : ft 229 104 = some (11, 1, 0, .getfield 106, 3) := Fm229 (dk_180 0 106 (dk_at s229_4 11 rfl rfl)) rfl
theorem f229_107 : ft 229 107 = some (11, 1, 0, .getfield 24, 3) := Fm229 (dk_180 0 24 (dk_at s229_4 14 rfl rfl)) rfl
theorem f229_110 : ft 229 110 = some (11, 1, 0, .iload_n 3, 1) := Fm229 (dk_29 (dk_at s229_4 17 rfl rfl)) rfl
theorem f229_111 : ft 229 111 = some (11, 1, 0, .iaload, 1) := Fm229 (dk_46 (dk_at s229_4 18 rfl rfl)) rfl
theorem f229_112 : ft 229 112 = some (11, 1, 0, .istore_n 3, 1) := Fm229 (dk_62 (dk_at s229_4 19 rfl rfl)) rfl
theorem f229_113 : ft 229 113 = some (11, 1, 0, .goto (-103), 3) := Fm229 (dk_167 255 153 (dk_at s229_4 20 rfl rfl)) rfl
theorem f229_116 : ft 229 116 = some (11, 1, 0, .iconst (-1), 1) := Fm229 (dk_2 (dk_at s229_4 23 rfl rfl)) rfl
theorem f229_117 : ft 229 117 = some (11, 1, 0, .ireturn, 1) := Fm229 (dk_172 (dk_at s229_5 0 rfl rfl)) rfl
theorem q229 {d : Nat} {m : Mem} {a0 a1 a2 : Int} (hz : TZ m) : le2 (gd (tg m a0 = 11) <| nm (vl m a0 19) fun v1 => gd (tg m v1 = 13) <| nm (vl m v1 4) fun v2 => gd (tg m v2 = 284101 ∨ tg m v2 = 287101) <| gd ((0 : Int) ≤ a1 ∧ a1 < ln m v2) <| rn d 229 10 [pR a0, pI a1, pR a2, pI (vl m v2 a1), pU, pU] [] m) (cl d 229 [pR a0, pI a1, pR a2] m) := by
  refine q_in (n := 6) (L := [pR a0, pI a1, pR a2, pU, pU, pU]) rfl rfl rfl ?_
  refine r_aln0 (p := 1) f229_0 rfl ?_
  refine le2_gd (fun h1 => ?_)
  refine r_gfR (f := 19) (p := 4) f229_1 rfl rfl rfl (Or.inl h1) rfl ?_
  refine r_nmR (fun v1 ev1 => ?_)
  refine le2_gd (fun h2 => ?_)
  refine r_gfR (f := 4) (p := 7) f229_4 rfl rfl rfl (Or.inl h2) rfl ?_
  refine r_nmR (fun v2 ev2 => ?_)
  refine r_iln1 (p := 8) f229_7 rfl ?_
  refine le2_gd (fun h3 => ?_)
  refine le2_gd (fun h4 => ?_)
  refine r_iaload (p := 9) f229_8 rfl (dj2 (fun x => x % 1000 = 101) h3 (by decide) (by decide)) h4 rfl ?_
  refine r_isn3 (p := 10) f229_9 rfl rfl ?_
  exact le2_refl _
theorem q229_10 {d : Nat} {m : Mem} {a0 a1 a2 a3 : Int} {z4 z5 : PV} (hd : 0 < d) (hz : TZ m) (hcz4 : cat z4 = 1) (hcz5 : cat z5 = 1) : le2 (if a3 < 0 then (some (.inl (some (pI (-1))), m)) else gd (tg m a0 = 11) <| nm (vl m a0 19) fun v2 => gd (tg m v2 = 13) <| nm (vl m v2 7) fun v3 => gd (tg m v3 = 284101 ∨ tg m v3 = 287101) <| gd ((0 : Int) ≤ a3 ∧ a3 < ln m v3) <| gd (tg m a2 = 31) <| bI (cl (d - 1) 349 [pR a2] m) fun v1 m1 => if (vl m v3 a3) = v1 then (rn d 229 40 [pR a0, pI a1, pR a2, pI a3, pI 1, pI 0] [] m1) else rn d 229 40 [pR a0, pI a1, pR a2, pI a3, pI 0, pI 0] [] m1) (rn d 229 10 [pR a0, pI a1, pR a2, pI a3, z4, z5] [] m) := by
  refine r_iln3 (p := 11) f229_10 rfl ?_
  refine r_iflt (t := 116) (p := 14) f229_11 (by decide) rfl rfl ?_ ?_
  · refine r_iconst (p := 117) f229_116 rfl (pinD rfl rfl) ?_
    exact r_iret1 f229_117
  · refine r_aln0 (p := 15) f229_14 rfl ?_
    refine le2_gd (fun h1 => ?_)
    refine r_gfR (f := 19) (p := 18) f229_15 rfl rfl rfl (Or.inl h1) rfl ?_
    refine r_nmR (fun v2 ev2 => ?_)
    refine le2_gd (fun h2 => ?_)
    refine r_gfR (f := 7) (p := 21) f229_18 rfl rfl rfl (Or.inl h2) rfl ?_
    refine r_nmR (fun v3 ev3 => ?_)
    refine r_iln3 (p := 22) f229_21 rfl ?_
    refine le2_gd (fun h3 => ?_)
    refine le2_gd (fun h4 => ?_)
    refine r_iaload (p := 23) f229_22 rfl (dj2 (fun x => x % 1000 = 101) h3 (by decide) (by decide)) h4 rfl ?_
    refine r_aln2 (p := 24) f229_23 rfl ?_
    refine le2_gd (fun h5 => ?_)
    refine r_invI (p := 27) f229_24 rfl rfl rfl (Or.inl h5) hd (Nat.le_of_ble_eq_true rfl) rfl rfl rfl (fun _ => rfl) (fun v1 m1 c1 => ?_)
    have hz1 := z_k c1 hz
    refine r_icne (t := 34) (p := 30) f229_27 (by decide) rfl rfl ?_ ?_
    · refine r_iconst (p := 31) f229_30 rfl (pinD rfl rfl) ?_
      refine r_goto (p := 35) f229_31 (by decide) rfl ?_
      refine r_isw4 (p := 37) f229_35 rfl rfl ?_
      refine r_iconst (p := 38) f229_37 rfl (pinD rfl rfl) ?_
      refine r_isw5 (p := 40) f229_38 rfl rfl ?_
      exact le2_refl _
    · refine r_iconst (p := 35) f229_34 rfl (pinD rfl rfl) ?_
      refine r_isw4 (p := 37) f229_35 rfl rfl ?_
      refine r_iconst (p := 38) f229_37 rfl (pinD rfl rfl) ?_
      refine r_isw5 (p := 40) f229_38 rfl rfl ?_
      exact le2_refl _
theorem q229_40 {d : Nat} {m : Mem} {a0 a1 a2 a3 a4 a5 : Int} (hd : 0 < d) (hz : TZ m) : le2 (gd (tg m a2 = 31) <| bI (cl (d - 1) 349 [pR a2] m) fun v1 m1 => if a5 < v1 then (if a4 = 0 then (rn d 229 96 [pR a0, pI a1, pR a2, pI a3, pI a4, pI a5] [] m1) else gd (tg m1 a0 = 11) <| nm (vl m1 a0 19) fun v3 => gd (tg m1 v3 = 13) <| nm (vl m1 v3 11) fun v4 => nm (vl m1 v3 6) fun v5 => gd (tg m1 v5 = 284101 ∨ tg m1 v5 = 287101) <| gd ((0 : Int) ≤ a3 ∧ a3 < ln m1 v5) <| nm (w32 ((vl m1 v5 a3) + a5)) fun v6 => gd (tg m1 v4 = 284104 ∨ tg m1 v4 = 288104) <| gd ((0 : Int) ≤ v6 ∧ v6 < ln m1 v4) <| bI (cl (d - 1) 351 [pR a2, pI a5] m1) fun v2 m2 => if (vl m1 v4 v6) = v2 then (rn d 229 40 [pR a0, pI a1, pR a2, pI a3, pI 1, pI (w32 (a5 + 1))] [] m2) else rn d 229 40 [pR a0, pI a1, pR a2, pI a3, pI 0, pI (w32 (a5 + 1))] [] m2) else rn d 229 96 [pR a0, pI a1, pR a2, pI a3, pI a4, pI a5] [] m1) (rn d 229 40 [pR a0, pI a1, pR a2, pI a3, pI a4, pI a5] [] m) := by
  refine r_ilw5 (p := 42) f229_40 rfl ?_
  refine r_aln2 (p := 43) f229_42 rfl ?_
  refine le2_gd (fun h1 => ?_)
  refine r_invI (p := 46) f229_43 rfl rfl rfl (Or.inl h1) hd (Nat.le_of_ble_eq_true rfl) rfl rfl rfl (fun _ => rfl) (fun v1 m1 c1 => ?_)
  have hz1 := z_k c1 hz
  refine r_icge (t := 96) (p := 49) f229_46 (by decide) rfl rfl ?_ ?_
  · refine r_ilw4 (p := 51) f229_49 rfl ?_
    refine r_ifeq (t := 96) (p := 54) f229_51 (by decide) rfl rfl ?_ ?_
    · exact le2_refl _
    · refine r_aln0 (p := 55) f229_54 rfl ?_
      refine le2_gd (fun h2 => ?_)
      refine r_gfR (f := 19) (p := 58) f229_55 rfl rfl rfl (Or.inl h2) rfl ?_
      refine r_nmR (fun v3 ev3 => ?_)
      refine le2_gd (fun h3 => ?_)
      refine r_gfR (f := 11) (p := 61) f229_58 rfl rfl rfl (Or.inl h3) rfl ?_
      refine r_nmR (fun v4 ev4 => ?_)
      refine r_aln0 (p := 62) f229_61 rfl ?_
      refine r_gfR (f := 19) (p := 65) f229_62 rfl rfl rfl (Or.inl h2) ev3.symm ?_
      refine r_gfR (f := 6) (p := 68) f229_65 rfl rfl rfl (Or.inl h3) rfl ?_
      refine r_nmR (fun v5 ev5 => ?_)
      refine r_iln3 (p := 69) f229_68 rfl ?_
      refine le2_gd (fun h4 => ?_)
      refine le2_gd (fun h5 => ?_)
      refine r_iaload (p := 70) f229_69 rfl (dj2 (fun x => x % 1000 = 101) h4 (by decide) (by decide)) h5 rfl ?_
      refine r_ilw5 (p := 72) f229_70 rfl ?_
      refine r_iadd (p := 73) f229_72 rfl ?_
      refine r_nmI (fun v6 ev6 => ?_)
      refine le2_gd (fun h6 => ?_)
      refine le2_gd (fun h7 => ?_)
      refine r_caload (p := 74) f229_73 rfl (dj2 (fun x => x % 1000 = 104) h6 (by decide) (by decide)) h7 rfl ?_
      refine r_aln2 (p := 75) f229_74 rfl ?_
      refine r_ilw5 (p := 77) f229_75 rfl ?_
      have h8 := k_t1 c1 hz h1 (by decide)
      refine r_invI (p := 80) f229_77 rfl rfl rfl (Or.inl h8) hd (Nat.le_of_ble_eq_true rfl) rfl rfl rfl (fun _ => rfl) (fun v2 m2 c2 => ?_)
      have hz2 := z_k c2 hz1
      refine r_icne (t := 87) (p := 83) f229_80 (by decide) rfl rfl ?_ ?_
      · refine r_iconst (p := 84) f229_83 rfl (pinD rfl rfl) ?_
        refine r_goto (p := 88) f229_84 (by decide) rfl ?_
        refine r_isw4 (p := 90) f229_88 rfl rfl ?_
        refine r_iinc5 (p := 93) f229_90 rfl rfl ?_
        refine r_goto (p := 40) f229_93 (by decide) rfl ?_
        exact le2_refl _
      · refine r_iconst (p := 88) f229_87 rfl (pinD rfl rfl) ?_
        refine r_isw4 (p := 90) f229_88 rfl rfl ?_
        refine r_iinc5 (p := 93) f229_90 rfl rfl ?_
        refine r_goto (p := 40) f229_93 (by decide) rfl ?_
        exact le2_refl _
  · exact le2_refl _
theorem q229_96 {d : Nat} {m : Mem} {a0 a1 a2 a3 a4 a5 : Int} (hz : TZ m) : le2 (if a4 = 0 then (gd (tg m a0 = 11) <| nm (vl m a0 19) fun v1 => gd (tg m v1 = 13) <| nm (vl m v1 5) fun v2 => gd (tg m v2 = 284101 ∨ tg m v2 = 287101) <| gd ((0 : Int) ≤ a3 ∧ a3 < ln m v2) <| rn d 229 10 [pR a0, pI a1, pR a2, pI (vl m v2 a3), pI a4, pI a5] [] m) else some (.inl (some (pI a3)), m)) (rn d 229 96 [pR a0, pI a1, pR a2, pI a3, pI a4, pI a5] [] m) := by
  refine r_ilw4 (p := 98) f229_96 rfl ?_
  refine r_ifeq (t := 103) (p := 101) f229_98 (by decide) rfl rfl ?_ ?_
  · refine r_aln0 (p := 104) f229_103 rfl ?_
    refine le2_gd (fun h1 => ?_)
    refine r_gfR (f := 19) (p := 107) f229_104 rfl rfl rfl (Or.inl h1) rfl ?_
    refine r_nmR (fun v1 ev1 => ?_)
    refine le2_gd (fun h2 => ?_)
    refine r_gfR (f := 5) (p := 110) f229_107 rfl rfl rfl (Or.inl h2) rfl ?_
    refine r_nmR (fun v2 ev2 => ?_)
    refine r_iln3 (p := 111) f229_110 rfl ?_
    refine le2_gd (fun h3 => ?_)
    refine le2_gd (fun h4 => ?_)
    refine r_iaload (p := 112) f229_111 rfl (dj2 (fun x => x % 1000 = 101) h3 (by decide) (by decide)) h4 rfl ?_
    refine r_isn3 (p := 113) f229_112 rfl rfl ?_
    refine r_goto (p := 10) f229_113 (by decide) rfl ?_
    exact le2_refl _
  · refine r_iln3 (p := 102) f229_101 rfl ?_
    exact r_iret1 f229_102
/-! 230 PathStoreModel.pointer (I)Z -/
def w230_9 : List UInt8 := [132, 4, 1, 167, 255, 97, 4, 172]
abbrev u230_9 : List UInt8 := w230_9 ++ []
def w230_8 : List UInt8 := [180, 0, 118, 21, 5, 182, 0, 197, 42, 180, 0, 115, 42, 180, 1, 78, 4, 100, 92, 46, 4, 96, 79]
abbrev u230_8 : List UInt8 := w230_8 ++ u230_9
def w230_7 : List UInt8 := [16, 49, 159, 0, 5, 3, 172, 21, 6, 16, 48, 160, 0, 8, 16, 126, 167, 0, 5, 16, 47, 54, 5, 42]
abbrev u230_7 : List UInt8 := w230_7 ++ u230_8
def w230_6 : List UInt8 := [180, 0, 51, 28, 21, 4, 96, 52, 167, 0, 4, 3, 54, 6, 21, 6, 16, 48, 159, 0, 12, 21, 6]
abbrev u230_6 : List UInt8 := w230_6 ++ u230_7
def w230_5 : List UInt8 := [167, 0, 93, 21, 5, 16, 126, 160, 0, 62, 132, 4, 1, 21, 4, 29, 162, 0, 18, 42, 180, 0, 106]
abbrev u230_5 : List UInt8 := w230_5 ++ u230_6
def w230_4 : List UInt8 := [180, 0, 224, 79, 42, 180, 0, 115, 42, 180, 1, 78, 3, 79, 42, 89, 180, 1, 78, 4, 96, 181, 1, 78]
abbrev u230_4 : List UInt8 := w230_4 ++ u230_5
def w230_3 : List UInt8 := [96, 52, 54, 5, 21, 5, 16, 47, 160, 0, 42, 42, 180, 0, 112, 42, 180, 1, 78, 42, 180, 0, 118]
abbrev u230_3 : List UInt8 := w230_3 ++ u230_4
def w230_2 : List UInt8 := [159, 0, 5, 3, 172, 3, 54, 4, 21, 4, 29, 162, 0, 159, 42, 180, 0, 106, 180, 0, 51, 28, 21, 4]
abbrev u230_2 : List UInt8 := w230_2 ++ u230_3
def w230_1 : List UInt8 := [180, 0, 106, 180, 0, 48, 27, 46, 62, 29, 158, 0, 19, 42, 180, 0, 106, 180, 0, 51, 28, 52, 16, 47]
abbrev u230_1 : List UInt8 := w230_1 ++ u230_2
def w230_0 : List UInt8 := [42, 3, 181, 1, 78, 42, 180, 0, 118, 182, 0, 249, 42, 180, 0, 106, 180, 0, 45, 27, 46, 61, 42]
abbrev u230_0 : List UInt8 := w230_0 ++ u230_1
theorem s230_0 : (prog_32_method_46_code).data.toList.drop 0 = u230_0 := by decide +kernel
theorem s230_1 : (prog_32_method_46_code).data.toList.drop 23 = u230_1 := dk_seg s230_0 23 rfl rfl
theorem s230_2 : (prog_32_method_46_code).data.toList.drop 47 = u230_2 := dk_seg s230_1 24 rfl rfl
theorem s230_3 : (prog_32_method_46_code).data.toList.drop 71 = u230_3 := dk_seg s230_2 24 rfl rfl
theorem s230_4 : (prog_32_method_46_code).data.toList.drop 94 = u230_4 := dk_seg s230_3 23 rfl rfl
theorem s230_5 : (prog_32_method_46_code).data.toList.drop 118 = u230_5 := dk_seg s230_4 24 rfl rfl
theorem s230_6 : (prog_32_method_46_code).data.toList.drop 141 = u230_6 := dk_seg s230_5 23 rfl rfl
theorem s230_7 : (prog_32_method_46_code).data.toList.drop 164 = u230_7 := dk_seg s230_6 23 rfl rfl
theorem s230_8 : (prog_32_method_46_code).data.toList.drop 188 = u230_8 := dk_seg s230_7 24 rfl rfl
theorem s230_9 : (prog_32_method_46_code).data.toList.drop 211 = u230_9 := dk_seg s230_8 23 rfl rfl
theorem Fm230 {pc len : Nat} {i : Instr} (h : decode (prog_32_method_46_code) pc = .ok (i, len)) (hl : len = ilen i len) : ft 230 pc = some (11, 4, 0, i, len) := ft_mk rfl h hl
theorem f230_0 : ft 230 0 = some (11, 4, 0, .aload_n 0, 1) := Fm230 (dk_42 (dk_at s230_0 0 rfl rfl)) rfl
theorem f230_1 : ft 230 1 = some (11, 4, 0, .iconst 0, 1) := Fm230 (dk_3 (dk_at s230_0 1 rfl rfl)) rfl
theorem f230_2 : ft 230 2 = some (11, 4, 0, .putfield 334, 3) := Fm230 (dk_181 1 78 (dk_at s230_0 2 rfl rfl)) rfl
theorem f230_5 : ft 230 5 = some (11, 4, 0, .aload_n 0, 1) := Fm230 (dk_42 (dk_at s230_0 5 rfl rfl)) rfl
theorem f230_6 : ft 230 6 = some (11, 4, 0, .getfield 118, 3) := Fm230 (dk_180 0 118 (dk_at s230_0 6 rfl rfl)) rfl
theorem f230_9 : ft 230 9 = some (11, 4, 0, .invokevirtual 249, 3) := Fm230 (dk_182 0 249 (dk_at s230_0 9 rfl rfl)) rfl
theorem f230_12 : ft 230 12 = some (11, 4, 0, .aload_n 0, 1) := Fm230 (dk_42 (dk_at s230_0 12 rfl rfl)) rfl
theorem f230_13 : ft 230 13 = some (11, 4, 0, .getfield 106, 3) := Fm230 (dk_180 0 106 (dk_at s230_0 13 rfl rfl)) rfl
theorem f230_16 : ft 230 16 = some (11, 4, 0, .getfield 45, 3) := Fm230 (dk_180 0 45 (dk_at s230_0 16 rfl rfl)) rfl
theorem f230_19 : ft 230 19 = some (11, 4, 0, .iload_n 1, 1) := Fm230 (dk_27 (dk_at s230_0 19 rfl rfl)) rfl
theorem f230_20 : ft 230 20 = some (11, 4, 0, .iaload, 1) := Fm230 (dk_46 (dk_at s230_0 20 rfl rfl)) rfl
theorem f230_21 : ft 230 21 = some (11, 4, 0, .istore_n 2, 1) := Fm230 (dk_61 (dk_at s230_0 21 rfl rfl)) rfl
theorem f230_22 : ft 230 22 = some (11, 4, 0, .aload_n 0, 1) := Fm230 (dk_42 (dk_at s230_0 22 rfl rfl)) rfl
theorem f230_23 : ft 230 23 = some (11, 4, 0, .getfield 106, 3) := Fm230 (dk_180 0 106 (dk_at s230_1 0 rfl rfl)) rfl
theorem f230_26 : ft 230 26 = some (11, 4, 0, .getfield 48, 3) := Fm230 (dk_180 0 48 (dk_at s230_1 3 rfl rfl)) rfl
theorem f230_29 : ft 230 29 = some (11, 4, 0, .iload_n 1, 1) := Fm230 (dk_27 (dk_at s230_1 6 rfl rfl)) rfl
theorem f230_30 : ft 230 30 = some (11, 4, 0, .iaload, 1) := Fm230 (dk_46 (dk_at s230_1 7 rfl rfl)) rfl
theorem f230_31 : ft 230 31 = some (11, 4, 0, .istore_n 3, 1) := Fm230 (dk_62 (dk_at s230_1 8 rfl rfl)) rfl
theorem f230_32 : ft 230 32 = some (11, 4, 0, .iload_n 3, 1) := Fm230 (dk_29 (dk_at s230_1 9 rfl rfl)) rfl
theorem f230_33 : ft 230 33 = some (11, 4, 0, .ifCond .le 19, 3) := Fm230 (dk_158 0 19 (dk_at s230_1 10 rfl rfl)) rfl
theorem f230_36 : ft 230 36 = some (11, 4, 0, .aload_n 0, 1) := Fm230 (dk_42 (dk_at s230_1 13 rfl rfl)) rfl
theorem f230_37 : ft 230 37 = some (11, 4, 0, .getfield 106, 3) := Fm230 (dk_180 0 106 (dk_at s230_1 14 rfl rfl)) rfl
theorem f230_40 : ft 230 40 = some (11, 4, 0, .getfield 51, 3) := Fm230 (dk_180 0 51 (dk_at s230_1 17 rfl rfl)) rfl
theorem f230_43 : ft 230 43 = some (11, 4, 0, .iload_n 2, 1) := Fm230 (dk_28 (dk_at s230_1 20 rfl rfl)) rfl
theorem f230_44 : ft 230 44 = some (11, 4, 0, .caload, 1) := Fm230 (dk_52 (dk_at s230_1 21 rfl rfl)) rfl
theorem f230_45 : ft 230 45 = some (11, 4, 0, .bipush 47, 2) := Fm230 (dk_16 47 (dk_at s230_1 22 rfl rfl)) rfl
theorem f230_47 : ft 230 47 = some (11, 4, 0, .if_icmp .eq 5, 3) := Fm230 (dk_159 0 5 (dk_at s230_2 0 rfl rfl)) rfl
theorem f230_50 : ft 230 50 = some (11, 4, 0, .iconst 0, 1) := Fm230 (dk_3 (dk_at s230_2 3 rfl rfl)) rfl
theorem f230_51 : ft 230 51 = some (11, 4, 0, .ireturn, 1) := Fm230 (dk_172 (dk_at s230_2 4 rfl rfl)) rfl
theorem f230_52 : ft 230 52 = some (11, 4, 0, .iconst 0, 1) := Fm230 (dk_3 (dk_at s230_2 5 rfl rfl)) rfl
theorem f230_53 : ft 230 53 = some (11, 4, 0, .istore 4, 2) := Fm230 (dk_54 4 (dk_at s230_2 6 rfl rfl)) rfl
theorem f230_55 : ft 230 55 = some (11, 4, 0, .iload 4, 2) := Fm230 (dk_21 4 (dk_at s230_2 8 rfl rfl)) rfl
theorem f230_57 : ft 230 57 = some (11, 4, 0, .iload_n 3, 1) := Fm230 (dk_29 (dk_at s230_2 10 rfl rfl)) rfl
theorem f230_58 : ft 230 58 = some (11, 4, 0, .if_icmp .ge 159, 3) := Fm230 (dk_162 0 159 (dk_at s230_2 11 rfl rfl)) rfl
theorem f230_61 : ft 230 61 = some (11, 4, 0, .aload_n 0, 1) := Fm230 (dk_42 (dk_at s230_2 14 rfl rfl)) rfl
theorem f230_62 : ft 230 62 = some (11, 4, 0, .getfield 106, 3) := Fm230 (dk_180 0 106 (dk_at s230_2 15 rfl rfl)) rfl
theorem f230_65 : ft 230 65 = some (11, 4, 0, .getfield 51, 3) := Fm230 (dk_180 0 51 (dk_at s230_2 18 rfl rfl)) rfl
theorem f230_68 : ft 230 68 = some (11, 4, 0, .iload_n 2, 1) := Fm230 (dk_28 (dk_at s230_2 21 rfl rfl)) rfl
theorem f230_69 : ft 230 69 = some (11, 4, 0, .iload 4, 2) := Fm230 (dk_21 4 (dk_at s230_2 22 rfl rfl)) rfl
theorem f230_71 : ft 230 71 = some (11, 4, 0, .iadd, 1) := Fm230 (dk_96 (dk_at s230_3 0 rfl rfl)) rfl
theorem f230_72 : ft 230 72 = some (11, 4, 0, .caload, 1) := Fm230 (dk_52 (dk_at s230_3 1 rfl rfl)) rfl
theorem f230_73 : ft 230 73 = some (11, 4, 0, .istore 5, 2) := Fm230 (dk_54 5 (dk_at s230_3 2 rfl rfl)) rfl
theorem f230_75 : ft 230 75 = some (11, 4, 0, .iload 5, 2) := Fm230 (dk_21 5 (dk_at s230_3 4 rfl rfl)) rfl
theorem f230_77 : ft 230 77 = some (11, 4, 0, .bipush 47, 2) := Fm230 (dk_16 47 (dk_at s230_3 6 rfl rfl)) rfl
theorem f230_79 : ft 230 79 = some (11, 4, 0, .if_icmp .ne 42, 3) := Fm230 (dk_160 0 42 (dk_at s230_3 8 rfl rfl)) rfl
theorem f230_82 : ft 230 82 = some (11, 4, 0, .aload_n 0, 1) := Fm230 (dk_42 (dk_at s230_3 11 rfl rfl)) rfl
theorem f230_83 : ft 230 83 = some (11, 4, 0, .getfield 112, 3) := Fm230 (dk_180 0 112 (dk_at s230_3 12 rfl rfl)) rfl
theorem f230_86 : ft 230 86 = some (11, 4, 0, .aload_n 0, 1) := Fm230 (dk_42 (dk_at s230_3 15 rfl rfl)) rfl
theorem f230_87 : ft 230 87 = some (11, 4, 0, .getfield 334, 3) := Fm230 (dk_180 1 78 (dk_at s230_3 16 rfl rfl)) rfl
theorem f230_90 : ft 230 90 = some (11, 4, 0, .aload_n 0, 1) := Fm230 (dk_42 (dk_at s230_3 19 rfl rfl)) rfl
theorem f230_91 : ft 230 91 = some (11, 4, 0, .getfield 118, 3) := Fm230 (dk_180 0 118 (dk_at s230_3 20 rfl rfl)) rfl
theorem f230_94 : ft 230 94 = some (11, 4, 0, .getfield 224, 3) := Fm230 (dk_180 0 224 (dk_at s230_4 0 rfl rfl)) rfl
theorem f230_97 : ft 230 97 = some (11, 4, 0, .iastore, 1) := Fm230 (dk_79 (dk_at s230_4 3 rfl rfl)) rfl
theorem f230_98 : ft 230 98 = some (11, 4, 0, .aload_n 0, 1) := Fm230 (dk_42 (dk_at s230_4 4 rfl rfl)) rfl
theorem f230_99 : ft 230 99 = some (11, 4, 0, .getfield 115, 3) := Fm230 (dk_180 0 115 (dk_at s230_4 5 rfl rfl)) rfl
theorem f230_102 : ft 230 102 = some (11, 4, 0, .aload_n 0, 1) := Fm230 (dk_42 (dk_at s230_4 8 rfl rfl)) rfl
theorem f230_103 : ft 230 103 = some (11, 4, 0, .getfield 334, 3) := Fm230 (dk_180 1 78 (dk_at s230_4 9 rfl rfl)) rfl
theorem f230_106 : ft 230 106 = some (11, 4, 0, .iconst 0, 1) := Fm230 (dk_3 (dk_at s230_4 12 rfl rfl)) rfl
theorem f230_107 : ft 230 107 = some (11, 4, 0, .iastore, 1) := Fm230 (dk_79 (dk_at s230_4 13 rfl rfl)) rfl
theorem f230_108 : ft 230 108 = some (11, 4, 0, .aload_n 0, 1) := Fm230 (dk_42 (dk_at s230_4 14 rfl rfl)) rfl
theorem f230_109 : ft 230 109 = some (11, 4, 0, .dup, 1) := Fm230 (dk_89 (dk_at s230_4 15 rfl rfl)) rfl
theorem f230_110 : ft 230 110 = some (11, 4, 0, .getfield 334, 3) := Fm230 (dk_180 1 78 (dk_at s230_4 16 rfl rfl)) rfl
theorem f230_113 : ft 230 113 = some (11, 4, 0, .iconst 1, 1) := Fm230 (dk_4 (dk_at s230_4 19 rfl rfl)) rfl
theorem f230_114 : ft 230 114 = some (11, 4, 0, .iadd, 1) := Fm230 (dk_96 (dk_at s230_4 20 rfl rfl)) rfl
theorem f230_115 : ft 230 115 = some (11, 4, 0, .putfield 334, 3) := Fm230 (dk_181 1 78 (dk_at s230_4 21 rfl rfl)) rfl
theorem f230_118 : ft 230 118 = some (11, 4, 0, .goto 93, 3) := Fm230 (dk_167 0 93 (dk_at s230_5 0 rfl rfl)) rfl
theorem f230_121 : ft 230 121 = some (11, 4, 0, .iload 5, 2) := Fm230 (dk_21 5 (dk_at s230_5 3 rfl rfl)) rfl
theorem f230_123 : ft 230 123 = some (11, 4, 0, .bipush 126, 2) := Fm230 (dk_16 126 (dk_at s230_5 5 rfl rfl)) rfl
theorem f230_125 : ft 230 125 = some (11, 4, 0, .if_icmp .ne 62, 3) := Fm230 (dk_160 0 62 (dk_at s230_5 7 rfl rfl)) rfl
theorem f230_128 : ft 230 128 = some (11, 4, 0, .iinc 4 1, 3) := Fm230 (dk_132 4 1 (dk_at s230_5 10 rfl rfl)) rfl
theorem f230_131 : ft 230 131 = some (11, 4, 0, .iload 4, 2) := Fm230 (dk_21 4 (dk_at s230_5 13 rfl rfl)) rfl
theorem f230_133 : ft 230 133 = some (11, 4, 0, .iload_n 3, 1) := Fm230 (dk_29 (dk_at s230_5 15 rfl rfl)) rfl
theorem f230_134 : ft 230 134 = some (11, 4, 0, .if_icmp .ge 18, 3) := Fm230 (dk_162 0 18 (dk_at s230_5 16 rfl rfl)) rfl
theorem f230_137 : ft 230 137 = some (11, 4, 0, .aload_n 0, 1) := Fm230 (dk_42 (dk_at s230_5 19 rfl rfl)) rfl
theorem f230_138 : ft 230 138 = some (11, 4, 0, .getfield 106, 3) := Fm230 (dk_180 0 106 (dk_at s230_5 20 rfl rfl)) rfl
theorem f230_141 : ft 230 141 = some (11, 4, 0, .getfield 51, 3) := Fm230 (dk_180 0 51 (dk_at s230_6 0 rfl rfl)) rfl
theorem f230_144 : ft 230 144 = some (11, 4, 0, .iload_n 2, 1) := Fm230 (dk_28 (dk_at s230_6 3 rfl rfl)) rfl
theorem f230_145 : ft 230 145 = some (11, 4, 0, .iload 4, 2) := Fm230 (dk_21 4 (dk_at s230_6 4 rfl rfl)) rfl
theorem f230_147 : ft 230 147 = some (11, 4, 0, .iadd, 1) := Fm230 (dk_96 (dk_at s230_6 6 rfl rfl)) rfl
theorem f230_148 : ft 230 148 = some (11, 4, 0, .caload, 1) := Fm230 (dk_52 (dk_at s230_6 7 rfl rfl)) rfl
theorem f230_149 : ft 230 149 = some (11, 4, 0, .goto 4, 3) := Fm230 (dk_167 0 4 (dk_at s230_6 8 rfl rfl)) rfl
theorem f230_152 : ft 230 152 = some (11, 4, 0, .iconst 0, 1) := Fm230 (dk_3 (dk_at s230_6 11 rfl rfl)) rfl
theorem f230_153 : ft 230 153 = some (11, 4, 0, .istore 6, 2) := Fm230 (dk_54 6 (dk_at s230_6 12 rfl rfl)) rfl
theorem f230_155 : ft 230 155 = some (11, 4, 0, .iload 6, 2) := Fm230 (dk_21 6 (dk_at s230_6 14 rfl rfl)) rfl
theorem f230_157 : ft 230 157 = some (11, 4, 0, .bipush 48, 2) := Fm230 (dk_16 48 (dk_at s230_6 16 rfl rfl)) rfl
theorem f230_159 : ft 230 159 = some (11, 4, 0, .if_icmp .eq 12, 3) := Fm230 (dk_159 0 12 (dk_at s230_6 18 rfl rfl)) rfl
theorem f230_162 : ft 230 162 = some (11, 4, 0, .iload 6, 2) := Fm230 (dk_21 6 (dk_at s230_6 21 rfl rfl)) rfl
theorem f230_164 : ft 230 164 = some (11, 4, 0, .bipush 49, 2) := Fm230 (dk_16 49 (dk_at s230_7 0 rfl rfl)) rfl
theorem f230_166 : ft 230 166 = some (11, 4, 0, .if_icmp .eq 5, 3) := Fm230 (dk_159 0 5 (dk_at s230_7 2 rfl rfl)) rfl
theorem f230_169 : ft 230 169 = some (11, 4, 0, .iconst 0, 1) := Fm230 (dk_3 (dk_at s230_7 5 rfl rfl)) rfl
theorem f230_170 : ft 230 170 = some (11, 4, 0, .ireturn, 1) := Fm230 (dk_172 (dk_at s230_7 6 rfl rfl)) rfl
theorem f230_171 : ft 230 171 = some (11, 4, 0, .iload 6, 2) := Fm230 (dk_21 6 (dk_at s230_7 7 rfl rfl)) rfl
theorem f230_173 : ft 230 173 = some (11, 4, 0, .bipush 48, 2) := Fm230 (dk_16 48 (dk_at s230_7 9 rfl rfl)) rfl
theorem f230_175 : ft 230 175 = some (11, 4, 0, .if_icmp .ne 8, 3) := Fm230 (dk_160 0 8 (dk_at s230_7 11 rfl rfl)) rfl
theorem f230_178 : ft 230 178 = some (11, 4, 0, .bipush 126, 2) := Fm230 (dk_16 126 (dk_at s230_7 14 rfl rfl)) rfl
theorem f230_180 : ft 230 180 = some (11, 4, 0, .goto 5, 3) := Fm230 (dk_167 0 5 (dk_at s230_7 16 rfl rfl)) rfl
theorem f230_183 : ft 230 183 = some (11, 4, 0, .bipush 47, 2) := Fm230 (dk_16 47 (dk_at s230_7 19 rfl rfl)) rfl
theorem f230_185 : ft 230 185 = some (11, 4, 0, .istore 5, 2) := Fm230 (dk_54 5 (dk_at s230_7 21 rfl rfl)) rfl
theorem f230_187 : ft 230 187 = some (11, 4, 0, .aload_n 0, 1) := Fm230 (dk_42 (dk_at s230_7 23 rfl rfl)) rfl
theorem f230_188 : ft 230 188 = some (11, 4, 0, .getfield 118, 3) := Fm230 (dk_180 0 118 (dk_at s230_8 0 rfl rfl)) rfl
theorem f230_191 : ft 230 191 = some (11, 4, 0, .iload 5, 2) := Fm230 (dk_21 5 (dk_at s230_8 3 rfl rfl)) rfl
theorem f230_193 : ft 230 193 = some (11, 4, 0, .invokevirtual 197, 3) := Fm230 (dk_182 0 197 (dk_at s230_8 5 rfl rfl)) rfl
theorem f230_196 : ft 230 196 = some (11, 4, 0, .aload_n 0, 1) := Fm230 (dk_42 (dk_at s230_8 8 rfl rfl)) rfl
theorem f230_197 : ft 230 197 = some (11, 4, 0, .getfield 115, 3) := Fm230 (dk_180 0 115 (dk_at s230_8 9 rfl rfl)) rfl
theorem f230_200 : ft 230 200 = some (11, 4, 0, .aload_n 0, 1) := Fm230 (dk_42 (dk_at s230_8 12 rfl rfl)) rfl
theorem f230_201 : ft 230 201 = some (11, 4, 0, .getfield 334, 3) := Fm230 (dk_180 1 78 (dk_at s230_8 13 rfl rfl)) rfl
theorem f230_204 : ft 230 204 = some (11, 4, 0, .iconst 1, 1) := Fm230 (dk_4 (dk_at s230_8 16 rfl rfl)) rfl
theorem f230_205 : ft 230 205 = some (11, 4, 0, .isub, 1) := Fm230 (dk_100 (dk_at s230_8 17 rfl rfl)) rfl
theorem f230_206 : ft 230 206 = some (11, 4, 0, .dup2, 1) := Fm230 (dk_92 (dk_at s230_8 18 rfl rfl)) rfl
theorem f230_207 : ft 230 207 = some (11, 4, 0, .iaload, 1) := Fm230 (dk_46 (dk_at s230_8 19 rfl rfl)) rfl
theorem f230_208 : ft 230 208 = some (11, 4, 0, .iconst 1, 1) := Fm230 (dk_4 (dk_at s230_8 20 rfl rfl)) rfl
theorem f230_209 : ft 230 209 = some (11, 4, 0, .iadd, 1) := Fm230 (dk_96 (dk_at s230_8 21 rfl rfl)) rfl
theorem f230_210 : ft 230 210 = some (11, 4, 0, .iastore, 1) := Fm230 (dk_79 (dk_at s230_8 22 rfl rfl)) rfl
theorem f230_211 : ft 230 211 = some (11, 4, 0, .iinc 4 1, 3) := Fm230 (dk_132 4 1 (dk_at s230_9 0 rfl rfl)) rfl
theorem f230_214 : ft 230 214 = some (11, 4, 0, .goto (-159), 3) := Fm230 (dk_167 255 97 (dk_at s230_9 3 rfl rfl)) rfl
theorem f230_217 : ft 230 217 = some (11, 4, 0, .iconst 1, 1) := Fm230 (dk_4 (dk_at s230_9 6 rfl rfl)) rfl
theorem f230_218 : ft 230 218 = some (11, 4, 0, .ireturn, 1) := Fm230 (dk_172 (dk_at s230_9 7 rfl rfl)) rfl
theorem q230 {d : Nat} {m : Mem} {a0 a1 : Int} (hd : 0 < d) (hz : TZ m) : le2 (gd (tg m a0 = 11) <| nm (vl m a0 25) fun v2 => gd (tg m v2 = 13) <| bV (cl (d - 1) 284 [pR v2] (mst m a0 24 0)) fun m1 => nm (vl m1 a0 19) fun v3 => gd (tg m1 v3 = 13) <| nm (vl m1 v3 2) fun v4 => gd (tg m1 v4 = 284101 ∨ tg m1 v4 = 287101) <| gd ((0 : Int) ≤ a1 ∧ a1 < ln m1 v4) <| nm (vl m1 v4 a1) fun v5 => nm (vl m1 v3 3) fun v6 => gd (tg m1 v6 = 284101 ∨ tg m1 v6 = 287101) <| gd ((0 : Int) ≤ a1 ∧ a1 < ln m1 v6) <| nm (vl m1 v6 a1) fun v7 => if 0 < v7 then (nm (vl m1 v3 11) fun v8 => gd (tg m1 v8 = 284104 ∨ tg m1 v8 = 288104) <| gd ((0 : Int) ≤ v5 ∧ v5 < ln m1 v8) <| if (vl m1 v8 v5) = 47 then (rn d 230 55 [pR a0, pI a1, pI v5, pI v7, pI 0, pU, pU] [] m1) else some (.inl (some (pI 0)), m1)) else rn d 230 55 [pR a0, pI a1, pI v5, pI v7, pI 0, pU, pU] [] m1) (cl d 230 [pR a0, pI a1] m) := by
  refine q_in (n := 7) (L := [pR a0, pI a1, pU, pU, pU, pU, pU]) rfl rfl rfl ?_
  refine r_aln0 (p := 1) f230_0 rfl ?_
  refine r_iconst (p := 2) f230_1 rfl (pinD rfl rfl) ?_
  refine le2_gd (fun h1 => ?_)
  refine r_pfI (f := 24) (p := 5) f230_2 rfl rfl rfl (by decide) (by decide) (Or.inl h1) rfl ?_
  refine r_aln0 (p := 6) f230_5 rfl ?_
  refine r_gfR (f := 25) (p := 9) f230_6 rfl rfl rfl (Or.inl h1) (sk_f (by decide)) ?_
  refine r_nmR (fun v2 ev2 => ?_)
  refine le2_gd (fun h2 => ?_)
  refine r_invV (p := 12) f230_9 rfl rfl rfl (Or.inl h2) hd (Nat.le_of_ble_eq_true rfl) rfl rfl rfl (fun _ => rfl) (fun m1 c1 => ?_)
  have hz1 := z_k c1 hz
  refine r_aln0 (p := 13) f230_12 rfl ?_
  have h3 := k_t1 c1 hz h1 (by decide)
  refine r_gfR (f := 19) (p := 16) f230_13 rfl rfl rfl (Or.inl h3) rfl ?_
  refine r_nmR (fun v3 ev3 => ?_)
  refine le2_gd (fun h4 => ?_)
  refine r_gfR (f := 2) (p := 19) f230_16 rfl rfl rfl (Or.inl h4) rfl ?_
  refine r_nmR (fun v4 ev4 => ?_)
  refine r_iln1 (p := 20) f230_19 rfl ?_
  refine le2_gd (fun h5 => ?_)
  refine le2_gd (fun h6 => ?_)
  refine r_iaload (p := 21) f230_20 rfl (dj2 (fun x => x % 1000 = 101) h5 (by decide) (by decide)) h6 rfl ?_
  refine r_nmI (fun v5 ev5 => ?_)
  refine r_isn2 (p := 22) f230_21 rfl rfl ?_
  refine r_aln0 (p := 23) f230_22 rfl ?_
  refine r_gfR (f := 19) (p := 26) f230_23 rfl rfl rfl (Or.inl h3) ev3.symm ?_
  refine r_gfR (f := 3) (p := 29) f230_26 rfl rfl rfl (Or.inl h4) rfl ?_
  refine r_nmR (fun v6 ev6 => ?_)
  refine r_iln1 (p := 30) f230_29 rfl ?_
  refine le2_gd (fun h7 => ?_)
  refine le2_gd (fun h8 => ?_)
  refine r_iaload (p := 31) f230_30 rfl (dj2 (fun x => x % 1000 = 101) h7 (by decide) (by decide)) h8 rfl ?_
  refine r_nmI (fun v7 ev7 => ?_)
  refine r_isn3 (p := 32) f230_31 rfl rfl ?_
  refine r_iln3 (p := 33) f230_32 rfl ?_
  refine r_ifle (t := 52) (p := 36) f230_33 (by decide) rfl rfl ?_ ?_
  · refine r_aln0 (p := 37) f230_36 rfl ?_
    refine r_gfR (f := 19) (p := 40) f230_37 rfl rfl rfl (Or.inl h3) ev3.symm ?_
    refine r_gfR (f := 11) (p := 43) f230_40 rfl rfl rfl (Or.inl h4) rfl ?_
    refine r_nmR (fun v8 ev8 => ?_)
    refine r_iln2 (p := 44) f230_43 rfl ?_
    refine le2_gd (fun h9 => ?_)
    refine le2_gd (fun h10 => ?_)
    refine r_caload (p := 45) f230_44 rfl (dj2 (fun x => x % 1000 = 104) h9 (by decide) (by decide)) h10 rfl ?_
    refine r_bipush (p := 47) f230_45 rfl (pinD rfl rfl) ?_
    refine r_iceq (t := 52) (p := 50) f230_47 (by decide) rfl rfl ?_ ?_
    · refine r_iconst (p := 53) f230_52 rfl (pinD rfl rfl) ?_
      refine r_isw4 (p := 55) f230_53 rfl rfl ?_
      exact le2_refl _
    · refine r_iconst (p := 51) f230_50 rfl (pinD rfl rfl) ?_
      exact r_iret4 f230_51 (by decide)
  · refine r_iconst (p := 53) f230_52 rfl (pinD rfl rfl) ?_
    refine r_isw4 (p := 55) f230_53 rfl rfl ?_
    exact le2_refl _
theorem q230_55 {d : Nat} {m : Mem} {a0 a1 a2 a3 a4 : Int} {z5 z6 : PV} (hz : TZ m) (hcz5 : cat z5 = 1) (hcz6 : cat z6 = 1) : le2 (if a4 < a3 then (gd (tg m a0 = 11) <| nm (vl m a0 19) fun v1 => gd (tg m v1 = 13) <| nm (vl m v1 11) fun v2 => nm (w32 (a2 + a4)) fun v3 => gd (tg m v2 = 284104 ∨ tg m v2 = 288104) <| gd ((0 : Int) ≤ v3 ∧ v3 < ln m v2) <| nm (vl m v2 v3) fun v4 => if v4 = 47 then (nm (vl m a0 22) fun v5 => nm (vl m a0 24) fun v6 => nm (vl m a0 25) fun v7 => gd (tg m v7 = 13) <| gd (tg m v5 = 186101) <| gd ((0 : Int) ≤ v6 ∧ v6 < ln m v5) <| nm (vl m a0 23) fun v8 => gd (tg m v8 = 186101) <| gd ((0 : Int) ≤ v6 ∧ v6 < ln m v8) <| rn d 230 55 [pR a0, pI a1, pI a2, pI a3, pI (w32 (a4 + 1)), pI v4, z6] [] (mst (mst (mst m v5 v6 (vl m v7 12)) v8 v6 0) a0 24 (w32 (v6 + 1)))) else if v4 = 126 then (nm (w32 (a4 + 1)) fun v9 => if v9 < a3 then (nm (w32 (a2 + v9)) fun v10 => gd ((0 : Int) ≤ v10 ∧ v10 < ln m v2) <| rn d 230 153 [pR a0, pI a1, pI a2, pI a3, pI v9, pI v4, z6] [pI (vl m v2 v10)] m) else rn d 230 153 [pR a0, pI a1, pI a2, pI a3, pI v9, pI v4, z6] [pI 0] m) else rn d 230 187 [pR a0, pI a1, pI a2, pI a3, pI a4, pI v4, z6] [] m) else some (.inl (some (pI 1)), m)) (rn d 230 55 [pR a0, pI a1, pI a2, pI a3, pI a4, z5, z6] [] m) := by
  refine r_ilw4 (p := 57) f230_55 rfl ?_
  refine r_iln3 (p := 58) f230_57 rfl ?_
  refine r_icge (t := 217) (p := 61) f230_58 (by decide) rfl rfl ?_ ?_
  · refine r_aln0 (p := 62) f230_61 rfl ?_
    refine le2_gd (fun h1 => ?_)
    refine r_gfR (f := 19) (p := 65) f230_62 rfl rfl rfl (Or.inl h1) rfl ?_
    refine r_nmR (fun v1 ev1 => ?_)
    refine le2_gd (fun h2 => ?_)
    refine r_gfR (f := 11) (p := 68) f230_65 rfl rfl rfl (Or.inl h2) rfl ?_
    refine r_nmR (fun v2 ev2 => ?_)
    refine r_iln2 (p := 69) f230_68 rfl ?_
    refine r_ilw4 (p := 71) f230_69 rfl ?_
    refine r_iadd (p := 72) f230_71 rfl ?_
    refine r_nmI (fun v3 ev3 => ?_)
    refine le2_gd (fun h3 => ?_)
    refine le2_gd (fun h4 => ?_)
    refine r_caload (p := 73) f230_72 rfl (dj2 (fun x => x % 1000 = 104) h3 (by decide) (by decide)) h4 rfl ?_
    refine r_nmI (fun v4 ev4 => ?_)
    refine r_isw5 (p := 75) f230_73 rfl rfl ?_
    refine r_ilw5 (p := 77) f230_75 rfl ?_
    refine r_bipush (p := 79) f230_77 rfl (pinD rfl rfl) ?_
    refine r_icne (t := 121) (p := 82) f230_79 (by decide) rfl rfl ?_ ?_
    · refine r_aln0 (p := 83) f230_82 rfl ?_
      refine r_gfR (f := 22) (p := 86) f230_83 rfl rfl rfl (Or.inl h1) rfl ?_
      refine r_nmR (fun v5 ev5 => ?_)
      refine r_aln0 (p := 87) f230_86 rfl ?_
      refine r_gfI (f := 24) (p := 90) f230_87 rfl rfl rfl (Or.inl h1) rfl ?_
      refine r_nmI (fun v6 ev6 => ?_)
      refine r_aln0 (p := 91) f230_90 rfl ?_
      refine r_gfR (f := 25) (p := 94) f230_91 rfl rfl rfl (Or.inl h1) rfl ?_
      refine r_nmR (fun v7 ev7 => ?_)
      refine le2_gd (fun h6 => ?_)
      refine r_gfI (f := 12) (p := 97) f230_94 rfl rfl rfl (Or.inl h6) rfl ?_
      refine le2_gd (fun h7 => ?_)
      refine le2_gd (fun h8 => ?_)
      refine r_iastore (p := 98) f230_97 rfl (dj1 (fun x => 1000 ≤ x ∧ x % 1000 = 101 ∧ Nat.testBit (eM 230) (bix x 0) = true) h7 (by decide)) h8 ?_
      refine r_aln0 (p := 99) f230_98 rfl ?_
      refine r_gfR (f := 23) (p := 102) f230_99 rfl rfl rfl (Or.inl h1) (sk_o (ne_oa (dj1 (fun x => x < 100) h1 (by decide)) (dj1 (fun x => ¬ x < 100) h7 (by decide)))) ?_
      refine r_nmR (fun v8 ev8 => ?_)
      refine r_aln0 (p := 103) f230_102 rfl ?_
      refine r_gfI (f := 24) (p := 106) f230_103 rfl rfl rfl (Or.inl h1) (Eq.trans (sk_o (ne_oa (dj1 (fun x => x < 100) h1 (by decide)) (dj1 (fun x => ¬ x < 100) h7 (by decide)))) ev6.symm) ?_
      refine r_iconst (p := 107) f230_106 rfl (pinD rfl rfl) ?_
      refine le2_gd (fun h9 => ?_)
      refine le2_gd (fun h10 => ?_)
      refine r_iastore (p := 108) f230_107 rfl (dj1 (fun x => 1000 ≤ x ∧ x % 1000 = 101 ∧ Nat.testBit (eM 230) (bix x 0) = true) h9 (by decide)) h10 ?_
      refine r_aln0 (p := 109) f230_108 rfl ?_
      refine r_dup (p := 110) f230_109 rfl rfl ?_
      refine r_gfI (f := 24) (p := 113) f230_110 rfl rfl rfl (Or.inl h1) (Eq.trans (sk_o (ne_oa (dj1 (fun x => x < 100) h1 (by decide)) (dj1 (fun x => ¬ x < 100) h9 (by decide)))) (Eq.trans (sk_o (ne_oa (dj1 (fun x => x < 100) h1 (by decide)) (dj1 (fun x => ¬ x < 100) h7 (by decide)))) ev6.symm)) ?_
      refine r_iconst (p := 114) f230_113 rfl (pinD rfl rfl) ?_
      refine r_iadd (p := 115) f230_114 rfl ?_
      refine r_pfI (f := 24) (p := 118) f230_115 rfl rfl rfl (by decide) (by decide) (Or.inl h1) rfl ?_
      refine r_goto (p := 211) f230_118 (by decide) rfl ?_
      refine r_iinc4 (p := 214) f230_211 rfl rfl ?_
      refine r_goto (p := 55) f230_214 (by decide) rfl ?_
      exact le2_refl _
    · refine r_ilw5 (p := 123) f230_121 rfl ?_
      refine r_bipush (p := 125) f230_123 rfl (pinD rfl rfl) ?_
      refine r_icne (t := 187) (p := 128) f230_125 (by decide) rfl rfl ?_ ?_
      · refine r_iinc4 (p := 131) f230_128 rfl rfl ?_
        refine r_nml4 (fun v9 ev9 => ?_)
        refine r_ilw4 (p := 133) f230_131 rfl ?_
        refine r_iln3 (p := 134) f230_133 rfl ?_
        refine r_icge (t := 152) (p := 137) f230_134 (by decide) rfl rfl ?_ ?_
        · refine r_aln0 (p := 138) f230_137 rfl ?_
          refine r_gfR (f := 19) (p := 141) f230_138 rfl rfl rfl (Or.inl h1) ev1.symm ?_
          refine r_gfR (f := 11) (p := 144) f230_141 rfl rfl rfl (Or.inl h2) ev2.symm ?_
          refine r_iln2 (p := 145) f230_144 rfl ?_
          refine r_ilw4 (p := 147) f230_145 rfl ?_
          refine r_iadd (p := 148) f230_147 rfl ?_
          refine r_nmI (fun v10 ev10 => ?_)
          refine le2_gd (fun h5 => ?_)
          refine r_caload (p := 149) f230_148 rfl (dj2 (fun x => x % 1000 = 104) h3 (by decide) (by decide)) h5 rfl ?_
          refine r_goto (p := 153) f230_149 (by decide) rfl ?_
          exact le2_refl _
        · refine r_iconst (p := 153) f230_152 rfl (pinD rfl rfl) ?_
          exact le2_refl _
      · exact le2_refl _
  · refine r_iconst (p := 218) f230_217 rfl (pinD rfl rfl) ?_
    exact r_iret4 f230_218 (by decide)
theorem q230_153 {d : Nat} {m : Mem} {a0 a1 a2 a3 a4 a5 s0 : Int} {z6 : PV} (hz : TZ m) (hcz6 : cat z6 = 1) : le2 (if s0 = 48 then (if s0 = 48 then (rn d 230 187 [pR a0, pI a1, pI a2, pI a3, pI a4, pI 126, pI s0] [] m) else rn d 230 187 [pR a0, pI a1, pI a2, pI a3, pI a4, pI 47, pI s0] [] m) else if s0 = 49 then (if s0 = 48 then (rn d 230 187 [pR a0, pI a1, pI a2, pI a3, pI a4, pI 126, pI s0] [] m) else rn d 230 187 [pR a0, pI a1, pI a2, pI a3, pI a4, pI 47, pI s0] [] m) else some (.inl (some (pI 0)), m)) (rn d 230 153 [pR a0, pI a1, pI a2, pI a3, pI a4, pI a5, z6] [pI s0] m) := by
  refine r_isw6 (p := 155) f230_153 rfl rfl ?_
  refine r_ilw6 (p := 157) f230_155 rfl ?_
  refine r_bipush (p := 159) f230_157 rfl (pinD rfl rfl) ?_
  refine r_iceq (t := 171) (p := 162) f230_159 (by decide) rfl rfl ?_ ?_
  · refine r_ilw6 (p := 173) f230_171 rfl ?_
    refine r_bipush (p := 175) f230_173 rfl (pinD rfl rfl) ?_
    refine r_icne (t := 183) (p := 178) f230_175 (by decide) rfl rfl ?_ ?_
    · refine r_bipush (p := 180) f230_178 rfl (pinD rfl rfl) ?_
      refine r_goto (p := 185) f230_180 (by decide) rfl ?_
      refine r_isw5 (p := 187) f230_185 rfl rfl ?_
      exact le2_refl _
    · refine r_bipush (p := 185) f230_183 rfl (pinD rfl rfl) ?_
      refine r_isw5 (p := 187) f230_185 rfl rfl ?_
      exact le2_refl _
  · refine r_ilw6 (p := 164) f230_162 rfl ?_
    refine r_bipush (p := 166) f230_164 rfl (pinD rfl rfl) ?_
    refine r_iceq (t := 171) (p := 169) f230_166 (by decide) rfl rfl ?_ ?_
    · refine r_ilw6 (p := 173) f230_171 rfl ?_
      refine r_bipush (p := 175) f230_173 rfl (pinD rfl rfl) ?_
      refine r_icne (t := 183) (p := 178) f230_175 (by decide) rfl rfl ?_ ?_
      · refine r_bipush (p := 180) f230_178 rfl (pinD rfl rfl) ?_
        refine r_goto (p := 185) f230_180 (by decide) rfl ?_
        refine r_isw5 (p := 187) f230_185 rfl rfl ?_
        exact le2_refl _
      · refine r_bipush (p := 185) f230_183 rfl (pinD rfl rfl) ?_
        refine r_isw5 (p := 187) f230_185 rfl rfl ?_
        exact le2_refl _
    · refine r_iconst (p := 170) f230_169 rfl (pinD rfl rfl) ?_
      exact r_iret4 f230_170 (by decide)
theorem q230_187 {d : Nat} {m : Mem} {a0 a1 a2 a3 a4 a5 : Int} {z6 : PV} (hd : 0 < d) (hz : TZ m) (hcz6 : cat z6 = 1) : le2 (gd (tg m a0 = 11) <| nm (vl m a0 25) fun v2 => gd (tg m v2 = 13) <| bV (cl (d - 1) 287 [pR v2, pI a5] m) fun m1 => nm (vl m1 a0 23) fun v3 => nm (w32 ((vl m1 a0 24) - 1)) fun v4 => gd (tg m1 v3 = 186101) <| gd ((0 : Int) ≤ v4 ∧ v4 < ln m1 v3) <| rn d 230 55 [pR a0, pI a1, pI a2, pI a3, pI (w32 (a4 + 1)), pI a5, z6] [] (mst m1 v3 v4 (w32 ((vl m1 v3 v4) + 1)))) (rn d 230 187 [pR a0, pI a1, pI a2, pI a3, pI a4, pI a5, z6] [] m) := by
  refine r_aln0 (p := 188) f230_187 rfl ?_
  refine le2_gd (fun h1 => ?_)
  refine r_gfR (f := 25) (p := 191) f230_188 rfl rfl rfl (Or.inl h1) rfl ?_
  refine r_nmR (fun v2 ev2 => ?_)
  refine r_ilw5 (p := 193) f230_191 rfl ?_
  refine le2_gd (fun h2 => ?_)
  refine r_invV (p := 196) f230_193 rfl rfl rfl (Or.inl h2) hd (Nat.le_of_ble_eq_true rfl) rfl rfl rfl (fun _ => rfl) (fun m1 c1 => ?_)
  have hz1 := z_k c1 hz
  refine r_aln0 (p := 197) f230_196 rfl ?_
  have h3 := k_t1 c1 hz h1 (by decide)
  refine r_gfR (f := 23) (p := 200) f230_197 rfl rfl rfl (Or.inl h3) rfl ?_
  refine r_nmR (fun v3 ev3 => ?_)
  refine r_aln0 (p := 201) f230_200 rfl ?_
  refine r_gfI (f := 24) (p := 204) f230_201 rfl rfl rfl (Or.inl h3) rfl ?_
  refine r_iconst (p := 205) f230_204 rfl (pinD rfl rfl) ?_
  refine r_isub (p := 206) f230_205 rfl ?_
  refine r_nmI (fun v4 ev4 => ?_)
  refine r_dup2 (p := 207) f230_206 rfl rfl rfl ?_
  refine le2_gd (fun h4 => ?_)
  refine le2_gd (fun h5 => ?_)
  refine r_iaload (p := 208) f230_207 rfl (dj1 (fun x => x % 1000 = 101) h4 (by decide)) h5 rfl ?_
  refine r_iconst (p := 209) f230_208 rfl (pinD rfl rfl) ?_
  refine r_iadd (p := 210) f230_209 rfl ?_
  refine r_iastore (p := 211) f230_210 rfl (dj1 (fun x => 1000 ≤ x ∧ x % 1000 = 101 ∧ Nat.testBit (eM 230) (bix x 0) = true) h4 (by decide)) h5 ?_
  refine r_iinc4 (p := 214) f230_211 rfl rfl ?_
  refine r_goto (p := 55) f230_214 (by decide) rfl ?_
  exact le2_refl _
/-! 231 PathStoreModel.is (ILjava/lang/String;)Z -/
def w231_3 : List UInt8 := [167, 0, 4, 3, 62, 132, 4, 1, 167, 255, 205, 29, 172]
abbrev u231_3 : List UInt8 := w231_3 ++ []
def w231_2 : List UInt8 := [180, 0, 106, 180, 0, 45, 27, 46, 21, 4, 96, 52, 44, 21, 4, 182, 0, 179, 160, 0, 7, 4]
abbrev u231_2 : List UInt8 := w231_2 ++ u231_3
def w231_1 : List UInt8 := [54, 4, 21, 4, 44, 182, 0, 175, 162, 0, 48, 29, 153, 0, 44, 42, 180, 0, 106, 180, 0, 51, 42]
abbrev u231_1 : List UInt8 := w231_1 ++ u231_2
def w231_0 : List UInt8 := [42, 180, 0, 106, 180, 0, 48, 27, 46, 44, 182, 0, 175, 160, 0, 7, 4, 167, 0, 4, 3, 62, 3]
abbrev u231_0 : List UInt8 := w231_0 ++ u231_1
theorem s231_0 : (prog_32_method_53_code).data.toList.drop 0 = u231_0 := by decide +kernel
theorem s231_1 : (prog_32_method_53_code).data.toList.drop 23 = u231_1 := dk_seg s231_0 23 rfl rfl
theorem s231_2 : (prog_32_method_53_code).data.toList.drop 46 = u231_2 := dk_seg s231_1 23 rfl rfl
theorem s231_3 : (prog_32_method_53_code).data.toList.drop 68 = u231_3 := dk_seg s231_2 22 rfl rfl
theorem Fm231 {pc len : Nat} {i : Instr} (h : decode (prog_32_method_53_code) pc = .ok (i, len)) (hl : len = ilen i len) : ft 231 pc = some (11, 4, 0, i, len) := ft_mk rfl h hl
theorem f231_0 : ft 231 0 = some (11, 4, 0, .aload_n 0, 1) := Fm231 (dk_42 (dk_at s231_0 0 rfl rfl)) rfl
theorem f231_1 : ft 231 1 = some (11, 4, 0, .getfield 106, 3) := Fm231 (dk_180 0 106 (dk_at s231_0 1 rfl rfl)) rfl
theorem f231_4 : ft 231 4 = some (11, 4, 0, .getfield 48, 3) := Fm231 (dk_180 0 48 (dk_at s231_0 4 rfl rfl)) rfl
theorem f231_7 : ft 231 7 = some (11, 4, 0, .iload_n 1, 1) := Fm231 (dk_27 (dk_at s231_0 7 rfl rfl)) rfl
theorem f231_8 : ft 231 8 = some (11, 4, 0, .iaload, 1) := Fm231 (dk_46 (dk_at s231_0 8 rfl rfl)) rfl
theorem f231_9 : ft 231 9 = some (11, 4, 0, .aload_n 2, 1) := Fm231 (dk_44 (dk_at s231_0 9 rfl rfl)) rfl
theorem f231_10 : ft 231 10 = some (11, 4, 0, .invokevirtual 175, 3) := Fm231 (dk_182 0 175 (dk_at s231_0 10 rfl rfl)) rfl
theorem f231_13 : ft 231 13 = some (11, 4, 0, .if_icmp .ne 7, 3) := Fm231 (dk_160 0 7 (dk_at s231_0 13 rfl rfl)) rfl
theorem f231_16 : ft 231 16 = some (11, 4, 0, .iconst 1, 1) := Fm231 (dk_4 (dk_at s231_0 16 rfl rfl)) rfl
theorem f231_17 : ft 231 17 = some (11, 4, 0, .goto 4, 3) := Fm231 (dk_167 0 4 (dk_at s231_0 17 rfl rfl)) rfl
theorem f231_20 : ft 231 20 = some (11, 4, 0, .iconst 0, 1) := Fm231 (dk_3 (dk_at s231_0 20 rfl rfl)) rfl
theorem f231_21 : ft 231 21 = some (11, 4, 0, .istore_n 3, 1) := Fm231 (dk_62 (dk_at s231_0 21 rfl rfl)) rfl
theorem f231_22 : ft 231 22 = some (11, 4, 0, .iconst 0, 1) := Fm231 (dk_3 (dk_at s231_0 22 rfl rfl)) rfl
theorem f231_23 : ft 231 23 = some (11, 4, 0, .istore 4, 2) := Fm231 (dk_54 4 (dk_at s231_1 0 rfl rfl)) rfl
theorem f231_25 : ft 231 25 = some (11, 4, 0, .iload 4, 2) := Fm231 (dk_21 4 (dk_at s231_1 2 rfl rfl)) rfl
theorem f231_27 : ft 231 27 = some (11, 4, 0, .aload_n 2, 1) := Fm231 (dk_44 (dk_at s231_1 4 rfl rfl)) rfl
theorem f231_28 : ft 231 28 = some (11, 4, 0, .invokevirtual 175, 3) := Fm231 (dk_182 0 175 (dk_at s231_1 5 rfl rfl)) rfl
theorem f231_31 : ft 231 31 = some (11, 4, 0, .if_icmp .ge 48, 3) := Fm231 (dk_162 0 48 (dk_at s231_1 8 rfl rfl)) rfl
theorem f231_34 : ft 231 34 = some (11, 4, 0, .iload_n 3, 1) := Fm231 (dk_29 (dk_at s231_1 11 rfl rfl)) rfl
theorem f231_35 : ft 231 35 = some (11, 4, 0, .ifCond .eq 44, 3) := Fm231 (dk_153 0 44 (dk_at s231_1 12 rfl rfl)) rfl
theorem f231_38 : ft 231 38 = some (11, 4, 0, .aload_n 0, 1) := Fm231 (dk_42 (dk_at s231_1 15 rfl rfl)) rfl
theorem f231_39 : ft 231 39 = some (11, 4, 0, .getfield 106, 3) := Fm231 (dk_180 0 106 (dk_at s231_1 16 rfl rfl)) rfl
theorem f231_42 : ft 231 42 = some (11, 4, 0, .getfield 51, 3) := Fm231 (dk_180 0 51 (dk_at s231_1 19 rfl rfl)) rfl
theorem f231_45 : ft 231 45 = some (11, 4, 0, .aload_n 0, 1) := Fm231 (dk_42 (dk_at s231_1 22 rfl rfl)) rfl
theorem f231_46 : ft 231 46 = some (11, 4, 0, .getfield 106, 3) := Fm231 (dk_180 0 106 (dk_at s231_2 0 rfl rfl)) rfl
theorem f231_49 : ft 231 49 = some (11, 4, 0, .getfield 45, 3) := Fm231 (dk_180 0 45 (dk_at s231_2 3 rfl rfl)) rfl
theorem f231_52 : ft 231 52 = some (11, 4, 0, .iload_n 1, 1) := Fm231 (dk_27 (dk_at s231_2 6 rfl rfl)) rfl
theorem f231_53 : ft 231 53 = some (11, 4, 0, .iaload, 1) := Fm231 (dk_46 (dk_at s231_2 7 rfl rfl)) rfl
theorem f231_54 : ft 231 54 = some (11, 4, 0, .iload 4, 2) := Fm231 (dk_21 4 (dk_at s231_2 8 rfl rfl)) rfl
theorem f231_56 : ft 231 56 = some (11, 4, 0, .iadd, 1) := Fm231 (dk_96 (dk_at s231_2 10 rfl rfl)) rfl
theorem f231_57 : ft 231 57 = some (11, 4, 0, .caload, 1) := Fm231 (dk_52 (dk_at s231_2 11 rfl rfl)) rfl
theorem f231_58 : ft 231 58 = some (11, 4, 0, .aload_n 2, 1) := Fm231 (dk_44 (dk_at s231_2 12 rfl rfl)) rfl
theorem f231_59 : ft 231 59 = some (11, 4, 0, .iload 4, 2) := Fm231 (dk_21 4 (dk_at s231_2 13 rfl rfl)) rfl
theorem f231_61 : ft 231 61 = some (11, 4, 0, .invokevirtual 179, 3) := Fm231 (dk_182 0 179 (dk_at s231_2 15 rfl rfl)) rfl
theorem f231_64 : ft 231 64 = some (11, 4, 0, .if_icmp .ne 7, 3) := Fm231 (dk_160 0 7 (dk_at s231_2 18 rfl rfl)) rfl
theorem f231_67 : ft 231 67 = some (11, 4, 0, .iconst 1, 1) := Fm231 (dk_4 (dk_at s231_2 21 rfl rfl)) rfl
theorem f231_68 : ft 231 68 = some (11, 4, 0, .goto 4, 3) := Fm231 (dk_167 0 4 (dk_at s231_3 0 rfl rfl)) rfl
theorem f231_71 : ft 231 71 = some (11, 4, 0, .iconst 0, 1) := Fm231 (dk_3 (dk_at s231_3 3 rfl rfl)) rfl
theorem f231_72 : ft 231 72 = some (11, 4, 0, .istore_n 3, 1) := Fm231 (dk_62 (dk_at s231_3 4 rfl rfl)) rfl
theorem f231_73 : ft 231 73 = some (11, 4, 0, .iinc 4 1, 3) := Fm231 (dk_132 4 1 (dk_at s231_3 5 rfl rfl)) rfl
theorem f231_76 : ft 231 76 = some (11, 4, 0, .goto (-51), 3) := Fm231 (dk_167 255 205 (dk_at s231_3 8 rfl rfl)) rfl
theorem f231_79 : ft 231 79 = some (11, 4, 0, .iload_n 3, 1) := Fm231 (dk_29 (dk_at s231_3 11 rfl rfl)) rfl
theorem f231_80 : ft 231 80 = some (11, 4, 0, .ireturn, 1) := Fm231 (dk_172 (dk_at s231_3 12 rfl rfl)) rfl
theorem q231 {d : Nat} {m : Mem} {a0 a1 a2 : Int} (hd : 0 < d) (hz : TZ m) : le2 (gd (tg m a0 = 11) <| nm (vl m a0 19) fun v2 => gd (tg m v2 = 13) <| nm (vl m v2 3) fun v3 => gd (tg m v3 = 284101 ∨ tg m v3 = 287101) <| gd ((0 : Int) ≤ a1 ∧ a1 < ln m v3) <| gd (tg m a2 = 31) <| bI (cl (d - 1) 349 [pR a2] m) fun v1 m1 => if (vl m v3 a1) = v1 then (rn d 231 25 [pR a0, pI a1, pR a2, pI 1, pI 0] [] m1) else rn d 231 25 [pR a0, pI a1, pR a2, pI 0, pI 0] [] m1) (cl d 231 [pR a0, pI a1, pR a2] m) := by
  refine q_in (n := 5) (L := [pR a0, pI a1, pR a2, pU, pU]) rfl rfl rfl ?_
  refine r_aln0 (p := 1) f231_0 rfl ?_
  refine le2_gd (fun h1 => ?_)
  refine r_gfR (f := 19) (p := 4) f231_1 rfl rfl rfl (Or.inl h1) rfl ?_
  refine r_nmR (fun v2 ev2 => ?_)
  refine le2_gd (fun h2 => ?_)
  refine r_gfR (f := 3) (p := 7) f231_4 rfl rfl rfl (Or.inl h2) rfl ?_
  refine r_nmR (fun v3 ev3 => ?_)
  refine r_iln1 (p := 8) f231_7 rfl ?_
  refine le2_gd (fun h3 => ?_)
  refine le2_gd (fun h4 => ?_)
  refine r_iaload (p := 9) f231_8 rfl (dj2 (fun x => x % 1000 = 101) h3 (by decide) (by decide)) h4 rfl ?_
  refine r_aln2 (p := 10) f231_9 rfl ?_
  refine le2_gd (fun h5 => ?_)
  refine r_invI (p := 13) f231_10 rfl rfl rfl (Or.inl h5) hd (Nat.le_of_ble_eq_true rfl) rfl rfl rfl (fun _ => rfl) (fun v1 m1 c1 => ?_)
  have hz1 := z_k c1 hz
  refine r_icne (t := 20) (p := 16) f231_13 (by decide) rfl rfl ?_ ?_
  · refine r_iconst (p := 17) f231_16 rfl (pinD rfl rfl) ?_
    refine r_goto (p := 21) f231_17 (by decide) rfl ?_
    refine r_isn3 (p := 22) f231_21 rfl rfl ?_
    refine r_iconst (p := 23) f231_22 rfl (pinD rfl rfl) ?_
    refine r_isw4 (p := 25) f231_23 rfl rfl ?_
    exact le2_refl _
  · refine r_iconst (p := 21) f231_20 rfl (pinD rfl rfl) ?_
    refine r_isn3 (p := 22) f231_21 rfl rfl ?_
    refine r_iconst (p := 23) f231_22 rfl (pinD rfl rfl) ?_
    refine r_isw4 (p := 25) f231_23 rfl rfl ?_
    exact le2_refl _
theorem q231_25 {d : Nat} {m : Mem} {a0 a1 a2 a3 a4 : Int} (hd : 0 < d) (hz : TZ m) : le2 (gd (tg m a2 = 31) <| bI (cl (d - 1) 349 [pR a2] m) fun v1 m1 => if a4 < v1 then (if a3 = 0 then (gd (a3 = 0 ∨ a3 = 1) <| some (.inl (some (pI a3)), m1)) else gd (tg m1 a0 = 11) <| nm (vl m1 a0 19) fun v3 => gd (tg m1 v3 = 13) <| nm (vl m1 v3 11) fun v4 => nm (vl m1 v3 2) fun v5 => gd (tg m1 v5 = 284101 ∨ tg m1 v5 = 287101) <| gd ((0 : Int) ≤ a1 ∧ a1 < ln m1 v5) <| nm (w32 ((vl m1 v5 a1) + a4)) fun v6 => gd (tg m1 v4 = 284104 ∨ tg m1 v4 = 288104) <| gd ((0 : Int) ≤ v6 ∧ v6 < ln m1 v4) <| bI (cl (d - 1) 351 [pR a2, pI a4] m1) fun v2 m2 => if (vl m1 v4 v6) = v2 then (rn d 231 25 [pR a0, pI a1, pR a2, pI 1, pI (w32 (a4 + 1))] [] m2) else rn d 231 25 [pR a0, pI a1, pR a2, pI 0, pI (w32 (a4 + 1))] [] m2) else gd (a3 = 0 ∨ a3 = 1) <| some (.inl (some (pI a3)), m1)) (rn d 231 25 [pR a0, pI a1, pR a2, pI a3, pI a4] [] m) := by
  refine r_ilw4 (p := 27) f231_25 rfl ?_
  refine r_aln2 (p := 28) f231_27 rfl ?_
  refine le2_gd (fun h1 => ?_)
  refine r_invI (p := 31) f231_28 rfl rfl rfl (Or.inl h1) hd (Nat.le_of_ble_eq_true rfl) rfl rfl rfl (fun _ => rfl) (fun v1 m1 c1 => ?_)
  have hz1 := z_k c1 hz
  refine r_icge (t := 79) (p := 34) f231_31 (by decide) rfl rfl ?_ ?_
  · refine r_iln3 (p := 35) f231_34 rfl ?_
    refine r_ifeq (t := 79) (p := 38) f231_35 (by decide) rfl rfl ?_ ?_
    · refine r_iln3 (p := 80) f231_79 rfl ?_
      refine le2_gd (fun h3 => ?_)
      exact r_iret4 f231_80 h3
    · refine r_aln0 (p := 39) f231_38 rfl ?_
      refine le2_gd (fun h4 => ?_)
      refine r_gfR (f := 19) (p := 42) f231_39 rfl rfl rfl (Or.inl h4) rfl ?_
      refine r_nmR (fun v3 ev3 => ?_)
      refine le2_gd (fun h5 => ?_)
      refine r_gfR (f := 11) (p := 45) f231_42 rfl rfl rfl (Or.inl h5) rfl ?_
      refine r_nmR (fun v4 ev4 => ?_)
      refine r_aln0 (p := 46) f231_45 rfl ?_
      refine r_gfR (f := 19) (p := 49) f231_46 rfl rfl rfl (Or.inl h4) ev3.symm ?_
      refine r_gfR (f := 2) (p := 52) f231_49 rfl rfl rfl (Or.inl h5) rfl ?_
      refine r_nmR (fun v5 ev5 => ?_)
      refine r_iln1 (p := 53) f231_52 rfl ?_
      refine le2_gd (fun h6 => ?_)
      refine le2_gd (fun h7 => ?_)
      refine r_iaload (p := 54) f231_53 rfl (dj2 (fun x => x % 1000 = 101) h6 (by decide) (by decide)) h7 rfl ?_
      refine r_ilw4 (p := 56) f231_54 rfl ?_
      refine r_iadd (p := 57) f231_56 rfl ?_
      refine r_nmI (fun v6 ev6 => ?_)
      refine le2_gd (fun h8 => ?_)
      refine le2_gd (fun h9 => ?_)
      refine r_caload (p := 58) f231_57 rfl (dj2 (fun x => x % 1000 = 104) h8 (by decide) (by decide)) h9 rfl ?_
      refine r_aln2 (p := 59) f231_58 rfl ?_
      refine r_ilw4 (p := 61) f231_59 rfl ?_
      have h10 := k_t1 c1 hz h1 (by decide)
      refine r_invI (p := 64) f231_61 rfl rfl rfl (Or.inl h10) hd (Nat.le_of_ble_eq_true rfl) rfl rfl rfl (fun _ => rfl) (fun v2 m2 c2 => ?_)
      have hz2 := z_k c2 hz1
      refine r_icne (t := 71) (p := 67) f231_64 (by decide) rfl rfl ?_ ?_
      · refine r_iconst (p := 68) f231_67 rfl (pinD rfl rfl) ?_
        refine r_goto (p := 72) f231_68 (by decide) rfl ?_
        refine r_isn3 (p := 73) f231_72 rfl rfl ?_
        refine r_iinc4 (p := 76) f231_73 rfl rfl ?_
        refine r_goto (p := 25) f231_76 (by decide) rfl ?_
        exact le2_refl _
      · refine r_iconst (p := 72) f231_71 rfl (pinD rfl rfl) ?_
        refine r_isn3 (p := 73) f231_72 rfl rfl ?_
        refine r_iinc4 (p := 76) f231_73 rfl rfl ?_
        refine r_goto (p := 25) f231_76 (by decide) rfl ?_
        exact le2_refl _
  · refine r_iln3 (p := 80) f231_79 rfl ?_
    refine le2_gd (fun h2 => ?_)
    exact r_iret4 f231_80 h2
/-! 232 PathStoreModel.go (II)I -/
def w232_4 : List UInt8 := [182, 1, 83, 182, 1, 87, 62, 167, 0, 5, 2, 62, 132, 4, 1, 167, 255, 154, 29, 172]
abbrev u232_4 : List UInt8 := w232_4 ++ []
def w232_3 : List UInt8 := [160, 0, 33, 42, 21, 4, 182, 1, 83, 9, 148, 156, 0, 7, 2, 167, 0, 14, 42, 29, 42, 21, 4]
abbrev u232_3 : List UInt8 := w232_3 ++ u232_4
def w232_2 : List UInt8 := [180, 0, 115, 21, 4, 46, 182, 0, 37, 62, 167, 0, 48, 42, 180, 0, 102, 180, 0, 1, 29, 46, 8]
abbrev u232_2 : List UInt8 := w232_2 ++ u232_3
def w232_1 : List UInt8 := [16, 6, 160, 0, 33, 42, 180, 0, 102, 29, 42, 180, 0, 118, 42, 180, 0, 112, 21, 4, 46, 42]
abbrev u232_1 : List UInt8 := w232_1 ++ u232_2
def w232_0 : List UInt8 := [27, 62, 3, 54, 4, 21, 4, 28, 162, 0, 102, 29, 155, 0, 98, 42, 180, 0, 102, 180, 0, 1, 29, 46]
abbrev u232_0 : List UInt8 := w232_0 ++ u232_1
theorem s232_0 : (prog_32_method_49_code).data.toList.drop 0 = u232_0 := by decide +kernel
theorem s232_1 : (prog_32_method_49_code).data.toList.drop 24 = u232_1 := dk_seg s232_0 24 rfl rfl
theorem s232_2 : (prog_32_method_49_code).data.toList.drop 46 = u232_2 := dk_seg s232_1 22 rfl rfl
theorem s232_3 : (prog_32_method_49_code).data.toList.drop 69 = u232_3 := dk_seg s232_2 23 rfl rfl
theorem s232_4 : (prog_32_method_49_code).data.toList.drop 92 = u232_4 := dk_seg s232_3 23 rfl rfl
theorem Fm232 {pc len : Nat} {i : Instr} (h : decode (prog_32_method_49_code) pc = .ok (i, len)) (hl : len = ilen i len) : ft 232 pc = some (11, 1, 0, i, len) := ft_mk rfl h hl
theorem f232_0 : ft 232 0 = some (11, 1, 0, .iload_n 1, 1) := Fm232 (dk_27 (dk_at s232_0 0 rfl rfl)) rfl
theorem f232_1 : ft 232 1 = some (11, 1, 0, .istore_n 3, 1) := Fm232 (dk_62 (dk_at s232_0 1 rfl rfl)) rfl
theorem f232_2 : ft 232 2 = some (11, 1, 0, .iconst 0, 1) := Fm232 (dk_3 (dk_at s232_0 2 rfl rfl)) rfl
theorem f232_3 : ft 232 3 = some (11, 1, 0, .istore 4, 2) := Fm232 (dk_54 4 (dk_at s232_0 3 rfl rfl)) rfl
theorem f232_5 : ft 232 5 = some (11, 1, 0, .iload 4, 2) := Fm232 (dk_21 4 (dk_at s232_0 5 rfl rfl)) rfl
theorem f232_7 : ft 232 7 = some (11, 1, 0, .iload_n 2, 1) := Fm232 (dk_28 (dk_at s232_0 7 rfl rfl)) rfl
theorem f232_8 : ft 232 8 = some (11, 1, 0, .if_icmp .ge 102, 3) := Fm232 (dk_162 0 102 (dk_at s232_0 8 rfl rfl)) rfl
theorem f232_11 : ft 232 11 = some (11, 1, 0, .iload_n 3, 1) := Fm232 (dk_29 (dk_at s232_0 11 rfl rfl)) rfl
theorem f232_12 : ft 232 12 = some (11, 1, 0, .ifCond .lt 98, 3) := Fm232 (dk_155 0 98 (dk_at s232_0 12 rfl rfl)) rfl
theorem f232_15 : ft 232 15 = some (11, 1, 0, .aload_n 0, 1) := Fm232 (dk_42 (dk_at s232_0 15 rfl rfl)) rfl
theorem f232_16 : ft 232 16 = some (11, 1, 0, .getfield 102, 3) := Fm232 (dk_180 0 102 (dk_at s232_0 16 rfl rfl)) rfl
theorem f232_19 : ft 232 19 = some (11, 1, 0, .getfield 1, 3) := Fm232 (dk_180 0 1 (dk_at s232_0 19 rfl rfl)) rfl
theorem f232_22 : ft 232 22 = some (11, 1, 0, .iload_n 3, 1) := Fm232 (dk_29 (dk_at s232_0 22 rfl rfl)) rfl
theorem f232_23 : ft 232 23 = some (11, 1, 0, .iaload, 1) := Fm232 (dk_46 (dk_at s232_0 23 rfl rfl)) rfl
theorem f232_24 : ft 232 24 = some (11, 1, 0, .bipush 6, 2) := Fm232 (dk_16 6 (dk_at s232_1 0 rfl rfl)) rfl
theorem f232_26 : ft 232 26 = some (11, 1, 0, .if_icmp .ne 33, 3) := Fm232 (dk_160 0 33 (dk_at s232_1 2 rfl rfl)) rfl
theorem f232_29 : ft 232 29 = some (11, 1, 0, .aload_n 0, 1) := Fm232 (dk_42 (dk_at s232_1 5 rfl rfl)) rfl
theorem f232_30 : ft 232 30 = some (11, 1, 0, .getfield 102, 3) := Fm232 (dk_180 0 102 (dk_at s232_1 6 rfl rfl)) rfl
theorem f232_33 : ft 232 33 = some (11, 1, 0, .iload_n 3, 1) := Fm232 (dk_29 (dk_at s232_1 9 rfl rfl)) rfl
theorem f232_34 : ft 232 34 = some (11, 1, 0, .aload_n 0, 1) := Fm232 (dk_42 (dk_at s232_1 10 rfl rfl)) rfl
theorem f232_35 : ft 232 35 = some (11, 1, 0, .getfield 118, 3) := Fm232 (dk_180 0 118 (dk_at s232_1 11 rfl rfl)) rfl
theorem f232_38 : ft 232 38 = some (11, 1, 0, .aload_n 0, 1) := Fm232 (dk_42 (dk_at s232_1 14 rfl rfl)) rfl
theorem f232_39 : ft 232 39 = some (11, 1, 0, .getfield 112, 3) := Fm232 (dk_180 0 112 (dk_at s232_1 15 rfl rfl)) rfl
theorem f232_42 : ft 232 42 = some (11, 1, 0, .iload 4, 2) := Fm232 (dk_21 4 (dk_at s232_1 18 rfl rfl)) rfl
theorem f232_44 : ft 232 44 = some (11, 1, 0, .iaload, 1) := Fm232 (dk_46 (dk_at s232_1 20 rfl rfl)) rfl
theorem f232_45 : ft 232 45 = some (11, 1, 0, .aload_n 0, 1) := Fm232 (dk_42 (dk_at s232_1 21 rfl rfl)) rfl
theorem f232_46 : ft 232 46 = some (11, 1, 0, .getfield 115, 3) := Fm232 (dk_180 0 115 (dk_at s232_2 0 rfl rfl)) rfl
theorem f232_49 : ft 232 49 = some (11, 1, 0, .iload 4, 2) := Fm232 (dk_21 4 (dk_at s232_2 3 rfl rfl)) rfl
theorem f232_51 : ft 232 51 = some (11, 1, 0, .iaload, 1) := Fm232 (dk_46 (dk_at s232_2 5 rfl rfl)) rfl
theorem f232_52 : ft 232 52 = some (11, 1, 0, .invokevirtual 37, 3) := Fm232 (dk_182 0 37 (dk_at s232_2 6 rfl rfl)) rfl
theorem f232_55 : ft 232 55 = some (11, 1, 0, .istore_n 3, 1) := Fm232 (dk_62 (dk_at s232_2 9 rfl rfl)) rfl
theorem f232_56 : ft 232 56 = some (11, 1, 0, .goto 48, 3) := Fm232 (dk_167 0 48 (dk_at s232_2 10 rfl rfl)) rfl
theorem f232_59 : ft 232 59 = some (11, 1, 0, .aload_n 0, 1) := Fm232 (dk_42 (dk_at s232_2 13 rfl rfl)) rfl
theorem f232_60 : ft 232 60 = some (11, 1, 0, .getfield 102, 3) := Fm232 (dk_180 0 102 (dk_at s232_2 14 rfl rfl)) rfl
theorem f232_63 : ft 232 63 = some (11, 1, 0, .getfield 1, 3) := Fm232 (dk_180 0 1 (dk_at s232_2 17 rfl rfl)) rfl
theorem f232_66 : ft 232 66 = some (11, 1, 0, .iload_n 3, 1) := Fm232 (dk_29 (dk_at s232_2 20 rfl rfl)) rfl
theorem f232_67 : ft 232 67 = some (11, 1, 0, .iaload, 1) := Fm232 (dk_46 (dk_at s232_2 21 rfl rfl)) rfl
theorem f232_68 : ft 232 68 = some (11, 1, 0, .iconst 5, 1) := Fm232 (dk_8 (dk_at s232_2 22 rfl rfl)) rfl
theorem f232_69 : ft 232 69 = some (11, 1, 0, .if_icmp .ne 33, 3) := Fm232 (dk_160 0 33 (dk_at s232_3 0 rfl rfl)) rfl
theorem f232_72 : ft 232 72 = some (11, 1, 0, .aload_n 0, 1) := Fm232 (dk_42 (dk_at s232_3 3 rfl rfl)) rfl
theorem f232_73 : ft 232 73 = some (11, 1, 0, .iload 4, 2) := Fm232 (dk_21 4 (dk_at s232_3 4 rfl rfl)) rfl
theorem f232_75 : ft 232 75 = some (11, 1, 0, .invokevirtual 339, 3) := Fm232 (dk_182 1 83 (dk_at s232_3 6 rfl rfl)) rfl
theorem f232_78 : ft 232 78 = some (11, 1, 0, .lconst 0, 1) := Fm232 (dk_9 (dk_at s232_3 9 rfl rfl)) rfl
theorem f232_79 : ft 232 79 = some (11, 1, 0, .lcmp, 1) := Fm232 (dk_148 (dk_at s232_3 10 rfl rfl)) rfl
theorem f232_80 : ft 232 80 = some (11, 1, 0, .ifCond .ge 7, 3) := Fm232 (dk_156 0 7 (dk_at s232_3 11 rfl rfl)) rfl
theorem f232_83 : ft 232 83 = some (11, 1, 0, .iconst (-1), 1) := Fm232 (dk_2 (dk_at s232_3 14 rfl rfl)) rfl
theorem f232_84 : ft 232 84 = some (11, 1, 0, .goto 14, 3) := Fm232 (dk_167 0 14 (dk_at s232_3 15 rfl rfl)) rfl
theorem f232_87 : ft 232 87 = some (11, 1, 0, .aload_n 0, 1) := Fm232 (dk_42 (dk_at s232_3 18 rfl rfl)) rfl
theorem f232_88 : ft 232 88 = some (11, 1, 0, .iload_n 3, 1) := Fm232 (dk_29 (dk_at s232_3 19 rfl rfl)) rfl
theorem f232_89 : ft 232 89 = some (11, 1, 0, .aload_n 0, 1) := Fm232 (dk_42 (dk_at s232_3 20 rfl rfl)) rfl
theorem f232_90 : ft 232 90 = some (11, 1, 0, .iload 4, 2) := Fm232 (dk_21 4 (dk_at s232_3 21 rfl rfl)) rfl
theorem f232_92 : ft 232 92 = some (11, 1, 0, .invokevirtual 339, 3) := Fm232 (dk_182 1 83 (dk_at s232_4 0 rfl rfl)) rfl
theorem f232_95 : ft 232 95 = some (11, 1, 0, .invokevirtual 343, 3) := Fm232 (dk_182 1 87 (dk_at s232_4 3 rfl rfl)) rfl
theorem f232_98 : ft 232 98 = some (11, 1, 0, .istore_n 3, 1) := Fm232 (dk_62 (dk_at s232_4 6 rfl rfl)) rfl
theorem f232_99 : ft 232 99 = some (11, 1, 0, .goto 5, 3) := Fm232 (dk_167 0 5 (dk_at s232_4 7 rfl rfl)) rfl
theorem f232_102 : ft 232 102 = some (11, 1, 0, .iconst (-1), 1) := Fm232 (dk_2 (dk_at s232_4 10 rfl rfl)) rfl
theorem f232_103 : ft 232 103 = some (11, 1, 0, .istore_n 3, 1) := Fm232 (dk_62 (dk_at s232_4 11 rfl rfl)) rfl
theorem f232_104 : ft 232 104 = some (11, 1, 0, .iinc 4 1, 3) := Fm232 (dk_132 4 1 (dk_at s232_4 12 rfl rfl)) rfl
theorem f232_107 : ft 232 107 = some (11, 1, 0, .goto (-102), 3) := Fm232 (dk_167 255 154 (dk_at s232_4 15 rfl rfl)) rfl
theorem f232_110 : ft 232 110 = some (11, 1, 0, .iload_n 3, 1) := Fm232 (dk_29 (dk_at s232_4 18 rfl rfl)) rfl
theorem f232_111 : ft 232 111 = some (11, 1, 0, .ireturn, 1) := Fm232 (dk_172 (dk_at s232_4 19 rfl rfl)) rfl
theorem q232 {d : Nat} {m : Mem} {a0 a1 a2 : Int} (hz : TZ m) : le2 (rn d 232 5 [pR a0, pI a1, pI a2, pI a1, pI 0] [] m) (cl d 232 [pR a0, pI a1, pI a2] m) := by
  refine q_in (n := 5) (L := [pR a0, pI a1, pI a2, pU, pU]) rfl rfl rfl ?_
  refine r_iln1 (p := 1) f232_0 rfl ?_
  refine r_isn3 (p := 2) f232_1 rfl rfl ?_
  refine r_iconst (p := 3) f232_2 rfl (pinD rfl rfl) ?_
  refine r_isw4 (p := 5) f232_3 rfl rfl ?_
  exact le2_refl _
theorem q232_5 {d : Nat} {m : Mem} {a0 a1 a2 a3 a4 : Int} (hd : 0 < d) (hz : TZ m) : le2 (if a4 < a2 then (if a3 < 0 then (some (.inl (some (pI a3)), m)) else gd (tg m a0 = 11) <| nm (vl m a0 18) fun v5 => gd (tg m v5 = 13) <| nm (vl m v5 0) fun v6 => gd (tg m v6 = 284101 ∨ tg m v6 = 287101) <| gd ((0 : Int) ≤ a3 ∧ a3 < ln m v6) <| nm (vl m v6 a3) fun v7 => if v7 = 6 then (nm (vl m a0 22) fun v8 => gd (tg m v8 = 186101) <| gd ((0 : Int) ≤ a4 ∧ a4 < ln m v8) <| nm (vl m a0 23) fun v9 => gd (tg m v9 = 186101) <| gd ((0 : Int) ≤ a4 ∧ a4 < ln m v9) <| bI (cl (d - 1) 288 [pR v5, pI a3, pR (vl m a0 25), pI (vl m v8 a4), pI (vl m v9 a4)] m) fun v4 m4 => rn d 232 5 [pR a0, pI a1, pI a2, pI v4, pI (w32 (a4 + 1))] [] m4) else if v7 = 5 then (bL (cl (d - 1) 233 [pR a0, pI a4] m) fun v1 m1 => if v1 < 0 then (rn d 232 5 [pR a0, pI a1, pI a2, pI (-1), pI (w32 (a4 + 1))] [] m1) else bL (cl (d - 1) 233 [pR a0, pI a4] m1) fun v2 m2 => bI (cl (d - 1) 234 [pR a0, pI a3, pL v2] m2) fun v3 m3 => rn d 232 5 [pR a0, pI a1, pI a2, pI v3, pI (w32 (a4 + 1))] [] m3) else rn d 232 5 [pR a0, pI a1, pI a2, pI (-1), pI (w32 (a4 + 1))] [] m) else some (.inl (some (pI a3)), m)) (rn d 232 5 [pR a0, pI a1, pI a2, pI a3, pI a4] [] m) := by
  refine r_ilw4 (p := 7) f232_5 rfl ?_
  refine r_iln2 (p := 8) f232_7 rfl ?_
  refine r_icge (t := 110) (p := 11) f232_8 (by decide) rfl rfl ?_ ?_
  · refine r_iln3 (p := 12) f232_11 rfl ?_
    refine r_iflt (t := 110) (p := 15) f232_12 (by decide) rfl rfl ?_ ?_
    · refine r_iln3 (p := 111) f232_110 rfl ?_
      exact r_iret1 f232_111
    · refine r_aln0 (p := 16) f232_15 rfl ?_
      refine le2_gd (fun h1 => ?_)
      refine r_gfR (f := 18) (p := 19) f232_16 rfl rfl rfl (Or.inl h1) rfl ?_
      refine r_nmR (fun v5 ev5 => ?_)
      refine le2_gd (fun h2 => ?_)
      refine r_gfR (f := 0) (p := 22) f232_19 rfl rfl rfl (Or.inl h2) rfl ?_
      refine r_nmR (fun v6 ev6 => ?_)
      refine r_iln3 (p := 23) f232_22 rfl ?_
      refine le2_gd (fun h3 => ?_)
      refine le2_gd (fun h4 => ?_)
      refine r_iaload (p := 24) f232_23 rfl (dj2 (fun x => x % 1000 = 101) h3 (by decide) (by decide)) h4 rfl ?_
      refine r_nmI (fun v7 ev7 => ?_)
      refine r_bipush (p := 26) f232_24 rfl (pinD rfl rfl) ?_
      refine r_icne (t := 59) (p := 29) f232_26 (by decide) rfl rfl ?_ ?_
      · refine r_aln0 (p := 30) f232_29 rfl ?_
        refine r_gfR (f := 18) (p := 33) f232_30 rfl rfl rfl (Or.inl h1) ev5.symm ?_
        refine r_iln3 (p := 34) f232_33 rfl ?_
        refine r_aln0 (p := 35) f232_34 rfl ?_
        refine r_gfR (f := 25) (p := 38) f232_35 rfl rfl rfl (Or.inl h1) rfl ?_
        refine r_aln0 (p := 39) f232_38 rfl ?_
        refine r_gfR (f := 22) (p := 42) f232_39 rfl rfl rfl (Or.inl h1) rfl ?_
        refine r_nmR (fun v8 ev8 => ?_)
        refine r_ilw4 (p := 44) f232_42 rfl ?_
        refine le2_gd (fun h7 => ?_)
        refine le2_gd (fun h8 => ?_)
        refine r_iaload (p := 45) f232_44 rfl (dj1 (fun x => x % 1000 = 101) h7 (by decide)) h8 rfl ?_
        refine r_aln0 (p := 46) f232_45 rfl ?_
        refine r_gfR (f := 23) (p := 49) f232_46 rfl rfl rfl (Or.inl h1) rfl ?_
        refine r_nmR (fun v9 ev9 => ?_)
        refine r_ilw4 (p := 51) f232_49 rfl ?_
        refine le2_gd (fun h9 => ?_)
        refine le2_gd (fun h10 => ?_)
        refine r_iaload (p := 52) f232_51 rfl (dj1 (fun x => x % 1000 = 101) h9 (by decide)) h10 rfl ?_
        refine r_invI (p := 55) f232_52 rfl rfl rfl (Or.inl h2) hd (Nat.le_of_ble_eq_true rfl) rfl rfl rfl (fun _ => rfl) (fun v4 m4 c4 => ?_)
        have hz4 := z_k c4 hz
        refine r_isn3 (p := 56) f232_55 rfl rfl ?_
        refine r_goto (p := 104) f232_56 (by decide) rfl ?_
        refine r_iinc4 (p := 107) f232_104 rfl rfl ?_
        refine r_goto (p := 5) f232_107 (by decide) rfl ?_
        exact le2_refl _
      · refine r_aln0 (p := 60) f232_59 rfl ?_
        refine r_gfR (f := 18) (p := 63) f232_60 rfl rfl rfl (Or.inl h1) ev5.symm ?_
        refine r_gfR (f := 0) (p := 66) f232_63 rfl rfl rfl (Or.inl h2) ev6.symm ?_
        refine r_iln3 (p := 67) f232_66 rfl ?_
        refine r_iaload (p := 68) f232_67 rfl (dj2 (fun x => x % 1000 = 101) h3 (by decide) (by decide)) h4 ev7.symm ?_
        refine r_iconst (p := 69) f232_68 rfl (pinD rfl rfl) ?_
        refine r_icne (t := 102) (p := 72) f232_69 (by decide) rfl rfl ?_ ?_
        · refine r_aln0 (p := 73) f232_72 rfl ?_
          refine r_ilw4 (p := 75) f232_73 rfl ?_
          refine r_invL (p := 78) f232_75 rfl rfl rfl (Or.inl h1) hd (Nat.le_of_ble_eq_true rfl) rfl rfl rfl (fun _ => rfl) (fun v1 m1 c1 => ?_)
          have hz1 := z_k c1 hz
          refine r_lconst0 (p := 79) f232_78 rfl ?_
          refine r_lcge (p1 := 80) (t := 87) (p := 83) f232_79 rfl f232_80 (by decide) rfl rfl ?_ ?_
          · refine r_iconst (p := 84) f232_83 rfl (pinD rfl rfl) ?_
            refine r_goto (p := 98) f232_84 (by decide) rfl ?_
            refine r_isn3 (p := 99) f232_98 rfl rfl ?_
            refine r_goto (p := 104) f232_99 (by decide) rfl ?_
            refine r_iinc4 (p := 107) f232_104 rfl rfl ?_
            refine r_goto (p := 5) f232_107 (by decide) rfl ?_
            exact le2_refl _
          · refine r_aln0 (p := 88) f232_87 rfl ?_
            refine r_iln3 (p := 89) f232_88 rfl ?_
            refine r_aln0 (p := 90) f232_89 rfl ?_
            refine r_ilw4 (p := 92) f232_90 rfl ?_
            have h5 := k_t1 c1 hz h1 (by decide)
            refine r_invL (p := 95) f232_92 rfl rfl rfl (Or.inl h5) hd (Nat.le_of_ble_eq_true rfl) rfl rfl rfl (fun _ => rfl) (fun v2 m2 c2 => ?_)
            have hz2 := z_k c2 hz1
            have h6 := k_t1 c2 hz1 h5 (by decide)
            refine r_invI (p := 98) f232_95 rfl rfl rfl (Or.inl h6) hd (Nat.le_of_ble_eq_true rfl) rfl rfl rfl (fun _ => rfl) (fun v3 m3 c3 => ?_)
            have hz3 := z_k c3 hz2
            refine r_isn3 (p := 99) f232_98 rfl rfl ?_
            refine r_goto (p := 104) f232_99 (by decide) rfl ?_
            refine r_iinc4 (p := 107) f232_104 rfl rfl ?_
            refine r_goto (p := 5) f232_107 (by decide) rfl ?_
            exact le2_refl _
        · refine r_iconst (p := 103) f232_102 rfl (pinD rfl rfl) ?_
          refine r_isn3 (p := 104) f232_103 rfl rfl ?_
          refine r_iinc4 (p := 107) f232_104 rfl rfl ?_
          refine r_goto (p := 5) f232_107 (by decide) rfl ?_
          exact le2_refl _
  · refine r_iln3 (p := 111) f232_110 rfl ?_
    exact r_iret1 f232_111
/-! 233 PathStoreModel.tokenIndex (I)J -/
def w233_4 : List UInt8 := [21, 6, 96, 52, 133, 97, 20, 0, 239, 101, 55, 4, 132, 6, 1, 167, 255, 199, 22, 4, 173]
abbrev u233_4 : List UInt8 := w233_4 ++ []
def w233_3 : List UInt8 := [184, 0, 186, 154, 0, 7, 20, 1, 81, 173, 20, 0, 237, 22, 4, 105, 42, 180, 0, 118, 180, 0, 51, 29]
abbrev u233_3 : List UInt8 := w233_3 ++ u233_4
def w233_2 : List UInt8 := [55, 4, 3, 54, 6, 21, 6, 28, 162, 0, 57, 42, 180, 0, 118, 180, 0, 51, 29, 21, 6, 96, 52]
abbrev u233_2 : List UInt8 := w233_2 ++ u233_3
def w233_1 : List UInt8 := [28, 4, 164, 0, 21, 42, 180, 0, 118, 180, 0, 51, 29, 52, 16, 48, 160, 0, 7, 20, 1, 81, 173, 9]
abbrev u233_1 : List UInt8 := w233_1 ++ u233_2
def w233_0 : List UInt8 := [42, 180, 0, 115, 27, 46, 61, 42, 180, 0, 112, 27, 46, 62, 28, 153, 0, 28, 28, 16, 9, 163, 0, 22]
abbrev u233_0 : List UInt8 := w233_0 ++ u233_1
theorem s233_0 : (prog_32_method_47_code).data.toList.drop 0 = u233_0 := by decide +kernel
theorem s233_1 : (prog_32_method_47_code).data.toList.drop 24 = u233_1 := dk_seg s233_0 24 rfl rfl
theorem s233_2 : (prog_32_method_47_code).data.toList.drop 48 = u233_2 := dk_seg s233_1 24 rfl rfl
theorem s233_3 : (prog_32_method_47_code).data.toList.drop 71 = u233_3 := dk_seg s233_2 23 rfl rfl
theorem s233_4 : (prog_32_method_47_code).data.toList.drop 95 = u233_4 := dk_seg s233_3 24 rfl rfl
theorem Fm233 {pc len : Nat} {i : Instr} (h : decode (prog_32_method_47_code) pc = .ok (i, len)) (hl : len = ilen i len) : ft 233 pc = some (11, 2, 0, i, len) := ft_mk rfl h hl
theorem f233_0 : ft 233 0 = some (11, 2, 0, .aload_n 0, 1) := Fm233 (dk_42 (dk_at s233_0 0 rfl rfl)) rfl
theorem f233_1 : ft 233 1 = some (11, 2, 0, .getfield 115, 3) := Fm233 (dk_180 0 115 (dk_at s233_0 1 rfl rfl)) rfl
theorem f233_4 : ft 233 4 = some (11, 2, 0, .iload_n 1, 1) := Fm233 (dk_27 (dk_at s233_0 4 rfl rfl)) rfl
theorem f233_5 : ft 233 5 = some (11, 2, 0, .iaload, 1) := Fm233 (dk_46 (dk_at s233_0 5 rfl rfl)) rfl
theorem f233_6 : ft 233 6 = some (11, 2, 0, .istore_n 2, 1) := Fm233 (dk_61 (dk_at s233_0 6 rfl rfl)) rfl
theorem f233_7 : ft 233 7 = some (11, 2, 0, .aload_n 0, 1) := Fm233 (dk_42 (dk_at s233_0 7 rfl rfl)) rfl
theorem f233_8 : ft 233 8 = some (11, 2, 0, .getfield 112, 3) := Fm233 (dk_180 0 112 (dk_at s233_0 8 rfl rfl)) rfl
theorem f233_11 : ft 233 11 = some (11, 2, 0, .iload_n 1, 1) := Fm233 (dk_27 (dk_at s233_0 11 rfl rfl)) rfl
theorem f233_12 : ft 233 12 = some (11, 2, 0, .iaload, 1) := Fm233 (dk_46 (dk_at s233_0 12 rfl rfl)) rfl
theorem f233_13 : ft 233 13 = some (11, 2, 0, .istore_n 3, 1) := Fm233 (dk_62 (dk_at s233_0 13 rfl rfl)) rfl
theorem f233_14 : ft 233 14 = some (11, 2, 0, .iload_n 2, 1) := Fm233 (dk_28 (dk_at s233_0 14 rfl rfl)) rfl
theorem f233_15 : ft 233 15 = some (11, 2, 0, .ifCond .eq 28, 3) := Fm233 (dk_153 0 28 (dk_at s233_0 15 rfl rfl)) rfl
theorem f233_18 : ft 233 18 = some (11, 2, 0, .iload_n 2, 1) := Fm233 (dk_28 (dk_at s233_0 18 rfl rfl)) rfl
theorem f233_19 : ft 233 19 = some (11, 2, 0, .bipush 9, 2) := Fm233 (dk_16 9 (dk_at s233_0 19 rfl rfl)) rfl
theorem f233_21 : ft 233 21 = some (11, 2, 0, .if_icmp .gt 22, 3) := Fm233 (dk_163 0 22 (dk_at s233_0 21 rfl rfl)) rfl
theorem f233_24 : ft 233 24 = some (11, 2, 0, .iload_n 2, 1) := Fm233 (dk_28 (dk_at s233_1 0 rfl rfl)) rfl
theorem f233_25 : ft 233 25 = some (11, 2, 0, .iconst 1, 1) := Fm233 (dk_4 (dk_at s233_1 1 rfl rfl)) rfl
theorem f233_26 : ft 233 26 = some (11, 2, 0, .if_icmp .le 21, 3) := Fm233 (dk_164 0 21 (dk_at s233_1 2 rfl rfl)) rfl
theorem f233_29 : ft 233 29 = some (11, 2, 0, .aload_n 0, 1) := Fm233 (dk_42 (dk_at s233_1 5 rfl rfl)) rfl
theorem f233_30 : ft 233 30 = some (11, 2, 0, .getfield 118, 3) := Fm233 (dk_180 0 118 (dk_at s233_1 6 rfl rfl)) rfl
theorem f233_33 : ft 233 33 = some (11, 2, 0, .getfield 51, 3) := Fm233 (dk_180 0 51 (dk_at s233_1 9 rfl rfl)) rfl
theorem f233_36 : ft 233 36 = some (11, 2, 0, .iload_n 3, 1) := Fm233 (dk_29 (dk_at s233_1 12 rfl rfl)) rfl
theorem f233_37 : ft 233 37 = some (11, 2, 0, .caload, 1) := Fm233 (dk_52 (dk_at s233_1 13 rfl rfl)) rfl
theorem f233_38 : ft 233 38 = some (11, 2, 0, .bipush 48, 2) := Fm233 (dk_16 48 (dk_at s233_1 14 rfl rfl)) rfl
theorem f233_40 : ft 233 40 = some (11, 2, 0, .if_icmp .ne 7, 3) := Fm233 (dk_160 0 7 (dk_at s233_1 16 rfl rfl)) rfl
theorem f233_43 : ft 233 43 = some (11, 2, 0, .ldc2_w 337, 3) := Fm233 (dk_20 1 81 (dk_at s233_1 19 rfl rfl)) rfl
theorem f233_46 : ft 233 46 = some (11, 2, 0, .lreturn, 1) := Fm233 (dk_173 (dk_at s233_1 22 rfl rfl)) rfl
theorem f233_47 : ft 233 47 = some (11, 2, 0, .lconst 0, 1) := Fm233 (dk_9 (dk_at s233_1 23 rfl rfl)) rfl
theorem f233_48 : ft 233 48 = some (11, 2, 0, .lstore 4, 2) := Fm233 (dk_55 4 (dk_at s233_2 0 rfl rfl)) rfl
theorem f233_50 : ft 233 50 = some (11, 2, 0, .iconst 0, 1) := Fm233 (dk_3 (dk_at s233_2 2 rfl rfl)) rfl
theorem f233_51 : ft 233 51 = some (11, 2, 0, .istore 6, 2) := Fm233 (dk_54 6 (dk_at s233_2 3 rfl rfl)) rfl
theorem f233_53 : ft 233 53 = some (11, 2, 0, .iload 6, 2) := Fm233 (dk_21 6 (dk_at s233_2 5 rfl rfl)) rfl
theorem f233_55 : ft 233 55 = some (11, 2, 0, .iload_n 2, 1) := Fm233 (dk_28 (dk_at s233_2 7 rfl rfl)) rfl
theorem f233_56 : ft 233 56 = some (11, 2, 0, .if_icmp .ge 57, 3) := Fm233 (dk_162 0 57 (dk_at s233_2 8 rfl rfl)) rfl
theorem f233_59 : ft 233 59 = some (11, 2, 0, .aload_n 0, 1) := Fm233 (dk_42 (dk_at s233_2 11 rfl rfl)) rfl
theorem f233_60 : ft 233 60 = some (11, 2, 0, .getfield 118, 3) := Fm233 (dk_180 0 118 (dk_at s233_2 12 rfl rfl)) rfl
theorem f233_63 : ft 233 63 = some (11, 2, 0, .getfield 51, 3) := Fm233 (dk_180 0 51 (dk_at s233_2 15 rfl rfl)) rfl
theorem f233_66 : ft 233 66 = some (11, 2, 0, .iload_n 3, 1) := Fm233 (dk_29 (dk_at s233_2 18 rfl rfl)) rfl
theorem f233_67 : ft 233 67 = some (11, 2, 0, .iload 6, 2) := Fm233 (dk_21 6 (dk_at s233_2 19 rfl rfl)) rfl
theorem f233_69 : ft 233 69 = some (11, 2, 0, .iadd, 1) := Fm233 (dk_96 (dk_at s233_2 21 rfl rfl)) rfl
theorem f233_70 : ft 233 70 = some (11, 2, 0, .caload, 1) := Fm233 (dk_52 (dk_at s233_2 22 rfl rfl)) rfl
theorem f233_71 : ft 233 71 = some (11, 2, 0, .invokestatic 186, 3) := Fm233 (dk_184 0 186 (dk_at s233_3 0 rfl rfl)) rfl
theorem f233_74 : ft 233 74 = some (11, 2, 0, .ifCond .ne 7, 3) := Fm233 (dk_154 0 7 (dk_at s233_3 3 rfl rfl)) rfl
theorem f233_77 : ft 233 77 = some (11, 2, 0, .ldc2_w 337, 3) := Fm233 (dk_20 1 81 (dk_at s233_3 6 rfl rfl)) rfl
theorem f233_80 : ft 233 80 = some (11, 2, 0, .lreturn, 1) := Fm233 (dk_173 (dk_at s233_3 9 rfl rfl)) rfl
theorem f233_81 : ft 233 81 = some (11, 2, 0, .ldc2_w 237, 3) := Fm233 (dk_20 0 237 (dk_at s233_3 10 rfl rfl)) rfl
theorem f233_84 : ft 233 84 = some (11, 2, 0, .lload 4, 2) := Fm233 (dk_22 4 (dk_at s233_3 13 rfl rfl)) rfl
theorem f233_86 : ft 233 86 = some (11, 2, 0, .lmul, 1) := Fm233 (dk_105 (dk_at s233_3 15 rfl rfl)) rfl
theorem f233_87 : ft 233 87 = some (11, 2, 0, .aload_n 0, 1) := Fm233 (dk_42 (dk_at s233_3 16 rfl rfl)) rfl
theorem f233_88 : ft 233 88 = some (11, 2, 0, .getfield 118, 3) := Fm233 (dk_180 0 118 (dk_at s233_3 17 rfl rfl)) rfl
theorem f233_91 : ft 233 91 = some (11, 2, 0, .getfield 51, 3) := Fm233 (dk_180 0 51 (dk_at s233_3 20 rfl rfl)) rfl
theorem f233_94 : ft 233 94 = some (11, 2, 0, .iload_n 3, 1) := Fm233 (dk_29 (dk_at s233_3 23 rfl rfl)) rfl
theorem f233_95 : ft 233 95 = some (11, 2, 0, .iload 6, 2) := Fm233 (dk_21 6 (dk_at s233_4 0 rfl rfl)) rfl
theorem f233_97 : ft 233 97 = some (11, 2, 0, .iadd, 1) := Fm233 (dk_96 (dk_at s233_4 2 rfl rfl)) rfl
theorem f233_98 : ft 233 98 = some (11, 2, 0, .caload, 1) := Fm233 (dk_52 (dk_at s233_4 3 rfl rfl)) rfl
theorem f233_99 : ft 233 99 = some (11, 2, 0, .i2l, 1) := Fm233 (dk_133 (dk_at s233_4 4 rfl rfl)) rfl
theorem f233_100 : ft 233 100 = some (11, 2, 0, .ladd, 1) := Fm233 (dk_97 (dk_at s233_4 5 rfl rfl)) rfl
theorem f233_101 : ft 233 101 = some (11, 2, 0, .ldc2_w 239, 3) := Fm233 (dk_20 0 239 (dk_at s233_4 6 rfl rfl)) rfl
theorem f233_104 : ft 233 104 = some (11, 2, 0, .lsub, 1) := Fm233 (dk_101 (dk_at s233_4 9 rfl rfl)) rfl
theorem f233_105 : ft 233 105 = some (11, 2, 0, .lstore 4, 2) := Fm233 (dk_55 4 (dk_at s233_4 10 rfl rfl)) rfl
theorem f233_107 : ft 233 107 = some (11, 2, 0, .iinc 6 1, 3) := Fm233 (dk_132 6 1 (dk_at s233_4 12 rfl rfl)) rfl
theorem f233_110 : ft 233 110 = some (11, 2, 0, .goto (-57), 3) := Fm233 (dk_167 255 199 (dk_at s233_4 15 rfl rfl)) rfl
theorem f233_113 : ft 233 113 = some (11, 2, 0, .lload 4, 2) := Fm233 (dk_22 4 (dk_at s233_4 18 rfl rfl)) rfl
theorem f233_115 : ft 233 115 = some (11, 2, 0, .lreturn, 1) := Fm233 (dk_173 (dk_at s233_4 20 rfl rfl)) rfl
theorem q233 {d : Nat} {m : Mem} {a0 a1 : Int} (hz : TZ m) : le2 (gd (tg m a0 = 11) <| nm (vl m a0 23) fun v1 => gd (tg m v1 = 186101) <| gd ((0 : Int) ≤ a1 ∧ a1 < ln m v1) <| nm (vl m v1 a1) fun v2 => nm (vl m a0 22) fun v3 => gd (tg m v3 = 186101) <| gd ((0 : Int) ≤ a1 ∧ a1 < ln m v3) <| nm (vl m v3 a1) fun v4 => if v2 = 0 then (some (.inl (some (pL (-1))), m)) else if 9 < v2 then (some (.inl (some (pL (-1))), m)) else if 1 < v2 then (nm (vl m a0 25) fun v5 => gd (tg m v5 = 13) <| nm (vl m v5 11) fun v6 => gd (tg m v6 = 284104 ∨ tg m v6 = 288104) <| gd ((0 : Int) ≤ v4 ∧ v4 < ln m v6) <| if (vl m v6 v4) = 48 then (some (.inl (some (pL (-1))), m)) else rn d 233 53 [pR a0, pI a1, pI v2, pI v4, pL 0, pU, pI 0] [] m) else rn d 233 53 [pR a0, pI a1, pI v2, pI v4, pL 0, pU, pI 0] [] m) (cl d 233 [pR a0, pI a1] m) := by
  refine q_in (n := 7) (L := [pR a0, pI a1, pU, pU, pU, pU, pU]) rfl rfl rfl ?_
  refine r_aln0 (p := 1) f233_0 rfl ?_
  refine le2_gd (fun h1 => ?_)
  refine r_gfR (f := 23) (p := 4) f233_1 rfl rfl rfl (Or.inl h1) rfl ?_
  refine r_nmR (fun v1 ev1 => ?_)
  refine r_iln1 (p := 5) f233_4 rfl ?_
  refine le2_gd (fun h2 => ?_)
  refine le2_gd (fun h3 => ?_)
  refine r_iaload (p := 6) f233_5 rfl (dj1 (fun x => x % 1000 = 101) h2 (by decide)) h3 rfl ?_
  refine r_nmI (fun v2 ev2 => ?_)
  refine r_isn2 (p := 7) f233_6 rfl rfl ?_
  refine r_aln0 (p := 8) f233_7 rfl ?_
  refine r_gfR (f := 22) (p := 11) f233_8 rfl rfl rfl (Or.inl h1) rfl ?_
  refine r_nmR (fun v3 ev3 => ?_)
  refine r_iln1 (p := 12) f233_11 rfl ?_
  refine le2_gd (fun h4 => ?_)
  refine le2_gd (fun h5 => ?_)
  refine r_iaload (p := 13) f233_12 rfl (dj1 (fun x => x % 1000 = 101) h4 (by decide)) h5 rfl ?_
  refine r_nmI (fun v4 ev4 => ?_)
  refine r_isn3 (p := 14) f233_13 rfl rfl ?_
  refine r_iln2 (p := 15) f233_14 rfl ?_
  refine r_ifeq (t := 43) (p := 18) f233_15 (by decide) rfl rfl ?_ ?_
  · refine r_ldc2 (p := 46) f233_43 rfl rfl (pinD rfl rfl) ?_
    exact r_lret f233_46
  · refine r_iln2 (p := 19) f233_18 rfl ?_
    refine r_bipush (p := 21) f233_19 rfl (pinD rfl rfl) ?_
    refine r_icgt (t := 43) (p := 24) f233_21 (by decide) rfl rfl ?_ ?_
    · refine r_ldc2 (p := 46) f233_43 rfl rfl (pinD rfl rfl) ?_
      exact r_lret f233_46
    · refine r_iln2 (p := 25) f233_24 rfl ?_
      refine r_iconst (p := 26) f233_25 rfl (pinD rfl rfl) ?_
      refine r_icle (t := 47) (p := 29) f233_26 (by decide) rfl rfl ?_ ?_
      · refine r_aln0 (p := 30) f233_29 rfl ?_
        refine r_gfR (f := 25) (p := 33) f233_30 rfl rfl rfl (Or.inl h1) rfl ?_
        refine r_nmR (fun v5 ev5 => ?_)
        refine le2_gd (fun h6 => ?_)
        refine r_gfR (f := 11) (p := 36) f233_33 rfl rfl rfl (Or.inl h6) rfl ?_
        refine r_nmR (fun v6 ev6 => ?_)
        refine r_iln3 (p := 37) f233_36 rfl ?_
        refine le2_gd (fun h7 => ?_)
        refine le2_gd (fun h8 => ?_)
        refine r_caload (p := 38) f233_37 rfl (dj2 (fun x => x % 1000 = 104) h7 (by decide) (by decide)) h8 rfl ?_
        refine r_bipush (p := 40) f233_38 rfl (pinD rfl rfl) ?_
        refine r_icne (t := 47) (p := 43) f233_40 (by decide) rfl rfl ?_ ?_
        · refine r_ldc2 (p := 46) f233_43 rfl rfl (pinD rfl rfl) ?_
          exact r_lret f233_46
        · refine r_lconst0 (p := 48) f233_47 rfl ?_
          refine r_lsw4 (p := 50) f233_48 rfl rfl ?_
          refine r_iconst (p := 51) f233_50 rfl (pinD rfl rfl) ?_
          refine r_isw6 (p := 53) f233_51 rfl rfl ?_
          exact le2_refl _
      · refine r_lconst0 (p := 48) f233_47 rfl ?_
        refine r_lsw4 (p := 50) f233_48 rfl rfl ?_
        refine r_iconst (p := 51) f233_50 rfl (pinD rfl rfl) ?_
        refine r_isw6 (p := 53) f233_51 rfl rfl ?_
        exact le2_refl _
theorem q233_53 {d : Nat} {m : Mem} {a0 a1 a2 a3 a4 a6 : Int} (hd : 0 < d) (hz : TZ m) : le2 (if a6 < a2 then (gd (tg m a0 = 11) <| nm (vl m a0 25) fun v2 => gd (tg m v2 = 13) <| nm (vl m v2 11) fun v3 => nm (w32 (a3 + a6)) fun v4 => gd (tg m v3 = 284104 ∨ tg m v3 = 288104) <| gd ((0 : Int) ≤ v4 ∧ v4 < ln m v3) <| bI (cl (d - 1) 206 [pI (vl m v3 v4)] m) fun v1 m1 => if v1 = 0 then (some (.inl (some (pL (-1))), m1)) else nm (vl m1 a0 25) fun v5 => gd (tg m1 v5 = 13) <| nm (vl m1 v5 11) fun v6 => nm (w32 (a3 + a6)) fun v7 => gd (tg m1 v6 = 284104 ∨ tg m1 v6 = 288104) <| gd ((0 : Int) ≤ v7 ∧ v7 < ln m1 v6) <| rn d 233 53 [pR a0, pI a1, pI a2, pI a3, pL (w64 ((w64 ((w64 (10 * a4)) + (vl m1 v6 v7))) - 48)), pU, pI (w32 (a6 + 1))] [] m1) else some (.inl (some (pL a4)), m)) (rn d 233 53 [pR a0, pI a1, pI a2, pI a3, pL a4, pU, pI a6] [] m) := by
  refine r_ilw6 (p := 55) f233_53 rfl ?_
  refine r_iln2 (p := 56) f233_55 rfl ?_
  refine r_icge (t := 113) (p := 59) f233_56 (by decide) rfl rfl ?_ ?_
  · refine r_aln0 (p := 60) f233_59 rfl ?_
    refine le2_gd (fun h1 => ?_)
    refine r_gfR (f := 25) (p := 63) f233_60 rfl rfl rfl (Or.inl h1) rfl ?_
    refine r_nmR (fun v2 ev2 => ?_)
    refine le2_gd (fun h2 => ?_)
    refine r_gfR (f := 11) (p := 66) f233_63 rfl rfl rfl (Or.inl h2) rfl ?_
    refine r_nmR (fun v3 ev3 => ?_)
    refine r_iln3 (p := 67) f233_66 rfl ?_
    refine r_ilw6 (p := 69) f233_67 rfl ?_
    refine r_iadd (p := 70) f233_69 rfl ?_
    refine r_nmI (fun v4 ev4 => ?_)
    refine le2_gd (fun h3 => ?_)
    refine le2_gd (fun h4 => ?_)
    refine r_caload (p := 71) f233_70 rfl (dj2 (fun x => x % 1000 = 104) h3 (by decide) (by decide)) h4 rfl ?_
    refine r_istI (p := 74) f233_71 rfl rfl rfl hd (Nat.le_of_ble_eq_true rfl) rfl rfl rfl (fun _ => rfl) (fun v1 m1 c1 => ?_)
    have hz1 := z_k c1 hz
    refine r_ifne (t := 81) (p := 77) f233_74 (by decide) rfl rfl ?_ ?_
    · refine r_ldc2 (p := 80) f233_77 rfl rfl (pinD rfl rfl) ?_
      exact r_lret f233_80
    · refine r_ldc2 (p := 84) f233_81 rfl rfl (pinD rfl rfl) ?_
      refine r_llw4 (p := 86) f233_84 rfl ?_
      refine r_lmul (p := 87) f233_86 rfl ?_
      refine r_aln0 (p := 88) f233_87 rfl ?_
      have h5 := k_t1 c1 hz h1 (by decide)
      refine r_gfR (f := 25) (p := 91) f233_88 rfl rfl rfl (Or.inl h5) rfl ?_
      refine r_nmR (fun v5 ev5 => ?_)
      refine le2_gd (fun h6 => ?_)
      refine r_gfR (f := 11) (p := 94) f233_91 rfl rfl rfl (Or.inl h6) rfl ?_
      refine r_nmR (fun v6 ev6 => ?_)
      refine r_iln3 (p := 95) f233_94 rfl ?_
      refine r_ilw6 (p := 97) f233_95 rfl ?_
      refine r_iadd (p := 98) f233_97 rfl ?_
      refine r_nmI (fun v7 ev7 => ?_)
      refine le2_gd (fun h7 => ?_)
      refine le2_gd (fun h8 => ?_)
      refine r_caload (p := 99) f233_98 rfl (dj2 (fun x => x % 1000 = 104) h7 (by decide) (by decide)) h8 rfl ?_
      refine r_i2l (p := 100) f233_99 rfl ?_
      refine r_ladd (p := 101) f233_100 rfl ?_
      refine r_ldc2 (p := 104) f233_101 rfl rfl (pinD rfl rfl) ?_
      refine r_lsub (p := 105) f233_104 rfl ?_
      refine r_lsw4 (p := 107) f233_105 rfl rfl ?_
      refine r_iinc6 (p := 110) f233_107 rfl rfl ?_
      refine r_goto (p := 53) f233_110 (by decide) rfl ?_
      exact le2_refl _
  · refine r_llw4 (p := 115) f233_113 rfl ?_
    exact r_lret f233_115
/-! 234 PathStoreModel.kidAt (IJ)I -/
def w234_2 : List UInt8 := [167, 255, 223, 2, 172]
abbrev u234_2 : List UInt8 := w234_2 ++ []
def w234_1 : List UInt8 := [154, 0, 6, 21, 6, 172, 22, 4, 10, 101, 55, 4, 42, 180, 0, 102, 180, 0, 24, 21, 6, 46, 54, 6]
abbrev u234_1 : List UInt8 := w234_1 ++ u234_2
def w234_0 : List UInt8 := [32, 55, 4, 42, 180, 0, 102, 180, 0, 17, 27, 46, 54, 6, 21, 6, 155, 0, 34, 22, 4, 9, 148]
abbrev u234_0 : List UInt8 := w234_0 ++ u234_1
theorem s234_0 : (prog_32_method_48_code).data.toList.drop 0 = u234_0 := by decide +kernel
theorem s234_1 : (prog_32_method_48_code).data.toList.drop 23 = u234_1 := dk_seg s234_0 23 rfl rfl
theorem s234_2 : (prog_32_method_48_code).data.toList.drop 47 = u234_2 := dk_seg s234_1 24 rfl rfl
theorem Fm234 {pc len : Nat} {i : Instr} (h : decode (prog_32_method_48_code) pc = .ok (i, len)) (hl : len = ilen i len) : ft 234 pc = some (11, 1, 0, i, len) := ft_mk rfl h hl
theorem f234_0 : ft 234 0 = some (11, 1, 0, .lload_n 2, 1) := Fm234 (dk_32 (dk_at s234_0 0 rfl rfl)) rfl
theorem f234_1 : ft 234 1 = some (11, 1, 0, .lstore 4, 2) := Fm234 (dk_55 4 (dk_at s234_0 1 rfl rfl)) rfl
theorem f234_3 : ft 234 3 = some (11, 1, 0, .aload_n 0, 1) := Fm234 (dk_42 (dk_at s234_0 3 rfl rfl)) rfl
theorem f234_4 : ft 234 4 = some (11, 1, 0, .getfield 102, 3) := Fm234 (dk_180 0 102 (dk_at s234_0 4 rfl rfl)) rfl
theorem f234_7 : ft 234 7 = some (11, 1, 0, .getfield 17, 3) := Fm234 (dk_180 0 17 (dk_at s234_0 7 rfl rfl)) rfl
theorem f234_10 : ft 234 10 = some (11, 1, 0, .iload_n 1, 1) := Fm234 (dk_27 (dk_at s234_0 10 rfl rfl)) rfl
theorem f234_11 : ft 234 11 = some (11, 1, 0, .iaload, 1) := Fm234 (dk_46 (dk_at s234_0 11 rfl rfl)) rfl
theorem f234_12 : ft 234 12 = some (11, 1, 0, .istore 6, 2) := Fm234 (dk_54 6 (dk_at s234_0 12 rfl rfl)) rfl
theorem f234_14 : ft 234 14 = some (11, 1, 0, .iload 6, 2) := Fm234 (dk_21 6 (dk_at s234_0 14 rfl rfl)) rfl
theorem f234_16 : ft 234 16 = some (11, 1, 0, .ifCond .lt 34, 3) := Fm234 (dk_155 0 34 (dk_at s234_0 16 rfl rfl)) rfl
theorem f234_19 : ft 234 19 = some (11, 1, 0, .lload 4, 2) := Fm234 (dk_22 4 (dk_at s234_0 19 rfl rfl)) rfl
theorem f234_21 : ft 234 21 = some (11, 1, 0, .lconst 0, 1) := Fm234 (dk_9 (dk_at s234_0 21 rfl rfl)) rfl
theorem f234_22 : ft 234 22 = some (11, 1, 0, .lcmp, 1) := Fm234 (dk_148 (dk_at s234_0 22 rfl rfl)) rfl
theorem f234_23 : ft 234 23 = some (11, 1, 0, .ifCond .ne 6, 3) := Fm234 (dk_154 0 6 (dk_at s234_1 0 rfl rfl)) rfl
theorem f234_26 : ft 234 26 = some (11, 1, 0, .iload 6, 2) := Fm234 (dk_21 6 (dk_at s234_1 3 rfl rfl)) rfl
theorem f234_28 : ft 234 28 = some (11, 1, 0, .ireturn, 1) := Fm234 (dk_172 (dk_at s234_1 5 rfl rfl)) rfl
theorem f234_29 : ft 234 29 = some (11, 1, 0, .lload 4, 2) := Fm234 (dk_22 4 (dk_at s234_1 6 rfl rfl)) rfl
theorem f234_31 : ft 234 31 = some (11, 1, 0, .lconst 1, 1) := Fm234 (dk_10 (dk_at s234_1 8 rfl rfl)) rfl
theorem f234_32 : ft 234 32 = some (11, 1, 0, .lsub, 1) := Fm234 (dk_101 (dk_at s234_1 9 rfl rfl)) rfl
theorem f234_33 : ft 234 33 = some (11, 1, 0, .lstore 4, 2) := Fm234 (dk_55 4 (dk_at s234_1 10 rfl rfl)) rfl
theorem f234_35 : ft 234 35 = some (11, 1, 0, .aload_n 0, 1) := Fm234 (dk_42 (dk_at s234_1 12 rfl rfl)) rfl
theorem f234_36 : ft 234 36 = some (11, 1, 0, .getfield 102, 3) := Fm234 (dk_180 0 102 (dk_at s234_1 13 rfl rfl)) rfl
theorem f234_39 : ft 234 39 = some (11, 1, 0, .getfield 24, 3) := Fm234 (dk_180 0 24 (dk_at s234_1 16 rfl rfl)) rfl
theorem f234_42 : ft 234 42 = some (11, 1, 0, .iload 6, 2) := Fm234 (dk_21 6 (dk_at s234_1 19 rfl rfl)) rfl
theorem f234_44 : ft 234 44 = some (11, 1, 0, .iaload, 1) := Fm234 (dk_46 (dk_at s234_1 21 rfl rfl)) rfl
theorem f234_45 : ft 234 45 = some (11, 1, 0, .istore 6, 2) := Fm234 (dk_54 6 (dk_at s234_1 22 rfl rfl)) rfl
theorem f234_47 : ft 234 47 = some (11, 1, 0, .goto (-33), 3) := Fm234 (dk_167 255 223 (dk_at s234_2 0 rfl rfl)) rfl
theorem f234_50 : ft 234 50 = some (11, 1, 0, .iconst (-1), 1) := Fm234 (dk_2 (dk_at s234_2 3 rfl rfl)) rfl
theorem f234_51 : ft 234 51 = some (11, 1, 0, .ireturn, 1) := Fm234 (dk_172 (dk_at s234_2 4 rfl rfl)) rfl
theorem q234 {d : Nat} {m : Mem} {a0 a1 a2 : Int} (hz : TZ m) : le2 (gd (tg m a0 = 11) <| nm (vl m a0 18) fun v1 => gd (tg m v1 = 13) <| nm (vl m v1 4) fun v2 => gd (tg m v2 = 284101 ∨ tg m v2 = 287101) <| gd ((0 : Int) ≤ a1 ∧ a1 < ln m v2) <| rn d 234 14 [pR a0, pI a1, pL a2, pU, pL a2, pU, pI (vl m v2 a1)] [] m) (cl d 234 [pR a0, pI a1, pL a2] m) := by
  refine q_in (n := 7) (L := [pR a0, pI a1, pL a2, pU, pU, pU, pU]) rfl rfl rfl ?_
  refine r_lln2 (p := 1) f234_0 rfl ?_
  refine r_lsw4 (p := 3) f234_1 rfl rfl ?_
  refine r_aln0 (p := 4) f234_3 rfl ?_
  refine le2_gd (fun h1 => ?_)
  refine r_gfR (f := 18) (p := 7) f234_4 rfl rfl rfl (Or.inl h1) rfl ?_
  refine r_nmR (fun v1 ev1 => ?_)
  refine le2_gd (fun h2 => ?_)
  refine r_gfR (f := 4) (p := 10) f234_7 rfl rfl rfl (Or.inl h2) rfl ?_
  refine r_nmR (fun v2 ev2 => ?_)
  refine r_iln1 (p := 11) f234_10 rfl ?_
  refine le2_gd (fun h3 => ?_)
  refine le2_gd (fun h4 => ?_)
  refine r_iaload (p := 12) f234_11 rfl (dj2 (fun x => x % 1000 = 101) h3 (by decide) (by decide)) h4 rfl ?_
  refine r_isw6 (p := 14) f234_12 rfl rfl ?_
  exact le2_refl _
theorem q234_14 {d : Nat} {m : Mem} {a0 a1 a2 a4 a6 : Int} (hz : TZ m) : le2 (if a6 < 0 then (some (.inl (some (pI (-1))), m)) else if a4 = 0 then (some (.inl (some (pI a6)), m)) else gd (tg m a0 = 11) <| nm (vl m a0 18) fun v1 => gd (tg m v1 = 13) <| nm (vl m v1 5) fun v2 => gd (tg m v2 = 284101 ∨ tg m v2 = 287101) <| gd ((0 : Int) ≤ a6 ∧ a6 < ln m v2) <| rn d 234 14 [pR a0, pI a1, pL a2, pU, pL (w64 (a4 - 1)), pU, pI (vl m v2 a6)] [] m) (rn d 234 14 [pR a0, pI a1, pL a2, pU, pL a4, pU, pI a6] [] m) := by
  refine r_ilw6 (p := 16) f234_14 rfl ?_
  refine r_iflt (t := 50) (p := 19) f234_16 (by decide) rfl rfl ?_ ?_
  · refine r_iconst (p := 51) f234_50 rfl (pinD rfl rfl) ?_
    exact r_iret1 f234_51
  · refine r_llw4 (p := 21) f234_19 rfl ?_
    refine r_lconst0 (p := 22) f234_21 rfl ?_
    refine r_lcne (p1 := 23) (t := 29) (p := 26) f234_22 rfl f234_23 (by decide) rfl rfl ?_ ?_
    · refine r_ilw6 (p := 28) f234_26 rfl ?_
      exact r_iret1 f234_28
    · refine r_llw4 (p := 31) f234_29 rfl ?_
      refine r_lconst1 (p := 32) f234_31 rfl ?_
      refine r_lsub (p := 33) f234_32 rfl ?_
      refine r_lsw4 (p := 35) f234_33 rfl rfl ?_
      refine r_aln0 (p := 36) f234_35 rfl ?_
      refine le2_gd (fun h1 => ?_)
      refine r_gfR (f := 18) (p := 39) f234_36 rfl rfl rfl (Or.inl h1) rfl ?_
      refine r_nmR (fun v1 ev1 => ?_)
      refine le2_gd (fun h2 => ?_)
      refine r_gfR (f := 5) (p := 42) f234_39 rfl rfl rfl (Or.inl h2) rfl ?_
      refine r_nmR (fun v2 ev2 => ?_)
      refine r_ilw6 (p := 44) f234_42 rfl ?_
      refine le2_gd (fun h3 => ?_)
      refine le2_gd (fun h4 => ?_)
      refine r_iaload (p := 45) f234_44 rfl (dj2 (fun x => x % 1000 = 101) h3 (by decide) (by decide)) h4 rfl ?_
      refine r_isw6 (p := 47) f234_45 rfl rfl ?_
      refine r_goto (p := 14) f234_47 (by decide) rfl ?_
      exact le2_refl _
/-! 235 PathStoreModel.same (LPathStoreModel$Tree;ILPathStoreModel$Tree;I)Z -/
def w235_10 : List UInt8 := [167, 255, 201, 4, 172, 4, 172]
abbrev u235_10 : List UInt8 := w235_10 ++ []
def w235_9 : List UInt8 := [42, 21, 5, 44, 21, 6, 184, 0, 20, 154, 0, 5, 3, 172, 42, 180, 0, 24, 21, 5, 46, 54, 5]
abbrev u235_9 : List UInt8 := w235_9 ++ u235_10
def w235_8 : List UInt8 := [42, 180, 0, 31, 21, 5, 46, 42, 180, 0, 34, 21, 5, 46, 182, 0, 37, 54, 6, 21, 6, 155, 0, 15]
abbrev u235_8 : List UInt8 := w235_8 ++ u235_9
def w235_7 : List UInt8 := [182, 0, 27, 159, 0, 5, 3, 172, 42, 180, 0, 17, 27, 46, 54, 5, 21, 5, 155, 0, 56, 44, 29, 42]
abbrev u235_7 : List UInt8 := w235_7 ++ u235_8
def w235_6 : List UInt8 := [54, 5, 167, 255, 214, 21, 4, 156, 0, 7, 4, 167, 0, 4, 3, 172, 42, 27, 182, 0, 27, 44, 29]
abbrev u235_6 : List UInt8 := w235_6 ++ u235_7
def w235_5 : List UInt8 := [184, 0, 20, 154, 0, 5, 3, 172, 44, 180, 0, 24, 21, 4, 46, 54, 4, 42, 180, 0, 24, 21, 5, 46]
abbrev u235_5 : List UInt8 := w235_5 ++ u235_6
def w235_4 : List UInt8 := [180, 0, 17, 27, 46, 54, 5, 21, 5, 155, 0, 43, 21, 4, 155, 0, 15, 42, 21, 5, 44, 21, 4]
abbrev u235_4 : List UInt8 := w235_4 ++ u235_5
def w235_3 : List UInt8 := [44, 29, 184, 0, 11, 154, 0, 7, 4, 167, 0, 4, 3, 172, 44, 180, 0, 17, 29, 46, 54, 4, 42]
abbrev u235_3 : List UInt8 := w235_3 ++ u235_4
def w235_2 : List UInt8 := [42, 180, 0, 7, 27, 47, 44, 180, 0, 7, 29, 47, 148, 154, 0, 7, 4, 167, 0, 4, 3, 172, 42, 27]
abbrev u235_2 : List UInt8 := w235_2 ++ u235_3
def w235_1 : List UInt8 := [170, 0, 0, 0, 222, 0, 0, 0, 3, 0, 0, 0, 6, 0, 0, 0, 29, 0, 0, 0, 51, 0, 0, 0, 67, 0, 0, 0, 139]
abbrev u235_1 : List UInt8 := w235_1 ++ u235_2
def w235_0 : List UInt8 := [42, 180, 0, 1, 27, 46, 44, 180, 0, 1, 29, 46, 159, 0, 5, 3, 172, 42, 180, 0, 1, 27, 46]
abbrev u235_0 : List UInt8 := w235_0 ++ u235_1
theorem s235_0 : (prog_32_method_1_code).data.toList.drop 0 = u235_0 := by decide +kernel
theorem s235_1 : (prog_32_method_1_code).data.toList.drop 23 = u235_1 := dk_seg s235_0 23 rfl rfl
theorem s235_2 : (prog_32_method_1_code).data.toList.drop 52 = u235_2 := dk_seg s235_1 29 rfl rfl
theorem s235_3 : (prog_32_method_1_code).data.toList.drop 76 = u235_3 := dk_seg s235_2 24 rfl rfl
theorem s235_4 : (prog_32_method_1_code).data.toList.drop 99 = u235_4 := dk_seg s235_3 23 rfl rfl
theorem s235_5 : (prog_32_method_1_code).data.toList.drop 122 = u235_5 := dk_seg s235_4 23 rfl rfl
theorem s235_6 : (prog_32_method_1_code).data.toList.drop 146 = u235_6 := dk_seg s235_5 24 rfl rfl
theorem s235_7 : (prog_32_method_1_code).data.toList.drop 169 = u235_7 := dk_seg s235_6 23 rfl rfl
theorem s235_8 : (prog_32_method_1_code).data.toList.drop 193 = u235_8 := dk_seg s235_7 24 rfl rfl
theorem s235_9 : (prog_32_method_1_code).data.toList.drop 217 = u235_9 := dk_seg s235_8 24 rfl rfl
theorem s235_10 : (prog_32_method_1_code).data.toList.drop 240 = u235_10 := dk_seg s235_9 23 rfl rfl
theorem Fm235 {pc len : Nat} {i : Instr} (h : decode (prog_32_method_1_code) pc = .ok (i, len)) (hl : len = ilen i len) : ft 235 pc = some (11, 4, 0, i, len) := ft_mk rfl h hl
theorem f235_0 : ft 235 0 = some (11, 4, 0, .aload_n 0, 1) := Fm235 (dk_42 (dk_at s235_0 0 rfl rfl)) rfl
theorem f235_1 : ft 235 1 = some (11, 4, 0, .getfield 1, 3) := Fm235 (dk_180 0 1 (dk_at s235_0 1 rfl rfl)) rfl
theorem f235_4 : ft 235 4 = some (11, 4, 0, .iload_n 1, 1) := Fm235 (dk_27 (dk_at s235_0 4 rfl rfl)) rfl
theorem f235_5 : ft 235 5 = some (11, 4, 0, .iaload, 1) := Fm235 (dk_46 (dk_at s235_0 5 rfl rfl)) rfl
theorem f235_6 : ft 235 6 = some (11, 4, 0, .aload_n 2, 1) := Fm235 (dk_44 (dk_at s235_0 6 rfl rfl)) rfl
theorem f235_7 : ft 235 7 = some (11, 4, 0, .getfield 1, 3) := Fm235 (dk_180 0 1 (dk_at s235_0 7 rfl rfl)) rfl
theorem f235_10 : ft 235 10 = some (11, 4, 0, .iload_n 3, 1) := Fm235 (dk_29 (dk_at s235_0 10 rfl rfl)) rfl
theorem f235_11 : ft 235 11 = some (11, 4, 0, .iaload, 1) := Fm235 (dk_46 (dk_at s235_0 11 rfl rfl)) rfl
theorem f235_12 : ft 235 12 = some (11, 4, 0, .if_icmp .eq 5, 3) := Fm235 (dk_159 0 5 (dk_at s235_0 12 rfl rfl)) rfl
theorem f235_15 : ft 235 15 = some (11, 4, 0, .iconst 0, 1) := Fm235 (dk_3 (dk_at s235_0 15 rfl rfl)) rfl
theorem f235_16 : ft 235 16 = some (11, 4, 0, .ireturn, 1) := Fm235 (dk_172 (dk_at s235_0 16 rfl rfl)) rfl
theorem f235_17 : ft 235 17 = some (11, 4, 0, .aload_n 0, 1) := Fm235 (dk_42 (dk_at s235_0 17 rfl rfl)) rfl
theorem f235_18 : ft 235 18 = some (11, 4, 0, .getfield 1, 3) := Fm235 (dk_180 0 1 (dk_at s235_0 18 rfl rfl)) rfl
theorem f235_21 : ft 235 21 = some (11, 4, 0, .iload_n 1, 1) := Fm235 (dk_27 (dk_at s235_0 21 rfl rfl)) rfl
theorem f235_22 : ft 235 22 = some (11, 4, 0, .iaload, 1) := Fm235 (dk_46 (dk_at s235_0 22 rfl rfl)) rfl
theorem f235_23 : ft 235 23 = some (11, 4, 0, .tableswitch 222 3 6 #[29, 51, 67, 139], 29) := Fm235 (by decide +kernel) rfl
theorem f235_52 : ft 235 52 = some (11, 4, 0, .aload_n 0, 1) := Fm235 (dk_42 (dk_at s235_2 0 rfl rfl)) rfl
theorem f235_53 : ft 235 53 = some (11, 4, 0, .getfield 7, 3) := Fm235 (dk_180 0 7 (dk_at s235_2 1 rfl rfl)) rfl
theorem f235_56 : ft 235 56 = some (11, 4, 0, .iload_n 1, 1) := Fm235 (dk_27 (dk_at s235_2 4 rfl rfl)) rfl
theorem f235_57 : ft 235 57 = some (11, 4, 0, .laload, 1) := Fm235 (dk_47 (dk_at s235_2 5 rfl rfl)) rfl
theorem f235_58 : ft 235 58 = some (11, 4, 0, .aload_n 2, 1) := Fm235 (dk_44 (dk_at s235_2 6 rfl rfl)) rfl
theorem f235_59 : ft 235 59 = some (11, 4, 0, .getfield 7, 3) := Fm235 (dk_180 0 7 (dk_at s235_2 7 rfl rfl)) rfl
theorem f235_62 : ft 235 62 = some (11, 4, 0, .iload_n 3, 1) := Fm235 (dk_29 (dk_at s235_2 10 rfl rfl)) rfl
theorem f235_63 : ft 235 63 = some (11, 4, 0, .laload, 1) := Fm235 (dk_47 (dk_at s235_2 11 rfl rfl)) rfl
theorem f235_64 : ft 235 64 = some (11, 4, 0, .lcmp, 1) := Fm235 (dk_148 (dk_at s235_2 12 rfl rfl)) rfl
theorem f235_65 : ft 235 65 = some (11, 4, 0, .ifCond .ne 7, 3) := Fm235 (dk_154 0 7 (dk_at s235_2 13 rfl rfl)) rfl
theorem f235_68 : ft 235 68 = some (11, 4, 0, .iconst 1, 1) := Fm235 (dk_4 (dk_at s235_2 16 rfl rfl)) rfl
theorem f235_69 : ft 235 69 = some (11, 4, 0, .goto 4, 3) := Fm235 (dk_167 0 4 (dk_at s235_2 17 rfl rfl)) rfl
theorem f235_72 : ft 235 72 = some (11, 4, 0, .iconst 0, 1) := Fm235 (dk_3 (dk_at s235_2 20 rfl rfl)) rfl
theorem f235_73 : ft 235 73 = some (11, 4, 0, .ireturn, 1) := Fm235 (dk_172 (dk_at s235_2 21 rfl rfl)) rfl
theorem f235_74 : ft 235 74 = some (11, 4, 0, .aload_n 0, 1) := Fm235 (dk_42 (dk_at s235_2 22 rfl rfl)) rfl
theorem f235_75 : ft 235 75 = some (11, 4, 0, .iload_n 1, 1) := Fm235 (dk_27 (dk_at s235_2 23 rfl rfl)) rfl
theorem f235_76 : ft 235 76 = some (11, 4, 0, .aload_n 2, 1) := Fm235 (dk_44 (dk_at s235_3 0 rfl rfl)) rfl
theorem f235_77 : ft 235 77 = some (11, 4, 0, .iload_n 3, 1) := Fm235 (dk_29 (dk_at s235_3 1 rfl rfl)) rfl
theorem f235_78 : ft 235 78 = some (11, 4, 0, .invokestatic 11, 3) := Fm235 (dk_184 0 11 (dk_at s235_3 2 rfl rfl)) rfl
theorem f235_81 : ft 235 81 = some (11, 4, 0, .ifCond .ne 7, 3) := Fm235 (dk_154 0 7 (dk_at s235_3 5 rfl rfl)) rfl
theorem f235_84 : ft 235 84 = some (11, 4, 0, .iconst 1, 1) := Fm235 (dk_4 (dk_at s235_3 8 rfl rfl)) rfl
theorem f235_85 : ft 235 85 = some (11, 4, 0, .goto 4, 3) := Fm235 (dk_167 0 4 (dk_at s235_3 9 rfl rfl)) rfl
theorem f235_88 : ft 235 88 = some (11, 4, 0, .iconst 0, 1) := Fm235 (dk_3 (dk_at s235_3 12 rfl rfl)) rfl
theorem f235_89 : ft 235 89 = some (11, 4, 0, .ireturn, 1) := Fm235 (dk_172 (dk_at s235_3 13 rfl rfl)) rfl
theorem f235_90 : ft 235 90 = some (11, 4, 0, .aload_n 2, 1) := Fm235 (dk_44 (dk_at s235_3 14 rfl rfl)) rfl
theorem f235_91 : ft 235 91 = some (11, 4, 0, .getfield 17, 3) := Fm235 (dk_180 0 17 (dk_at s235_3 15 rfl rfl)) rfl
theorem f235_94 : ft 235 94 = some (11, 4, 0, .iload_n 3, 1) := Fm235 (dk_29 (dk_at s235_3 18 rfl rfl)) rfl
theorem f235_95 : ft 235 95 = some (11, 4, 0, .iaload, 1) := Fm235 (dk_46 (dk_at s235_3 19 rfl rfl)) rfl
theorem f235_96 : ft 235 96 = some (11, 4, 0, .istore 4, 2) := Fm235 (dk_54 4 (dk_at s235_3 20 rfl rfl)) rfl
theorem f235_98 : ft 235 98 = some (11, 4, 0, .aload_n 0, 1) := Fm235 (dk_42 (dk_at s235_3 22 rfl rfl)) rfl
theorem f235_99 : ft 235 99 = some (11, 4, 0, .getfield 17, 3) := Fm235 (dk_180 0 17 (dk_at s235_4 0 rfl rfl)) rfl
theorem f235_102 : ft 235 102 = some (11, 4, 0, .iload_n 1, 1) := Fm235 (dk_27 (dk_at s235_4 3 rfl rfl)) rfl
theorem f235_103 : ft 235 103 = some (11, 4, 0, .iaload, 1) := Fm235 (dk_46 (dk_at s235_4 4 rfl rfl)) rfl
theorem f235_104 : ft 235 104 = some (11, 4, 0, .istore 5, 2) := Fm235 (dk_54 5 (dk_at s235_4 5 rfl rfl)) rfl
theorem f235_106 : ft 235 106 = some (11, 4, 0, .iload 5, 2) := Fm235 (dk_21 5 (dk_at s235_4 7 rfl rfl)) rfl
theorem f235_108 : ft 235 108 = some (11, 4, 0, .ifCond .lt 43, 3) := Fm235 (dk_155 0 43 (dk_at s235_4 9 rfl rfl)) rfl
theorem f235_111 : ft 235 111 = some (11, 4, 0, .iload 4, 2) := Fm235 (dk_21 4 (dk_at s235_4 12 rfl rfl)) rfl
theorem f235_113 : ft 235 113 = some (11, 4, 0, .ifCond .lt 15, 3) := Fm235 (dk_155 0 15 (dk_at s235_4 14 rfl rfl)) rfl
theorem f235_116 : ft 235 116 = some (11, 4, 0, .aload_n 0, 1) := Fm235 (dk_42 (dk_at s235_4 17 rfl rfl)) rfl
theorem f235_117 : ft 235 117 = some (11, 4, 0, .iload 5, 2) := Fm235 (dk_21 5 (dk_at s235_4 18 rfl rfl)) rfl
theorem f235_119 : ft 235 119 = some (11, 4, 0, .aload_n 2, 1) := Fm235 (dk_44 (dk_at s235_4 20 rfl rfl)) rfl
theorem f235_120 : ft 235 120 = some (11, 4, 0, .iload 4, 2) := Fm235 (dk_21 4 (dk_at s235_4 21 rfl rfl)) rfl
theorem f235_122 : ft 235 122 = some (11, 4, 0, .invokestatic 20, 3) := Fm235 (dk_184 0 20 (dk_at s235_5 0 rfl rfl)) rfl
theorem f235_125 : ft 235 125 = some (11, 4, 0, .ifCond .ne 5, 3) := Fm235 (dk_154 0 5 (dk_at s235_5 3 rfl rfl)) rfl
theorem f235_128 : ft 235 128 = some (11, 4, 0, .iconst 0, 1) := Fm235 (dk_3 (dk_at s235_5 6 rfl rfl)) rfl
theorem f235_129 : ft 235 129 = some (11, 4, 0, .ireturn, 1) := Fm235 (dk_172 (dk_at s235_5 7 rfl rfl)) rfl
theorem f235_130 : ft 235 130 = some (11, 4, 0, .aload_n 2, 1) := Fm235 (dk_44 (dk_at s235_5 8 rfl rfl)) rfl
theorem f235_131 : ft 235 131 = some (11, 4, 0, .getfield 24, 3) := Fm235 (dk_180 0 24 (dk_at s235_5 9 rfl rfl)) rfl
theorem f235_134 : ft 235 134 = some (11, 4, 0, .iload 4, 2) := Fm235 (dk_21 4 (dk_at s235_5 12 rfl rfl)) rfl
theorem f235_136 : ft 235 136 = some (11, 4, 0, .iaload, 1) := Fm235 (dk_46 (dk_at s235_5 14 rfl rfl)) rfl
theorem f235_137 : ft 235 137 = some (11, 4, 0, .istore 4, 2) := Fm235 (dk_54 4 (dk_at s235_5 15 rfl rfl)) rfl
theorem f235_139 : ft 235 139 = some (11, 4, 0, .aload_n 0, 1) := Fm235 (dk_42 (dk_at s235_5 17 rfl rfl)) rfl
theorem f235_140 : ft 235 140 = some (11, 4, 0, .getfield 24, 3) := Fm235 (dk_180 0 24 (dk_at s235_5 18 rfl rfl)) rfl
theorem f235_143 : ft 235 143 = some (11, 4, 0, .iload 5, 2) := Fm235 (dk_21 5 (dk_at s235_5 21 rfl rfl)) rfl
theorem f235_145 : ft 235 145 = some (11, 4, 0, .iaload, 1) := Fm235 (dk_46 (dk_at s235_5 23 rfl rfl)) rfl
theorem f235_146 : ft 235 146 = some (11, 4, 0, .istore 5, 2) := Fm235 (dk_54 5 (dk_at s235_6 0 rfl rfl)) rfl
theorem f235_148 : ft 235 148 = some (11, 4, 0, .goto (-42), 3) := Fm235 (dk_167 255 214 (dk_at s235_6 2 rfl rfl)) rfl
theorem f235_151 : ft 235 151 = some (11, 4, 0, .iload 4, 2) := Fm235 (dk_21 4 (dk_at s235_6 5 rfl rfl)) rfl
theorem f235_153 : ft 235 153 = some (11, 4, 0, .ifCond .ge 7, 3) := Fm235 (dk_156 0 7 (dk_at s235_6 7 rfl rfl)) rfl
theorem f235_156 : ft 235 156 = some (11, 4, 0, .iconst 1, 1) := Fm235 (dk_4 (dk_at s235_6 10 rfl rfl)) rfl
theorem f235_157 : ft 235 157 = some (11, 4, 0, .goto 4, 3) := Fm235 (dk_167 0 4 (dk_at s235_6 11 rfl rfl)) rfl
theorem f235_160 : ft 235 160 = some (11, 4, 0, .iconst 0, 1) := Fm235 (dk_3 (dk_at s235_6 14 rfl rfl)) rfl
theorem f235_161 : ft 235 161 = some (11, 4, 0, .ireturn, 1) := Fm235 (dk_172 (dk_at s235_6 15 rfl rfl)) rfl
theorem f235_162 : ft 235 162 = some (11, 4, 0, .aload_n 0, 1) := Fm235 (dk_42 (dk_at s235_6 16 rfl rfl)) rfl
theorem f235_163 : ft 235 163 = some (11, 4, 0, .iload_n 1, 1) := Fm235 (dk_27 (dk_at s235_6 17 rfl rfl)) rfl
theorem f235_164 : ft 235 164 = some (11, 4, 0, .invokevirtual 27, 3) := Fm235 (dk_182 0 27 (dk_at s235_6 18 rfl rfl)) rfl
theorem f235_167 : ft 235 167 = some (11, 4, 0, .aload_n 2, 1) := Fm235 (dk_44 (dk_at s235_6 21 rfl rfl)) rfl
theorem f235_168 : ft 235 168 = some (11, 4, 0, .iload_n 3, 1) := Fm235 (dk_29 (dk_at s235_6 22 rfl rfl)) rfl
theorem f235_169 : ft 235 169 = some (11, 4, 0, .invokevirtual 27, 3) := Fm235 (dk_182 0 27 (dk_at s235_7 0 rfl rfl)) rfl
theorem f235_172 : ft 235 172 = some (11, 4, 0, .if_icmp .eq 5, 3) := Fm235 (dk_159 0 5 (dk_at s235_7 3 rfl rfl)) rfl
theorem f235_175 : ft 235 175 = some (11, 4, 0, .iconst 0, 1) := Fm235 (dk_3 (dk_at s235_7 6 rfl rfl)) rfl
theorem f235_176 : ft 235 176 = some (11, 4, 0, .ireturn, 1) := Fm235 (dk_172 (dk_at s235_7 7 rfl rfl)) rfl
theorem f235_177 : ft 235 177 = some (11, 4, 0, .aload_n 0, 1) := Fm235 (dk_42 (dk_at s235_7 8 rfl rfl)) rfl
theorem f235_178 : ft 235 178 = some (11, 4, 0, .getfield 17, 3) := Fm235 (dk_180 0 17 (dk_at s235_7 9 rfl rfl)) rfl
theorem f235_181 : ft 235 181 = some (11, 4, 0, .iload_n 1, 1) := Fm235 (dk_27 (dk_at s235_7 12 rfl rfl)) rfl
theorem f235_182 : ft 235 182 = some (11, 4, 0, .iaload, 1) := Fm235 (dk_46 (dk_at s235_7 13 rfl rfl)) rfl
theorem f235_183 : ft 235 183 = some (11, 4, 0, .istore 5, 2) := Fm235 (dk_54 5 (dk_at s235_7 14 rfl rfl)) rfl
theorem f235_185 : ft 235 185 = some (11, 4, 0, .iload 5, 2) := Fm235 (dk_21 5 (dk_at s235_7 16 rfl rfl)) rfl
theorem f235_187 : ft 235 187 = some (11, 4, 0, .ifCond .lt 56, 3) := Fm235 (dk_155 0 56 (dk_at s235_7 18 rfl rfl)) rfl
theorem f235_190 : ft 235 190 = some (11, 4, 0, .aload_n 2, 1) := Fm235 (dk_44 (dk_at s235_7 21 rfl rfl)) rfl
theorem f235_191 : ft 235 191 = some (11, 4, 0, .iload_n 3, 1) := Fm235 (dk_29 (dk_at s235_7 22 rfl rfl)) rfl
theorem f235_192 : ft 235 192 = some (11, 4, 0, .aload_n 0, 1) := Fm235 (dk_42 (dk_at s235_7 23 rfl rfl)) rfl
theorem f235_193 : ft 235 193 = some (11, 4, 0, .aload_n 0, 1) := Fm235 (dk_42 (dk_at s235_8 0 rfl rfl)) rfl
theorem f235_194 : ft 235 194 = some (11, 4, 0, .getfield 31, 3) := Fm235 (dk_180 0 31 (dk_at s235_8 1 rfl rfl)) rfl
theorem f235_197 : ft 235 197 = some (11, 4, 0, .iload 5, 2) := Fm235 (dk_21 5 (dk_at s235_8 4 rfl rfl)) rfl
theorem f235_199 : ft 235 199 = some (11, 4, 0, .iaload, 1) := Fm235 (dk_46 (dk_at s235_8 6 rfl rfl)) rfl
theorem f235_200 : ft 235 200 = some (11, 4, 0, .aload_n 0, 1) := Fm235 (dk_42 (dk_at s235_8 7 rfl rfl)) rfl
theorem f235_201 : ft 235 201 = some (11, 4, 0, .getfield 34, 3) := Fm235 (dk_180 0 34 (dk_at s235_8 8 rfl rfl)) rfl
theorem f235_204 : ft 235 204 = some (11, 4, 0, .iload 5, 2) := Fm235 (dk_21 5 (dk_at s235_8 11 rfl rfl)) rfl
theorem f235_206 : ft 235 206 = some (11, 4, 0, .iaload, 1) := Fm235 (dk_46 (dk_at s235_8 13 rfl rfl)) rfl
theorem f235_207 : ft 235 207 = some (11, 4, 0, .invokevirtual 37, 3) := Fm235 (dk_182 0 37 (dk_at s235_8 14 rfl rfl)) rfl
theorem f235_210 : ft 235 210 = some (11, 4, 0, .istore 6, 2) := Fm235 (dk_54 6 (dk_at s235_8 17 rfl rfl)) rfl
theorem f235_212 : ft 235 212 = some (11, 4, 0, .iload 6, 2) := Fm235 (dk_21 6 (dk_at s235_8 19 rfl rfl)) rfl
theorem f235_214 : ft 235 214 = some (11, 4, 0, .ifCond .lt 15, 3) := Fm235 (dk_155 0 15 (dk_at s235_8 21 rfl rfl)) rfl
theorem f235_217 : ft 235 217 = some (11, 4, 0, .aload_n 0, 1) := Fm235 (dk_42 (dk_at s235_9 0 rfl rfl)) rfl
theorem f235_218 : ft 235 218 = some (11, 4, 0, .iload 5, 2) := Fm235 (dk_21 5 (dk_at s235_9 1 rfl rfl)) rfl
theorem f235_220 : ft 235 220 = some (11, 4, 0, .aload_n 2, 1) := Fm235 (dk_44 (dk_at s235_9 3 rfl rfl)) rfl
theorem f235_221 : ft 235 221 = some (11, 4, 0, .iload 6, 2) := Fm235 (dk_21 6 (dk_at s235_9 4 rfl rfl)) rfl
theorem f235_223 : ft 235 223 = some (11, 4, 0, .invokestatic 20, 3) := Fm235 (dk_184 0 20 (dk_at s235_9 6 rfl rfl)) rfl
theorem f235_226 : ft 235 226 = some (11, 4, 0, .ifCond .ne 5, 3) := Fm235 (dk_154 0 5 (dk_at s235_9 9 rfl rfl)) rfl
theorem f235_229 : ft 235 229 = some (11, 4, 0, .iconst 0, 1) := Fm235 (dk_3 (dk_at s235_9 12 rfl rfl)) rfl
theorem f235_230 : ft 235 230 = some (11, 4, 0, .ireturn, 1) := Fm235 (dk_172 (dk_at s235_9 13 rfl rfl)) rfl
theorem f235_231 : ft 235 231 = some (11, 4, 0, .aload_n 0, 1) := Fm235 (dk_42 (dk_at s235_9 14 rfl rfl)) rfl
theorem f235_232 : ft 235 232 = some (11, 4, 0, .getfield 24, 3) := Fm235 (dk_180 0 24 (dk_at s235_9 15 rfl rfl)) rfl
theorem f235_235 : ft 235 235 = some (11, 4, 0, .iload 5, 2) := Fm235 (dk_21 5 (dk_at s235_9 18 rfl rfl)) rfl
theorem f235_237 : ft 235 237 = some (11, 4, 0, .iaload, 1) := Fm235 (dk_46 (dk_at s235_9 20 rfl rfl)) rfl
theorem f235_238 : ft 235 238 = some (11, 4, 0, .istore 5, 2) := Fm235 (dk_54 5 (dk_at s235_9 21 rfl rfl)) rfl
theorem f235_240 : ft 235 240 = some (11, 4, 0, .goto (-55), 3) := Fm235 (dk_167 255 201 (dk_at s235_10 0 rfl rfl)) rfl
theorem f235_243 : ft 235 243 = some (11, 4, 0, .iconst 1, 1) := Fm235 (dk_4 (dk_at s235_10 3 rfl rfl)) rfl
theorem f235_244 : ft 235 244 = some (11, 4, 0, .ireturn, 1) := Fm235 (dk_172 (dk_at s235_10 4 rfl rfl)) rfl
theorem f235_245 : ft 235 245 = some (11, 4, 0, .iconst 1, 1) := Fm235 (dk_4 (dk_at s235_10 5 rfl rfl)) rfl
theorem f235_246 : ft 235 246 = some (11, 4, 0, .ireturn, 1) := Fm235 (dk_172 (dk_at s235_10 6 rfl rfl)) rfl
theorem q235 {d : Nat} {m : Mem} {a0 a1 a2 a3 : Int} (hd : 0 < d) (hz : TZ m) : le2 (gd (tg m a0 = 13) <| nm (vl m a0 0) fun v4 => gd (tg m v4 = 284101 ∨ tg m v4 = 287101) <| gd ((0 : Int) ≤ a1 ∧ a1 < ln m v4) <| nm (vl m v4 a1) fun v5 => gd (tg m a2 = 13) <| nm (vl m a2 0) fun v6 => gd (tg m v6 = 284101 ∨ tg m v6 = 287101) <| gd ((0 : Int) ≤ a3 ∧ a3 < ln m v6) <| if v5 = (vl m v6 a3) then (if v5 = 3 then (nm (vl m a0 1) fun v7 => gd (tg m v7 = 284102 ∨ tg m v7 = 286102) <| gd ((0 : Int) ≤ a1 ∧ a1 < ln m v7) <| nm (vl m a2 1) fun v8 => gd (tg m v8 = 284102 ∨ tg m v8 = 286102) <| gd ((0 : Int) ≤ a3 ∧ a3 < ln m v8) <| if (vl m v7 a1) = (vl m v8 a3) then (some (.inl (some (pI 1)), m)) else some (.inl (some (pI 0)), m)) else if v5 = 4 then (bI (cl (d - 1) 236 [pR a0, pI a1, pR a2, pI a3] m) fun v3 m3 => if v3 = 0 then (some (.inl (some (pI 1)), m3)) else some (.inl (some (pI 0)), m3)) else if v5 = 5 then (nm (vl m a2 4) fun v9 => gd (tg m v9 = 284101 ∨ tg m v9 = 287101) <| gd ((0 : Int) ≤ a3 ∧ a3 < ln m v9) <| nm (vl m a0 4) fun v10 => gd (tg m v10 = 284101 ∨ tg m v10 = 287101) <| gd ((0 : Int) ≤ a1 ∧ a1 < ln m v10) <| rn d 235 106 [pR a0, pI a1, pR a2, pI a3, pI (vl m v9 a3), pI (vl m v10 a1), pU] [] m) else if v5 = 6 then (bI (cl (d - 1) 291 [pR a0, pI a1] m) fun v1 m1 => bI (cl (d - 1) 291 [pR a2, pI a3] m1) fun v2 m2 => if v1 = v2 then (nm (vl m2 a0 4) fun v11 => gd (tg m2 v11 = 284101 ∨ tg m2 v11 = 287101) <| gd ((0 : Int) ≤ a1 ∧ a1 < ln m2 v11) <| rn d 235 185 [pR a0, pI a1, pR a2, pI a3, pU, pI (vl m2 v11 a1), pU] [] m2) else some (.inl (some (pI 0)), m2)) else some (.inl (some (pI 1)), m)) else some (.inl (some (pI 0)), m)) (cl d 235 [pR a0, pI a1, pR a2, pI a3] m) := by
  refine q_in (n := 7) (L := [pR a0, pI a1, pR a2, pI a3, pU, pU, pU]) rfl rfl rfl ?_
  refine r_aln0 (p := 1) f235_0 rfl ?_
  refine le2_gd (fun h1 => ?_)
  refine r_gfR (f := 0) (p := 4) f235_1 rfl rfl rfl (Or.inl h1) rfl ?_
  refine r_nmR (fun v4 ev4 => ?_)
  refine r_iln1 (p := 5) f235_4 rfl ?_
  refine le2_gd (fun h2 => ?_)
  refine le2_gd (fun h3 => ?_)
  refine r_iaload (p := 6) f235_5 rfl (dj2 (fun x => x % 1000 = 101) h2 (by decide) (by decide)) h3 rfl ?_
  refine r_nmI (fun v5 ev5 => ?_)
  refine r_aln2 (p := 7) f235_6 rfl ?_
  refine le2_gd (fun h4 => ?_)
  refine r_gfR (f := 0) (p := 10) f235_7 rfl rfl rfl (Or.inl h4) rfl ?_
  refine r_nmR (fun v6 ev6 => ?_)
  refine r_iln3 (p := 11) f235_10 rfl ?_
  refine le2_gd (fun h5 => ?_)
  refine le2_gd (fun h6 => ?_)
  refine r_iaload (p := 12) f235_11 rfl (dj2 (fun x => x % 1000 = 101) h5 (by decide) (by decide)) h6 rfl ?_
  refine r_iceq (t := 17) (p := 15) f235_12 (by decide) rfl rfl ?_ ?_
  · refine r_aln0 (p := 18) f235_17 rfl ?_
    refine r_gfR (f := 0) (p := 21) f235_18 rfl rfl rfl (Or.inl h1) ev4.symm ?_
    refine r_iln1 (p := 22) f235_21 rfl ?_
    refine r_iaload (p := 23) f235_22 rfl (dj2 (fun x => x % 1000 = 101) h2 (by decide) (by decide)) h3 ev5.symm ?_
    refine le2_ite (fun h19 => ?_) (fun h19 => ?_)
    · refine r_tsI (off := 29) (t := 52) f235_23 h19 rfl rfl (by decide) rfl ?_
      refine r_aln0 (p := 53) f235_52 rfl ?_
      refine r_gfR (f := 1) (p := 56) f235_53 rfl rfl rfl (Or.inl h1) rfl ?_
      refine r_nmR (fun v7 ev7 => ?_)
      refine r_iln1 (p := 57) f235_56 rfl ?_
      refine le2_gd (fun h20 => ?_)
      refine le2_gd (fun h21 => ?_)
      refine r_laload (p := 58) f235_57 rfl (dj2 (fun x => x % 1000 = 102) h20 (by decide) (by decide)) h21 rfl ?_
      refine r_aln2 (p := 59) f235_58 rfl ?_
      refine r_gfR (f := 1) (p := 62) f235_59 rfl rfl rfl (Or.inl h4) rfl ?_
      refine r_nmR (fun v8 ev8 => ?_)
      refine r_iln3 (p := 63) f235_62 rfl ?_
      refine le2_gd (fun h22 => ?_)
      refine le2_gd (fun h23 => ?_)
      refine r_laload (p := 64) f235_63 rfl (dj2 (fun x => x % 1000 = 102) h22 (by decide) (by decide)) h23 rfl ?_
      refine r_lcne (p1 := 65) (t := 72) (p := 68) f235_64 rfl f235_65 (by decide) rfl rfl ?_ ?_
      · refine r_iconst (p := 69) f235_68 rfl (pinD rfl rfl) ?_
        refine r_goto (p := 73) f235_69 (by decide) rfl ?_
        exact r_iret4 f235_73 (by decide)
      · refine r_iconst (p := 73) f235_72 rfl (pinD rfl rfl) ?_
        exact r_iret4 f235_73 (by decide)
    · refine le2_ite (fun h18 => ?_) (fun h18 => ?_)
      · refine r_tsI (off := 51) (t := 74) f235_23 h18 rfl rfl (by decide) rfl ?_
        refine r_aln0 (p := 75) f235_74 rfl ?_
        refine r_iln1 (p := 76) f235_75 rfl ?_
        refine r_aln2 (p := 77) f235_76 rfl ?_
        refine r_iln3 (p := 78) f235_77 rfl ?_
        refine r_istI (p := 81) f235_78 rfl rfl rfl hd (Nat.le_of_ble_eq_true rfl) rfl rfl rfl (fun _ => rfl) (fun v3 m3 c3 => ?_)
        have hz3 := z_k c3 hz
        refine r_ifne (t := 88) (p := 84) f235_81 (by decide) rfl rfl ?_ ?_
        · refine r_iconst (p := 85) f235_84 rfl (pinD rfl rfl) ?_
          refine r_goto (p := 89) f235_85 (by decide) rfl ?_
          exact r_iret4 f235_89 (by decide)
        · refine r_iconst (p := 89) f235_88 rfl (pinD rfl rfl) ?_
          exact r_iret4 f235_89 (by decide)
      · refine le2_ite (fun h13 => ?_) (fun h13 => ?_)
        · refine r_tsI (off := 67) (t := 90) f235_23 h13 rfl rfl (by decide) rfl ?_
          refine r_aln2 (p := 91) f235_90 rfl ?_
          refine r_gfR (f := 4) (p := 94) f235_91 rfl rfl rfl (Or.inl h4) rfl ?_
          refine r_nmR (fun v9 ev9 => ?_)
          refine r_iln3 (p := 95) f235_94 rfl ?_
          refine le2_gd (fun h14 => ?_)
          refine le2_gd (fun h15 => ?_)
          refine r_iaload (p := 96) f235_95 rfl (dj2 (fun x => x % 1000 = 101) h14 (by decide) (by decide)) h15 rfl ?_
          refine r_isw4 (p := 98) f235_96 rfl rfl ?_
          refine r_aln0 (p := 99) f235_98 rfl ?_
          refine r_gfR (f := 4) (p := 102) f235_99 rfl rfl rfl (Or.inl h1) rfl ?_
          refine r_nmR (fun v10 ev10 => ?_)
          refine r_iln1 (p := 103) f235_102 rfl ?_
          refine le2_gd (fun h16 => ?_)
          refine le2_gd (fun h17 => ?_)
          refine r_iaload (p := 104) f235_103 rfl (dj2 (fun x => x % 1000 = 101) h16 (by decide) (by decide)) h17 rfl ?_
          refine r_isw5 (p := 106) f235_104 rfl rfl ?_
          exact le2_refl _
        · refine le2_ite (fun h7 => ?_) (fun h7 => ?_)
          · refine r_tsI (off := 139) (t := 162) f235_23 h7 rfl rfl (by decide) rfl ?_
            refine r_aln0 (p := 163) f235_162 rfl ?_
            refine r_iln1 (p := 164) f235_163 rfl ?_
            refine r_invI (p := 167) f235_164 rfl rfl rfl (Or.inl h1) hd (Nat.le_of_ble_eq_true rfl) rfl rfl rfl (fun _ => rfl) (fun v1 m1 c1 => ?_)
            have hz1 := z_k c1 hz
            refine r_aln2 (p := 168) f235_167 rfl ?_
            refine r_iln3 (p := 169) f235_168 rfl ?_
            have h8 := k_t1 c1 hz h4 (by decide)
            refine r_invI (p := 172) f235_169 rfl rfl rfl (Or.inl h8) hd (Nat.le_of_ble_eq_true rfl) rfl rfl rfl (fun _ => rfl) (fun v2 m2 c2 => ?_)
            have hz2 := z_k c2 hz1
            refine r_iceq (t := 177) (p := 175) f235_172 (by decide) rfl rfl ?_ ?_
            · refine r_aln0 (p := 178) f235_177 rfl ?_
              have h9 := k_t1 c1 hz h1 (by decide)
              have h10 := k_t1 c2 hz1 h9 (by decide)
              refine r_gfR (f := 4) (p := 181) f235_178 rfl rfl rfl (Or.inl h10) rfl ?_
              refine r_nmR (fun v11 ev11 => ?_)
              refine r_iln1 (p := 182) f235_181 rfl ?_
              refine le2_gd (fun h11 => ?_)
              refine le2_gd (fun h12 => ?_)
              refine r_iaload (p := 183) f235_182 rfl (dj2 (fun x => x % 1000 = 101) h11 (by decide) (by decide)) h12 rfl ?_
              refine r_isw5 (p := 185) f235_183 rfl rfl ?_
              exact le2_refl _
            · refine r_iconst (p := 176) f235_175 rfl (pinD rfl rfl) ?_
              exact r_iret4 f235_176 (by decide)
          · refine r_tsO (t := 245) f235_23 (by omega) (by decide) rfl ?_
            refine r_iconst (p := 246) f235_245 rfl (pinD rfl rfl) ?_
            exact r_iret4 f235_246 (by decide)
  · refine r_iconst (p := 16) f235_15 rfl (pinD rfl rfl) ?_
    exact r_iret4 f235_16 (by decide)
theorem q235_106 {d : Nat} {m : Mem} {a0 a1 a2 a3 a4 a5 : Int} (hd : 0 < d) (hz : TZ m) : le2 (if a5 < 0 then (if a4 < 0 then (some (.inl (some (pI 1)), m)) else some (.inl (some (pI 0)), m)) else if a4 < 0 then (some (.inl (some (pI 0)), m)) else bI (cl (d - 1) 235 [pR a0, pI a5, pR a2, pI a4] m) fun v1 m1 => if v1 = 0 then (some (.inl (some (pI 0)), m1)) else gd (tg m1 a2 = 13) <| nm (vl m1 a2 5) fun v2 => gd (tg m1 v2 = 284101 ∨ tg m1 v2 = 287101) <| gd ((0 : Int) ≤ a4 ∧ a4 < ln m1 v2) <| gd (tg m1 a0 = 13) <| nm (vl m1 a0 5) fun v3 => gd (tg m1 v3 = 284101 ∨ tg m1 v3 = 287101) <| gd ((0 : Int) ≤ a5 ∧ a5 < ln m1 v3) <| rn d 235 106 [pR a0, pI a1, pR a2, pI a3, pI (vl m1 v2 a4), pI (vl m1 v3 a5), pU] [] m1) (rn d 235 106 [pR a0, pI a1, pR a2, pI a3, pI a4, pI a5, pU] [] m) := by
  refine r_ilw5 (p := 108) f235_106 rfl ?_
  refine r_iflt (t := 151) (p := 111) f235_108 (by decide) rfl rfl ?_ ?_
  · refine r_ilw4 (p := 153) f235_151 rfl ?_
    refine r_ifge (t := 160) (p := 156) f235_153 (by decide) rfl rfl ?_ ?_
    · refine r_iconst (p := 157) f235_156 rfl (pinD rfl rfl) ?_
      refine r_goto (p := 161) f235_157 (by decide) rfl ?_
      exact r_iret4 f235_161 (by decide)
    · refine r_iconst (p := 161) f235_160 rfl (pinD rfl rfl) ?_
      exact r_iret4 f235_161 (by decide)
  · refine r_ilw4 (p := 113) f235_111 rfl ?_
    refine r_iflt (t := 128) (p := 116) f235_113 (by decide) rfl rfl ?_ ?_
    · refine r_iconst (p := 129) f235_128 rfl (pinD rfl rfl) ?_
      exact r_iret4 f235_129 (by decide)
    · refine r_aln0 (p := 117) f235_116 rfl ?_
      refine r_ilw5 (p := 119) f235_117 rfl ?_
      refine r_aln2 (p := 120) f235_119 rfl ?_
      refine r_ilw4 (p := 122) f235_120 rfl ?_
      refine r_istI (p := 125) f235_122 rfl rfl rfl hd (Nat.le_of_ble_eq_true rfl) rfl rfl rfl (fun _ => rfl) (fun v1 m1 c1 => ?_)
      have hz1 := z_k c1 hz
      refine r_ifne (t := 130) (p := 128) f235_125 (by decide) rfl rfl ?_ ?_
      · refine r_iconst (p := 129) f235_128 rfl (pinD rfl rfl) ?_
        exact r_iret4 f235_129 (by decide)
      · refine r_aln2 (p := 131) f235_130 rfl ?_
        refine le2_gd (fun h1 => ?_)
        refine r_gfR (f := 5) (p := 134) f235_131 rfl rfl rfl (Or.inl h1) rfl ?_
        refine r_nmR (fun v2 ev2 => ?_)
        refine r_ilw4 (p := 136) f235_134 rfl ?_
        refine le2_gd (fun h2 => ?_)
        refine le2_gd (fun h3 => ?_)
        refine r_iaload (p := 137) f235_136 rfl (dj2 (fun x => x % 1000 = 101) h2 (by decide) (by decide)) h3 rfl ?_
        refine r_isw4 (p := 139) f235_137 rfl rfl ?_
        refine r_aln0 (p := 140) f235_139 rfl ?_
        refine le2_gd (fun h4 => ?_)
        refine r_gfR (f := 5) (p := 143) f235_140 rfl rfl rfl (Or.inl h4) rfl ?_
        refine r_nmR (fun v3 ev3 => ?_)
        refine r_ilw5 (p := 145) f235_143 rfl ?_
        refine le2_gd (fun h5 => ?_)
        refine le2_gd (fun h6 => ?_)
        refine r_iaload (p := 146) f235_145 rfl (dj2 (fun x => x % 1000 = 101) h5 (by decide) (by decide)) h6 rfl ?_
        refine r_isw5 (p := 148) f235_146 rfl rfl ?_
        refine r_goto (p := 106) f235_148 (by decide) rfl ?_
        exact le2_refl _
theorem q235_185 {d : Nat} {m : Mem} {a0 a1 a2 a3 a5 : Int} {z6 : PV} (hd : 0 < d) (hz : TZ m) (hcz6 : cat z6 = 1) : le2 (if a5 < 0 then (some (.inl (some (pI 1)), m)) else gd (tg m a0 = 13) <| nm (vl m a0 6) fun v3 => gd (tg m v3 = 284101 ∨ tg m v3 = 287101) <| gd ((0 : Int) ≤ a5 ∧ a5 < ln m v3) <| nm (vl m a0 7) fun v4 => gd (tg m v4 = 284101 ∨ tg m v4 = 287101) <| gd ((0 : Int) ≤ a5 ∧ a5 < ln m v4) <| gd (tg m a2 = 13) <| bI (cl (d - 1) 288 [pR a2, pI a3, pR a0, pI (vl m v3 a5), pI (vl m v4 a5)] m) fun v1 m1 => if v1 < 0 then (some (.inl (some (pI 0)), m1)) else bI (cl (d - 1) 235 [pR a0, pI a5, pR a2, pI v1] m1) fun v2 m2 => if v2 = 0 then (some (.inl (some (pI 0)), m2)) else nm (vl m2 a0 5) fun v5 => gd (tg m2 v5 = 284101 ∨ tg m2 v5 = 287101) <| gd ((0 : Int) ≤ a5 ∧ a5 < ln m2 v5) <| rn d 235 185 [pR a0, pI a1, pR a2, pI a3, pU, pI (vl m2 v5 a5), pI v1] [] m2) (rn d 235 185 [pR a0, pI a1, pR a2, pI a3, pU, pI a5, z6] [] m) := by
  refine r_ilw5 (p := 187) f235_185 rfl ?_
  refine r_iflt (t := 243) (p := 190) f235_187 (by decide) rfl rfl ?_ ?_
  · refine r_iconst (p := 244) f235_243 rfl (pinD rfl rfl) ?_
    exact r_iret4 f235_244 (by decide)
  · refine r_aln2 (p := 191) f235_190 rfl ?_
    refine r_iln3 (p := 192) f235_191 rfl ?_
    refine r_aln0 (p := 193) f235_192 rfl ?_
    refine r_aln0 (p := 194) f235_193 rfl ?_
    refine le2_gd (fun h1 => ?_)
    refine r_gfR (f := 6) (p := 197) f235_194 rfl rfl rfl (Or.inl h1) rfl ?_
    refine r_nmR (fun v3 ev3 => ?_)
    refine r_ilw5 (p := 199) f235_197 rfl ?_
    refine le2_gd (fun h2 => ?_)
    refine le2_gd (fun h3 => ?_)
    refine r_iaload (p := 200) f235_199 rfl (dj2 (fun x => x % 1000 = 101) h2 (by decide) (by decide)) h3 rfl ?_
    refine r_aln0 (p := 201) f235_200 rfl ?_
    refine r_gfR (f := 7) (p := 204) f235_201 rfl rfl rfl (Or.inl h1) rfl ?_
    refine r_nmR (fun v4 ev4 => ?_)
    refine r_ilw5 (p := 206) f235_204 rfl ?_
    refine le2_gd (fun h4 => ?_)
    refine le2_gd (fun h5 => ?_)
    refine r_iaload (p := 207) f235_206 rfl (dj2 (fun x => x % 1000 = 101) h4 (by decide) (by decide)) h5 rfl ?_
    refine le2_gd (fun h6 => ?_)
    refine r_invI (p := 210) f235_207 rfl rfl rfl (Or.inl h6) hd (Nat.le_of_ble_eq_true rfl) rfl rfl rfl (fun _ => rfl) (fun v1 m1 c1 => ?_)
    have hz1 := z_k c1 hz
    refine r_isw6 (p := 212) f235_210 rfl rfl ?_
    refine r_ilw6 (p := 214) f235_212 rfl ?_
    refine r_iflt (t := 229) (p := 217) f235_214 (by decide) rfl rfl ?_ ?_
    · refine r_iconst (p := 230) f235_229 rfl (pinD rfl rfl) ?_
      exact r_iret4 f235_230 (by decide)
    · refine r_aln0 (p := 218) f235_217 rfl ?_
      refine r_ilw5 (p := 220) f235_218 rfl ?_
      refine r_aln2 (p := 221) f235_220 rfl ?_
      refine r_ilw6 (p := 223) f235_221 rfl ?_
      refine r_istI (p := 226) f235_223 rfl rfl rfl hd (Nat.le_of_ble_eq_true rfl) rfl rfl rfl (fun _ => rfl) (fun v2 m2 c2 => ?_)
      have hz2 := z_k c2 hz1
      refine r_ifne (t := 231) (p := 229) f235_226 (by decide) rfl rfl ?_ ?_
      · refine r_iconst (p := 230) f235_229 rfl (pinD rfl rfl) ?_
        exact r_iret4 f235_230 (by decide)
      · refine r_aln0 (p := 232) f235_231 rfl ?_
        have h7 := k_t1 c1 hz h1 (by decide)
        have h8 := k_t1 c2 hz1 h7 (by decide)
        refine r_gfR (f := 5) (p := 235) f235_232 rfl rfl rfl (Or.inl h8) rfl ?_
        refine r_nmR (fun v5 ev5 => ?_)
        refine r_ilw5 (p := 237) f235_235 rfl ?_
        refine le2_gd (fun h9 => ?_)
        refine le2_gd (fun h10 => ?_)
        refine r_iaload (p := 238) f235_237 rfl (dj2 (fun x => x % 1000 = 101) h9 (by decide) (by decide)) h10 rfl ?_
        refine r_isw5 (p := 240) f235_238 rfl rfl ?_
        refine r_goto (p := 185) f235_240 (by decide) rfl ?_
        exact le2_refl _
/-! 236 PathStoreModel.order (LPathStoreModel$Tree;ILPathStoreModel$Tree;I)I -/
def w236_6 : List UInt8 := [162, 0, 7, 4, 167, 0, 15, 21, 5, 21, 7, 162, 0, 7, 2, 167, 0, 4, 3, 172]
abbrev u236_6 : List UInt8 := w236_6 ++ []
def w236_5 : List UInt8 := [21, 9, 18, 59, 164, 0, 7, 5, 167, 0, 4, 4, 96, 54, 5, 167, 255, 162, 21, 4, 21, 6]
abbrev u236_5 : List UInt8 := w236_5 ++ u236_6
def w236_4 : List UInt8 := [167, 0, 4, 4, 172, 21, 4, 21, 8, 18, 59, 164, 0, 7, 5, 167, 0, 4, 4, 96, 54, 4, 21, 5]
abbrev u236_4 : List UInt8 := w236_4 ++ u236_5
def w236_3 : List UInt8 := [21, 7, 184, 0, 55, 54, 9, 21, 8, 21, 9, 159, 0, 16, 21, 8, 21, 9, 162, 0, 7, 2]
abbrev u236_3 : List UInt8 := w236_3 ++ u236_4
def w236_2 : List UInt8 := [21, 7, 162, 0, 86, 42, 180, 0, 51, 21, 4, 21, 6, 184, 0, 55, 54, 8, 44, 180, 0, 51, 21, 5]
abbrev u236_2 : List UInt8 := w236_2 ++ u236_3
def w236_1 : List UInt8 := [96, 54, 6, 21, 5, 44, 180, 0, 48, 29, 46, 96, 54, 7, 21, 4, 21, 6, 162, 0, 93, 21, 5]
abbrev u236_1 : List UInt8 := w236_1 ++ u236_2
def w236_0 : List UInt8 := [42, 180, 0, 45, 27, 46, 54, 4, 44, 180, 0, 45, 29, 46, 54, 5, 21, 4, 42, 180, 0, 48, 27, 46]
abbrev u236_0 : List UInt8 := w236_0 ++ u236_1
theorem s236_0 : (prog_32_method_3_code).data.toList.drop 0 = u236_0 := by decide +kernel
theorem s236_1 : (prog_32_method_3_code).data.toList.drop 24 = u236_1 := dk_seg s236_0 24 rfl rfl
theorem s236_2 : (prog_32_method_3_code).data.toList.drop 47 = u236_2 := dk_seg s236_1 23 rfl rfl
theorem s236_3 : (prog_32_method_3_code).data.toList.drop 71 = u236_3 := dk_seg s236_2 24 rfl rfl
theorem s236_4 : (prog_32_method_3_code).data.toList.drop 93 = u236_4 := dk_seg s236_3 22 rfl rfl
theorem s236_5 : (prog_32_method_3_code).data.toList.drop 117 = u236_5 := dk_seg s236_4 24 rfl rfl
theorem s236_6 : (prog_32_method_3_code).data.toList.drop 139 = u236_6 := dk_seg s236_5 22 rfl rfl
theorem Fm236 {pc len : Nat} {i : Instr} (h : decode (prog_32_method_3_code) pc = .ok (i, len)) (hl : len = ilen i len) : ft 236 pc = some (11, 1, 0, i, len) := ft_mk rfl h hl
theorem f236_0 : ft 236 0 = some (11, 1, 0, .aload_n 0, 1) := Fm236 (dk_42 (dk_at s236_0 0 rfl rfl)) rfl
theorem f236_1 : ft 236 1 = some (11, 1, 0, .getfield 45, 3) := Fm236 (dk_180 0 45 (dk_at s236_0 1 rfl rfl)) rfl
theorem f236_4 : ft 236 4 = some (11, 1, 0, .iload_n 1, 1) := Fm236 (dk_27 (dk_at s236_0 4 rfl rfl)) rfl
theorem f236_5 : ft 236 5 = some (11, 1, 0, .iaload, 1) := Fm236 (dk_46 (dk_at s236_0 5 rfl rfl)) rfl
theorem f236_6 : ft 236 6 = some (11, 1, 0, .istore 4, 2) := Fm236 (dk_54 4 (dk_at s236_0 6 rfl rfl)) rfl
theorem f236_8 : ft 236 8 = some (11, 1, 0, .aload_n 2, 1) := Fm236 (dk_44 (dk_at s236_0 8 rfl rfl)) rfl
theorem f236_9 : ft 236 9 = some (11, 1, 0, .getfield 45, 3) := Fm236 (dk_180 0 45 (dk_at s236_0 9 rfl rfl)) rfl
theorem f236_12 : ft 236 12 = some (11, 1, 0, .iload_n 3, 1) := Fm236 (dk_29 (dk_at s236_0 12 rfl rfl)) rfl
theorem f236_13 : ft 236 13 = some (11, 1, 0, .iaload, 1) := Fm236 (dk_46 (dk_at s236_0 13 rfl rfl)) rfl
theorem f236_14 : ft 236 14 = some (11, 1, 0, .istore 5, 2) := Fm236 (dk_54 5 (dk_at s236_0 14 rfl rfl)) rfl
theorem f236_16 : ft 236 16 = some (11, 1, 0, .iload 4, 2) := Fm236 (dk_21 4 (dk_at s236_0 16 rfl rfl)) rfl
theorem f236_18 : ft 236 18 = some (11, 1, 0, .aload_n 0, 1) := Fm236 (dk_42 (dk_at s236_0 18 rfl rfl)) rfl
theorem f236_19 : ft 236 19 = some (11, 1, 0, .getfield 48, 3) := Fm236 (dk_180 0 48 (dk_at s236_0 19 rfl rfl)) rfl
theorem f236_22 : ft 236 22 = some (11, 1, 0, .iload_n 1, 1) := Fm236 (dk_27 (dk_at s236_0 22 rfl rfl)) rfl
theorem f236_23 : ft 236 23 = some (11, 1, 0, .iaload, 1) := Fm236 (dk_46 (dk_at s236_0 23 rfl rfl)) rfl
theorem f236_24 : ft 236 24 = some (11, 1, 0, .iadd, 1) := Fm236 (dk_96 (dk_at s236_1 0 rfl rfl)) rfl
theorem f236_25 : ft 236 25 = some (11, 1, 0, .istore 6, 2) := Fm236 (dk_54 6 (dk_at s236_1 1 rfl rfl)) rfl
theorem f236_27 : ft 236 27 = some (11, 1, 0, .iload 5, 2) := Fm236 (dk_21 5 (dk_at s236_1 3 rfl rfl)) rfl
theorem f236_29 : ft 236 29 = some (11, 1, 0, .aload_n 2, 1) := Fm236 (dk_44 (dk_at s236_1 5 rfl rfl)) rfl
theorem f236_30 : ft 236 30 = some (11, 1, 0, .getfield 48, 3) := Fm236 (dk_180 0 48 (dk_at s236_1 6 rfl rfl)) rfl
theorem f236_33 : ft 236 33 = some (11, 1, 0, .iload_n 3, 1) := Fm236 (dk_29 (dk_at s236_1 9 rfl rfl)) rfl
theorem f236_34 : ft 236 34 = some (11, 1, 0, .iaload, 1) := Fm236 (dk_46 (dk_at s236_1 10 rfl rfl)) rfl
theorem f236_35 : ft 236 35 = some (11, 1, 0, .iadd, 1) := Fm236 (dk_96 (dk_at s236_1 11 rfl rfl)) rfl
theorem f236_36 : ft 236 36 = some (11, 1, 0, .istore 7, 2) := Fm236 (dk_54 7 (dk_at s236_1 12 rfl rfl)) rfl
theorem f236_38 : ft 236 38 = some (11, 1, 0, .iload 4, 2) := Fm236 (dk_21 4 (dk_at s236_1 14 rfl rfl)) rfl
theorem f236_40 : ft 236 40 = some (11, 1, 0, .iload 6, 2) := Fm236 (dk_21 6 (dk_at s236_1 16 rfl rfl)) rfl
theorem f236_42 : ft 236 42 = some (11, 1, 0, .if_icmp .ge 93, 3) := Fm236 (dk_162 0 93 (dk_at s236_1 18 rfl rfl)) rfl
theorem f236_45 : ft 236 45 = some (11, 1, 0, .iload 5, 2) := Fm236 (dk_21 5 (dk_at s236_1 21 rfl rfl)) rfl
theorem f236_47 : ft 236 47 = some (11, 1, 0, .iload 7, 2) := Fm236 (dk_21 7 (dk_at s236_2 0 rfl rfl)) rfl
theorem f236_49 : ft 236 49 = some (11, 1, 0, .if_icmp .ge 86, 3) := Fm236 (dk_162 0 86 (dk_at s236_2 2 rfl rfl)) rfl
theorem f236_52 : ft 236 52 = some (11, 1, 0, .aload_n 0, 1) := Fm236 (dk_42 (dk_at s236_2 5 rfl rfl)) rfl
theorem f236_53 : ft 236 53 = some (11, 1, 0, .getfield 51, 3) := Fm236 (dk_180 0 51 (dk_at s236_2 6 rfl rfl)) rfl
theorem f236_56 : ft 236 56 = some (11, 1, 0, .iload 4, 2) := Fm236 (dk_21 4 (dk_at s236_2 9 rfl rfl)) rfl
theorem f236_58 : ft 236 58 = some (11, 1, 0, .iload 6, 2) := Fm236 (dk_21 6 (dk_at s236_2 11 rfl rfl)) rfl
theorem f236_60 : ft 236 60 = some (11, 1, 0, .invokestatic 55, 3) := Fm236 (dk_184 0 55 (dk_at s236_2 13 rfl rfl)) rfl
theorem f236_63 : ft 236 63 = some (11, 1, 0, .istore 8, 2) := Fm236 (dk_54 8 (dk_at s236_2 16 rfl rfl)) rfl
theorem f236_65 : ft 236 65 = some (11, 1, 0, .aload_n 2, 1) := Fm236 (dk_44 (dk_at s236_2 18 rfl rfl)) rfl
theorem f236_66 : ft 236 66 = some (11, 1, 0, .getfield 51, 3) := Fm236 (dk_180 0 51 (dk_at s236_2 19 rfl rfl)) rfl
theorem f236_69 : ft 236 69 = some (11, 1, 0, .iload 5, 2) := Fm236 (dk_21 5 (dk_at s236_2 22 rfl rfl)) rfl
theorem f236_71 : ft 236 71 = some (11, 1, 0, .iload 7, 2) := Fm236 (dk_21 7 (dk_at s236_3 0 rfl rfl)) rfl
theorem f236_73 : ft 236 73 = some (11, 1, 0, .invokestatic 55, 3) := Fm236 (dk_184 0 55 (dk_at s236_3 2 rfl rfl)) rfl
theorem f236_76 : ft 236 76 = some (11, 1, 0, .istore 9, 2) := Fm236 (dk_54 9 (dk_at s236_3 5 rfl rfl)) rfl
theorem f236_78 : ft 236 78 = some (11, 1, 0, .iload 8, 2) := Fm236 (dk_21 8 (dk_at s236_3 7 rfl rfl)) rfl
theorem f236_80 : ft 236 80 = some (11, 1, 0, .iload 9, 2) := Fm236 (dk_21 9 (dk_at s236_3 9 rfl rfl)) rfl
theorem f236_82 : ft 236 82 = some (11, 1, 0, .if_icmp .eq 16, 3) := Fm236 (dk_159 0 16 (dk_at s236_3 11 rfl rfl)) rfl
theorem f236_85 : ft 236 85 = some (11, 1, 0, .iload 8, 2) := Fm236 (dk_21 8 (dk_at s236_3 14 rfl rfl)) rfl
theorem f236_87 : ft 236 87 = some (11, 1, 0, .iload 9, 2) := Fm236 (dk_21 9 (dk_at s236_3 16 rfl rfl)) rfl
theorem f236_89 : ft 236 89 = some (11, 1, 0, .if_icmp .ge 7, 3) := Fm236 (dk_162 0 7 (dk_at s236_3 18 rfl rfl)) rfl
theorem f236_92 : ft 236 92 = some (11, 1, 0, .iconst (-1), 1) := Fm236 (dk_2 (dk_at s236_3 21 rfl rfl)) rfl
theorem f236_93 : ft 236 93 = some (11, 1, 0, .goto 4, 3) := Fm236 (dk_167 0 4 (dk_at s236_4 0 rfl rfl)) rfl
theorem f236_96 : ft 236 96 = some (11, 1, 0, .iconst 1, 1) := Fm236 (dk_4 (dk_at s236_4 3 rfl rfl)) rfl
theorem f236_97 : ft 236 97 = some (11, 1, 0, .ireturn, 1) := Fm236 (dk_172 (dk_at s236_4 4 rfl rfl)) rfl
theorem f236_98 : ft 236 98 = some (11, 1, 0, .iload 4, 2) := Fm236 (dk_21 4 (dk_at s236_4 5 rfl rfl)) rfl
theorem f236_100 : ft 236 100 = some (11, 1, 0, .iload 8, 2) := Fm236 (dk_21 8 (dk_at s236_4 7 rfl rfl)) rfl
theorem f236_102 : ft 236 102 = some (11, 1, 0, .ldc 59, 2) := Fm236 (dk_18 59 (dk_at s236_4 9 rfl rfl)) rfl
theorem f236_104 : ft 236 104 = some (11, 1, 0, .if_icmp .le 7, 3) := Fm236 (dk_164 0 7 (dk_at s236_4 11 rfl rfl)) rfl
theorem f236_107 : ft 236 107 = some (11, 1, 0, .iconst 2, 1) := Fm236 (dk_5 (dk_at s236_4 14 rfl rfl)) rfl
theorem f236_108 : ft 236 108 = some (11, 1, 0, .goto 4, 3) := Fm236 (dk_167 0 4 (dk_at s236_4 15 rfl rfl)) rfl
theorem f236_111 : ft 236 111 = some (11, 1, 0, .iconst 1, 1) := Fm236 (dk_4 (dk_at s236_4 18 rfl rfl)) rfl
theorem f236_112 : ft 236 112 = some (11, 1, 0, .iadd, 1) := Fm236 (dk_96 (dk_at s236_4 19 rfl rfl)) rfl
theorem f236_113 : ft 236 113 = some (11, 1, 0, .istore 4, 2) := Fm236 (dk_54 4 (dk_at s236_4 20 rfl rfl)) rfl
theorem f236_115 : ft 236 115 = some (11, 1, 0, .iload 5, 2) := Fm236 (dk_21 5 (dk_at s236_4 22 rfl rfl)) rfl
theorem f236_117 : ft 236 117 = some (11, 1, 0, .iload 9, 2) := Fm236 (dk_21 9 (dk_at s236_5 0 rfl rfl)) rfl
theorem f236_119 : ft 236 119 = some (11, 1, 0, .ldc 59, 2) := Fm236 (dk_18 59 (dk_at s236_5 2 rfl rfl)) rfl
theorem f236_121 : ft 236 121 = some (11, 1, 0, .if_icmp .le 7, 3) := Fm236 (dk_164 0 7 (dk_at s236_5 4 rfl rfl)) rfl
theorem f236_124 : ft 236 124 = some (11, 1, 0, .iconst 2, 1) := Fm236 (dk_5 (dk_at s236_5 7 rfl rfl)) rfl
theorem f236_125 : ft 236 125 = some (11, 1, 0, .goto 4, 3) := Fm236 (dk_167 0 4 (dk_at s236_5 8 rfl rfl)) rfl
theorem f236_128 : ft 236 128 = some (11, 1, 0, .iconst 1, 1) := Fm236 (dk_4 (dk_at s236_5 11 rfl rfl)) rfl
theorem f236_129 : ft 236 129 = some (11, 1, 0, .iadd, 1) := Fm236 (dk_96 (dk_at s236_5 12 rfl rfl)) rfl
theorem f236_130 : ft 236 130 = some (11, 1, 0, .istore 5, 2) := Fm236 (dk_54 5 (dk_at s236_5 13 rfl rfl)) rfl
theorem f236_132 : ft 236 132 = some (11, 1, 0, .goto (-94), 3) := Fm236 (dk_167 255 162 (dk_at s236_5 15 rfl rfl)) rfl
theorem f236_135 : ft 236 135 = some (11, 1, 0, .iload 4, 2) := Fm236 (dk_21 4 (dk_at s236_5 18 rfl rfl)) rfl
theorem f236_137 : ft 236 137 = some (11, 1, 0, .iload 6, 2) := Fm236 (dk_21 6 (dk_at s236_5 20 rfl rfl)) rfl
theorem f236_139 : ft 236 139 = some (11, 1, 0, .if_icmp .ge 7, 3) := Fm236 (dk_162 0 7 (dk_at s236_6 0 rfl rfl)) rfl
theorem f236_142 : ft 236 142 = some (11, 1, 0, .iconst 1, 1) := Fm236 (dk_4 (dk_at s236_6 3 rfl rfl)) rfl
theorem f236_143 : ft 236 143 = some (11, 1, 0, .goto 15, 3) := Fm236 (dk_167 0 15 (dk_at s236_6 4 rfl rfl)) rfl
theorem f236_146 : ft 236 146 = some (11, 1, 0, .iload 5, 2) := Fm236 (dk_21 5 (dk_at s236_6 7 rfl rfl)) rfl
theorem f236_148 : ft 236 148 = some (11, 1, 0, .iload 7, 2) := Fm236 (dk_21 7 (dk_at s236_6 9 rfl rfl)) rfl
theorem f236_150 : ft 236 150 = some (11, 1, 0, .if_icmp .ge 7, 3) := Fm236 (dk_162 0 7 (dk_at s236_6 11 rfl rfl)) rfl
theorem f236_153 : ft 236 153 = some (11, 1, 0, .iconst (-1), 1) := Fm236 (dk_2 (dk_at s236_6 14 rfl rfl)) rfl
theorem f236_154 : ft 236 154 = some (11, 1, 0, .goto 4, 3) := Fm236 (dk_167 0 4 (dk_at s236_6 15 rfl rfl)) rfl
theorem f236_157 : ft 236 157 = some (11, 1, 0, .iconst 0, 1) := Fm236 (dk_3 (dk_at s236_6 18 rfl rfl)) rfl
theorem f236_158 : ft 236 158 = some (11, 1, 0, .ireturn, 1) := Fm236 (dk_172 (dk_at s236_6 19 rfl rfl)) rfl
theorem q236 {d : Nat} {m : Mem} {a0 a1 a2 a3 : Int} (hz : TZ m) : le2 (gd (tg m a0 = 13) <| nm (vl m a0 2) fun v1 => gd (tg m v1 = 284101 ∨ tg m v1 = 287101) <| gd ((0 : Int) ≤ a1 ∧ a1 < ln m v1) <| nm (vl m v1 a1) fun v2 => gd (tg m a2 = 13) <| nm (vl m a2 2) fun v3 => gd (tg m v3 = 284101 ∨ tg m v3 = 287101) <| gd ((0 : Int) ≤ a3 ∧ a3 < ln m v3) <| nm (vl m v3 a3) fun v4 => nm (vl m a0 3) fun v5 => gd (tg m v5 = 284101 ∨ tg m v5 = 287101) <| gd ((0 : Int) ≤ a1 ∧ a1 < ln m v5) <| nm (vl m a2 3) fun v6 => gd (tg m v6 = 284101 ∨ tg m v6 = 287101) <| gd ((0 : Int) ≤ a3 ∧ a3 < ln m v6) <| rn d 236 38 [pR a0, pI a1, pR a2, pI a3, pI v2, pI v4, pI (w32 (v2 + (vl m v5 a1))), pI (w32 (v4 + (vl m v6 a3))), pU, pU] [] m) (cl d 236 [pR a0, pI a1, pR a2, pI a3] m) := by
  refine q_in (n := 10) (L := [pR a0, pI a1, pR a2, pI a3, pU, pU, pU, pU, pU, pU]) rfl rfl rfl ?_
  refine r_aln0 (p := 1) f236_0 rfl ?_
  refine le2_gd (fun h1 => ?_)
  refine r_gfR (f := 2) (p := 4) f236_1 rfl rfl rfl (Or.inl h1) rfl ?_
  refine r_nmR (fun v1 ev1 => ?_)
  refine r_iln1 (p := 5) f236_4 rfl ?_
  refine le2_gd (fun h2 => ?_)
  refine le2_gd (fun h3 => ?_)
  refine r_iaload (p := 6) f236_5 rfl (dj2 (fun x => x % 1000 = 101) h2 (by decide) (by decide)) h3 rfl ?_
  refine r_nmI (fun v2 ev2 => ?_)
  refine r_isw4 (p := 8) f236_6 rfl rfl ?_
  refine r_aln2 (p := 9) f236_8 rfl ?_
  refine le2_gd (fun h4 => ?_)
  refine r_gfR (f := 2) (p := 12) f236_9 rfl rfl rfl (Or.inl h4) rfl ?_
  refine r_nmR (fun v3 ev3 => ?_)
  refine r_iln3 (p := 13) f236_12 rfl ?_
  refine le2_gd (fun h5 => ?_)
  refine le2_gd (fun h6 => ?_)
  refine r_iaload (p := 14) f236_13 rfl (dj2 (fun x => x % 1000 = 101) h5 (by decide) (by decide)) h6 rfl ?_
  refine r_nmI (fun v4 ev4 => ?_)
  refine r_isw5 (p := 16) f236_14 rfl rfl ?_
  refine r_ilw4 (p := 18) f236_16 rfl ?_
  refine r_aln0 (p := 19) f236_18 rfl ?_
  refine r_gfR (f := 3) (p := 22) f236_19 rfl rfl rfl (Or.inl h1) rfl ?_
  refine r_nmR (fun v5 ev5 => ?_)
  refine r_iln1 (p := 23) f236_22 rfl ?_
  refine le2_gd (fun h7 => ?_)
  refine le2_gd (fun h8 => ?_)
  refine r_iaload (p := 24) f236_23 rfl (dj2 (fun x => x % 1000 = 101) h7 (by decide) (by decide)) h8 rfl ?_
  refine r_iadd (p := 25) f236_24 rfl ?_
  refine r_isw6 (p := 27) f236_25 rfl rfl ?_
  refine r_ilw5 (p := 29) f236_27 rfl ?_
  refine r_aln2 (p := 30) f236_29 rfl ?_
  refine r_gfR (f := 3) (p := 33) f236_30 rfl rfl rfl (Or.inl h4) rfl ?_
  refine r_nmR (fun v6 ev6 => ?_)
  refine r_iln3 (p := 34) f236_33 rfl ?_
  refine le2_gd (fun h9 => ?_)
  refine le2_gd (fun h10 => ?_)
  refine r_iaload (p := 35) f236_34 rfl (dj2 (fun x => x % 1000 = 101) h9 (by decide) (by decide)) h10 rfl ?_
  refine r_iadd (p := 36) f236_35 rfl ?_
  refine r_isw7 (p := 38) f236_36 rfl rfl ?_
  exact le2_refl _
theorem q236_38 {d : Nat} {m : Mem} {a0 a1 a2 a3 a4 a5 a6 a7 : Int} {z8 z9 : PV} (hd : 0 < d) (hz : TZ m) (hcz8 : cat z8 = 1) (hcz9 : cat z9 = 1) : le2 (if a4 < a6 then (if a5 < a7 then (gd (tg m a0 = 13) <| bI (cl (d - 1) 237 [pR (vl m a0 11), pI a4, pI a6] m) fun v1 m1 => gd (tg m1 a2 = 13) <| bI (cl (d - 1) 237 [pR (vl m1 a2 11), pI a5, pI a7] m1) fun v2 m2 => if v1 = v2 then (if 65535 < v1 then (rn d 236 112 [pR a0, pI a1, pR a2, pI a3, pI a4, pI a5, pI a6, pI a7, pI v1, pI v2] [pI 2, pI a4] m2) else rn d 236 112 [pR a0, pI a1, pR a2, pI a3, pI a4, pI a5, pI a6, pI a7, pI v1, pI v2] [pI 1, pI a4] m2) else if v1 < v2 then (some (.inl (some (pI (-1))), m2)) else some (.inl (some (pI 1)), m2)) else rn d 236 135 [pR a0, pI a1, pR a2, pI a3, pI a4, pI a5, pI a6, pI a7, z8, z9] [] m) else rn d 236 135 [pR a0, pI a1, pR a2, pI a3, pI a4, pI a5, pI a6, pI a7, z8, z9] [] m) (rn d 236 38 [pR a0, pI a1, pR a2, pI a3, pI a4, pI a5, pI a6, pI a7, z8, z9] [] m) := by
  refine r_ilw4 (p := 40) f236_38 rfl ?_
  refine r_ilw6 (p := 42) f236_40 rfl ?_
  refine r_icge (t := 135) (p := 45) f236_42 (by decide) rfl rfl ?_ ?_
  · refine r_ilw5 (p := 47) f236_45 rfl ?_
    refine r_ilw7 (p := 49) f236_47 rfl ?_
    refine r_icge (t := 135) (p := 52) f236_49 (by decide) rfl rfl ?_ ?_
    · refine r_aln0 (p := 53) f236_52 rfl ?_
      refine le2_gd (fun h1 => ?_)
      refine r_gfR (f := 11) (p := 56) f236_53 rfl rfl rfl (Or.inl h1) rfl ?_
      refine r_ilw4 (p := 58) f236_56 rfl ?_
      refine r_ilw6 (p := 60) f236_58 rfl ?_
      refine r_istI (p := 63) f236_60 rfl rfl rfl hd (Nat.le_of_ble_eq_true rfl) rfl rfl rfl (fun _ => rfl) (fun v1 m1 c1 => ?_)
      have hz1 := z_k c1 hz
      refine r_isw8 (p := 65) f236_63 rfl rfl ?_
      refine r_aln2 (p := 66) f236_65 rfl ?_
      refine le2_gd (fun h2 => ?_)
      refine r_gfR (f := 11) (p := 69) f236_66 rfl rfl rfl (Or.inl h2) rfl ?_
      refine r_ilw5 (p := 71) f236_69 rfl ?_
      refine r_ilw7 (p := 73) f236_71 rfl ?_
      refine r_istI (p := 76) f236_73 rfl rfl rfl hd (Nat.le_of_ble_eq_true rfl) rfl rfl rfl (fun _ => rfl) (fun v2 m2 c2 => ?_)
      have hz2 := z_k c2 hz1
      refine r_isw9 (p := 78) f236_76 rfl rfl ?_
      refine r_ilw8 (p := 80) f236_78 rfl ?_
      refine r_ilw9 (p := 82) f236_80 rfl ?_
      refine r_iceq (t := 98) (p := 85) f236_82 (by decide) rfl rfl ?_ ?_
      · refine r_ilw4 (p := 100) f236_98 rfl ?_
        refine r_ilw8 (p := 102) f236_100 rfl ?_
        refine r_ldcI (p := 104) f236_102 rfl rfl (pinD rfl rfl) ?_
        refine r_icle (t := 111) (p := 107) f236_104 (by decide) rfl rfl ?_ ?_
        · refine r_iconst (p := 108) f236_107 rfl (pinD rfl rfl) ?_
          refine r_goto (p := 112) f236_108 (by decide) rfl ?_
          exact le2_refl _
        · refine r_iconst (p := 112) f236_111 rfl (pinD rfl rfl) ?_
          exact le2_refl _
      · refine r_ilw8 (p := 87) f236_85 rfl ?_
        refine r_ilw9 (p := 89) f236_87 rfl ?_
        refine r_icge (t := 96) (p := 92) f236_89 (by decide) rfl rfl ?_ ?_
        · refine r_iconst (p := 93) f236_92 rfl (pinD rfl rfl) ?_
          refine r_goto (p := 97) f236_93 (by decide) rfl ?_
          exact r_iret1 f236_97
        · refine r_iconst (p := 97) f236_96 rfl (pinD rfl rfl) ?_
          exact r_iret1 f236_97
    · exact le2_refl _
  · exact le2_refl _
theorem q236_112 {d : Nat} {m : Mem} {a0 a1 a2 a3 a4 a5 a6 a7 a8 a9 s1 s0 : Int} (hz : TZ m) : le2 (nm (w32 (s0 + s1)) fun v1 => if 65535 < a9 then (rn d 236 38 [pR a0, pI a1, pR a2, pI a3, pI v1, pI (w32 (a5 + 2)), pI a6, pI a7, pI a8, pI a9] [] m) else rn d 236 38 [pR a0, pI a1, pR a2, pI a3, pI v1, pI (w32 (a5 + 1)), pI a6, pI a7, pI a8, pI a9] [] m) (rn d 236 112 [pR a0, pI a1, pR a2, pI a3, pI a4, pI a5, pI a6, pI a7, pI a8, pI a9] [pI s1, pI s0] m) := by
  refine r_iadd (p := 113) f236_112 rfl ?_
  refine r_nmI (fun v1 ev1 => ?_)
  refine r_isw4 (p := 115) f236_113 rfl rfl ?_
  refine r_ilw5 (p := 117) f236_115 rfl ?_
  refine r_ilw9 (p := 119) f236_117 rfl ?_
  refine r_ldcI (p := 121) f236_119 rfl rfl (pinD rfl rfl) ?_
  refine r_icle (t := 128) (p := 124) f236_121 (by decide) rfl rfl ?_ ?_
  · refine r_iconst (p := 125) f236_124 rfl (pinD rfl rfl) ?_
    refine r_goto (p := 129) f236_125 (by decide) rfl ?_
    refine r_iadd (p := 130) f236_129 rfl ?_
    refine r_isw5 (p := 132) f236_130 rfl rfl ?_
    refine r_goto (p := 38) f236_132 (by decide) rfl ?_
    exact le2_refl _
  · refine r_iconst (p := 129) f236_128 rfl (pinD rfl rfl) ?_
    refine r_iadd (p := 130) f236_129 rfl ?_
    refine r_isw5 (p := 132) f236_130 rfl rfl ?_
    refine r_goto (p := 38) f236_132 (by decide) rfl ?_
    exact le2_refl _
theorem q236_135 {d : Nat} {m : Mem} {a0 a1 a2 a3 a4 a5 a6 a7 : Int} {z8 z9 : PV} (hz : TZ m) (hcz8 : cat z8 = 1) (hcz9 : cat z9 = 1) : le2 (if a4 < a6 then (some (.inl (some (pI 1)), m)) else if a5 < a7 then (some (.inl (some (pI (-1))), m)) else some (.inl (some (pI 0)), m)) (rn d 236 135 [pR a0, pI a1, pR a2, pI a3, pI a4, pI a5, pI a6, pI a7, z8, z9] [] m) := by
  refine r_ilw4 (p := 137) f236_135 rfl ?_
  refine r_ilw6 (p := 139) f236_137 rfl ?_
  refine r_icge (t := 146) (p := 142) f236_139 (by decide) rfl rfl ?_ ?_
  · refine r_iconst (p := 143) f236_142 rfl (pinD rfl rfl) ?_
    refine r_goto (p := 158) f236_143 (by decide) rfl ?_
    exact r_iret1 f236_158
  · refine r_ilw5 (p := 148) f236_146 rfl ?_
    refine r_ilw7 (p := 150) f236_148 rfl ?_
    refine r_icge (t := 157) (p := 153) f236_150 (by decide) rfl rfl ?_ ?_
    · refine r_iconst (p := 154) f236_153 rfl (pinD rfl rfl) ?_
      refine r_goto (p := 158) f236_154 (by decide) rfl ?_
      exact r_iret1 f236_158
    · refine r_iconst (p := 158) f236_157 rfl (pinD rfl rfl) ?_
      exact r_iret1 f236_158
/-! 237 PathStoreModel.character ([CII)I -/
def w237_1 : List UInt8 := [172, 18, 43, 29, 18, 41, 100, 16, 10, 120, 96, 42, 27, 4, 96, 52, 96, 18, 44, 100, 172]
abbrev u237_1 : List UInt8 := w237_1 ++ []
def w237_0 : List UInt8 := [42, 27, 52, 62, 29, 18, 41, 161, 0, 16, 29, 18, 42, 163, 0, 10, 27, 4, 96, 28, 161, 0, 5, 29]
abbrev u237_0 : List UInt8 := w237_0 ++ u237_1
theorem s237_0 : (prog_32_method_2_code).data.toList.drop 0 = u237_0 := by decide +kernel
theorem s237_1 : (prog_32_method_2_code).data.toList.drop 24 = u237_1 := dk_seg s237_0 24 rfl rfl
theorem Fm237 {pc len : Nat} {i : Instr} (h : decode (prog_32_method_2_code) pc = .ok (i, len)) (hl : len = ilen i len) : ft 237 pc = some (11, 1, 0, i, len) := ft_mk rfl h hl
theorem f237_0 : ft 237 0 = some (11, 1, 0, .aload_n 0, 1) := Fm237 (dk_42 (dk_at s237_0 0 rfl rfl)) rfl
theorem f237_1 : ft 237 1 = some (11, 1, 0, .iload_n 1, 1) := Fm237 (dk_27 (dk_at s237_0 1 rfl rfl)) rfl
theorem f237_2 : ft 237 2 = some (11, 1, 0, .caload, 1) := Fm237 (dk_52 (dk_at s237_0 2 rfl rfl)) rfl
theorem f237_3 : ft 237 3 = some (11, 1, 0, .istore_n 3, 1) := Fm237 (dk_62 (dk_at s237_0 3 rfl rfl)) rfl
theorem f237_4 : ft 237 4 = some (11, 1, 0, .iload_n 3, 1) := Fm237 (dk_29 (dk_at s237_0 4 rfl rfl)) rfl
theorem f237_5 : ft 237 5 = some (11, 1, 0, .ldc 41, 2) := Fm237 (dk_18 41 (dk_at s237_0 5 rfl rfl)) rfl
theorem f237_7 : ft 237 7 = some (11, 1, 0, .if_icmp .lt 16, 3) := Fm237 (dk_161 0 16 (dk_at s237_0 7 rfl rfl)) rfl
theorem f237_10 : ft 237 10 = some (11, 1, 0, .iload_n 3, 1) := Fm237 (dk_29 (dk_at s237_0 10 rfl rfl)) rfl
theorem f237_11 : ft 237 11 = some (11, 1, 0, .ldc 42, 2) := Fm237 (dk_18 42 (dk_at s237_0 11 rfl rfl)) rfl
theorem f237_13 : ft 237 13 = some (11, 1, 0, .if_icmp .gt 10, 3) := Fm237 (dk_163 0 10 (dk_at s237_0 13 rfl rfl)) rfl
theorem f237_16 : ft 237 16 = some (11, 1, 0, .iload_n 1, 1) := Fm237 (dk_27 (dk_at s237_0 16 rfl rfl)) rfl
theorem f237_17 : ft 237 17 = some (11, 1, 0, .iconst 1, 1) := Fm237 (dk_4 (dk_at s237_0 17 rfl rfl)) rfl
theorem f237_18 : ft 237 18 = some (11, 1, 0, .iadd, 1) := Fm237 (dk_96 (dk_at s237_0 18 rfl rfl)) rfl
theorem f237_19 : ft 237 19 = some (11, 1, 0, .iload_n 2, 1) := Fm237 (dk_28 (dk_at s237_0 19 rfl rfl)) rfl
theorem f237_20 : ft 237 20 = some (11, 1, 0, .if_icmp .lt 5, 3) := Fm237 (dk_161 0 5 (dk_at s237_0 20 rfl rfl)) rfl
theorem f237_23 : ft 237 23 = some (11, 1, 0, .iload_n 3, 1) := Fm237 (dk_29 (dk_at s237_0 23 rfl rfl)) rfl
theorem f237_24 : ft 237 24 = some (11, 1, 0, .ireturn, 1) := Fm237 (dk_172 (dk_at s237_1 0 rfl rfl)) rfl
theorem f237_25 : ft 237 25 = some (11, 1, 0, .ldc 43, 2) := Fm237 (dk_18 43 (dk_at s237_1 1 rfl rfl)) rfl
theorem f237_27 : ft 237 27 = some (11, 1, 0, .iload_n 3, 1) := Fm237 (dk_29 (dk_at s237_1 3 rfl rfl)) rfl
theorem f237_28 : ft 237 28 = some (11, 1, 0, .ldc 41, 2) := Fm237 (dk_18 41 (dk_at s237_1 4 rfl rfl)) rfl
theorem f237_30 : ft 237 30 = some (11, 1, 0, .isub, 1) := Fm237 (dk_100 (dk_at s237_1 6 rfl rfl)) rfl
theorem f237_31 : ft 237 31 = some (11, 1, 0, .bipush 10, 2) := Fm237 (dk_16 10 (dk_at s237_1 7 rfl rfl)) rfl
theorem f237_33 : ft 237 33 = some (11, 1, 0, .ishl, 1) := Fm237 (dk_120 (dk_at s237_1 9 rfl rfl)) rfl
theorem f237_34 : ft 237 34 = some (11, 1, 0, .iadd, 1) := Fm237 (dk_96 (dk_at s237_1 10 rfl rfl)) rfl
theorem f237_35 : ft 237 35 = some (11, 1, 0, .aload_n 0, 1) := Fm237 (dk_42 (dk_at s237_1 11 rfl rfl)) rfl
theorem f237_36 : ft 237 36 = some (11, 1, 0, .iload_n 1, 1) := Fm237 (dk_27 (dk_at s237_1 12 rfl rfl)) rfl
theorem f237_37 : ft 237 37 = some (11, 1, 0, .iconst 1, 1) := Fm237 (dk_4 (dk_at s237_1 13 rfl rfl)) rfl
theorem f237_38 : ft 237 38 = some (11, 1, 0, .iadd, 1) := Fm237 (dk_96 (dk_at s237_1 14 rfl rfl)) rfl
theorem f237_39 : ft 237 39 = some (11, 1, 0, .caload, 1) := Fm237 (dk_52 (dk_at s237_1 15 rfl rfl)) rfl
theorem f237_40 : ft 237 40 = some (11, 1, 0, .iadd, 1) := Fm237 (dk_96 (dk_at s237_1 16 rfl rfl)) rfl
theorem f237_41 : ft 237 41 = some (11, 1, 0, .ldc 44, 2) := Fm237 (dk_18 44 (dk_at s237_1 17 rfl rfl)) rfl
theorem f237_43 : ft 237 43 = some (11, 1, 0, .isub, 1) := Fm237 (dk_100 (dk_at s237_1 19 rfl rfl)) rfl
theorem f237_44 : ft 237 44 = some (11, 1, 0, .ireturn, 1) := Fm237 (dk_172 (dk_at s237_1 20 rfl rfl)) rfl
theorem q237 {d : Nat} {m : Mem} {a0 a1 a2 : Int} (hz : TZ m) : le2 (gd (tg m a0 = 284104 ∨ tg m a0 = 288104) <| gd ((0 : Int) ≤ a1 ∧ a1 < ln m a0) <| nm (vl m a0 a1) fun v1 => if v1 < 55296 then (some (.inl (some (pI v1)), m)) else if 56319 < v1 then (some (.inl (some (pI v1)), m)) else if (w32 (a1 + 1)) < a2 then (nm (w32 (a1 + 1)) fun v2 => gd ((0 : Int) ≤ v2 ∧ v2 < ln m a0) <| some (.inl (some (pI (w32 ((w32 ((w32 (65536 + (pShl (w32 (v1 - 55296)) 10))) + (vl m a0 v2))) - 56320)))), m)) else some (.inl (some (pI v1)), m)) (cl d 237 [pR a0, pI a1, pI a2] m) := by
  refine q_in (n := 4) (L := [pR a0, pI a1, pI a2, pU]) rfl rfl rfl ?_
  refine r_aln0 (p := 1) f237_0 rfl ?_
  refine r_iln1 (p := 2) f237_1 rfl ?_
  refine le2_gd (fun h1 => ?_)
  refine le2_gd (fun h2 => ?_)
  refine r_caload (p := 3) f237_2 rfl (dj2 (fun x => x % 1000 = 104) h1 (by decide) (by decide)) h2 rfl ?_
  refine r_nmI (fun v1 ev1 => ?_)
  refine r_isn3 (p := 4) f237_3 rfl rfl ?_
  refine r_iln3 (p := 5) f237_4 rfl ?_
  refine r_ldcI (p := 7) f237_5 rfl rfl (pinD rfl rfl) ?_
  refine r_iclt (t := 23) (p := 10) f237_7 (by decide) rfl rfl ?_ ?_
  · refine r_iln3 (p := 24) f237_23 rfl ?_
    exact r_iret1 f237_24
  · refine r_iln3 (p := 11) f237_10 rfl ?_
    refine r_ldcI (p := 13) f237_11 rfl rfl (pinD rfl rfl) ?_
    refine r_icgt (t := 23) (p := 16) f237_13 (by decide) rfl rfl ?_ ?_
    · refine r_iln3 (p := 24) f237_23 rfl ?_
      exact r_iret1 f237_24
    · refine r_iln1 (p := 17) f237_16 rfl ?_
      refine r_iconst (p := 18) f237_17 rfl (pinD rfl rfl) ?_
      refine r_iadd (p := 19) f237_18 rfl ?_
      refine r_iln2 (p := 20) f237_19 rfl ?_
      refine r_iclt (t := 25) (p := 23) f237_20 (by decide) rfl rfl ?_ ?_
      · refine r_ldcI (p := 27) f237_25 rfl rfl (pinD rfl rfl) ?_
        refine r_iln3 (p := 28) f237_27 rfl ?_
        refine r_ldcI (p := 30) f237_28 rfl rfl (pinD rfl rfl) ?_
        refine r_isub (p := 31) f237_30 rfl ?_
        refine r_bipush (p := 33) f237_31 rfl (pinD rfl rfl) ?_
        refine r_ishl (p := 34) f237_33 rfl ?_
        refine r_iadd (p := 35) f237_34 rfl ?_
        refine r_aln0 (p := 36) f237_35 rfl ?_
        refine r_iln1 (p := 37) f237_36 rfl ?_
        refine r_iconst (p := 38) f237_37 rfl (pinD rfl rfl) ?_
        refine r_iadd (p := 39) f237_38 rfl ?_
        refine r_nmI (fun v2 ev2 => ?_)
        refine le2_gd (fun h3 => ?_)
        refine r_caload (p := 40) f237_39 rfl (dj2 (fun x => x % 1000 = 104) h1 (by decide) (by decide)) h3 rfl ?_
        refine r_iadd (p := 41) f237_40 rfl ?_
        refine r_ldcI (p := 43) f237_41 rfl rfl (pinD rfl rfl) ?_
        refine r_isub (p := 44) f237_43 rfl ?_
        exact r_iret1 f237_44
      · refine r_iln3 (p := 24) f237_23 rfl ?_
        exact r_iret1 f237_24
/-! 238 PathStoreModel.add (I)Z -/
def w238_11 : List UInt8 := [22, 6, 10, 101, 182, 1, 87, 27, 182, 0, 245, 4, 172]
abbrev u238_11 : List UInt8 := w238_11 ++ []
def w238_10 : List UInt8 := [158, 0, 5, 3, 172, 42, 180, 0, 102, 28, 22, 6, 9, 148, 154, 0, 7, 2, 167, 0, 12, 42, 28]
abbrev u238_10 : List UInt8 := w238_10 ++ u238_11
def w238_9 : List UInt8 := [167, 0, 8, 42, 29, 182, 1, 83, 55, 6, 22, 6, 9, 148, 155, 0, 12, 22, 6, 21, 4, 133, 148]
abbrev u238_9 : List UInt8 := w238_9 ++ u238_10
def w238_8 : List UInt8 := [46, 52, 16, 45, 160, 0, 7, 4, 167, 0, 4, 3, 54, 5, 21, 5, 153, 0, 9, 21, 4, 133]
abbrev u238_8 : List UInt8 := w238_8 ++ u238_9
def w238_7 : List UInt8 := [54, 4, 42, 180, 0, 115, 29, 46, 4, 160, 0, 26, 42, 180, 0, 118, 180, 0, 51, 42, 180, 0, 112, 29]
abbrev u238_7 : List UInt8 := w238_7 ++ u238_8
def w238_6 : List UInt8 := [172, 42, 180, 0, 102, 180, 0, 1, 28, 46, 8, 159, 0, 5, 3, 172, 42, 180, 0, 102, 28, 182, 0, 27]
abbrev u238_6 : List UInt8 := w238_6 ++ u238_7
def w238_5 : List UInt8 := [182, 1, 102, 167, 0, 20, 42, 180, 0, 102, 28, 42, 180, 0, 102, 28, 182, 1, 106, 27, 182, 0, 245, 4]
abbrev u238_5 : List UInt8 := w238_5 ++ u238_6
def w238_4 : List UInt8 := [180, 0, 112, 29, 46, 42, 180, 0, 115, 29, 46, 182, 1, 98, 21, 4, 155, 0, 13, 42, 21, 4, 27]
abbrev u238_4 : List UInt8 := w238_4 ++ u238_5
def w238_3 : List UInt8 := [46, 42, 180, 0, 115, 29, 46, 182, 0, 37, 54, 4, 42, 180, 0, 102, 27, 42, 180, 0, 118, 42]
abbrev u238_3 : List UInt8 := w238_3 ++ u238_4
def w238_2 : List UInt8 := [180, 0, 1, 28, 46, 16, 6, 160, 0, 87, 42, 180, 0, 102, 28, 42, 180, 0, 118, 42, 180, 0, 112, 29]
abbrev u238_2 : List UInt8 := w238_2 ++ u238_3
def w238_1 : List UInt8 := [100, 182, 1, 94, 61, 42, 180, 1, 78, 4, 100, 62, 28, 156, 0, 5, 3, 172, 42, 180, 0, 102]
abbrev u238_1 : List UInt8 := w238_1 ++ u238_2
def w238_0 : List UInt8 := [42, 180, 1, 78, 154, 0, 10, 42, 27, 181, 1, 91, 4, 172, 42, 42, 180, 1, 91, 42, 180, 1, 78, 4]
abbrev u238_0 : List UInt8 := w238_0 ++ u238_1
theorem s238_0 : (prog_32_method_50_code).data.toList.drop 0 = u238_0 := by decide +kernel
theorem s238_1 : (prog_32_method_50_code).data.toList.drop 24 = u238_1 := dk_seg s238_0 24 rfl rfl
theorem s238_2 : (prog_32_method_50_code).data.toList.drop 46 = u238_2 := dk_seg s238_1 22 rfl rfl
theorem s238_3 : (prog_32_method_50_code).data.toList.drop 70 = u238_3 := dk_seg s238_2 24 rfl rfl
theorem s238_4 : (prog_32_method_50_code).data.toList.drop 92 = u238_4 := dk_seg s238_3 22 rfl rfl
theorem s238_5 : (prog_32_method_50_code).data.toList.drop 115 = u238_5 := dk_seg s238_4 23 rfl rfl
theorem s238_6 : (prog_32_method_50_code).data.toList.drop 139 = u238_6 := dk_seg s238_5 24 rfl rfl
theorem s238_7 : (prog_32_method_50_code).data.toList.drop 163 = u238_7 := dk_seg s238_6 24 rfl rfl
theorem s238_8 : (prog_32_method_50_code).data.toList.drop 187 = u238_8 := dk_seg s238_7 24 rfl rfl
theorem s238_9 : (prog_32_method_50_code).data.toList.drop 209 = u238_9 := dk_seg s238_8 22 rfl rfl
theorem s238_10 : (prog_32_method_50_code).data.toList.drop 232 = u238_10 := dk_seg s238_9 23 rfl rfl
theorem s238_11 : (prog_32_method_50_code).data.toList.drop 255 = u238_11 := dk_seg s238_10 23 rfl rfl
theorem Fm238 {pc len : Nat} {i : Instr} (h : decode (prog_32_method_50_code) pc = .ok (i, len)) (hl : len = ilen i len) : ft 238 pc = some (11, 4, 0, i, len) := ft_mk rfl h hl
theorem f238_0 : ft 238 0 = some (11, 4, 0, .aload_n 0, 1) := Fm238 (dk_42 (dk_at s238_0 0 rfl rfl)) rfl
theorem f238_1 : ft 238 1 = some (11, 4, 0, .getfield 334, 3) := Fm238 (dk_180 1 78 (dk_at s238_0 1 rfl rfl)) rfl
theorem f238_4 : ft 238 4 = some (11, 4, 0, .ifCond .ne 10, 3) := Fm238 (dk_154 0 10 (dk_at s238_0 4 rfl rfl)) rfl
theorem f238_7 : ft 238 7 = some (11, 4, 0, .aload_n 0, 1) := Fm238 (dk_42 (dk_at s238_0 7 rfl rfl)) rfl
theorem f238_8 : ft 238 8 = some (11, 4, 0, .iload_n 1, 1) := Fm238 (dk_27 (dk_at s238_0 8 rfl rfl)) rfl
theorem f238_9 : ft 238 9 = some (11, 4, 0, .putfield 347, 3) := Fm238 (dk_181 1 91 (dk_at s238_0 9 rfl rfl)) rfl
theorem f238_12 : ft 238 12 = some (11, 4, 0, .iconst 1, 1) := Fm238 (dk_4 (dk_at s238_0 12 rfl rfl)) rfl
theorem f238_13 : ft 238 13 = some (11, 4, 0, .ireturn, 1) := Fm238 (dk_172 (dk_at s238_0 13 rfl rfl)) rfl
theorem f238_14 : ft 238 14 = some (11, 4, 0, .aload_n 0, 1) := Fm238 (dk_42 (dk_at s238_0 14 rfl rfl)) rfl
theorem f238_15 : ft 238 15 = some (11, 4, 0, .aload_n 0, 1) := Fm238 (dk_42 (dk_at s238_0 15 rfl rfl)) rfl
theorem f238_16 : ft 238 16 = some (11, 4, 0, .getfield 347, 3) := Fm238 (dk_180 1 91 (dk_at s238_0 16 rfl rfl)) rfl
theorem f238_19 : ft 238 19 = some (11, 4, 0, .aload_n 0, 1) := Fm238 (dk_42 (dk_at s238_0 19 rfl rfl)) rfl
theorem f238_20 : ft 238 20 = some (11, 4, 0, .getfield 334, 3) := Fm238 (dk_180 1 78 (dk_at s238_0 20 rfl rfl)) rfl
theorem f238_23 : ft 238 23 = some (11, 4, 0, .iconst 1, 1) := Fm238 (dk_4 (dk_at s238_0 23 rfl rfl)) rfl
theorem f238_24 : ft 238 24 = some (11, 4, 0, .isub, 1) := Fm238 (dk_100 (dk_at s238_1 0 rfl rfl)) rfl
theorem f238_25 : ft 238 25 = some (11, 4, 0, .invokevirtual 350, 3) := Fm238 (dk_182 1 94 (dk_at s238_1 1 rfl rfl)) rfl
theorem f238_28 : ft 238 28 = some (11, 4, 0, .istore_n 2, 1) := Fm238 (dk_61 (dk_at s238_1 4 rfl rfl)) rfl
theorem f238_29 : ft 238 29 = some (11, 4, 0, .aload_n 0, 1) := Fm238 (dk_42 (dk_at s238_1 5 rfl rfl)) rfl
theorem f238_30 : ft 238 30 = some (11, 4, 0, .getfield 334, 3) := Fm238 (dk_180 1 78 (dk_at s238_1 6 rfl rfl)) rfl
theorem f238_33 : ft 238 33 = some (11, 4, 0, .iconst 1, 1) := Fm238 (dk_4 (dk_at s238_1 9 rfl rfl)) rfl
theorem f238_34 : ft 238 34 = some (11, 4, 0, .isub, 1) := Fm238 (dk_100 (dk_at s238_1 10 rfl rfl)) rfl
theorem f238_35 : ft 238 35 = some (11, 4, 0, .istore_n 3, 1) := Fm238 (dk_62 (dk_at s238_1 11 rfl rfl)) rfl
theorem f238_36 : ft 238 36 = some (11, 4, 0, .iload_n 2, 1) := Fm238 (dk_28 (dk_at s238_1 12 rfl rfl)) rfl
theorem f238_37 : ft 238 37 = some (11, 4, 0, .ifCond .ge 5, 3) := Fm238 (dk_156 0 5 (dk_at s238_1 13 rfl rfl)) rfl
theorem f238_40 : ft 238 40 = some (11, 4, 0, .iconst 0, 1) := Fm238 (dk_3 (dk_at s238_1 16 rfl rfl)) rfl
theorem f238_41 : ft 238 41 = some (11, 4, 0, .ireturn, 1) := Fm238 (dk_172 (dk_at s238_1 17 rfl rfl)) rfl
theorem f238_42 : ft 238 42 = some (11, 4, 0, .aload_n 0, 1) := Fm238 (dk_42 (dk_at s238_1 18 rfl rfl)) rfl
theorem f238_43 : ft 238 43 = some (11, 4, 0, .getfield 102, 3) := Fm238 (dk_180 0 102 (dk_at s238_1 19 rfl rfl)) rfl
theorem f238_46 : ft 238 46 = some (11, 4, 0, .getfield 1, 3) := Fm238 (dk_180 0 1 (dk_at s238_2 0 rfl rfl)) rfl
theorem f238_49 : ft 238 49 = some (11, 4, 0, .iload_n 2, 1) := Fm238 (dk_28 (dk_at s238_2 3 rfl rfl)) rfl
theorem f238_50 : ft 238 50 = some (11, 4, 0, .iaload, 1) := Fm238 (dk_46 (dk_at s238_2 4 rfl rfl)) rfl
theorem f238_51 : ft 238 51 = some (11, 4, 0, .bipush 6, 2) := Fm238 (dk_16 6 (dk_at s238_2 5 rfl rfl)) rfl
theorem f238_53 : ft 238 53 = some (11, 4, 0, .if_icmp .ne 87, 3) := Fm238 (dk_160 0 87 (dk_at s238_2 7 rfl rfl)) rfl
theorem f238_56 : ft 238 56 = some (11, 4, 0, .aload_n 0, 1) := Fm238 (dk_42 (dk_at s238_2 10 rfl rfl)) rfl
theorem f238_57 : ft 238 57 = some (11, 4, 0, .getfield 102, 3) := Fm238 (dk_180 0 102 (dk_at s238_2 11 rfl rfl)) rfl
theorem f238_60 : ft 238 60 = some (11, 4, 0, .iload_n 2, 1) := Fm238 (dk_28 (dk_at s238_2 14 rfl rfl)) rfl
theorem f238_61 : ft 238 61 = some (11, 4, 0, .aload_n 0, 1) := Fm238 (dk_42 (dk_at s238_2 15 rfl rfl)) rfl
theorem f238_62 : ft 238 62 = some (11, 4, 0, .getfield 118, 3) := Fm238 (dk_180 0 118 (dk_at s238_2 16 rfl rfl)) rfl
theorem f238_65 : ft 238 65 = some (11, 4, 0, .aload_n 0, 1) := Fm238 (dk_42 (dk_at s238_2 19 rfl rfl)) rfl
theorem f238_66 : ft 238 66 = some (11, 4, 0, .getfield 112, 3) := Fm238 (dk_180 0 112 (dk_at s238_2 20 rfl rfl)) rfl
theorem f238_69 : ft 238 69 = some (11, 4, 0, .iload_n 3, 1) := Fm238 (dk_29 (dk_at s238_2 23 rfl rfl)) rfl
theorem f238_70 : ft 238 70 = some (11, 4, 0, .iaload, 1) := Fm238 (dk_46 (dk_at s238_3 0 rfl rfl)) rfl
theorem f238_71 : ft 238 71 = some (11, 4, 0, .aload_n 0, 1) := Fm238 (dk_42 (dk_at s238_3 1 rfl rfl)) rfl
theorem f238_72 : ft 238 72 = some (11, 4, 0, .getfield 115, 3) := Fm238 (dk_180 0 115 (dk_at s238_3 2 rfl rfl)) rfl
theorem f238_75 : ft 238 75 = some (11, 4, 0, .iload_n 3, 1) := Fm238 (dk_29 (dk_at s238_3 5 rfl rfl)) rfl
theorem f238_76 : ft 238 76 = some (11, 4, 0, .iaload, 1) := Fm238 (dk_46 (dk_at s238_3 6 rfl rfl)) rfl
theorem f238_77 : ft 238 77 = some (11, 4, 0, .invokevirtual 37, 3) := Fm238 (dk_182 0 37 (dk_at s238_3 7 rfl rfl)) rfl
theorem f238_80 : ft 238 80 = some (11, 4, 0, .istore 4, 2) := Fm238 (dk_54 4 (dk_at s238_3 10 rfl rfl)) rfl
theorem f238_82 : ft 238 82 = some (11, 4, 0, .aload_n 0, 1) := Fm238 (dk_42 (dk_at s238_3 12 rfl rfl)) rfl
theorem f238_83 : ft 238 83 = some (11, 4, 0, .getfield 102, 3) := Fm238 (dk_180 0 102 (dk_at s238_3 13 rfl rfl)) rfl
theorem f238_86 : ft 238 86 = some (11, 4, 0, .iload_n 1, 1) := Fm238 (dk_27 (dk_at s238_3 16 rfl rfl)) rfl
theorem f238_87 : ft 238 87 = some (11, 4, 0, .aload_n 0, 1) := Fm238 (dk_42 (dk_at s238_3 17 rfl rfl)) rfl
theorem f238_88 : ft 238 88 = some (11, 4, 0, .getfield 118, 3) := Fm238 (dk_180 0 118 (dk_at s238_3 18 rfl rfl)) rfl
theorem f238_91 : ft 238 91 = some (11, 4, 0, .aload_n 0, 1) := Fm238 (dk_42 (dk_at s238_3 21 rfl rfl)) rfl
theorem f238_92 : ft 238 92 = some (11, 4, 0, .getfield 112, 3) := Fm238 (dk_180 0 112 (dk_at s238_4 0 rfl rfl)) rfl
theorem f238_95 : ft 238 95 = some (11, 4, 0, .iload_n 3, 1) := Fm238 (dk_29 (dk_at s238_4 3 rfl rfl)) rfl
theorem f238_96 : ft 238 96 = some (11, 4, 0, .iaload, 1) := Fm238 (dk_46 (dk_at s238_4 4 rfl rfl)) rfl
theorem f238_97 : ft 238 97 = some (11, 4, 0, .aload_n 0, 1) := Fm238 (dk_42 (dk_at s238_4 5 rfl rfl)) rfl
theorem f238_98 : ft 238 98 = some (11, 4, 0, .getfield 115, 3) := Fm238 (dk_180 0 115 (dk_at s238_4 6 rfl rfl)) rfl
theorem f238_101 : ft 238 101 = some (11, 4, 0, .iload_n 3, 1) := Fm238 (dk_29 (dk_at s238_4 9 rfl rfl)) rfl
theorem f238_102 : ft 238 102 = some (11, 4, 0, .iaload, 1) := Fm238 (dk_46 (dk_at s238_4 10 rfl rfl)) rfl
theorem f238_103 : ft 238 103 = some (11, 4, 0, .invokevirtual 354, 3) := Fm238 (dk_182 1 98 (dk_at s238_4 11 rfl rfl)) rfl
theorem f238_106 : ft 238 106 = some (11, 4, 0, .iload 4, 2) := Fm238 (dk_21 4 (dk_at s238_4 14 rfl rfl)) rfl
theorem f238_108 : ft 238 108 = some (11, 4, 0, .ifCond .lt 13, 3) := Fm238 (dk_155 0 13 (dk_at s238_4 16 rfl rfl)) rfl
theorem f238_111 : ft 238 111 = some (11, 4, 0, .aload_n 0, 1) := Fm238 (dk_42 (dk_at s238_4 19 rfl rfl)) rfl
theorem f238_112 : ft 238 112 = some (11, 4, 0, .iload 4, 2) := Fm238 (dk_21 4 (dk_at s238_4 20 rfl rfl)) rfl
theorem f238_114 : ft 238 114 = some (11, 4, 0, .iload_n 1, 1) := Fm238 (dk_27 (dk_at s238_4 22 rfl rfl)) rfl
theorem f238_115 : ft 238 115 = some (11, 4, 0, .invokevirtual 358, 3) := Fm238 (dk_182 1 102 (dk_at s238_5 0 rfl rfl)) rfl
theorem f238_118 : ft 238 118 = some (11, 4, 0, .goto 20, 3) := Fm238 (dk_167 0 20 (dk_at s238_5 3 rfl rfl)) rfl
theorem f238_121 : ft 238 121 = some (11, 4, 0, .aload_n 0, 1) := Fm238 (dk_42 (dk_at s238_5 6 rfl rfl)) rfl
theorem f238_122 : ft 238 122 = some (11, 4, 0, .getfield 102, 3) := Fm238 (dk_180 0 102 (dk_at s238_5 7 rfl rfl)) rfl
theorem f238_125 : ft 238 125 = some (11, 4, 0, .iload_n 2, 1) := Fm238 (dk_28 (dk_at s238_5 10 rfl rfl)) rfl
theorem f238_126 : ft 238 126 = some (11, 4, 0, .aload_n 0, 1) := Fm238 (dk_42 (dk_at s238_5 11 rfl rfl)) rfl
theorem f238_127 : ft 238 127 = some (11, 4, 0, .getfield 102, 3) := Fm238 (dk_180 0 102 (dk_at s238_5 12 rfl rfl)) rfl
theorem f238_130 : ft 238 130 = some (11, 4, 0, .iload_n 2, 1) := Fm238 (dk_28 (dk_at s238_5 15 rfl rfl)) rfl
theorem f238_131 : ft 238 131 = some (11, 4, 0, .invokevirtual 362, 3) := Fm238 (dk_182 1 106 (dk_at s238_5 16 rfl rfl)) rfl
theorem f238_134 : ft 238 134 = some (11, 4, 0, .iload_n 1, 1) := Fm238 (dk_27 (dk_at s238_5 19 rfl rfl)) rfl
theorem f238_135 : ft 238 135 = some (11, 4, 0, .invokevirtual 245, 3) := Fm238 (dk_182 0 245 (dk_at s238_5 20 rfl rfl)) rfl
theorem f238_138 : ft 238 138 = some (11, 4, 0, .iconst 1, 1) := Fm238 (dk_4 (dk_at s238_5 23 rfl rfl)) rfl
theorem f238_139 : ft 238 139 = some (11, 4, 0, .ireturn, 1) := Fm238 (dk_172 (dk_at s238_6 0 rfl rfl)) rfl
theorem f238_140 : ft 238 140 = some (11, 4, 0, .aload_n 0, 1) := Fm238 (dk_42 (dk_at s238_6 1 rfl rfl)) rfl
theorem f238_141 : ft 238 141 = some (11, 4, 0, .getfield 102, 3) := Fm238 (dk_180 0 102 (dk_at s238_6 2 rfl rfl)) rfl
theorem f238_144 : ft 238 144 = some (11, 4, 0, .getfield 1, 3) := Fm238 (dk_180 0 1 (dk_at s238_6 5 rfl rfl)) rfl
theorem f238_147 : ft 238 147 = some (11, 4, 0, .iload_n 2, 1) := Fm238 (dk_28 (dk_at s238_6 8 rfl rfl)) rfl
theorem f238_148 : ft 238 148 = some (11, 4, 0, .iaload, 1) := Fm238 (dk_46 (dk_at s238_6 9 rfl rfl)) rfl
theorem f238_149 : ft 238 149 = some (11, 4, 0, .iconst 5, 1) := Fm238 (dk_8 (dk_at s238_6 10 rfl rfl)) rfl
theorem f238_150 : ft 238 150 = some (11, 4, 0, .if_icmp .eq 5, 3) := Fm238 (dk_159 0 5 (dk_at s238_6 11 rfl rfl)) rfl
theorem f238_153 : ft 238 153 = some (11, 4, 0, .iconst 0, 1) := Fm238 (dk_3 (dk_at s238_6 14 rfl rfl)) rfl
theorem f238_154 : ft 238 154 = some (11, 4, 0, .ireturn, 1) := Fm238 (dk_172 (dk_at s238_6 15 rfl rfl)) rfl
theorem f238_155 : ft 238 155 = some (11, 4, 0, .aload_n 0, 1) := Fm238 (dk_42 (dk_at s238_6 16 rfl rfl)) rfl
theorem f238_156 : ft 238 156 = some (11, 4, 0, .getfield 102, 3) := Fm238 (dk_180 0 102 (dk_at s238_6 17 rfl rfl)) rfl
theorem f238_159 : ft 238 159 = some (11, 4, 0, .iload_n 2, 1) := Fm238 (dk_28 (dk_at s238_6 20 rfl rfl)) rfl
theorem f238_160 : ft 238 160 = some (11, 4, 0, .invokevirtual 27, 3) := Fm238 (dk_182 0 27 (dk_at s238_6 21 rfl rfl)) rfl
theorem f238_163 : ft 238 163 = some (11, 4, 0, .istore 4, 2) := Fm238 (dk_54 4 (dk_at s238_7 0 rfl rfl)) rfl
theorem f238_165 : ft 238 165 = some (11, 4, 0, .aload_n 0, 1) := Fm238 (dk_42 (dk_at s238_7 2 rfl rfl)) rfl
theorem f238_166 : ft 238 166 = some (11, 4, 0, .getfield 115, 3) := Fm238 (dk_180 0 115 (dk_at s238_7 3 rfl rfl)) rfl
theorem f238_169 : ft 238 169 = some (11, 4, 0, .iload_n 3, 1) := Fm238 (dk_29 (dk_at s238_7 6 rfl rfl)) rfl
theorem f238_170 : ft 238 170 = some (11, 4, 0, .iaload, 1) := Fm238 (dk_46 (dk_at s238_7 7 rfl rfl)) rfl
theorem f238_171 : ft 238 171 = some (11, 4, 0, .iconst 1, 1) := Fm238 (dk_4 (dk_at s238_7 8 rfl rfl)) rfl
theorem f238_172 : ft 238 172 = some (11, 4, 0, .if_icmp .ne 26, 3) := Fm238 (dk_160 0 26 (dk_at s238_7 9 rfl rfl)) rfl
theorem f238_175 : ft 238 175 = some (11, 4, 0, .aload_n 0, 1) := Fm238 (dk_42 (dk_at s238_7 12 rfl rfl)) rfl
theorem f238_176 : ft 238 176 = some (11, 4, 0, .getfield 118, 3) := Fm238 (dk_180 0 118 (dk_at s238_7 13 rfl rfl)) rfl
theorem f238_179 : ft 238 179 = some (11, 4, 0, .getfield 51, 3) := Fm238 (dk_180 0 51 (dk_at s238_7 16 rfl rfl)) rfl
theorem f238_182 : ft 238 182 = some (11, 4, 0, .aload_n 0, 1) := Fm238 (dk_42 (dk_at s238_7 19 rfl rfl)) rfl
theorem f238_183 : ft 238 183 = some (11, 4, 0, .getfield 112, 3) := Fm238 (dk_180 0 112 (dk_at s238_7 20 rfl rfl)) rfl
theorem f238_186 : ft 238 186 = some (11, 4, 0, .iload_n 3, 1) := Fm238 (dk_29 (dk_at s238_7 23 rfl rfl)) rfl
theorem f238_187 : ft 238 187 = some (11, 4, 0, .iaload, 1) := Fm238 (dk_46 (dk_at s238_8 0 rfl rfl)) rfl
theorem f238_188 : ft 238 188 = some (11, 4, 0, .caload, 1) := Fm238 (dk_52 (dk_at s238_8 1 rfl rfl)) rfl
theorem f238_189 : ft 238 189 = some (11, 4, 0, .bipush 45, 2) := Fm238 (dk_16 45 (dk_at s238_8 2 rfl rfl)) rfl
theorem f238_191 : ft 238 191 = some (11, 4, 0, .if_icmp .ne 7, 3) := Fm238 (dk_160 0 7 (dk_at s238_8 4 rfl rfl)) rfl
theorem f238_194 : ft 238 194 = some (11, 4, 0, .iconst 1, 1) := Fm238 (dk_4 (dk_at s238_8 7 rfl rfl)) rfl
theorem f238_195 : ft 238 195 = some (11, 4, 0, .goto 4, 3) := Fm238 (dk_167 0 4 (dk_at s238_8 8 rfl rfl)) rfl
theorem f238_198 : ft 238 198 = some (11, 4, 0, .iconst 0, 1) := Fm238 (dk_3 (dk_at s238_8 11 rfl rfl)) rfl
theorem f238_199 : ft 238 199 = some (11, 4, 0, .istore 5, 2) := Fm238 (dk_54 5 (dk_at s238_8 12 rfl rfl)) rfl
theorem f238_201 : ft 238 201 = some (11, 4, 0, .iload 5, 2) := Fm238 (dk_21 5 (dk_at s238_8 14 rfl rfl)) rfl
theorem f238_203 : ft 238 203 = some (11, 4, 0, .ifCond .eq 9, 3) := Fm238 (dk_153 0 9 (dk_at s238_8 16 rfl rfl)) rfl
theorem f238_206 : ft 238 206 = some (11, 4, 0, .iload 4, 2) := Fm238 (dk_21 4 (dk_at s238_8 19 rfl rfl)) rfl
theorem f238_208 : ft 238 208 = some (11, 4, 0, .i2l, 1) := Fm238 (dk_133 (dk_at s238_8 21 rfl rfl)) rfl
theorem f238_209 : ft 238 209 = some (11, 4, 0, .goto 8, 3) := Fm238 (dk_167 0 8 (dk_at s238_9 0 rfl rfl)) rfl
theorem f238_212 : ft 238 212 = some (11, 4, 0, .aload_n 0, 1) := Fm238 (dk_42 (dk_at s238_9 3 rfl rfl)) rfl
theorem f238_213 : ft 238 213 = some (11, 4, 0, .iload_n 3, 1) := Fm238 (dk_29 (dk_at s238_9 4 rfl rfl)) rfl
theorem f238_214 : ft 238 214 = some (11, 4, 0, .invokevirtual 339, 3) := Fm238 (dk_182 1 83 (dk_at s238_9 5 rfl rfl)) rfl
theorem f238_217 : ft 238 217 = some (11, 4, 0, .lstore 6, 2) := Fm238 (dk_55 6 (dk_at s238_9 8 rfl rfl)) rfl
theorem f238_219 : ft 238 219 = some (11, 4, 0, .lload 6, 2) := Fm238 (dk_22 6 (dk_at s238_9 10 rfl rfl)) rfl
theorem f238_221 : ft 238 221 = some (11, 4, 0, .lconst 0, 1) := Fm238 (dk_9 (dk_at s238_9 12 rfl rfl)) rfl
theorem f238_222 : ft 238 222 = some (11, 4, 0, .lcmp, 1) := Fm238 (dk_148 (dk_at s238_9 13 rfl rfl)) rfl
theorem f238_223 : ft 238 223 = some (11, 4, 0, .ifCond .lt 12, 3) := Fm238 (dk_155 0 12 (dk_at s238_9 14 rfl rfl)) rfl
theorem f238_226 : ft 238 226 = some (11, 4, 0, .lload 6, 2) := Fm238 (dk_22 6 (dk_at s238_9 17 rfl rfl)) rfl
theorem f238_228 : ft 238 228 = some (11, 4, 0, .iload 4, 2) := Fm238 (dk_21 4 (dk_at s238_9 19 rfl rfl)) rfl
theorem f238_230 : ft 238 230 = some (11, 4, 0, .i2l, 1) := Fm238 (dk_133 (dk_at s238_9 21 rfl rfl)) rfl
theorem f238_231 : ft 238 231 = some (11, 4, 0, .lcmp, 1) := Fm238 (dk_148 (dk_at s238_9 22 rfl rfl)) rfl
theorem f238_232 : ft 238 232 = some (11, 4, 0, .ifCond .le 5, 3) := Fm238 (dk_158 0 5 (dk_at s238_10 0 rfl rfl)) rfl
theorem f238_235 : ft 238 235 = some (11, 4, 0, .iconst 0, 1) := Fm238 (dk_3 (dk_at s238_10 3 rfl rfl)) rfl
theorem f238_236 : ft 238 236 = some (11, 4, 0, .ireturn, 1) := Fm238 (dk_172 (dk_at s238_10 4 rfl rfl)) rfl
theorem f238_237 : ft 238 237 = some (11, 4, 0, .aload_n 0, 1) := Fm238 (dk_42 (dk_at s238_10 5 rfl rfl)) rfl
theorem f238_238 : ft 238 238 = some (11, 4, 0, .getfield 102, 3) := Fm238 (dk_180 0 102 (dk_at s238_10 6 rfl rfl)) rfl
theorem f238_241 : ft 238 241 = some (11, 4, 0, .iload_n 2, 1) := Fm238 (dk_28 (dk_at s238_10 9 rfl rfl)) rfl
theorem f238_242 : ft 238 242 = some (11, 4, 0, .lload 6, 2) := Fm238 (dk_22 6 (dk_at s238_10 10 rfl rfl)) rfl
theorem f238_244 : ft 238 244 = some (11, 4, 0, .lconst 0, 1) := Fm238 (dk_9 (dk_at s238_10 12 rfl rfl)) rfl
theorem f238_245 : ft 238 245 = some (11, 4, 0, .lcmp, 1) := Fm238 (dk_148 (dk_at s238_10 13 rfl rfl)) rfl
theorem f238_246 : ft 238 246 = some (11, 4, 0, .ifCond .ne 7, 3) := Fm238 (dk_154 0 7 (dk_at s238_10 14 rfl rfl)) rfl
theorem f238_249 : ft 238 249 = some (11, 4, 0, .iconst (-1), 1) := Fm238 (dk_2 (dk_at s238_10 17 rfl rfl)) rfl
theorem f238_250 : ft 238 250 = some (11, 4, 0, .goto 12, 3) := Fm238 (dk_167 0 12 (dk_at s238_10 18 rfl rfl)) rfl
theorem f238_253 : ft 238 253 = some (11, 4, 0, .aload_n 0, 1) := Fm238 (dk_42 (dk_at s238_10 21 rfl rfl)) rfl
theorem f238_254 : ft 238 254 = some (11, 4, 0, .iload_n 2, 1) := Fm238 (dk_28 (dk_at s238_10 22 rfl rfl)) rfl
theorem f238_255 : ft 238 255 = some (11, 4, 0, .lload 6, 2) := Fm238 (dk_22 6 (dk_at s238_11 0 rfl rfl)) rfl
theorem f238_257 : ft 238 257 = some (11, 4, 0, .lconst 1, 1) := Fm238 (dk_10 (dk_at s238_11 2 rfl rfl)) rfl
theorem f238_258 : ft 238 258 = some (11, 4, 0, .lsub, 1) := Fm238 (dk_101 (dk_at s238_11 3 rfl rfl)) rfl
theorem f238_259 : ft 238 259 = some (11, 4, 0, .invokevirtual 343, 3) := Fm238 (dk_182 1 87 (dk_at s238_11 4 rfl rfl)) rfl
theorem f238_262 : ft 238 262 = some (11, 4, 0, .iload_n 1, 1) := Fm238 (dk_27 (dk_at s238_11 7 rfl rfl)) rfl
theorem f238_263 : ft 238 263 = some (11, 4, 0, .invokevirtual 245, 3) := Fm238 (dk_182 0 245 (dk_at s238_11 8 rfl rfl)) rfl
theorem f238_266 : ft 238 266 = some (11, 4, 0, .iconst 1, 1) := Fm238 (dk_4 (dk_at s238_11 11 rfl rfl)) rfl
theorem f238_267 : ft 238 267 = some (11, 4, 0, .ireturn, 1) := Fm238 (dk_172 (dk_at s238_11 12 rfl rfl)) rfl
theorem q238 {d : Nat} {m : Mem} {a0 a1 : Int} (hd : 0 < d) (hz : TZ m) : le2 (gd (tg m a0 = 11) <| nm (vl m a0 24) fun v8 => if v8 = 0 then (some (.inl (some (pI 1)), (mst m a0 26 a1))) else bI (cl (d - 1) 232 [pR a0, pI (vl m a0 26), pI (w32 (v8 - 1))] m) fun v1 m1 => nm (w32 ((vl m1 a0 24) - 1)) fun v9 => if v1 < 0 then (some (.inl (some (pI 0)), m1)) else nm (vl m1 a0 18) fun v10 => gd (tg m1 v10 = 13) <| nm (vl m1 v10 0) fun v11 => gd (tg m1 v11 = 284101 ∨ tg m1 v11 = 287101) <| gd ((0 : Int) ≤ v1 ∧ v1 < ln m1 v11) <| nm (vl m1 v11 v1) fun v12 => if v12 = 6 then (nm (vl m1 a0 22) fun v13 => gd (tg m1 v13 = 186101) <| gd ((0 : Int) ≤ v9 ∧ v9 < ln m1 v13) <| nm (vl m1 a0 23) fun v14 => gd (tg m1 v14 = 186101) <| gd ((0 : Int) ≤ v9 ∧ v9 < ln m1 v14) <| bI (cl (d - 1) 288 [pR v10, pI v1, pR (vl m1 a0 25), pI (vl m1 v13 v9), pI (vl m1 v14 v9)] m1) fun v3 m3 => nm (vl m3 a0 18) fun v15 => nm (vl m3 a0 22) fun v16 => gd (tg m3 v16 = 186101) <| gd ((0 : Int) ≤ v9 ∧ v9 < ln m3 v16) <| nm (vl m3 a0 23) fun v17 => gd (tg m3 v17 = 186101) <| gd ((0 : Int) ≤ v9 ∧ v9 < ln m3 v17) <| gd (tg m3 v15 = 13) <| bV (cl (d - 1) 293 [pR v15, pI a1, pR (vl m3 a0 25), pI (vl m3 v16 v9), pI (vl m3 v17 v9)] m3) fun m4 => if v3 < 0 then (nm (vl m4 a0 18) fun v18 => gd (tg m4 v18 = 13) <| bI (cl (d - 1) 295 [pR v18, pI v1] m4) fun v5 m5 => bV (cl (d - 1) 290 [pR v18, pI v1, pI v5, pI a1] m5) fun m6 => some (.inl (some (pI 1)), m6)) else bV (cl (d - 1) 239 [pR a0, pI v3, pI a1] m4) fun m7 => some (.inl (some (pI 1)), m7)) else if v12 = 5 then (bI (cl (d - 1) 291 [pR v10, pI v1] m1) fun v2 m2 => nm (vl m2 a0 23) fun v19 => gd (tg m2 v19 = 186101) <| gd ((0 : Int) ≤ v9 ∧ v9 < ln m2 v19) <| if (vl m2 v19 v9) = 1 then (nm (vl m2 a0 25) fun v20 => gd (tg m2 v20 = 13) <| nm (vl m2 v20 11) fun v21 => nm (vl m2 a0 22) fun v22 => gd (tg m2 v22 = 186101) <| gd ((0 : Int) ≤ v9 ∧ v9 < ln m2 v22) <| nm (vl m2 v22 v9) fun v23 => gd (tg m2 v21 = 284104 ∨ tg m2 v21 = 288104) <| gd ((0 : Int) ≤ v23 ∧ v23 < ln m2 v21) <| if (vl m2 v21 v23) = 45 then (rn d 238 199 [pR a0, pI a1, pI v1, pI v9, pI v2, pU, pU, pU] [pI 1] m2) else rn d 238 199 [pR a0, pI a1, pI v1, pI v9, pI v2, pU, pU, pU] [pI 0] m2) else rn d 238 199 [pR a0, pI a1, pI v1, pI v9, pI v2, pU, pU, pU] [pI 0] m2) else some (.inl (some (pI 0)), m1)) (cl d 238 [pR a0, pI a1] m) := by
  refine q_in (n := 8) (L := [pR a0, pI a1, pU, pU, pU, pU, pU, pU]) rfl rfl rfl ?_
  refine r_aln0 (p := 1) f238_0 rfl ?_
  refine le2_gd (fun h1 => ?_)
  refine r_gfI (f := 24) (p := 4) f238_1 rfl rfl rfl (Or.inl h1) rfl ?_
  refine r_nmI (fun v8 ev8 => ?_)
  refine r_ifne (t := 14) (p := 7) f238_4 (by decide) rfl rfl ?_ ?_
  · refine r_aln0 (p := 8) f238_7 rfl ?_
    refine r_iln1 (p := 9) f238_8 rfl ?_
    refine r_pfI (f := 26) (p := 12) f238_9 rfl rfl rfl (by decide) (by decide) (Or.inl h1) rfl ?_
    refine r_iconst (p := 13) f238_12 rfl (pinD rfl rfl) ?_
    exact r_iret4 f238_13 (by decide)
  · refine r_aln0 (p := 15) f238_14 rfl ?_
    refine r_aln0 (p := 16) f238_15 rfl ?_
    refine r_gfI (f := 26) (p := 19) f238_16 rfl rfl rfl (Or.inl h1) rfl ?_
    refine r_aln0 (p := 20) f238_19 rfl ?_
    refine r_gfI (f := 24) (p := 23) f238_20 rfl rfl rfl (Or.inl h1) ev8.symm ?_
    refine r_iconst (p := 24) f238_23 rfl (pinD rfl rfl) ?_
    refine r_isub (p := 25) f238_24 rfl ?_
    refine r_invI (p := 28) f238_25 rfl rfl rfl (Or.inl h1) hd (Nat.le_of_ble_eq_true rfl) rfl rfl rfl (fun _ => rfl) (fun v1 m1 c1 => ?_)
    have hz1 := z_k c1 hz
    refine r_isn2 (p := 29) f238_28 rfl rfl ?_
    refine r_aln0 (p := 30) f238_29 rfl ?_
    have h2 := k_t1 c1 hz h1 (by decide)
    refine r_gfI (f := 24) (p := 33) f238_30 rfl rfl rfl (Or.inl h2) rfl ?_
    refine r_iconst (p := 34) f238_33 rfl (pinD rfl rfl) ?_
    refine r_isub (p := 35) f238_34 rfl ?_
    refine r_nmI (fun v9 ev9 => ?_)
    refine r_isn3 (p := 36) f238_35 rfl rfl ?_
    refine r_iln2 (p := 37) f238_36 rfl ?_
    refine r_ifge (t := 42) (p := 40) f238_37 (by decide) rfl rfl ?_ ?_
    · refine r_iconst (p := 41) f238_40 rfl (pinD rfl rfl) ?_
      exact r_iret4 f238_41 (by decide)
    · refine r_aln0 (p := 43) f238_42 rfl ?_
      refine r_gfR (f := 18) (p := 46) f238_43 rfl rfl rfl (Or.inl h2) rfl ?_
      refine r_nmR (fun v10 ev10 => ?_)
      refine le2_gd (fun h3 => ?_)
      refine r_gfR (f := 0) (p := 49) f238_46 rfl rfl rfl (Or.inl h3) rfl ?_
      refine r_nmR (fun v11 ev11 => ?_)
      refine r_iln2 (p := 50) f238_49 rfl ?_
      refine le2_gd (fun h4 => ?_)
      refine le2_gd (fun h5 => ?_)
      refine r_iaload (p := 51) f238_50 rfl (dj2 (fun x => x % 1000 = 101) h4 (by decide) (by decide)) h5 rfl ?_
      refine r_nmI (fun v12 ev12 => ?_)
      refine r_bipush (p := 53) f238_51 rfl (pinD rfl rfl) ?_
      refine r_icne (t := 140) (p := 56) f238_53 (by decide) rfl rfl ?_ ?_
      · refine r_aln0 (p := 57) f238_56 rfl ?_
        refine r_gfR (f := 18) (p := 60) f238_57 rfl rfl rfl (Or.inl h2) ev10.symm ?_
        refine r_iln2 (p := 61) f238_60 rfl ?_
        refine r_aln0 (p := 62) f238_61 rfl ?_
        refine r_gfR (f := 25) (p := 65) f238_62 rfl rfl rfl (Or.inl h2) rfl ?_
        refine r_aln0 (p := 66) f238_65 rfl ?_
        refine r_gfR (f := 22) (p := 69) f238_66 rfl rfl rfl (Or.inl h2) rfl ?_
        refine r_nmR (fun v13 ev13 => ?_)
        refine r_iln3 (p := 70) f238_69 rfl ?_
        refine le2_gd (fun h14 => ?_)
        refine le2_gd (fun h15 => ?_)
        refine r_iaload (p := 71) f238_70 rfl (dj1 (fun x => x % 1000 = 101) h14 (by decide)) h15 rfl ?_
        refine r_aln0 (p := 72) f238_71 rfl ?_
        refine r_gfR (f := 23) (p := 75) f238_72 rfl rfl rfl (Or.inl h2) rfl ?_
        refine r_nmR (fun v14 ev14 => ?_)
        refine r_iln3 (p := 76) f238_75 rfl ?_
        refine le2_gd (fun h16 => ?_)
        refine le2_gd (fun h17 => ?_)
        refine r_iaload (p := 77) f238_76 rfl (dj1 (fun x => x % 1000 = 101) h16 (by decide)) h17 rfl ?_
        refine r_invI (p := 80) f238_77 rfl rfl rfl (Or.inl h3) hd (Nat.le_of_ble_eq_true rfl) rfl rfl rfl (fun _ => rfl) (fun v3 m3 c3 => ?_)
        have hz3 := z_k c3 hz1
        refine r_isw4 (p := 82) f238_80 rfl rfl ?_
        refine r_aln0 (p := 83) f238_82 rfl ?_
        have h18 := k_t1 c3 hz1 h2 (by decide)
        refine r_gfR (f := 18) (p := 86) f238_83 rfl rfl rfl (Or.inl h18) rfl ?_
        refine r_nmR (fun v15 ev15 => ?_)
        refine r_iln1 (p := 87) f238_86 rfl ?_
        refine r_aln0 (p := 88) f238_87 rfl ?_
        refine r_gfR (f := 25) (p := 91) f238_88 rfl rfl rfl (Or.inl h18) rfl ?_
        refine r_aln0 (p := 92) f238_91 rfl ?_
        refine r_gfR (f := 22) (p := 95) f238_92 rfl rfl rfl (Or.inl h18) rfl ?_
        refine r_nmR (fun v16 ev16 => ?_)
        refine r_iln3 (p := 96) f238_95 rfl ?_
        refine le2_gd (fun h19 => ?_)
        refine le2_gd (fun h20 => ?_)
        refine r_iaload (p := 97) f238_96 rfl (dj1 (fun x => x % 1000 = 101) h19 (by decide)) h20 rfl ?_
        refine r_aln0 (p := 98) f238_97 rfl ?_
        refine r_gfR (f := 23) (p := 101) f238_98 rfl rfl rfl (Or.inl h18) rfl ?_
        refine r_nmR (fun v17 ev17 => ?_)
        refine r_iln3 (p := 102) f238_101 rfl ?_
        refine le2_gd (fun h21 => ?_)
        refine le2_gd (fun h22 => ?_)
        refine r_iaload (p := 103) f238_102 rfl (dj1 (fun x => x % 1000 = 101) h21 (by decide)) h22 rfl ?_
        refine le2_gd (fun h23 => ?_)
        refine r_invV (p := 106) f238_103 rfl rfl rfl (Or.inl h23) hd (Nat.le_of_ble_eq_true rfl) rfl rfl rfl (fun _ => rfl) (fun m4 c4 => ?_)
        have hz4 := z_k c4 hz3
        refine r_ilw4 (p := 108) f238_106 rfl ?_
        refine r_iflt (t := 121) (p := 111) f238_108 (by decide) rfl rfl ?_ ?_
        · refine r_aln0 (p := 122) f238_121 rfl ?_
          have h24 := k_t1 c4 hz3 h18 (by decide)
          refine r_gfR (f := 18) (p := 125) f238_122 rfl rfl rfl (Or.inl h24) rfl ?_
          refine r_nmR (fun v18 ev18 => ?_)
          refine r_iln2 (p := 126) f238_125 rfl ?_
          refine r_aln0 (p := 127) f238_126 rfl ?_
          refine r_gfR (f := 18) (p := 130) f238_127 rfl rfl rfl (Or.inl h24) ev18.symm ?_
          refine r_iln2 (p := 131) f238_130 rfl ?_
          refine le2_gd (fun h25 => ?_)
          refine r_invI (p := 134) f238_131 rfl rfl rfl (Or.inl h25) hd (Nat.le_of_ble_eq_true rfl) rfl rfl rfl (fun _ => rfl) (fun v5 m5 c5 => ?_)
          have hz5 := z_k c5 hz4
          refine r_iln1 (p := 135) f238_134 rfl ?_
          have h26 := k_t1 c5 hz4 h25 (by decide)
          refine r_invV (p := 138) f238_135 rfl rfl rfl (Or.inl h26) hd (Nat.le_of_ble_eq_true rfl) rfl rfl rfl (fun _ => rfl) (fun m6 c6 => ?_)
          have hz6 := z_k c6 hz5
          refine r_iconst (p := 139) f238_138 rfl (pinD rfl rfl) ?_
          exact r_iret4 f238_139 (by decide)
        · refine r_aln0 (p := 112) f238_111 rfl ?_
          refine r_ilw4 (p := 114) f238_112 rfl ?_
          refine r_iln1 (p := 115) f238_114 rfl ?_
          have h27 := k_t1 c4 hz3 h18 (by decide)
          refine r_invV (p := 118) f238_115 rfl rfl rfl (Or.inl h27) hd (Nat.le_of_ble_eq_true rfl) rfl rfl rfl (fun _ => rfl) (fun m7 c7 => ?_)
          have hz7 := z_k c7 hz4
          refine r_goto (p := 138) f238_118 (by decide) rfl ?_
          refine r_iconst (p := 139) f238_138 rfl (pinD rfl rfl) ?_
          exact r_iret4 f238_139 (by decide)
      · refine r_aln0 (p := 141) f238_140 rfl ?_
        refine r_gfR (f := 18) (p := 144) f238_141 rfl rfl rfl (Or.inl h2) ev10.symm ?_
        refine r_gfR (f := 0) (p := 147) f238_144 rfl rfl rfl (Or.inl h3) ev11.symm ?_
        refine r_iln2 (p := 148) f238_147 rfl ?_
        refine r_iaload (p := 149) f238_148 rfl (dj2 (fun x => x % 1000 = 101) h4 (by decide) (by decide)) h5 ev12.symm ?_
        refine r_iconst (p := 150) f238_149 rfl (pinD rfl rfl) ?_
        refine r_iceq (t := 155) (p := 153) f238_150 (by decide) rfl rfl ?_ ?_
        · refine r_aln0 (p := 156) f238_155 rfl ?_
          refine r_gfR (f := 18) (p := 159) f238_156 rfl rfl rfl (Or.inl h2) ev10.symm ?_
          refine r_iln2 (p := 160) f238_159 rfl ?_
          refine r_invI (p := 163) f238_160 rfl rfl rfl (Or.inl h3) hd (Nat.le_of_ble_eq_true rfl) rfl rfl rfl (fun _ => rfl) (fun v2 m2 c2 => ?_)
          have hz2 := z_k c2 hz1
          refine r_isw4 (p := 165) f238_163 rfl rfl ?_
          refine r_aln0 (p := 166) f238_165 rfl ?_
          have h6 := k_t1 c2 hz1 h2 (by decide)
          refine r_gfR (f := 23) (p := 169) f238_166 rfl rfl rfl (Or.inl h6) rfl ?_
          refine r_nmR (fun v19 ev19 => ?_)
          refine r_iln3 (p := 170) f238_169 rfl ?_
          refine le2_gd (fun h7 => ?_)
          refine le2_gd (fun h8 => ?_)
          refine r_iaload (p := 171) f238_170 rfl (dj1 (fun x => x % 1000 = 101) h7 (by decide)) h8 rfl ?_
          refine r_iconst (p := 172) f238_171 rfl (pinD rfl rfl) ?_
          refine r_icne (t := 198) (p := 175) f238_172 (by decide) rfl rfl ?_ ?_
          · refine r_aln0 (p := 176) f238_175 rfl ?_
            refine r_gfR (f := 25) (p := 179) f238_176 rfl rfl rfl (Or.inl h6) rfl ?_
            refine r_nmR (fun v20 ev20 => ?_)
            refine le2_gd (fun h9 => ?_)
            refine r_gfR (f := 11) (p := 182) f238_179 rfl rfl rfl (Or.inl h9) rfl ?_
            refine r_nmR (fun v21 ev21 => ?_)
            refine r_aln0 (p := 183) f238_182 rfl ?_
            refine r_gfR (f := 22) (p := 186) f238_183 rfl rfl rfl (Or.inl h6) rfl ?_
            refine r_nmR (fun v22 ev22 => ?_)
            refine r_iln3 (p := 187) f238_186 rfl ?_
            refine le2_gd (fun h10 => ?_)
            refine le2_gd (fun h11 => ?_)
            refine r_iaload (p := 188) f238_187 rfl (dj1 (fun x => x % 1000 = 101) h10 (by decide)) h11 rfl ?_
            refine r_nmI (fun v23 ev23 => ?_)
            refine le2_gd (fun h12 => ?_)
            refine le2_gd (fun h13 => ?_)
            refine r_caload (p := 189) f238_188 rfl (dj2 (fun x => x % 1000 = 104) h12 (by decide) (by decide)) h13 rfl ?_
            refine r_bipush (p := 191) f238_189 rfl (pinD rfl rfl) ?_
            refine r_icne (t := 198) (p := 194) f238_191 (by decide) rfl rfl ?_ ?_
            · refine r_iconst (p := 195) f238_194 rfl (pinD rfl rfl) ?_
              refine r_goto (p := 199) f238_195 (by decide) rfl ?_
              exact le2_refl _
            · refine r_iconst (p := 199) f238_198 rfl (pinD rfl rfl) ?_
              exact le2_refl _
          · refine r_iconst (p := 199) f238_198 rfl (pinD rfl rfl) ?_
            exact le2_refl _
        · refine r_iconst (p := 154) f238_153 rfl (pinD rfl rfl) ?_
          exact r_iret4 f238_154 (by decide)
theorem q238_199 {d : Nat} {m : Mem} {a0 a1 a2 a3 a4 s0 : Int} (hd : 0 < d) (hz : TZ m) : le2 (if s0 = 0 then (gd (tg m a0 = 11) <| bL (cl (d - 1) 233 [pR a0, pI a3] m) fun v1 m1 => rn d 238 217 [pR a0, pI a1, pI a2, pI a3, pI a4, pI s0, pU, pU] [pL v1] m1) else rn d 238 217 [pR a0, pI a1, pI a2, pI a3, pI a4, pI s0, pU, pU] [pL a4] m) (rn d 238 199 [pR a0, pI a1, pI a2, pI a3, pI a4, pU, pU, pU] [pI s0] m) := by
  refine r_isw5 (p := 201) f238_199 rfl rfl ?_
  refine r_ilw5 (p := 203) f238_201 rfl ?_
  refine r_ifeq (t := 212) (p := 206) f238_203 (by decide) rfl rfl ?_ ?_
  · refine r_aln0 (p := 213) f238_212 rfl ?_
    refine r_iln3 (p := 214) f238_213 rfl ?_
    refine le2_gd (fun h1 => ?_)
    refine r_invL (p := 217) f238_214 rfl rfl rfl (Or.inl h1) hd (Nat.le_of_ble_eq_true rfl) rfl rfl rfl (fun _ => rfl) (fun v1 m1 c1 => ?_)
    have hz1 := z_k c1 hz
    exact le2_refl _
  · refine r_ilw4 (p := 208) f238_206 rfl ?_
    refine r_i2l (p := 209) f238_208 rfl ?_
    refine r_goto (p := 217) f238_209 (by decide) rfl ?_
    exact le2_refl _
theorem q238_217 {d : Nat} {m : Mem} {a0 a1 a2 a3 a4 a5 s0 : Int} (hd : 0 < d) (hz : TZ m) : le2 (if s0 < 0 then (some (.inl (some (pI 0)), m)) else if a4 < s0 then (some (.inl (some (pI 0)), m)) else gd (tg m a0 = 11) <| nm (vl m a0 18) fun v4 => if s0 = 0 then (gd (tg m v4 = 13) <| bV (cl (d - 1) 290 [pR v4, pI a2, pI (-1), pI a1] m) fun m3 => some (.inl (some (pI 1)), m3)) else bI (cl (d - 1) 234 [pR a0, pI a2, pL (w64 (s0 - 1))] m) fun v1 m1 => gd (tg m1 v4 = 13) <| bV (cl (d - 1) 290 [pR v4, pI a2, pI v1, pI a1] m1) fun m2 => some (.inl (some (pI 1)), m2)) (rn d 238 217 [pR a0, pI a1, pI a2, pI a3, pI a4, pI a5, pU, pU] [pL s0] m) := by
  refine r_lsw6 (p := 219) f238_217 rfl rfl ?_
  refine r_llw6 (p := 221) f238_219 rfl ?_
  refine r_lconst0 (p := 222) f238_221 rfl ?_
  refine r_lclt (p1 := 223) (t := 235) (p := 226) f238_222 rfl f238_223 (by decide) rfl rfl ?_ ?_
  · refine r_iconst (p := 236) f238_235 rfl (pinD rfl rfl) ?_
    exact r_iret4 f238_236 (by decide)
  · refine r_llw6 (p := 228) f238_226 rfl ?_
    refine r_ilw4 (p := 230) f238_228 rfl ?_
    refine r_i2l (p := 231) f238_230 rfl ?_
    refine r_lcle (p1 := 232) (t := 237) (p := 235) f238_231 rfl f238_232 (by decide) rfl rfl ?_ ?_
    · refine r_iconst (p := 236) f238_235 rfl (pinD rfl rfl) ?_
      exact r_iret4 f238_236 (by decide)
    · refine r_aln0 (p := 238) f238_237 rfl ?_
      refine le2_gd (fun h1 => ?_)
      refine r_gfR (f := 18) (p := 241) f238_238 rfl rfl rfl (Or.inl h1) rfl ?_
      refine r_nmR (fun v4 ev4 => ?_)
      refine r_iln2 (p := 242) f238_241 rfl ?_
      refine r_llw6 (p := 244) f238_242 rfl ?_
      refine r_lconst0 (p := 245) f238_244 rfl ?_
      refine r_lcne (p1 := 246) (t := 253) (p := 249) f238_245 rfl f238_246 (by decide) rfl rfl ?_ ?_
      · refine r_iconst (p := 250) f238_249 rfl (pinD rfl rfl) ?_
        refine r_goto (p := 262) f238_250 (by decide) rfl ?_
        refine r_iln1 (p := 263) f238_262 rfl ?_
        refine le2_gd (fun h3 => ?_)
        refine r_invV (p := 266) f238_263 rfl rfl rfl (Or.inl h3) hd (Nat.le_of_ble_eq_true rfl) rfl rfl rfl (fun _ => rfl) (fun m3 c3 => ?_)
        have hz3 := z_k c3 hz
        refine r_iconst (p := 267) f238_266 rfl (pinD rfl rfl) ?_
        exact r_iret4 f238_267 (by decide)
      · refine r_aln0 (p := 254) f238_253 rfl ?_
        refine r_iln2 (p := 255) f238_254 rfl ?_
        refine r_llw6 (p := 257) f238_255 rfl ?_
        refine r_lconst1 (p := 258) f238_257 rfl ?_
        refine r_lsub (p := 259) f238_258 rfl ?_
        refine r_invI (p := 262) f238_259 rfl rfl rfl (Or.inl h1) hd (Nat.le_of_ble_eq_true rfl) rfl rfl rfl (fun _ => rfl) (fun v1 m1 c1 => ?_)
        have hz1 := z_k c1 hz
        refine r_iln1 (p := 263) f238_262 rfl ?_
        refine le2_gd (fun h2 => ?_)
        refine r_invV (p := 266) f238_263 rfl rfl rfl (Or.inl h2) hd (Nat.le_of_ble_eq_true rfl) rfl rfl rfl (fun _ => rfl) (fun m2 c2 => ?_)
        have hz2 := z_k c2 hz1
        refine r_iconst (p := 267) f238_266 rfl (pinD rfl rfl) ?_
        exact r_iret4 f238_267 (by decide)
/-! 239 PathStoreModel.swap (II)V -/
def w239_2 : List UInt8 := [167, 255, 234, 42, 180, 0, 102, 27, 182, 1, 112, 42, 180, 0, 102, 29, 21, 4, 28, 182, 0, 245, 177]
abbrev u239_2 : List UInt8 := w239_2 ++ []
def w239_1 : List UInt8 := [21, 5, 27, 159, 0, 22, 21, 5, 54, 4, 42, 180, 0, 102, 180, 0, 24, 21, 5, 46, 54, 5]
abbrev u239_1 : List UInt8 := w239_1 ++ u239_2
def w239_0 : List UInt8 := [42, 180, 0, 102, 180, 1, 109, 27, 46, 62, 2, 54, 4, 42, 180, 0, 102, 180, 0, 17, 29, 46, 54, 5]
abbrev u239_0 : List UInt8 := w239_0 ++ u239_1
theorem s239_0 : (prog_32_method_51_code).data.toList.drop 0 = u239_0 := by decide +kernel
theorem s239_1 : (prog_32_method_51_code).data.toList.drop 24 = u239_1 := dk_seg s239_0 24 rfl rfl
theorem s239_2 : (prog_32_method_51_code).data.toList.drop 46 = u239_2 := dk_seg s239_1 22 rfl rfl
theorem Fm239 {pc len : Nat} {i : Instr} (h : decode (prog_32_method_51_code) pc = .ok (i, len)) (hl : len = ilen i len) : ft 239 pc = some (11, 0, 0, i, len) := ft_mk rfl h hl
theorem f239_0 : ft 239 0 = some (11, 0, 0, .aload_n 0, 1) := Fm239 (dk_42 (dk_at s239_0 0 rfl rfl)) rfl
theorem f239_1 : ft 239 1 = some (11, 0, 0, .getfield 102, 3) := Fm239 (dk_180 0 102 (dk_at s239_0 1 rfl rfl)) rfl
theorem f239_4 : ft 239 4 = some (11, 0, 0, .getfield 365, 3) := Fm239 (dk_180 1 109 (dk_at s239_0 4 rfl rfl)) rfl
theorem f239_7 : ft 239 7 = some (11, 0, 0, .iload_n 1, 1) := Fm239 (dk_27 (dk_at s239_0 7 rfl rfl)) rfl
theorem f239_8 : ft 239 8 = some (11, 0, 0, .iaload, 1) := Fm239 (dk_46 (dk_at s239_0 8 rfl rfl)) rfl
theorem f239_9 : ft 239 9 = some (11, 0, 0, .istore_n 3, 1) := Fm239 (dk_62 (dk_at s239_0 9 rfl rfl)) rfl
theorem f239_10 : ft 239 10 = some (11, 0, 0, .iconst (-1), 1) := Fm239 (dk_2 (dk_at s239_0 10 rfl rfl)) rfl
theorem f239_11 : ft 239 11 = some (11, 0, 0, .istore 4, 2) := Fm239 (dk_54 4 (dk_at s239_0 11 rfl rfl)) rfl
theorem f239_13 : ft 239 13 = some (11, 0, 0, .aload_n 0, 1) := Fm239 (dk_42 (dk_at s239_0 13 rfl rfl)) rfl
theorem f239_14 : ft 239 14 = some (11, 0, 0, .getfield 102, 3) := Fm239 (dk_180 0 102 (dk_at s239_0 14 rfl rfl)) rfl
theorem f239_17 : ft 239 17 = some (11, 0, 0, .getfield 17, 3) := Fm239 (dk_180 0 17 (dk_at s239_0 17 rfl rfl)) rfl
theorem f239_20 : ft 239 20 = some (11, 0, 0, .iload_n 3, 1) := Fm239 (dk_29 (dk_at s239_0 20 rfl rfl)) rfl
theorem f239_21 : ft 239 21 = some (11, 0, 0, .iaload, 1) := Fm239 (dk_46 (dk_at s239_0 21 rfl rfl)) rfl
theorem f239_22 : ft 239 22 = some (11, 0, 0, .istore 5, 2) := Fm239 (dk_54 5 (dk_at s239_0 22 rfl rfl)) rfl
theorem f239_24 : ft 239 24 = some (11, 0, 0, .iload 5, 2) := Fm239 (dk_21 5 (dk_at s239_1 0 rfl rfl)) rfl
theorem f239_26 : ft 239 26 = some (11, 0, 0, .iload_n 1, 1) := Fm239 (dk_27 (dk_at s239_1 2 rfl rfl)) rfl
theorem f239_27 : ft 239 27 = some (11, 0, 0, .if_icmp .eq 22, 3) := Fm239 (dk_159 0 22 (dk_at s239_1 3 rfl rfl)) rfl
theorem f239_30 : ft 239 30 = some (11, 0, 0, .iload 5, 2) := Fm239 (dk_21 5 (dk_at s239_1 6 rfl rfl)) rfl
theorem f239_32 : ft 239 32 = some (11, 0, 0, .istore 4, 2) := Fm239 (dk_54 4 (dk_at s239_1 8 rfl rfl)) rfl
theorem f239_34 : ft 239 34 = some (11, 0, 0, .aload_n 0, 1) := Fm239 (dk_42 (dk_at s239_1 10 rfl rfl)) rfl
theorem f239_35 : ft 239 35 = some (11, 0, 0, .getfield 102, 3) := Fm239 (dk_180 0 102 (dk_at s239_1 11 rfl rfl)) rfl
theorem f239_38 : ft 239 38 = some (11, 0, 0, .getfield 24, 3) := Fm239 (dk_180 0 24 (dk_at s239_1 14 rfl rfl)) rfl
theorem f239_41 : ft 239 41 = some (11, 0, 0, .iload 5, 2) := Fm239 (dk_21 5 (dk_at s239_1 17 rfl rfl)) rfl
theorem f239_43 : ft 239 43 = some (11, 0, 0, .iaload, 1) := Fm239 (dk_46 (dk_at s239_1 19 rfl rfl)) rfl
theorem f239_44 : ft 239 44 = some (11, 0, 0, .istore 5, 2) := Fm239 (dk_54 5 (dk_at s239_1 20 rfl rfl)) rfl
theorem f239_46 : ft 239 46 = some (11, 0, 0, .goto (-22), 3) := Fm239 (dk_167 255 234 (dk_at s239_2 0 rfl rfl)) rfl
theorem f239_49 : ft 239 49 = some (11, 0, 0, .aload_n 0, 1) := Fm239 (dk_42 (dk_at s239_2 3 rfl rfl)) rfl
theorem f239_50 : ft 239 50 = some (11, 0, 0, .getfield 102, 3) := Fm239 (dk_180 0 102 (dk_at s239_2 4 rfl rfl)) rfl
theorem f239_53 : ft 239 53 = some (11, 0, 0, .iload_n 1, 1) := Fm239 (dk_27 (dk_at s239_2 7 rfl rfl)) rfl
theorem f239_54 : ft 239 54 = some (11, 0, 0, .invokevirtual 368, 3) := Fm239 (dk_182 1 112 (dk_at s239_2 8 rfl rfl)) rfl
theorem f239_57 : ft 239 57 = some (11, 0, 0, .aload_n 0, 1) := Fm239 (dk_42 (dk_at s239_2 11 rfl rfl)) rfl
theorem f239_58 : ft 239 58 = some (11, 0, 0, .getfield 102, 3) := Fm239 (dk_180 0 102 (dk_at s239_2 12 rfl rfl)) rfl
theorem f239_61 : ft 239 61 = some (11, 0, 0, .iload_n 3, 1) := Fm239 (dk_29 (dk_at s239_2 15 rfl rfl)) rfl
theorem f239_62 : ft 239 62 = some (11, 0, 0, .iload 4, 2) := Fm239 (dk_21 4 (dk_at s239_2 16 rfl rfl)) rfl
theorem f239_64 : ft 239 64 = some (11, 0, 0, .iload_n 2, 1) := Fm239 (dk_28 (dk_at s239_2 18 rfl rfl)) rfl
theorem f239_65 : ft 239 65 = some (11, 0, 0, .invokevirtual 245, 3) := Fm239 (dk_182 0 245 (dk_at s239_2 19 rfl rfl)) rfl
theorem f239_68 : ft 239 68 = some (11, 0, 0, .return_, 1) := Fm239 (dk_177 (dk_at s239_2 22 rfl rfl)) rfl
theorem q239 {d : Nat} {m : Mem} {a0 a1 a2 : Int} (hz : TZ m) : le2 (gd (tg m a0 = 11) <| nm (vl m a0 18) fun v1 => gd (tg m v1 = 13) <| nm (vl m v1 8) fun v2 => gd (tg m v2 = 284101 ∨ tg m v2 = 287101) <| gd ((0 : Int) ≤ a1 ∧ a1 < ln m v2) <| nm (vl m v2 a1) fun v3 => nm (vl m v1 4) fun v4 => gd (tg m v4 = 284101 ∨ tg m v4 = 287101) <| gd ((0 : Int) ≤ v3 ∧ v3 < ln m v4) <| rn d 239 24 [pR a0, pI a1, pI a2, pI v3, pI (-1), pI (vl m v4 v3)] [] m) (cl d 239 [pR a0, pI a1, pI a2] m) := by
  refine q_in (n := 6) (L := [pR a0, pI a1, pI a2, pU, pU, pU]) rfl rfl rfl ?_
  refine r_aln0 (p := 1) f239_0 rfl ?_
  refine le2_gd (fun h1 => ?_)
  refine r_gfR (f := 18) (p := 4) f239_1 rfl rfl rfl (Or.inl h1) rfl ?_
  refine r_nmR (fun v1 ev1 => ?_)
  refine le2_gd (fun h2 => ?_)
  refine r_gfR (f := 8) (p := 7) f239_4 rfl rfl rfl (Or.inl h2) rfl ?_
  refine r_nmR (fun v2 ev2 => ?_)
  refine r_iln1 (p := 8) f239_7 rfl ?_
  refine le2_gd (fun h3 => ?_)
  refine le2_gd (fun h4 => ?_)
  refine r_iaload (p := 9) f239_8 rfl (dj2 (fun x => x % 1000 = 101) h3 (by decide) (by decide)) h4 rfl ?_
  refine r_nmI (fun v3 ev3 => ?_)
  refine r_isn3 (p := 10) f239_9 rfl rfl ?_
  refine r_iconst (p := 11) f239_10 rfl (pinD rfl rfl) ?_
  refine r_isw4 (p := 13) f239_11 rfl rfl ?_
  refine r_aln0 (p := 14) f239_13 rfl ?_
  refine r_gfR (f := 18) (p := 17) f239_14 rfl rfl rfl (Or.inl h1) ev1.symm ?_
  refine r_gfR (f := 4) (p := 20) f239_17 rfl rfl rfl (Or.inl h2) rfl ?_
  refine r_nmR (fun v4 ev4 => ?_)
  refine r_iln3 (p := 21) f239_20 rfl ?_
  refine le2_gd (fun h5 => ?_)
  refine le2_gd (fun h6 => ?_)
  refine r_iaload (p := 22) f239_21 rfl (dj2 (fun x => x % 1000 = 101) h5 (by decide) (by decide)) h6 rfl ?_
  refine r_isw5 (p := 24) f239_22 rfl rfl ?_
  exact le2_refl _
theorem q239_24 {d : Nat} {m : Mem} {a0 a1 a2 a3 a4 a5 : Int} (hd : 0 < d) (hz : TZ m) : le2 (if a5 = a1 then (gd (tg m a0 = 11) <| nm (vl m a0 18) fun v3 => gd (tg m v3 = 13) <| bV (cl (d - 1) 294 [pR v3, pI a1] m) fun m1 => nm (vl m1 a0 18) fun v4 => gd (tg m1 v4 = 13) <| bV (cl (d - 1) 290 [pR v4, pI a3, pI a4, pI a2] m1) fun m2 => some (.inl none, m2)) else gd (tg m a0 = 11) <| nm (vl m a0 18) fun v5 => gd (tg m v5 = 13) <| nm (vl m v5 5) fun v6 => gd (tg m v6 = 284101 ∨ tg m v6 = 287101) <| gd ((0 : Int) ≤ a5 ∧ a5 < ln m v6) <| rn d 239 24 [pR a0, pI a1, pI a2, pI a3, pI a5, pI (vl m v6 a5)] [] m) (rn d 239 24 [pR a0, pI a1, pI a2, pI a3, pI a4, pI a5] [] m) := by
  refine r_ilw5 (p := 26) f239_24 rfl ?_
  refine r_iln1 (p := 27) f239_26 rfl ?_
  refine r_iceq (t := 49) (p := 30) f239_27 (by decide) rfl rfl ?_ ?_
  · refine r_aln0 (p := 50) f239_49 rfl ?_
    refine le2_gd (fun h1 => ?_)
    refine r_gfR (f := 18) (p := 53) f239_50 rfl rfl rfl (Or.inl h1) rfl ?_
    refine r_nmR (fun v3 ev3 => ?_)
    refine r_iln1 (p := 54) f239_53 rfl ?_
    refine le2_gd (fun h2 => ?_)
    refine r_invV (p := 57) f239_54 rfl rfl rfl (Or.inl h2) hd (Nat.le_of_ble_eq_true rfl) rfl rfl rfl (fun _ => rfl) (fun m1 c1 => ?_)
    have hz1 := z_k c1 hz
    refine r_aln0 (p := 58) f239_57 rfl ?_
    have h3 := k_t1 c1 hz h1 (by decide)
    refine r_gfR (f := 18) (p := 61) f239_58 rfl rfl rfl (Or.inl h3) rfl ?_
    refine r_nmR (fun v4 ev4 => ?_)
    refine r_iln3 (p := 62) f239_61 rfl ?_
    refine r_ilw4 (p := 64) f239_62 rfl ?_
    refine r_iln2 (p := 65) f239_64 rfl ?_
    refine le2_gd (fun h4 => ?_)
    refine r_invV (p := 68) f239_65 rfl rfl rfl (Or.inl h4) hd (Nat.le_of_ble_eq_true rfl) rfl rfl rfl (fun _ => rfl) (fun m2 c2 => ?_)
    have hz2 := z_k c2 hz1
    exact r_ret f239_68
  · refine r_ilw5 (p := 32) f239_30 rfl ?_
    refine r_isw4 (p := 34) f239_32 rfl rfl ?_
    refine r_aln0 (p := 35) f239_34 rfl ?_
    refine le2_gd (fun h5 => ?_)
    refine r_gfR (f := 18) (p := 38) f239_35 rfl rfl rfl (Or.inl h5) rfl ?_
    refine r_nmR (fun v5 ev5 => ?_)
    refine le2_gd (fun h6 => ?_)
    refine r_gfR (f := 5) (p := 41) f239_38 rfl rfl rfl (Or.inl h6) rfl ?_
    refine r_nmR (fun v6 ev6 => ?_)
    refine r_ilw5 (p := 43) f239_41 rfl ?_
    refine le2_gd (fun h7 => ?_)
    refine le2_gd (fun h8 => ?_)
    refine r_iaload (p := 44) f239_43 rfl (dj2 (fun x => x % 1000 = 101) h7 (by decide) (by decide)) h8 rfl ?_
    refine r_isw5 (p := 46) f239_44 rfl rfl ?_
    refine r_goto (p := 24) f239_46 (by decide) rfl ?_
    exact le2_refl _
/-! 240 PathStoreModel.begins (II)Z -/
def w240_4 : List UInt8 := [180, 0, 45, 27, 46, 29, 96, 52, 16, 47, 160, 0, 7, 4, 167, 0, 4, 3, 172]
abbrev u240_4 : List UInt8 := w240_4 ++ []
def w240_3 : List UInt8 := [96, 52, 159, 0, 5, 3, 172, 132, 4, 1, 167, 255, 202, 42, 180, 0, 106, 180, 0, 51, 42, 180, 0, 106]
abbrev u240_3 : List UInt8 := w240_3 ++ u240_4
def w240_2 : List UInt8 := [27, 46, 21, 4, 96, 52, 42, 180, 0, 106, 180, 0, 51, 42, 180, 0, 106, 180, 0, 45, 28, 46, 21, 4]
abbrev u240_2 : List UInt8 := w240_2 ++ u240_3
def w240_1 : List UInt8 := [172, 3, 54, 4, 21, 4, 29, 162, 0, 54, 42, 180, 0, 106, 180, 0, 51, 42, 180, 0, 106, 180, 0, 45]
abbrev u240_1 : List UInt8 := w240_1 ++ u240_2
def w240_0 : List UInt8 := [42, 180, 0, 106, 180, 0, 48, 28, 46, 62, 42, 180, 0, 106, 180, 0, 48, 27, 46, 29, 163, 0, 5, 3]
abbrev u240_0 : List UInt8 := w240_0 ++ u240_1
theorem s240_0 : (prog_32_method_55_code).data.toList.drop 0 = u240_0 := by decide +kernel
theorem s240_1 : (prog_32_method_55_code).data.toList.drop 24 = u240_1 := dk_seg s240_0 24 rfl rfl
theorem s240_2 : (prog_32_method_55_code).data.toList.drop 48 = u240_2 := dk_seg s240_1 24 rfl rfl
theorem s240_3 : (prog_32_method_55_code).data.toList.drop 72 = u240_3 := dk_seg s240_2 24 rfl rfl
theorem s240_4 : (prog_32_method_55_code).data.toList.drop 96 = u240_4 := dk_seg s240_3 24 rfl rfl
theorem Fm240 {pc len : Nat} {i : Instr} (h : decode (prog_32_method_55_code) pc = .ok (i, len)) (hl : len = ilen i len) : ft 240 pc = some (11, 4, 0, i, len) := ft_mk rfl h hl
theorem f240_0 : ft 240 0 = some (11, 4, 0, .aload_n 0, 1) := Fm240 (dk_42 (dk_at s240_0 0 rfl rfl)) rfl
theorem f240_1 : ft 240 1 = some (11, 4, 0, .getfield 106, 3) := Fm240 (dk_180 0 106 (dk_at s240_0 1 rfl rfl)) rfl
theorem f240_4 : ft 240 4 = some (11, 4, 0, .getfield 48, 3) := Fm240 (dk_180 0 48 (dk_at s240_0 4 rfl rfl)) rfl
theorem f240_7 : ft 240 7 = some (11, 4, 0, .iload_n 2, 1) := Fm240 (dk_28 (dk_at s240_0 7 rfl rfl)) rfl
theorem f240_8 : ft 240 8 = some (11, 4, 0, .iaload, 1) := Fm240 (dk_46 (dk_at s240_0 8 rfl rfl)) rfl
theorem f240_9 : ft 240 9 = some (11, 4, 0, .istore_n 3, 1) := Fm240 (dk_62 (dk_at s240_0 9 rfl rfl)) rfl
theorem f240_10 : ft 240 10 = some (11, 4, 0, .aload_n 0, 1) := Fm240 (dk_42 (dk_at s240_0 10 rfl rfl)) rfl
theorem f240_11 : ft 240 11 = some (11, 4, 0, .getfield 106, 3) := Fm240 (dk_180 0 106 (dk_at s240_0 11 rfl rfl)) rfl
theorem f240_14 : ft 240 14 = some (11, 4, 0, .getfield 48, 3) := Fm240 (dk_180 0 48 (dk_at s240_0 14 rfl rfl)) rfl
theorem f240_17 : ft 240 17 = some (11, 4, 0, .iload_n 1, 1) := Fm240 (dk_27 (dk_at s240_0 17 rfl rfl)) rfl
theorem f240_18 : ft 240 18 = some (11, 4, 0, .iaload, 1) := Fm240 (dk_46 (dk_at s240_0 18 rfl rfl)) rfl
theorem f240_19 : ft 240 19 = some (11, 4, 0, .iload_n 3, 1) := Fm240 (dk_29 (dk_at s240_0 19 rfl rfl)) rfl
theorem f240_20 : ft 240 20 = some (11, 4, 0, .if_icmp .gt 5, 3) := Fm240 (dk_163 0 5 (dk_at s240_0 20 rfl rfl)) rfl
theorem f240_23 : ft 240 23 = some (11, 4, 0, .iconst 0, 1) := Fm240 (dk_3 (dk_at s240_0 23 rfl rfl)) rfl
theorem f240_24 : ft 240 24 = some (11, 4, 0, .ireturn, 1) := Fm240 (dk_172 (dk_at s240_1 0 rfl rfl)) rfl
theorem f240_25 : ft 240 25 = some (11, 4, 0, .iconst 0, 1) := Fm240 (dk_3 (dk_at s240_1 1 rfl rfl)) rfl
theorem f240_26 : ft 240 26 = some (11, 4, 0, .istore 4, 2) := Fm240 (dk_54 4 (dk_at s240_1 2 rfl rfl)) rfl
theorem f240_28 : ft 240 28 = some (11, 4, 0, .iload 4, 2) := Fm240 (dk_21 4 (dk_at s240_1 4 rfl rfl)) rfl
theorem f240_30 : ft 240 30 = some (11, 4, 0, .iload_n 3, 1) := Fm240 (dk_29 (dk_at s240_1 6 rfl rfl)) rfl
theorem f240_31 : ft 240 31 = some (11, 4, 0, .if_icmp .ge 54, 3) := Fm240 (dk_162 0 54 (dk_at s240_1 7 rfl rfl)) rfl
theorem f240_34 : ft 240 34 = some (11, 4, 0, .aload_n 0, 1) := Fm240 (dk_42 (dk_at s240_1 10 rfl rfl)) rfl
theorem f240_35 : ft 240 35 = some (11, 4, 0, .getfield 106, 3) := Fm240 (dk_180 0 106 (dk_at s240_1 11 rfl rfl)) rfl
theorem f240_38 : ft 240 38 = some (11, 4, 0, .getfield 51, 3) := Fm240 (dk_180 0 51 (dk_at s240_1 14 rfl rfl)) rfl
theorem f240_41 : ft 240 41 = some (11, 4, 0, .aload_n 0, 1) := Fm240 (dk_42 (dk_at s240_1 17 rfl rfl)) rfl
theorem f240_42 : ft 240 42 = some (11, 4, 0, .getfield 106, 3) := Fm240 (dk_180 0 106 (dk_at s240_1 18 rfl rfl)) rfl
theorem f240_45 : ft 240 45 = some (11, 4, 0, .getfield 45, 3) := Fm240 (dk_180 0 45 (dk_at s240_1 21 rfl rfl)) rfl
theorem f240_48 : ft 240 48 = some (11, 4, 0, .iload_n 1, 1) := Fm240 (dk_27 (dk_at s240_2 0 rfl rfl)) rfl
theorem f240_49 : ft 240 49 = some (11, 4, 0, .iaload, 1) := Fm240 (dk_46 (dk_at s240_2 1 rfl rfl)) rfl
theorem f240_50 : ft 240 50 = some (11, 4, 0, .iload 4, 2) := Fm240 (dk_21 4 (dk_at s240_2 2 rfl rfl)) rfl
theorem f240_52 : ft 240 52 = some (11, 4, 0, .iadd, 1) := Fm240 (dk_96 (dk_at s240_2 4 rfl rfl)) rfl
theorem f240_53 : ft 240 53 = some (11, 4, 0, .caload, 1) := Fm240 (dk_52 (dk_at s240_2 5 rfl rfl)) rfl
theorem f240_54 : ft 240 54 = some (11, 4, 0, .aload_n 0, 1) := Fm240 (dk_42 (dk_at s240_2 6 rfl rfl)) rfl
theorem f240_55 : ft 240 55 = some (11, 4, 0, .getfield 106, 3) := Fm240 (dk_180 0 106 (dk_at s240_2 7 rfl rfl)) rfl
theorem f240_58 : ft 240 58 = some (11, 4, 0, .getfield 51, 3) := Fm240 (dk_180 0 51 (dk_at s240_2 10 rfl rfl)) rfl
theorem f240_61 : ft 240 61 = some (11, 4, 0, .aload_n 0, 1) := Fm240 (dk_42 (dk_at s240_2 13 rfl rfl)) rfl
theorem f240_62 : ft 240 62 = some (11, 4, 0, .getfield 106, 3) := Fm240 (dk_180 0 106 (dk_at s240_2 14 rfl rfl)) rfl
theorem f240_65 : ft 240 65 = some (11, 4, 0, .getfield 45, 3) := Fm240 (dk_180 0 45 (dk_at s240_2 17 rfl rfl)) rfl
theorem f240_68 : ft 240 68 = some (11, 4, 0, .iload_n 2, 1) := Fm240 (dk_28 (dk_at s240_2 20 rfl rfl)) rfl
theorem f240_69 : ft 240 69 = some (11, 4, 0, .iaload, 1) := Fm240 (dk_46 (dk_at s240_2 21 rfl rfl)) rfl
theorem f240_70 : ft 240 70 = some (11, 4, 0, .iload 4, 2) := Fm240 (dk_21 4 (dk_at s240_2 22 rfl rfl)) rfl
theorem f240_72 : ft 240 72 = some (11, 4, 0, .iadd, 1) := Fm240 (dk_96 (dk_at s240_3 0 rfl rfl)) rfl
theorem f240_73 : ft 240 73 = some (11, 4, 0, .caload, 1) := Fm240 (dk_52 (dk_at s240_3 1 rfl rfl)) rfl
theorem f240_74 : ft 240 74 = some (11, 4, 0, .if_icmp .eq 5, 3) := Fm240 (dk_159 0 5 (dk_at s240_3 2 rfl rfl)) rfl
theorem f240_77 : ft 240 77 = some (11, 4, 0, .iconst 0, 1) := Fm240 (dk_3 (dk_at s240_3 5 rfl rfl)) rfl
theorem f240_78 : ft 240 78 = some (11, 4, 0, .ireturn, 1) := Fm240 (dk_172 (dk_at s240_3 6 rfl rfl)) rfl
theorem f240_79 : ft 240 79 = some (11, 4, 0, .iinc 4 1, 3) := Fm240 (dk_132 4 1 (dk_at s240_3 7 rfl rfl)) rfl
theorem f240_82 : ft 240 82 = some (11, 4, 0, .goto (-54), 3) := Fm240 (dk_167 255 202 (dk_at s240_3 10 rfl rfl)) rfl
theorem f240_85 : ft 240 85 = some (11, 4, 0, .aload_n 0, 1) := Fm240 (dk_42 (dk_at s240_3 13 rfl rfl)) rfl
theorem f240_86 : ft 240 86 = some (11, 4, 0, .getfield 106, 3) := Fm240 (dk_180 0 106 (dk_at s240_3 14 rfl rfl)) rfl
theorem f240_89 : ft 240 89 = some (11, 4, 0, .getfield 51, 3) := Fm240 (dk_180 0 51 (dk_at s240_3 17 rfl rfl)) rfl
theorem f240_92 : ft 240 92 = some (11, 4, 0, .aload_n 0, 1) := Fm240 (dk_42 (dk_at s240_3 20 rfl rfl)) rfl
theorem f240_93 : ft 240 93 = some (11, 4, 0, .getfield 106, 3) := Fm240 (dk_180 0 106 (dk_at s240_3 21 rfl rfl)) rfl
theorem f240_96 : ft 240 96 = some (11, 4, 0, .getfield 45, 3) := Fm240 (dk_180 0 45 (dk_at s240_4 0 rfl rfl)) rfl
theorem f240_99 : ft 240 99 = some (11, 4, 0, .iload_n 1, 1) := Fm240 (dk_27 (dk_at s240_4 3 rfl rfl)) rfl
theorem f240_100 : ft 240 100 = some (11, 4, 0, .iaload, 1) := Fm240 (dk_46 (dk_at s240_4 4 rfl rfl)) rfl
theorem f240_101 : ft 240 101 = some (11, 4, 0, .iload_n 3, 1) := Fm240 (dk_29 (dk_at s240_4 5 rfl rfl)) rfl
theorem f240_102 : ft 240 102 = some (11, 4, 0, .iadd, 1) := Fm240 (dk_96 (dk_at s240_4 6 rfl rfl)) rfl
theorem f240_103 : ft 240 103 = some (11, 4, 0, .caload, 1) := Fm240 (dk_52 (dk_at s240_4 7 rfl rfl)) rfl
theorem f240_104 : ft 240 104 = some (11, 4, 0, .bipush 47, 2) := Fm240 (dk_16 47 (dk_at s240_4 8 rfl rfl)) rfl
theorem f240_106 : ft 240 106 = some (11, 4, 0, .if_icmp .ne 7, 3) := Fm240 (dk_160 0 7 (dk_at s240_4 10 rfl rfl)) rfl
theorem f240_109 : ft 240 109 = some (11, 4, 0, .iconst 1, 1) := Fm240 (dk_4 (dk_at s240_4 13 rfl rfl)) rfl
theorem f240_110 : ft 240 110 = some (11, 4, 0, .goto 4, 3) := Fm240 (dk_167 0 4 (dk_at s240_4 14 rfl rfl)) rfl
theorem f240_113 : ft 240 113 = some (11, 4, 0, .iconst 0, 1) := Fm240 (dk_3 (dk_at s240_4 17 rfl rfl)) rfl
theorem f240_114 : ft 240 114 = some (11, 4, 0, .ireturn, 1) := Fm240 (dk_172 (dk_at s240_4 18 rfl rfl)) rfl
theorem q240 {d : Nat} {m : Mem} {a0 a1 a2 : Int} (hz : TZ m) : le2 (gd (tg m a0 = 11) <| nm (vl m a0 19) fun v1 => gd (tg m v1 = 13) <| nm (vl m v1 3) fun v2 => gd (tg m v2 = 284101 ∨ tg m v2 = 287101) <| gd ((0 : Int) ≤ a2 ∧ a2 < ln m v2) <| nm (vl m v2 a2) fun v3 => gd ((0 : Int) ≤ a1 ∧ a1 < ln m v2) <| if v3 < (vl m v2 a1) then (rn d 240 28 [pR a0, pI a1, pI a2, pI v3, pI 0] [] m) else some (.inl (some (pI 0)), m)) (cl d 240 [pR a0, pI a1, pI a2] m) := by
  refine q_in (n := 5) (L := [pR a0, pI a1, pI a2, pU, pU]) rfl rfl rfl ?_
  refine r_aln0 (p := 1) f240_0 rfl ?_
  refine le2_gd (fun h1 => ?_)
  refine r_gfR (f := 19) (p := 4) f240_1 rfl rfl rfl (Or.inl h1) rfl ?_
  refine r_nmR (fun v1 ev1 => ?_)
  refine le2_gd (fun h2 => ?_)
  refine r_gfR (f := 3) (p := 7) f240_4 rfl rfl rfl (Or.inl h2) rfl ?_
  refine r_nmR (fun v2 ev2 => ?_)
  refine r_iln2 (p := 8) f240_7 rfl ?_
  refine le2_gd (fun h3 => ?_)
  refine le2_gd (fun h4 => ?_)
  refine r_iaload (p := 9) f240_8 rfl (dj2 (fun x => x % 1000 = 101) h3 (by decide) (by decide)) h4 rfl ?_
  refine r_nmI (fun v3 ev3 => ?_)
  refine r_isn3 (p := 10) f240_9 rfl rfl ?_
  refine r_aln0 (p := 11) f240_10 rfl ?_
  refine r_gfR (f := 19) (p := 14) f240_11 rfl rfl rfl (Or.inl h1) ev1.symm ?_
  refine r_gfR (f := 3) (p := 17) f240_14 rfl rfl rfl (Or.inl h2) ev2.symm ?_
  refine r_iln1 (p := 18) f240_17 rfl ?_
  refine le2_gd (fun h5 => ?_)
  refine r_iaload (p := 19) f240_18 rfl (dj2 (fun x => x % 1000 = 101) h3 (by decide) (by decide)) h5 rfl ?_
  refine r_iln3 (p := 20) f240_19 rfl ?_
  refine r_icgt (t := 25) (p := 23) f240_20 (by decide) rfl rfl ?_ ?_
  · refine r_iconst (p := 26) f240_25 rfl (pinD rfl rfl) ?_
    refine r_isw4 (p := 28) f240_26 rfl rfl ?_
    exact le2_refl _
  · refine r_iconst (p := 24) f240_23 rfl (pinD rfl rfl) ?_
    exact r_iret4 f240_24 (by decide)
theorem q240_28 {d : Nat} {m : Mem} {a0 a1 a2 a3 a4 : Int} (hz : TZ m) : le2 (if a4 < a3 then (gd (tg m a0 = 11) <| nm (vl m a0 19) fun v1 => gd (tg m v1 = 13) <| nm (vl m v1 11) fun v2 => nm (vl m v1 2) fun v3 => gd (tg m v3 = 284101 ∨ tg m v3 = 287101) <| gd ((0 : Int) ≤ a1 ∧ a1 < ln m v3) <| nm (w32 ((vl m v3 a1) + a4)) fun v4 => gd (tg m v2 = 284104 ∨ tg m v2 = 288104) <| gd ((0 : Int) ≤ v4 ∧ v4 < ln m v2) <| gd ((0 : Int) ≤ a2 ∧ a2 < ln m v3) <| nm (w32 ((vl m v3 a2) + a4)) fun v5 => gd ((0 : Int) ≤ v5 ∧ v5 < ln m v2) <| if (vl m v2 v4) = (vl m v2 v5) then (rn d 240 28 [pR a0, pI a1, pI a2, pI a3, pI (w32 (a4 + 1))] [] m) else some (.inl (some (pI 0)), m)) else gd (tg m a0 = 11) <| nm (vl m a0 19) fun v6 => gd (tg m v6 = 13) <| nm (vl m v6 11) fun v7 => nm (vl m v6 2) fun v8 => gd (tg m v8 = 284101 ∨ tg m v8 = 287101) <| gd ((0 : Int) ≤ a1 ∧ a1 < ln m v8) <| nm (w32 ((vl m v8 a1) + a3)) fun v9 => gd (tg m v7 = 284104 ∨ tg m v7 = 288104) <| gd ((0 : Int) ≤ v9 ∧ v9 < ln m v7) <| if (vl m v7 v9) = 47 then (some (.inl (some (pI 1)), m)) else some (.inl (some (pI 0)), m)) (rn d 240 28 [pR a0, pI a1, pI a2, pI a3, pI a4] [] m) := by
  refine r_ilw4 (p := 30) f240_28 rfl ?_
  refine r_iln3 (p := 31) f240_30 rfl ?_
  refine r_icge (t := 85) (p := 34) f240_31 (by decide) rfl rfl ?_ ?_
  · refine r_aln0 (p := 35) f240_34 rfl ?_
    refine le2_gd (fun h7 => ?_)
    refine r_gfR (f := 19) (p := 38) f240_35 rfl rfl rfl (Or.inl h7) rfl ?_
    refine r_nmR (fun v1 ev1 => ?_)
    refine le2_gd (fun h8 => ?_)
    refine r_gfR (f := 11) (p := 41) f240_38 rfl rfl rfl (Or.inl h8) rfl ?_
    refine r_nmR (fun v2 ev2 => ?_)
    refine r_aln0 (p := 42) f240_41 rfl ?_
    refine r_gfR (f := 19) (p := 45) f240_42 rfl rfl rfl (Or.inl h7) ev1.symm ?_
    refine r_gfR (f := 2) (p := 48) f240_45 rfl rfl rfl (Or.inl h8) rfl ?_
    refine r_nmR (fun v3 ev3 => ?_)
    refine r_iln1 (p := 49) f240_48 rfl ?_
    refine le2_gd (fun h9 => ?_)
    refine le2_gd (fun h10 => ?_)
    refine r_iaload (p := 50) f240_49 rfl (dj2 (fun x => x % 1000 = 101) h9 (by decide) (by decide)) h10 rfl ?_
    refine r_ilw4 (p := 52) f240_50 rfl ?_
    refine r_iadd (p := 53) f240_52 rfl ?_
    refine r_nmI (fun v4 ev4 => ?_)
    refine le2_gd (fun h11 => ?_)
    refine le2_gd (fun h12 => ?_)
    refine r_caload (p := 54) f240_53 rfl (dj2 (fun x => x % 1000 = 104) h11 (by decide) (by decide)) h12 rfl ?_
    refine r_aln0 (p := 55) f240_54 rfl ?_
    refine r_gfR (f := 19) (p := 58) f240_55 rfl rfl rfl (Or.inl h7) ev1.symm ?_
    refine r_gfR (f := 11) (p := 61) f240_58 rfl rfl rfl (Or.inl h8) ev2.symm ?_
    refine r_aln0 (p := 62) f240_61 rfl ?_
    refine r_gfR (f := 19) (p := 65) f240_62 rfl rfl rfl (Or.inl h7) ev1.symm ?_
    refine r_gfR (f := 2) (p := 68) f240_65 rfl rfl rfl (Or.inl h8) ev3.symm ?_
    refine r_iln2 (p := 69) f240_68 rfl ?_
    refine le2_gd (fun h13 => ?_)
    refine r_iaload (p := 70) f240_69 rfl (dj2 (fun x => x % 1000 = 101) h9 (by decide) (by decide)) h13 rfl ?_
    refine r_ilw4 (p := 72) f240_70 rfl ?_
    refine r_iadd (p := 73) f240_72 rfl ?_
    refine r_nmI (fun v5 ev5 => ?_)
    refine le2_gd (fun h14 => ?_)
    refine r_caload (p := 74) f240_73 rfl (dj2 (fun x => x % 1000 = 104) h11 (by decide) (by decide)) h14 rfl ?_
    refine r_iceq (t := 79) (p := 77) f240_74 (by decide) rfl rfl ?_ ?_
    · refine r_iinc4 (p := 82) f240_79 rfl rfl ?_
      refine r_goto (p := 28) f240_82 (by decide) rfl ?_
      exact le2_refl _
    · refine r_iconst (p := 78) f240_77 rfl (pinD rfl rfl) ?_
      exact r_iret4 f240_78 (by decide)
  · refine r_aln0 (p := 86) f240_85 rfl ?_
    refine le2_gd (fun h1 => ?_)
    refine r_gfR (f := 19) (p := 89) f240_86 rfl rfl rfl (Or.inl h1) rfl ?_
    refine r_nmR (fun v6 ev6 => ?_)
    refine le2_gd (fun h2 => ?_)
    refine r_gfR (f := 11) (p := 92) f240_89 rfl rfl rfl (Or.inl h2) rfl ?_
    refine r_nmR (fun v7 ev7 => ?_)
    refine r_aln0 (p := 93) f240_92 rfl ?_
    refine r_gfR (f := 19) (p := 96) f240_93 rfl rfl rfl (Or.inl h1) ev6.symm ?_
    refine r_gfR (f := 2) (p := 99) f240_96 rfl rfl rfl (Or.inl h2) rfl ?_
    refine r_nmR (fun v8 ev8 => ?_)
    refine r_iln1 (p := 100) f240_99 rfl ?_
    refine le2_gd (fun h3 => ?_)
    refine le2_gd (fun h4 => ?_)
    refine r_iaload (p := 101) f240_100 rfl (dj2 (fun x => x % 1000 = 101) h3 (by decide) (by decide)) h4 rfl ?_
    refine r_iln3 (p := 102) f240_101 rfl ?_
    refine r_iadd (p := 103) f240_102 rfl ?_
    refine r_nmI (fun v9 ev9 => ?_)
    refine le2_gd (fun h5 => ?_)
    refine le2_gd (fun h6 => ?_)
    refine r_caload (p := 104) f240_103 rfl (dj2 (fun x => x % 1000 = 104) h5 (by decide) (by decide)) h6 rfl ?_
    refine r_bipush (p := 106) f240_104 rfl (pinD rfl rfl) ?_
    refine r_icne (t := 113) (p := 109) f240_106 (by decide) rfl rfl ?_ ?_
    · refine r_iconst (p := 110) f240_109 rfl (pinD rfl rfl) ?_
      refine r_goto (p := 114) f240_110 (by decide) rfl ?_
      exact r_iret4 f240_114 (by decide)
    · refine r_iconst (p := 114) f240_113 rfl (pinD rfl rfl) ?_
      exact r_iret4 f240_114 (by decide)
/-! 241 PathStoreModel.alike (II)Z -/
def w241_3 : List UInt8 := [180, 0, 45, 28, 46, 29, 96, 52, 159, 0, 5, 3, 172, 132, 3, 1, 167, 255, 197, 4, 172]
abbrev u241_3 : List UInt8 := w241_3 ++ []
def w241_2 : List UInt8 := [180, 0, 106, 180, 0, 45, 27, 46, 29, 96, 52, 42, 180, 0, 106, 180, 0, 51, 42, 180, 0, 106]
abbrev u241_2 : List UInt8 := w241_2 ++ u241_3
def w241_1 : List UInt8 := [62, 29, 42, 180, 0, 106, 180, 0, 48, 27, 46, 162, 0, 52, 42, 180, 0, 106, 180, 0, 51, 42]
abbrev u241_1 : List UInt8 := w241_1 ++ u241_2
def w241_0 : List UInt8 := [42, 180, 0, 106, 180, 0, 48, 27, 46, 42, 180, 0, 106, 180, 0, 48, 28, 46, 159, 0, 5, 3, 172, 3]
abbrev u241_0 : List UInt8 := w241_0 ++ u241_1
theorem s241_0 : (prog_32_method_56_code).data.toList.drop 0 = u241_0 := by decide +kernel
theorem s241_1 : (prog_32_method_56_code).data.toList.drop 24 = u241_1 := dk_seg s241_0 24 rfl rfl
theorem s241_2 : (prog_32_method_56_code).data.toList.drop 46 = u241_2 := dk_seg s241_1 22 rfl rfl
theorem s241_3 : (prog_32_method_56_code).data.toList.drop 68 = u241_3 := dk_seg s241_2 22 rfl rfl
theorem Fm241 {pc len : Nat} {i : Instr} (h : decode (prog_32_method_56_code) pc = .ok (i, len)) (hl : len = ilen i len) : ft 241 pc = some (11, 4, 0, i, len) := ft_mk rfl h hl
theorem f241_0 : ft 241 0 = some (11, 4, 0, .aload_n 0, 1) := Fm241 (dk_42 (dk_at s241_0 0 rfl rfl)) rfl
theorem f241_1 : ft 241 1 = some (11, 4, 0, .getfield 106, 3) := Fm241 (dk_180 0 106 (dk_at s241_0 1 rfl rfl)) rfl
theorem f241_4 : ft 241 4 = some (11, 4, 0, .getfield 48, 3) := Fm241 (dk_180 0 48 (dk_at s241_0 4 rfl rfl)) rfl
theorem f241_7 : ft 241 7 = some (11, 4, 0, .iload_n 1, 1) := Fm241 (dk_27 (dk_at s241_0 7 rfl rfl)) rfl
theorem f241_8 : ft 241 8 = some (11, 4, 0, .iaload, 1) := Fm241 (dk_46 (dk_at s241_0 8 rfl rfl)) rfl
theorem f241_9 : ft 241 9 = some (11, 4, 0, .aload_n 0, 1) := Fm241 (dk_42 (dk_at s241_0 9 rfl rfl)) rfl
theorem f241_10 : ft 241 10 = some (11, 4, 0, .getfield 106, 3) := Fm241 (dk_180 0 106 (dk_at s241_0 10 rfl rfl)) rfl
theorem f241_13 : ft 241 13 = some (11, 4, 0, .getfield 48, 3) := Fm241 (dk_180 0 48 (dk_at s241_0 13 rfl rfl)) rfl
theorem f241_16 : ft 241 16 = some (11, 4, 0, .iload_n 2, 1) := Fm241 (dk_28 (dk_at s241_0 16 rfl rfl)) rfl
theorem f241_17 : ft 241 17 = some (11, 4, 0, .iaload, 1) := Fm241 (dk_46 (dk_at s241_0 17 rfl rfl)) rfl
theorem f241_18 : ft 241 18 = some (11, 4, 0, .if_icmp .eq 5, 3) := Fm241 (dk_159 0 5 (dk_at s241_0 18 rfl rfl)) rfl
theorem f241_21 : ft 241 21 = some (11, 4, 0, .iconst 0, 1) := Fm241 (dk_3 (dk_at s241_0 21 rfl rfl)) rfl
theorem f241_22 : ft 241 22 = some (11, 4, 0, .ireturn, 1) := Fm241 (dk_172 (dk_at s241_0 22 rfl rfl)) rfl
theorem f241_23 : ft 241 23 = some (11, 4, 0, .iconst 0, 1) := Fm241 (dk_3 (dk_at s241_0 23 rfl rfl)) rfl
theorem f241_24 : ft 241 24 = some (11, 4, 0, .istore_n 3, 1) := Fm241 (dk_62 (dk_at s241_1 0 rfl rfl)) rfl
theorem f241_25 : ft 241 25 = some (11, 4, 0, .iload_n 3, 1) := Fm241 (dk_29 (dk_at s241_1 1 rfl rfl)) rfl
theorem f241_26 : ft 241 26 = some (11, 4, 0, .aload_n 0, 1) := Fm241 (dk_42 (dk_at s241_1 2 rfl rfl)) rfl
theorem f241_27 : ft 241 27 = some (11, 4, 0, .getfield 106, 3) := Fm241 (dk_180 0 106 (dk_at s241_1 3 rfl rfl)) rfl
theorem f241_30 : ft 241 30 = some (11, 4, 0, .getfield 48, 3) := Fm241 (dk_180 0 48 (dk_at s241_1 6 rfl rfl)) rfl
theorem f241_33 : ft 241 33 = some (11, 4, 0, .iload_n 1, 1) := Fm241 (dk_27 (dk_at s241_1 9 rfl rfl)) rfl
theorem f241_34 : ft 241 34 = some (11, 4, 0, .iaload, 1) := Fm241 (dk_46 (dk_at s241_1 10 rfl rfl)) rfl
theorem f241_35 : ft 241 35 = some (11, 4, 0, .if_icmp .ge 52, 3) := Fm241 (dk_162 0 52 (dk_at s241_1 11 rfl rfl)) rfl
theorem f241_38 : ft 241 38 = some (11, 4, 0, .aload_n 0, 1) := Fm241 (dk_42 (dk_at s241_1 14 rfl rfl)) rfl
theorem f241_39 : ft 241 39 = some (11, 4, 0, .getfield 106, 3) := Fm241 (dk_180 0 106 (dk_at s241_1 15 rfl rfl)) rfl
theorem f241_42 : ft 241 42 = some (11, 4, 0, .getfield 51, 3) := Fm241 (dk_180 0 51 (dk_at s241_1 18 rfl rfl)) rfl
theorem f241_45 : ft 241 45 = some (11, 4, 0, .aload_n 0, 1) := Fm241 (dk_42 (dk_at s241_1 21 rfl rfl)) rfl
theorem f241_46 : ft 241 46 = some (11, 4, 0, .getfield 106, 3) := Fm241 (dk_180 0 106 (dk_at s241_2 0 rfl rfl)) rfl
theorem f241_49 : ft 241 49 = some (11, 4, 0, .getfield 45, 3) := Fm241 (dk_180 0 45 (dk_at s241_2 3 rfl rfl)) rfl
theorem f241_52 : ft 241 52 = some (11, 4, 0, .iload_n 1, 1) := Fm241 (dk_27 (dk_at s241_2 6 rfl rfl)) rfl
theorem f241_53 : ft 241 53 = some (11, 4, 0, .iaload, 1) := Fm241 (dk_46 (dk_at s241_2 7 rfl rfl)) rfl
theorem f241_54 : ft 241 54 = some (11, 4, 0, .iload_n 3, 1) := Fm241 (dk_29 (dk_at s241_2 8 rfl rfl)) rfl
theorem f241_55 : ft 241 55 = some (11, 4, 0, .iadd, 1) := Fm241 (dk_96 (dk_at s241_2 9 rfl rfl)) rfl
theorem f241_56 : ft 241 56 = some (11, 4, 0, .caload, 1) := Fm241 (dk_52 (dk_at s241_2 10 rfl rfl)) rfl
theorem f241_57 : ft 241 57 = some (11, 4, 0, .aload_n 0, 1) := Fm241 (dk_42 (dk_at s241_2 11 rfl rfl)) rfl
theorem f241_58 : ft 241 58 = some (11, 4, 0, .getfield 106, 3) := Fm241 (dk_180 0 106 (dk_at s241_2 12 rfl rfl)) rfl
theorem f241_61 : ft 241 61 = some (11, 4, 0, .getfield 51, 3) := Fm241 (dk_180 0 51 (dk_at s241_2 15 rfl rfl)) rfl
theorem f241_64 : ft 241 64 = some (11, 4, 0, .aload_n 0, 1) := Fm241 (dk_42 (dk_at s241_2 18 rfl rfl)) rfl
theorem f241_65 : ft 241 65 = some (11, 4, 0, .getfield 106, 3) := Fm241 (dk_180 0 106 (dk_at s241_2 19 rfl rfl)) rfl
theorem f241_68 : ft 241 68 = some (11, 4, 0, .getfield 45, 3) := Fm241 (dk_180 0 45 (dk_at s241_3 0 rfl rfl)) rfl
theorem f241_71 : ft 241 71 = some (11, 4, 0, .iload_n 2, 1) := Fm241 (dk_28 (dk_at s241_3 3 rfl rfl)) rfl
theorem f241_72 : ft 241 72 = some (11, 4, 0, .iaload, 1) := Fm241 (dk_46 (dk_at s241_3 4 rfl rfl)) rfl
theorem f241_73 : ft 241 73 = some (11, 4, 0, .iload_n 3, 1) := Fm241 (dk_29 (dk_at s241_3 5 rfl rfl)) rfl
theorem f241_74 : ft 241 74 = some (11, 4, 0, .iadd, 1) := Fm241 (dk_96 (dk_at s241_3 6 rfl rfl)) rfl
theorem f241_75 : ft 241 75 = some (11, 4, 0, .caload, 1) := Fm241 (dk_52 (dk_at s241_3 7 rfl rfl)) rfl
theorem f241_76 : ft 241 76 = some (11, 4, 0, .if_icmp .eq 5, 3) := Fm241 (dk_159 0 5 (dk_at s241_3 8 rfl rfl)) rfl
theorem f241_79 : ft 241 79 = some (11, 4, 0, .iconst 0, 1) := Fm241 (dk_3 (dk_at s241_3 11 rfl rfl)) rfl
theorem f241_80 : ft 241 80 = some (11, 4, 0, .ireturn, 1) := Fm241 (dk_172 (dk_at s241_3 12 rfl rfl)) rfl
theorem f241_81 : ft 241 81 = some (11, 4, 0, .iinc 3 1, 3) := Fm241 (dk_132 3 1 (dk_at s241_3 13 rfl rfl)) rfl
theorem f241_84 : ft 241 84 = some (11, 4, 0, .goto (-59), 3) := Fm241 (dk_167 255 197 (dk_at s241_3 16 rfl rfl)) rfl
theorem f241_87 : ft 241 87 = some (11, 4, 0, .iconst 1, 1) := Fm241 (dk_4 (dk_at s241_3 19 rfl rfl)) rfl
theorem f241_88 : ft 241 88 = some (11, 4, 0, .ireturn, 1) := Fm241 (dk_172 (dk_at s241_3 20 rfl rfl)) rfl
theorem q241 {d : Nat} {m : Mem} {a0 a1 a2 : Int} (hz : TZ m) : le2 (gd (tg m a0 = 11) <| nm (vl m a0 19) fun v1 => gd (tg m v1 = 13) <| nm (vl m v1 3) fun v2 => gd (tg m v2 = 284101 ∨ tg m v2 = 287101) <| gd ((0 : Int) ≤ a1 ∧ a1 < ln m v2) <| gd ((0 : Int) ≤ a2 ∧ a2 < ln m v2) <| if (vl m v2 a1) = (vl m v2 a2) then (rn d 241 25 [pR a0, pI a1, pI a2, pI 0] [] m) else some (.inl (some (pI 0)), m)) (cl d 241 [pR a0, pI a1, pI a2] m) := by
  refine q_in (n := 4) (L := [pR a0, pI a1, pI a2, pU]) rfl rfl rfl ?_
  refine r_aln0 (p := 1) f241_0 rfl ?_
  refine le2_gd (fun h1 => ?_)
  refine r_gfR (f := 19) (p := 4) f241_1 rfl rfl rfl (Or.inl h1) rfl ?_
  refine r_nmR (fun v1 ev1 => ?_)
  refine le2_gd (fun h2 => ?_)
  refine r_gfR (f := 3) (p := 7) f241_4 rfl rfl rfl (Or.inl h2) rfl ?_
  refine r_nmR (fun v2 ev2 => ?_)
  refine r_iln1 (p := 8) f241_7 rfl ?_
  refine le2_gd (fun h3 => ?_)
  refine le2_gd (fun h4 => ?_)
  refine r_iaload (p := 9) f241_8 rfl (dj2 (fun x => x % 1000 = 101) h3 (by decide) (by decide)) h4 rfl ?_
  refine r_aln0 (p := 10) f241_9 rfl ?_
  refine r_gfR (f := 19) (p := 13) f241_10 rfl rfl rfl (Or.inl h1) ev1.symm ?_
  refine r_gfR (f := 3) (p := 16) f241_13 rfl rfl rfl (Or.inl h2) ev2.symm ?_
  refine r_iln2 (p := 17) f241_16 rfl ?_
  refine le2_gd (fun h5 => ?_)
  refine r_iaload (p := 18) f241_17 rfl (dj2 (fun x => x % 1000 = 101) h3 (by decide) (by decide)) h5 rfl ?_
  refine r_iceq (t := 23) (p := 21) f241_18 (by decide) rfl rfl ?_ ?_
  · refine r_iconst (p := 24) f241_23 rfl (pinD rfl rfl) ?_
    refine r_isn3 (p := 25) f241_24 rfl rfl ?_
    exact le2_refl _
  · refine r_iconst (p := 22) f241_21 rfl (pinD rfl rfl) ?_
    exact r_iret4 f241_22 (by decide)
theorem q241_25 {d : Nat} {m : Mem} {a0 a1 a2 a3 : Int} (hz : TZ m) : le2 (gd (tg m a0 = 11) <| nm (vl m a0 19) fun v1 => gd (tg m v1 = 13) <| nm (vl m v1 3) fun v2 => gd (tg m v2 = 284101 ∨ tg m v2 = 287101) <| gd ((0 : Int) ≤ a1 ∧ a1 < ln m v2) <| if a3 < (vl m v2 a1) then (nm (vl m v1 11) fun v3 => nm (vl m v1 2) fun v4 => gd (tg m v4 = 284101 ∨ tg m v4 = 287101) <| gd ((0 : Int) ≤ a1 ∧ a1 < ln m v4) <| nm (w32 ((vl m v4 a1) + a3)) fun v5 => gd (tg m v3 = 284104 ∨ tg m v3 = 288104) <| gd ((0 : Int) ≤ v5 ∧ v5 < ln m v3) <| gd ((0 : Int) ≤ a2 ∧ a2 < ln m v4) <| nm (w32 ((vl m v4 a2) + a3)) fun v6 => gd ((0 : Int) ≤ v6 ∧ v6 < ln m v3) <| if (vl m v3 v5) = (vl m v3 v6) then (rn d 241 25 [pR a0, pI a1, pI a2, pI (w32 (a3 + 1))] [] m) else some (.inl (some (pI 0)), m)) else some (.inl (some (pI 1)), m)) (rn d 241 25 [pR a0, pI a1, pI a2, pI a3] [] m) := by
  refine r_iln3 (p := 26) f241_25 rfl ?_
  refine r_aln0 (p := 27) f241_26 rfl ?_
  refine le2_gd (fun h1 => ?_)
  refine r_gfR (f := 19) (p := 30) f241_27 rfl rfl rfl (Or.inl h1) rfl ?_
  refine r_nmR (fun v1 ev1 => ?_)
  refine le2_gd (fun h2 => ?_)
  refine r_gfR (f := 3) (p := 33) f241_30 rfl rfl rfl (Or.inl h2) rfl ?_
  refine r_nmR (fun v2 ev2 => ?_)
  refine r_iln1 (p := 34) f241_33 rfl ?_
  refine le2_gd (fun h3 => ?_)
  refine le2_gd (fun h4 => ?_)
  refine r_iaload (p := 35) f241_34 rfl (dj2 (fun x => x % 1000 = 101) h3 (by decide) (by decide)) h4 rfl ?_
  refine r_icge (t := 87) (p := 38) f241_35 (by decide) rfl rfl ?_ ?_
  · refine r_aln0 (p := 39) f241_38 rfl ?_
    refine r_gfR (f := 19) (p := 42) f241_39 rfl rfl rfl (Or.inl h1) ev1.symm ?_
    refine r_gfR (f := 11) (p := 45) f241_42 rfl rfl rfl (Or.inl h2) rfl ?_
    refine r_nmR (fun v3 ev3 => ?_)
    refine r_aln0 (p := 46) f241_45 rfl ?_
    refine r_gfR (f := 19) (p := 49) f241_46 rfl rfl rfl (Or.inl h1) ev1.symm ?_
    refine r_gfR (f := 2) (p := 52) f241_49 rfl rfl rfl (Or.inl h2) rfl ?_
    refine r_nmR (fun v4 ev4 => ?_)
    refine r_iln1 (p := 53) f241_52 rfl ?_
    refine le2_gd (fun h5 => ?_)
    refine le2_gd (fun h6 => ?_)
    refine r_iaload (p := 54) f241_53 rfl (dj2 (fun x => x % 1000 = 101) h5 (by decide) (by decide)) h6 rfl ?_
    refine r_iln3 (p := 55) f241_54 rfl ?_
    refine r_iadd (p := 56) f241_55 rfl ?_
    refine r_nmI (fun v5 ev5 => ?_)
    refine le2_gd (fun h7 => ?_)
    refine le2_gd (fun h8 => ?_)
    refine r_caload (p := 57) f241_56 rfl (dj2 (fun x => x % 1000 = 104) h7 (by decide) (by decide)) h8 rfl ?_
    refine r_aln0 (p := 58) f241_57 rfl ?_
    refine r_gfR (f := 19) (p := 61) f241_58 rfl rfl rfl (Or.inl h1) ev1.symm ?_
    refine r_gfR (f := 11) (p := 64) f241_61 rfl rfl rfl (Or.inl h2) ev3.symm ?_
    refine r_aln0 (p := 65) f241_64 rfl ?_
    refine r_gfR (f := 19) (p := 68) f241_65 rfl rfl rfl (Or.inl h1) ev1.symm ?_
    refine r_gfR (f := 2) (p := 71) f241_68 rfl rfl rfl (Or.inl h2) ev4.symm ?_
    refine r_iln2 (p := 72) f241_71 rfl ?_
    refine le2_gd (fun h9 => ?_)
    refine r_iaload (p := 73) f241_72 rfl (dj2 (fun x => x % 1000 = 101) h5 (by decide) (by decide)) h9 rfl ?_
    refine r_iln3 (p := 74) f241_73 rfl ?_
    refine r_iadd (p := 75) f241_74 rfl ?_
    refine r_nmI (fun v6 ev6 => ?_)
    refine le2_gd (fun h10 => ?_)
    refine r_caload (p := 76) f241_75 rfl (dj2 (fun x => x % 1000 = 104) h7 (by decide) (by decide)) h10 rfl ?_
    refine r_iceq (t := 81) (p := 79) f241_76 (by decide) rfl rfl ?_ ?_
    · refine r_iinc3 (p := 84) f241_81 rfl rfl ?_
      refine r_goto (p := 25) f241_84 (by decide) rfl ?_
      exact le2_refl _
    · refine r_iconst (p := 80) f241_79 rfl (pinD rfl rfl) ?_
      exact r_iret4 f241_80 (by decide)
  · refine r_iconst (p := 88) f241_87 rfl (pinD rfl rfl) ?_
    exact r_iret4 f241_88 (by decide)
