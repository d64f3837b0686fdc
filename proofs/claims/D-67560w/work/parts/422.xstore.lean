/-! what methods do, written by wip/D-67560w/tools/gen_parts.py -/
set_option maxRecDepth 100000
set_option maxHeartbeats 4000000
/-! 16 PathStore.<init> ()V -/
def w16_10 : List UInt8 := [3, 6, 182, 0, 108, 42, 4, 181, 0, 112, 177]
abbrev u16_10 : List UInt8 := w16_10 ++ []
def w16_9 : List UInt8 := [89, 183, 0, 76, 83, 132, 1, 1, 167, 255, 234, 42, 180, 0, 60, 182, 0, 105, 42, 180, 0, 60, 4, 3]
abbrev u16_9 : List UInt8 := w16_9 ++ u16_10
def w16_8 : List UInt8 := [17, 0, 128, 188, 10, 181, 0, 102, 3, 60, 27, 16, 8, 162, 0, 22, 42, 180, 0, 81, 27, 187, 0, 74]
abbrev u16_8 : List UInt8 := w16_8 ++ u16_9
def w16_7 : List UInt8 := [181, 0, 87, 42, 2, 181, 0, 91, 42, 2, 181, 0, 95, 42, 17, 0, 128, 188, 10, 181, 0, 98, 42]
abbrev u16_7 : List UInt8 := w16_7 ++ u16_8
def w16_6 : List UInt8 := [187, 0, 74, 89, 183, 0, 76, 181, 0, 77, 42, 16, 8, 189, 0, 74, 181, 0, 81, 42, 7, 189, 0, 85]
abbrev u16_6 : List UInt8 := w16_6 ++ u16_7
def w16_5 : List UInt8 := [17, 4, 0, 183, 0, 66, 181, 0, 67, 42, 187, 0, 64, 89, 17, 4, 0, 183, 0, 66, 181, 0, 71, 42]
abbrev u16_5 : List UInt8 := w16_5 ++ u16_6
def w16_4 : List UInt8 := [183, 0, 52, 181, 0, 53, 42, 187, 0, 57, 89, 183, 0, 59, 181, 0, 60, 42, 187, 0, 64, 89]
abbrev u16_4 : List UInt8 := w16_4 ++ u16_5
def w16_3 : List UInt8 := [183, 0, 38, 181, 0, 39, 42, 187, 0, 43, 89, 183, 0, 45, 181, 0, 46, 42, 187, 0, 50, 89]
abbrev u16_3 : List UInt8 := w16_3 ++ u16_4
def w16_2 : List UInt8 := [183, 0, 16, 181, 0, 26, 42, 187, 0, 29, 89, 183, 0, 31, 181, 0, 32, 42, 187, 0, 36, 89]
abbrev u16_2 : List UInt8 := w16_2 ++ u16_3
def w16_1 : List UInt8 := [181, 0, 19, 42, 187, 0, 13, 89, 18, 15, 183, 0, 16, 181, 0, 23, 42, 187, 0, 13, 89, 17, 1, 224]
abbrev u16_1 : List UInt8 := w16_1 ++ u16_2
def w16_0 : List UInt8 := [42, 183, 0, 1, 42, 17, 64, 0, 188, 8, 181, 0, 9, 42, 187, 0, 13, 89, 18, 15, 183, 0, 16]
abbrev u16_0 : List UInt8 := w16_0 ++ u16_1
theorem s16_0 : (prog_1_method_1_code).data.toList.drop 0 = u16_0 := by decide +kernel
theorem s16_1 : (prog_1_method_1_code).data.toList.drop 23 = u16_1 := dk_seg s16_0 23 rfl rfl
theorem s16_2 : (prog_1_method_1_code).data.toList.drop 47 = u16_2 := dk_seg s16_1 24 rfl rfl
theorem s16_3 : (prog_1_method_1_code).data.toList.drop 69 = u16_3 := dk_seg s16_2 22 rfl rfl
theorem s16_4 : (prog_1_method_1_code).data.toList.drop 91 = u16_4 := dk_seg s16_3 22 rfl rfl
theorem s16_5 : (prog_1_method_1_code).data.toList.drop 113 = u16_5 := dk_seg s16_4 22 rfl rfl
theorem s16_6 : (prog_1_method_1_code).data.toList.drop 137 = u16_6 := dk_seg s16_5 24 rfl rfl
theorem s16_7 : (prog_1_method_1_code).data.toList.drop 161 = u16_7 := dk_seg s16_6 24 rfl rfl
theorem s16_8 : (prog_1_method_1_code).data.toList.drop 184 = u16_8 := dk_seg s16_7 23 rfl rfl
theorem s16_9 : (prog_1_method_1_code).data.toList.drop 208 = u16_9 := dk_seg s16_8 24 rfl rfl
theorem s16_10 : (prog_1_method_1_code).data.toList.drop 232 = u16_10 := dk_seg s16_9 24 rfl rfl
theorem Fm16 {pc len : Nat} {i : Instr} (h : decode (prog_1_method_1_code) pc = .ok (i, len)) (hl : len = ilen i len) : ft 16 pc = some (1, 0, 1, i, len) := ft_mk rfl h hl
theorem f16_0 : ft 16 0 = some (1, 0, 1, .aload_n 0, 1) := Fm16 (dk_42 (dk_at s16_0 0 rfl rfl)) rfl
theorem f16_1 : ft 16 1 = some (1, 0, 1, .invokespecial 1, 3) := Fm16 (dk_183 0 1 (dk_at s16_0 1 rfl rfl)) rfl
theorem f16_4 : ft 16 4 = some (1, 0, 1, .aload_n 0, 1) := Fm16 (dk_42 (dk_at s16_0 4 rfl rfl)) rfl
theorem f16_5 : ft 16 5 = some (1, 0, 1, .sipush 16384, 3) := Fm16 (dk_17 64 0 (dk_at s16_0 5 rfl rfl)) rfl
theorem f16_8 : ft 16 8 = some (1, 0, 1, .newarray .byte, 2) := Fm16 (dk_188_8 (dk_at s16_0 8 rfl rfl)) rfl
theorem f16_10 : ft 16 10 = some (1, 0, 1, .putfield 9, 3) := Fm16 (dk_181 0 9 (dk_at s16_0 10 rfl rfl)) rfl
theorem f16_13 : ft 16 13 = some (1, 0, 1, .aload_n 0, 1) := Fm16 (dk_42 (dk_at s16_0 13 rfl rfl)) rfl
theorem f16_14 : ft 16 14 = some (1, 0, 1, .new 13, 3) := Fm16 (dk_187 0 13 (dk_at s16_0 14 rfl rfl)) rfl
theorem f16_17 : ft 16 17 = some (1, 0, 1, .dup, 1) := Fm16 (dk_89 (dk_at s16_0 17 rfl rfl)) rfl
theorem f16_18 : ft 16 18 = some (1, 0, 1, .ldc 15, 2) := Fm16 (dk_18 15 (dk_at s16_0 18 rfl rfl)) rfl
theorem f16_20 : ft 16 20 = some (1, 0, 1, .invokespecial 16, 3) := Fm16 (dk_183 0 16 (dk_at s16_0 20 rfl rfl)) rfl
theorem f16_23 : ft 16 23 = some (1, 0, 1, .putfield 19, 3) := Fm16 (dk_181 0 19 (dk_at s16_1 0 rfl rfl)) rfl
theorem f16_26 : ft 16 26 = some (1, 0, 1, .aload_n 0, 1) := Fm16 (dk_42 (dk_at s16_1 3 rfl rfl)) rfl
theorem f16_27 : ft 16 27 = some (1, 0, 1, .new 13, 3) := Fm16 (dk_187 0 13 (dk_at s16_1 4 rfl rfl)) rfl
theorem f16_30 : ft 16 30 = some (1, 0, 1, .dup, 1) := Fm16 (dk_89 (dk_at s16_1 7 rfl rfl)) rfl
theorem f16_31 : ft 16 31 = some (1, 0, 1, .ldc 15, 2) := Fm16 (dk_18 15 (dk_at s16_1 8 rfl rfl)) rfl
theorem f16_33 : ft 16 33 = some (1, 0, 1, .invokespecial 16, 3) := Fm16 (dk_183 0 16 (dk_at s16_1 10 rfl rfl)) rfl
theorem f16_36 : ft 16 36 = some (1, 0, 1, .putfield 23, 3) := Fm16 (dk_181 0 23 (dk_at s16_1 13 rfl rfl)) rfl
theorem f16_39 : ft 16 39 = some (1, 0, 1, .aload_n 0, 1) := Fm16 (dk_42 (dk_at s16_1 16 rfl rfl)) rfl
theorem f16_40 : ft 16 40 = some (1, 0, 1, .new 13, 3) := Fm16 (dk_187 0 13 (dk_at s16_1 17 rfl rfl)) rfl
theorem f16_43 : ft 16 43 = some (1, 0, 1, .dup, 1) := Fm16 (dk_89 (dk_at s16_1 20 rfl rfl)) rfl
theorem f16_44 : ft 16 44 = some (1, 0, 1, .sipush 480, 3) := Fm16 (dk_17 1 224 (dk_at s16_1 21 rfl rfl)) rfl
theorem f16_47 : ft 16 47 = some (1, 0, 1, .invokespecial 16, 3) := Fm16 (dk_183 0 16 (dk_at s16_2 0 rfl rfl)) rfl
theorem f16_50 : ft 16 50 = some (1, 0, 1, .putfield 26, 3) := Fm16 (dk_181 0 26 (dk_at s16_2 3 rfl rfl)) rfl
theorem f16_53 : ft 16 53 = some (1, 0, 1, .aload_n 0, 1) := Fm16 (dk_42 (dk_at s16_2 6 rfl rfl)) rfl
theorem f16_54 : ft 16 54 = some (1, 0, 1, .new 29, 3) := Fm16 (dk_187 0 29 (dk_at s16_2 7 rfl rfl)) rfl
theorem f16_57 : ft 16 57 = some (1, 0, 1, .dup, 1) := Fm16 (dk_89 (dk_at s16_2 10 rfl rfl)) rfl
theorem f16_58 : ft 16 58 = some (1, 0, 1, .invokespecial 31, 3) := Fm16 (dk_183 0 31 (dk_at s16_2 11 rfl rfl)) rfl
theorem f16_61 : ft 16 61 = some (1, 0, 1, .putfield 32, 3) := Fm16 (dk_181 0 32 (dk_at s16_2 14 rfl rfl)) rfl
theorem f16_64 : ft 16 64 = some (1, 0, 1, .aload_n 0, 1) := Fm16 (dk_42 (dk_at s16_2 17 rfl rfl)) rfl
theorem f16_65 : ft 16 65 = some (1, 0, 1, .new 36, 3) := Fm16 (dk_187 0 36 (dk_at s16_2 18 rfl rfl)) rfl
theorem f16_68 : ft 16 68 = some (1, 0, 1, .dup, 1) := Fm16 (dk_89 (dk_at s16_2 21 rfl rfl)) rfl
theorem f16_69 : ft 16 69 = some (1, 0, 1, .invokespecial 38, 3) := Fm16 (dk_183 0 38 (dk_at s16_3 0 rfl rfl)) rfl
theorem f16_72 : ft 16 72 = some (1, 0, 1, .putfield 39, 3) := Fm16 (dk_181 0 39 (dk_at s16_3 3 rfl rfl)) rfl
theorem f16_75 : ft 16 75 = some (1, 0, 1, .aload_n 0, 1) := Fm16 (dk_42 (dk_at s16_3 6 rfl rfl)) rfl
theorem f16_76 : ft 16 76 = some (1, 0, 1, .new 43, 3) := Fm16 (dk_187 0 43 (dk_at s16_3 7 rfl rfl)) rfl
theorem f16_79 : ft 16 79 = some (1, 0, 1, .dup, 1) := Fm16 (dk_89 (dk_at s16_3 10 rfl rfl)) rfl
theorem f16_80 : ft 16 80 = some (1, 0, 1, .invokespecial 45, 3) := Fm16 (dk_183 0 45 (dk_at s16_3 11 rfl rfl)) rfl
theorem f16_83 : ft 16 83 = some (1, 0, 1, .putfield 46, 3) := Fm16 (dk_181 0 46 (dk_at s16_3 14 rfl rfl)) rfl
theorem f16_86 : ft 16 86 = some (1, 0, 1, .aload_n 0, 1) := Fm16 (dk_42 (dk_at s16_3 17 rfl rfl)) rfl
theorem f16_87 : ft 16 87 = some (1, 0, 1, .new 50, 3) := Fm16 (dk_187 0 50 (dk_at s16_3 18 rfl rfl)) rfl
theorem f16_90 : ft 16 90 = some (1, 0, 1, .dup, 1) := Fm16 (dk_89 (dk_at s16_3 21 rfl rfl)) rfl
theorem f16_91 : ft 16 91 = some (1, 0, 1, .invokespecial 52, 3) := Fm16 (dk_183 0 52 (dk_at s16_4 0 rfl rfl)) rfl
theorem f16_94 : ft 16 94 = some (1, 0, 1, .putfield 53, 3) := Fm16 (dk_181 0 53 (dk_at s16_4 3 rfl rfl)) rfl
theorem f16_97 : ft 16 97 = some (1, 0, 1, .aload_n 0, 1) := Fm16 (dk_42 (dk_at s16_4 6 rfl rfl)) rfl
theorem f16_98 : ft 16 98 = some (1, 0, 1, .new 57, 3) := Fm16 (dk_187 0 57 (dk_at s16_4 7 rfl rfl)) rfl
theorem f16_101 : ft 16 101 = some (1, 0, 1, .dup, 1) := Fm16 (dk_89 (dk_at s16_4 10 rfl rfl)) rfl
theorem f16_102 : ft 16 102 = some (1, 0, 1, .invokespecial 59, 3) := Fm16 (dk_183 0 59 (dk_at s16_4 11 rfl rfl)) rfl
theorem f16_105 : ft 16 105 = some (1, 0, 1, .putfield 60, 3) := Fm16 (dk_181 0 60 (dk_at s16_4 14 rfl rfl)) rfl
theorem f16_108 : ft 16 108 = some (1, 0, 1, .aload_n 0, 1) := Fm16 (dk_42 (dk_at s16_4 17 rfl rfl)) rfl
theorem f16_109 : ft 16 109 = some (1, 0, 1, .new 64, 3) := Fm16 (dk_187 0 64 (dk_at s16_4 18 rfl rfl)) rfl
theorem f16_112 : ft 16 112 = some (1, 0, 1, .dup, 1) := Fm16 (dk_89 (dk_at s16_4 21 rfl rfl)) rfl
theorem f16_113 : ft 16 113 = some (1, 0, 1, .sipush 1024, 3) := Fm16 (dk_17 4 0 (dk_at s16_5 0 rfl rfl)) rfl
theorem f16_116 : ft 16 116 = some (1, 0, 1, .invokespecial 66, 3) := Fm16 (dk_183 0 66 (dk_at s16_5 3 rfl rfl)) rfl
theorem f16_119 : ft 16 119 = some (1, 0, 1, .putfield 67, 3) := Fm16 (dk_181 0 67 (dk_at s16_5 6 rfl rfl)) rfl
theorem f16_122 : ft 16 122 = some (1, 0, 1, .aload_n 0, 1) := Fm16 (dk_42 (dk_at s16_5 9 rfl rfl)) rfl
theorem f16_123 : ft 16 123 = some (1, 0, 1, .new 64, 3) := Fm16 (dk_187 0 64 (dk_at s16_5 10 rfl rfl)) rfl
theorem f16_126 : ft 16 126 = some (1, 0, 1, .dup, 1) := Fm16 (dk_89 (dk_at s16_5 13 rfl rfl)) rfl
theorem f16_127 : ft 16 127 = some (1, 0, 1, .sipush 1024, 3) := Fm16 (dk_17 4 0 (dk_at s16_5 14 rfl rfl)) rfl
theorem f16_130 : ft 16 130 = some (1, 0, 1, .invokespecial 66, 3) := Fm16 (dk_183 0 66 (dk_at s16_5 17 rfl rfl)) rfl
theorem f16_133 : ft 16 133 = some (1, 0, 1, .putfield 71, 3) := Fm16 (dk_181 0 71 (dk_at s16_5 20 rfl rfl)) rfl
theorem f16_136 : ft 16 136 = some (1, 0, 1, .aload_n 0, 1) := Fm16 (dk_42 (dk_at s16_5 23 rfl rfl)) rfl
theorem f16_137 : ft 16 137 = some (1, 0, 1, .new 74, 3) := Fm16 (dk_187 0 74 (dk_at s16_6 0 rfl rfl)) rfl
theorem f16_140 : ft 16 140 = some (1, 0, 1, .dup, 1) := Fm16 (dk_89 (dk_at s16_6 3 rfl rfl)) rfl
theorem f16_141 : ft 16 141 = some (1, 0, 1, .invokespecial 76, 3) := Fm16 (dk_183 0 76 (dk_at s16_6 4 rfl rfl)) rfl
theorem f16_144 : ft 16 144 = some (1, 0, 1, .putfield 77, 3) := Fm16 (dk_181 0 77 (dk_at s16_6 7 rfl rfl)) rfl
theorem f16_147 : ft 16 147 = some (1, 0, 1, .aload_n 0, 1) := Fm16 (dk_42 (dk_at s16_6 10 rfl rfl)) rfl
theorem f16_148 : ft 16 148 = some (1, 0, 1, .bipush 8, 2) := Fm16 (dk_16 8 (dk_at s16_6 11 rfl rfl)) rfl
theorem f16_150 : ft 16 150 = some (1, 0, 1, .anewarray 74, 3) := Fm16 (dk_189 0 74 (dk_at s16_6 13 rfl rfl)) rfl
theorem f16_153 : ft 16 153 = some (1, 0, 1, .putfield 81, 3) := Fm16 (dk_181 0 81 (dk_at s16_6 16 rfl rfl)) rfl
theorem f16_156 : ft 16 156 = some (1, 0, 1, .aload_n 0, 1) := Fm16 (dk_42 (dk_at s16_6 19 rfl rfl)) rfl
theorem f16_157 : ft 16 157 = some (1, 0, 1, .iconst 4, 1) := Fm16 (dk_7 (dk_at s16_6 20 rfl rfl)) rfl
theorem f16_158 : ft 16 158 = some (1, 0, 1, .anewarray 85, 3) := Fm16 (dk_189 0 85 (dk_at s16_6 21 rfl rfl)) rfl
theorem f16_161 : ft 16 161 = some (1, 0, 1, .putfield 87, 3) := Fm16 (dk_181 0 87 (dk_at s16_7 0 rfl rfl)) rfl
theorem f16_164 : ft 16 164 = some (1, 0, 1, .aload_n 0, 1) := Fm16 (dk_42 (dk_at s16_7 3 rfl rfl)) rfl
theorem f16_165 : ft 16 165 = some (1, 0, 1, .iconst (-1), 1) := Fm16 (dk_2 (dk_at s16_7 4 rfl rfl)) rfl
theorem f16_166 : ft 16 166 = some (1, 0, 1, .putfield 91, 3) := Fm16 (dk_181 0 91 (dk_at s16_7 5 rfl rfl)) rfl
theorem f16_169 : ft 16 169 = some (1, 0, 1, .aload_n 0, 1) := Fm16 (dk_42 (dk_at s16_7 8 rfl rfl)) rfl
theorem f16_170 : ft 16 170 = some (1, 0, 1, .iconst (-1), 1) := Fm16 (dk_2 (dk_at s16_7 9 rfl rfl)) rfl
theorem f16_171 : ft 16 171 = some (1, 0, 1, .putfield 95, 3) := Fm16 (dk_181 0 95 (dk_at s16_7 10 rfl rfl)) rfl
theorem f16_174 : ft 16 174 = some (1, 0, 1, .aload_n 0, 1) := Fm16 (dk_42 (dk_at s16_7 13 rfl rfl)) rfl
theorem f16_175 : ft 16 175 = some (1, 0, 1, .sipush 128, 3) := Fm16 (dk_17 0 128 (dk_at s16_7 14 rfl rfl)) rfl
theorem f16_178 : ft 16 178 = some (1, 0, 1, .newarray .int, 2) := Fm16 (dk_188_10 (dk_at s16_7 17 rfl rfl)) rfl
theorem f16_180 : ft 16 180 = some (1, 0, 1, .putfield 98, 3) := Fm16 (dk_181 0 98 (dk_at s16_7 19 rfl rfl)) rfl
theorem f16_183 : ft 16 183 = some (1, 0, 1, .aload_n 0, 1) := Fm16 (dk_42 (dk_at s16_7 22 rfl rfl)) rfl
theorem f16_184 : ft 16 184 = some (1, 0, 1, .sipush 128, 3) := Fm16 (dk_17 0 128 (dk_at s16_8 0 rfl rfl)) rfl
theorem f16_187 : ft 16 187 = some (1, 0, 1, .newarray .int, 2) := Fm16 (dk_188_10 (dk_at s16_8 3 rfl rfl)) rfl
theorem f16_189 : ft 16 189 = some (1, 0, 1, .putfield 102, 3) := Fm16 (dk_181 0 102 (dk_at s16_8 5 rfl rfl)) rfl
theorem f16_192 : ft 16 192 = some (1, 0, 1, .iconst 0, 1) := Fm16 (dk_3 (dk_at s16_8 8 rfl rfl)) rfl
theorem f16_193 : ft 16 193 = some (1, 0, 1, .istore_n 1, 1) := Fm16 (dk_60 (dk_at s16_8 9 rfl rfl)) rfl
theorem f16_194 : ft 16 194 = some (1, 0, 1, .iload_n 1, 1) := Fm16 (dk_27 (dk_at s16_8 10 rfl rfl)) rfl
theorem f16_195 : ft 16 195 = some (1, 0, 1, .bipush 8, 2) := Fm16 (dk_16 8 (dk_at s16_8 11 rfl rfl)) rfl
theorem f16_197 : ft 16 197 = some (1, 0, 1, .if_icmp .ge 22, 3) := Fm16 (dk_162 0 22 (dk_at s16_8 13 rfl rfl)) rfl
theorem f16_200 : ft 16 200 = some (1, 0, 1, .aload_n 0, 1) := Fm16 (dk_42 (dk_at s16_8 16 rfl rfl)) rfl
theorem f16_201 : ft 16 201 = some (1, 0, 1, .getfield 81, 3) := Fm16 (dk_180 0 81 (dk_at s16_8 17 rfl rfl)) rfl
theorem f16_204 : ft 16 204 = some (1, 0, 1, .iload_n 1, 1) := Fm16 (dk_27 (dk_at s16_8 20 rfl rfl)) rfl
theorem f16_205 : ft 16 205 = some (1, 0, 1, .new 74, 3) := Fm16 (dk_187 0 74 (dk_at s16_8 21 rfl rfl)) rfl
theorem f16_208 : ft 16 208 = some (1, 0, 1, .dup, 1) := Fm16 (dk_89 (dk_at s16_9 0 rfl rfl)) rfl
theorem f16_209 : ft 16 209 = some (1, 0, 1, .invokespecial 76, 3) := Fm16 (dk_183 0 76 (dk_at s16_9 1 rfl rfl)) rfl
theorem f16_212 : ft 16 212 = some (1, 0, 1, .aastore, 1) := Fm16 (dk_83 (dk_at s16_9 4 rfl rfl)) rfl
theorem f16_213 : ft 16 213 = some (1, 0, 1, .iinc 1 1, 3) := Fm16 (dk_132 1 1 (dk_at s16_9 5 rfl rfl)) rfl
theorem f16_216 : ft 16 216 = some (1, 0, 1, .goto (-22), 3) := Fm16 (dk_167 255 234 (dk_at s16_9 8 rfl rfl)) rfl
theorem f16_219 : ft 16 219 = some (1, 0, 1, .aload_n 0, 1) := Fm16 (dk_42 (dk_at s16_9 11 rfl rfl)) rfl
theorem f16_220 : ft 16 220 = some (1, 0, 1, .getfield 60, 3) := Fm16 (dk_180 0 60 (dk_at s16_9 12 rfl rfl)) rfl
theorem f16_223 : ft 16 223 = some (1, 0, 1, .invokevirtual 105, 3) := Fm16 (dk_182 0 105 (dk_at s16_9 15 rfl rfl)) rfl
theorem f16_226 : ft 16 226 = some (1, 0, 1, .aload_n 0, 1) := Fm16 (dk_42 (dk_at s16_9 18 rfl rfl)) rfl
theorem f16_227 : ft 16 227 = some (1, 0, 1, .getfield 60, 3) := Fm16 (dk_180 0 60 (dk_at s16_9 19 rfl rfl)) rfl
theorem f16_230 : ft 16 230 = some (1, 0, 1, .iconst 1, 1) := Fm16 (dk_4 (dk_at s16_9 22 rfl rfl)) rfl
theorem f16_231 : ft 16 231 = some (1, 0, 1, .iconst 0, 1) := Fm16 (dk_3 (dk_at s16_9 23 rfl rfl)) rfl
theorem f16_232 : ft 16 232 = some (1, 0, 1, .iconst 0, 1) := Fm16 (dk_3 (dk_at s16_10 0 rfl rfl)) rfl
theorem f16_233 : ft 16 233 = some (1, 0, 1, .iconst 3, 1) := Fm16 (dk_6 (dk_at s16_10 1 rfl rfl)) rfl
theorem f16_234 : ft 16 234 = some (1, 0, 1, .invokevirtual 108, 3) := Fm16 (dk_182 0 108 (dk_at s16_10 2 rfl rfl)) rfl
theorem f16_237 : ft 16 237 = some (1, 0, 1, .aload_n 0, 1) := Fm16 (dk_42 (dk_at s16_10 5 rfl rfl)) rfl
theorem f16_238 : ft 16 238 = some (1, 0, 1, .iconst 1, 1) := Fm16 (dk_4 (dk_at s16_10 6 rfl rfl)) rfl
theorem f16_239 : ft 16 239 = some (1, 0, 1, .putfield 112, 3) := Fm16 (dk_181 0 112 (dk_at s16_10 7 rfl rfl)) rfl
theorem f16_242 : ft 16 242 = some (1, 0, 1, .return_, 1) := Fm16 (dk_177 (dk_at s16_10 10 rfl rfl)) rfl
theorem q16 {d : Nat} {m : Mem} {a0 : Int} (hd : 0 < d) (hz : TZ m) : le2 (gd (tg m a0 = 1) <| nw (nx m) (mal m 17103 16384) fun o1 m1 => nw (nx (mst m1 a0 0 o1)) (mal (mst m1 a0 0 o1) 2 2) fun o2 m2 => bV (cl (d - 1) 51 [pR o2, pI 32768] m2) fun m3 => nw (nx (mst m3 a0 2 o2)) (mal (mst m3 a0 2 o2) 2 2) fun o4 m4 => bV (cl (d - 1) 51 [pR o4, pI 32768] m4) fun m5 => nw (nx (mst m5 a0 3 o4)) (mal (mst m5 a0 3 o4) 2 2) fun o6 m6 => bV (cl (d - 1) 51 [pR o6, pI 480] m6) fun m7 => nw (nx (mst m7 a0 4 o6)) (mal (mst m7 a0 4 o6) 4 5) fun o8 m8 => bV (cl (d - 1) 74 [pR o8] m8) fun m9 => nw (nx (mst m9 a0 5 o8)) (mal (mst m9 a0 5 o8) 5 6) fun o10 m10 => bV (cl (d - 1) 80 [pR o10] m10) fun m11 => nw (nx (mst m11 a0 6 o10)) (mal (mst m11 a0 6 o10) 6 5) fun o12 m12 => bV (cl (d - 1) 103 [pR o12] m12) fun m13 => nw (nx (mst m13 a0 7 o12)) (mal (mst m13 a0 7 o12) 7 17) fun o14 m14 => bV (cl (d - 1) 111 [pR o14] m14) fun m15 => nw (nx (mst m15 a0 8 o14)) (mal (mst m15 a0 8 o14) 9 9) fun o16 m16 => bV (cl (d - 1) 152 [pR o16] m16) fun m17 => nw (nx (mst m17 a0 9 o16)) (mal (mst m17 a0 9 o16) 8 2) fun o18 m18 => bV (cl (d - 1) 129 [pR o18, pI 1024] m18) fun m19 => nw (nx (mst m19 a0 10 o18)) (mal (mst m19 a0 10 o18) 8 2) fun o20 m20 => bV (cl (d - 1) 129 [pR o20, pI 1024] m20) fun m21 => nw (nx (mst m21 a0 11 o20)) (mal (mst m21 a0 11 o20) 10 4) fun o22 m22 => bV (cl (d - 1) 184 [pR o22] m22) fun m23 => nw (nx (mst m23 a0 12 o22)) (mal (mst m23 a0 12 o22) 17115 8) fun o24 m24 => nw (nx (mst m24 a0 13 o24)) (mal (mst m24 a0 13 o24) 17116 4) fun o25 m25 => nw (nx (mst (mst (mst m25 a0 14 o25) a0 18 (-1)) a0 19 (-1))) (mal (mst (mst (mst m25 a0 14 o25) a0 18 (-1)) a0 19 (-1)) 17101 128) fun o26 m26 => nw (nx (mst m26 a0 20 o26)) (mal (mst m26 a0 20 o26) 17101 128) fun o27 m27 => rn d 16 194 [pR a0, pI 0] [] (mst m27 a0 21 o27)) (cl d 16 [pR a0] m) := by
  refine q_in (n := 2) (L := [pR a0, pU]) rfl rfl rfl ?_
  refine r_aln0 (p := 1) f16_0 rfl ?_
  refine le2_gd (fun h1 => ?_)
  refine r_objinit (p := 4) f16_1 rfl rfl (dj1 (fun x => 0 < x ∧ x < 100) h1 (by decide)) (Nat.le_of_ble_eq_true rfl) ?_
  refine r_aln0 (p := 5) f16_4 rfl ?_
  refine r_sipush (p := 8) f16_5 rfl (pinD rfl rfl) ?_
  refine r_newa (t1 := 17103) (p := 10) f16_8 rfl rfl (pinE rfl rfl) rfl rfl (fun o1 m1 h2 k1 => ?_)
  have hz1 := z_k k1 hz
  have h3 := k_t1 k1 hz h1 (by decide)
  refine r_pfR (f := 0) (p := 13) f16_10 rfl rfl rfl (by decide) (by decide) (Or.inl h3) rfl ?_
  refine r_aln0 (p := 14) f16_13 rfl ?_
  refine r_new (t1 := 2) (f1 := 2) (p := 17) f16_14 rfl rfl rfl rfl rfl (fun o2 m2 h4 k2 => ?_)
  have hz2 := z_k k2 hz1
  refine r_dup (p := 18) f16_17 rfl rfl ?_
  refine r_ldcI (p := 20) f16_18 rfl rfl (pinD rfl rfl) ?_
  refine r_ispV (p := 23) f16_20 rfl rfl rfl (Or.inl h4) hd (Nat.le_of_ble_eq_true rfl) rfl rfl rfl (fun _ => rfl) (fun m3 c3 => ?_)
  have hz3 := z_k c3 hz2
  have h5 := k_t1 k2 hz1 h3 (by decide)
  have h6 := k_t1 c3 hz2 h5 (by decide)
  refine r_pfR (f := 2) (p := 26) f16_23 rfl rfl rfl (by decide) (by decide) (Or.inl h6) rfl ?_
  refine r_aln0 (p := 27) f16_26 rfl ?_
  refine r_new (t1 := 2) (f1 := 2) (p := 30) f16_27 rfl rfl rfl rfl rfl (fun o4 m4 h7 k4 => ?_)
  have hz4 := z_k k4 hz3
  refine r_dup (p := 31) f16_30 rfl rfl ?_
  refine r_ldcI (p := 33) f16_31 rfl rfl (pinD rfl rfl) ?_
  refine r_ispV (p := 36) f16_33 rfl rfl rfl (Or.inl h7) hd (Nat.le_of_ble_eq_true rfl) rfl rfl rfl (fun _ => rfl) (fun m5 c5 => ?_)
  have hz5 := z_k c5 hz4
  have h8 := k_t1 k4 hz3 h6 (by decide)
  have h9 := k_t1 c5 hz4 h8 (by decide)
  refine r_pfR (f := 3) (p := 39) f16_36 rfl rfl rfl (by decide) (by decide) (Or.inl h9) rfl ?_
  refine r_aln0 (p := 40) f16_39 rfl ?_
  refine r_new (t1 := 2) (f1 := 2) (p := 43) f16_40 rfl rfl rfl rfl rfl (fun o6 m6 h10 k6 => ?_)
  have hz6 := z_k k6 hz5
  refine r_dup (p := 44) f16_43 rfl rfl ?_
  refine r_sipush (p := 47) f16_44 rfl (pinD rfl rfl) ?_
  refine r_ispV (p := 50) f16_47 rfl rfl rfl (Or.inl h10) hd (Nat.le_of_ble_eq_true rfl) rfl rfl rfl (fun _ => rfl) (fun m7 c7 => ?_)
  have hz7 := z_k c7 hz6
  have h11 := k_t1 k6 hz5 h9 (by decide)
  have h12 := k_t1 c7 hz6 h11 (by decide)
  refine r_pfR (f := 4) (p := 53) f16_50 rfl rfl rfl (by decide) (by decide) (Or.inl h12) rfl ?_
  refine r_aln0 (p := 54) f16_53 rfl ?_
  refine r_new (t1 := 4) (f1 := 5) (p := 57) f16_54 rfl rfl rfl rfl rfl (fun o8 m8 h13 k8 => ?_)
  have hz8 := z_k k8 hz7
  refine r_dup (p := 58) f16_57 rfl rfl ?_
  refine r_ispV (p := 61) f16_58 rfl rfl rfl (Or.inl h13) hd (Nat.le_of_ble_eq_true rfl) rfl rfl rfl (fun _ => rfl) (fun m9 c9 => ?_)
  have hz9 := z_k c9 hz8
  have h14 := k_t1 k8 hz7 h12 (by decide)
  have h15 := k_t1 c9 hz8 h14 (by decide)
  refine r_pfR (f := 5) (p := 64) f16_61 rfl rfl rfl (by decide) (by decide) (Or.inl h15) rfl ?_
  refine r_aln0 (p := 65) f16_64 rfl ?_
  refine r_new (t1 := 5) (f1 := 6) (p := 68) f16_65 rfl rfl rfl rfl rfl (fun o10 m10 h16 k10 => ?_)
  have hz10 := z_k k10 hz9
  refine r_dup (p := 69) f16_68 rfl rfl ?_
  refine r_ispV (p := 72) f16_69 rfl rfl rfl (Or.inl h16) hd (Nat.le_of_ble_eq_true rfl) rfl rfl rfl (fun _ => rfl) (fun m11 c11 => ?_)
  have hz11 := z_k c11 hz10
  have h17 := k_t1 k10 hz9 h15 (by decide)
  have h18 := k_t1 c11 hz10 h17 (by decide)
  refine r_pfR (f := 6) (p := 75) f16_72 rfl rfl rfl (by decide) (by decide) (Or.inl h18) rfl ?_
  refine r_aln0 (p := 76) f16_75 rfl ?_
  refine r_new (t1 := 6) (f1 := 5) (p := 79) f16_76 rfl rfl rfl rfl rfl (fun o12 m12 h19 k12 => ?_)
  have hz12 := z_k k12 hz11
  refine r_dup (p := 80) f16_79 rfl rfl ?_
  refine r_ispV (p := 83) f16_80 rfl rfl rfl (Or.inl h19) hd (Nat.le_of_ble_eq_true rfl) rfl rfl rfl (fun _ => rfl) (fun m13 c13 => ?_)
  have hz13 := z_k c13 hz12
  have h20 := k_t1 k12 hz11 h18 (by decide)
  have h21 := k_t1 c13 hz12 h20 (by decide)
  refine r_pfR (f := 7) (p := 86) f16_83 rfl rfl rfl (by decide) (by decide) (Or.inl h21) rfl ?_
  refine r_aln0 (p := 87) f16_86 rfl ?_
  refine r_new (t1 := 7) (f1 := 17) (p := 90) f16_87 rfl rfl rfl rfl rfl (fun o14 m14 h22 k14 => ?_)
  have hz14 := z_k k14 hz13
  refine r_dup (p := 91) f16_90 rfl rfl ?_
  refine r_ispV (p := 94) f16_91 rfl rfl rfl (Or.inl h22) hd (Nat.le_of_ble_eq_true rfl) rfl rfl rfl (fun _ => rfl) (fun m15 c15 => ?_)
  have hz15 := z_k c15 hz14
  have h23 := k_t1 k14 hz13 h21 (by decide)
  have h24 := k_t1 c15 hz14 h23 (by decide)
  refine r_pfR (f := 8) (p := 97) f16_94 rfl rfl rfl (by decide) (by decide) (Or.inl h24) rfl ?_
  refine r_aln0 (p := 98) f16_97 rfl ?_
  refine r_new (t1 := 9) (f1 := 9) (p := 101) f16_98 rfl rfl rfl rfl rfl (fun o16 m16 h25 k16 => ?_)
  have hz16 := z_k k16 hz15
  refine r_dup (p := 102) f16_101 rfl rfl ?_
  refine r_ispV (p := 105) f16_102 rfl rfl rfl (Or.inl h25) hd (Nat.le_of_ble_eq_true rfl) rfl rfl rfl (fun _ => rfl) (fun m17 c17 => ?_)
  have hz17 := z_k c17 hz16
  have h26 := k_t1 k16 hz15 h24 (by decide)
  have h27 := k_t1 c17 hz16 h26 (by decide)
  refine r_pfR (f := 9) (p := 108) f16_105 rfl rfl rfl (by decide) (by decide) (Or.inl h27) rfl ?_
  refine r_aln0 (p := 109) f16_108 rfl ?_
  refine r_new (t1 := 8) (f1 := 2) (p := 112) f16_109 rfl rfl rfl rfl rfl (fun o18 m18 h28 k18 => ?_)
  have hz18 := z_k k18 hz17
  refine r_dup (p := 113) f16_112 rfl rfl ?_
  refine r_sipush (p := 116) f16_113 rfl (pinD rfl rfl) ?_
  refine r_ispV (p := 119) f16_116 rfl rfl rfl (Or.inl h28) hd (Nat.le_of_ble_eq_true rfl) rfl rfl rfl (fun _ => rfl) (fun m19 c19 => ?_)
  have hz19 := z_k c19 hz18
  have h29 := k_t1 k18 hz17 h27 (by decide)
  have h30 := k_t1 c19 hz18 h29 (by decide)
  refine r_pfR (f := 10) (p := 122) f16_119 rfl rfl rfl (by decide) (by decide) (Or.inl h30) rfl ?_
  refine r_aln0 (p := 123) f16_122 rfl ?_
  refine r_new (t1 := 8) (f1 := 2) (p := 126) f16_123 rfl rfl rfl rfl rfl (fun o20 m20 h31 k20 => ?_)
  have hz20 := z_k k20 hz19
  refine r_dup (p := 127) f16_126 rfl rfl ?_
  refine r_sipush (p := 130) f16_127 rfl (pinD rfl rfl) ?_
  refine r_ispV (p := 133) f16_130 rfl rfl rfl (Or.inl h31) hd (Nat.le_of_ble_eq_true rfl) rfl rfl rfl (fun _ => rfl) (fun m21 c21 => ?_)
  have hz21 := z_k c21 hz20
  have h32 := k_t1 k20 hz19 h30 (by decide)
  have h33 := k_t1 c21 hz20 h32 (by decide)
  refine r_pfR (f := 11) (p := 136) f16_133 rfl rfl rfl (by decide) (by decide) (Or.inl h33) rfl ?_
  refine r_aln0 (p := 137) f16_136 rfl ?_
  refine r_new (t1 := 10) (f1 := 4) (p := 140) f16_137 rfl rfl rfl rfl rfl (fun o22 m22 h34 k22 => ?_)
  have hz22 := z_k k22 hz21
  refine r_dup (p := 141) f16_140 rfl rfl ?_
  refine r_ispV (p := 144) f16_141 rfl rfl rfl (Or.inl h34) hd (Nat.le_of_ble_eq_true rfl) rfl rfl rfl (fun _ => rfl) (fun m23 c23 => ?_)
  have hz23 := z_k c23 hz22
  have h35 := k_t1 k22 hz21 h33 (by decide)
  have h36 := k_t1 c23 hz22 h35 (by decide)
  refine r_pfR (f := 12) (p := 147) f16_144 rfl rfl rfl (by decide) (by decide) (Or.inl h36) rfl ?_
  refine r_aln0 (p := 148) f16_147 rfl ?_
  refine r_bipush (p := 150) f16_148 rfl (pinD rfl rfl) ?_
  refine r_anewa (t1 := 17115) (p := 153) f16_150 rfl rfl (pinE rfl rfl) rfl rfl (fun o24 m24 h37 k24 => ?_)
  have hz24 := z_k k24 hz23
  have h38 := k_t1 k24 hz23 h36 (by decide)
  refine r_pfR (f := 13) (p := 156) f16_153 rfl rfl rfl (by decide) (by decide) (Or.inl h38) rfl ?_
  refine r_aln0 (p := 157) f16_156 rfl ?_
  refine r_iconst (p := 158) f16_157 rfl (pinD rfl rfl) ?_
  refine r_anewa (t1 := 17116) (p := 161) f16_158 rfl rfl (pinE rfl rfl) rfl rfl (fun o25 m25 h39 k25 => ?_)
  have hz25 := z_k k25 hz24
  have h40 := k_t1 k25 hz24 h38 (by decide)
  refine r_pfR (f := 14) (p := 164) f16_161 rfl rfl rfl (by decide) (by decide) (Or.inl h40) rfl ?_
  refine r_aln0 (p := 165) f16_164 rfl ?_
  refine r_iconst (p := 166) f16_165 rfl (pinD rfl rfl) ?_
  refine r_pfI (f := 18) (p := 169) f16_166 rfl rfl rfl (by decide) (by decide) (Or.inl h40) rfl ?_
  refine r_aln0 (p := 170) f16_169 rfl ?_
  refine r_iconst (p := 171) f16_170 rfl (pinD rfl rfl) ?_
  refine r_pfI (f := 19) (p := 174) f16_171 rfl rfl rfl (by decide) (by decide) (Or.inl h40) rfl ?_
  refine r_aln0 (p := 175) f16_174 rfl ?_
  refine r_sipush (p := 178) f16_175 rfl (pinD rfl rfl) ?_
  refine r_newa (t1 := 17101) (p := 180) f16_178 rfl rfl (pinE rfl rfl) rfl rfl (fun o26 m26 h41 k26 => ?_)
  have hz26 := z_k k26 hz25
  have h42 := k_t1 k26 hz25 h40 (by decide)
  refine r_pfR (f := 20) (p := 183) f16_180 rfl rfl rfl (by decide) (by decide) (Or.inl h42) rfl ?_
  refine r_aln0 (p := 184) f16_183 rfl ?_
  refine r_sipush (p := 187) f16_184 rfl (pinD rfl rfl) ?_
  refine r_newa (t1 := 17101) (p := 189) f16_187 rfl rfl (pinE rfl rfl) rfl rfl (fun o27 m27 h43 k27 => ?_)
  have hz27 := z_k k27 hz26
  have h44 := k_t1 k27 hz26 h42 (by decide)
  refine r_pfR (f := 21) (p := 192) f16_189 rfl rfl rfl (by decide) (by decide) (Or.inl h44) rfl ?_
  refine r_iconst (p := 193) f16_192 rfl (pinD rfl rfl) ?_
  refine r_isn1 (p := 194) f16_193 rfl rfl ?_
  exact le2_refl _
theorem q16_194 {d : Nat} {m : Mem} {a0 a1 : Int} (hd : 0 < d) (hz : TZ m) : le2 (if a1 < 8 then (gd (tg m a0 = 1) <| nm (vl m a0 13) fun v5 => nw (nx m) (mal m 10 4) fun o3 m3 => bV (cl (d - 1) 184 [pR o3] m3) fun m4 => gd (tg m4 v5 = 17115) <| gd ((0 : Int) ≤ a1 ∧ a1 < ln m4 v5) <| gd (aOk (tg m4 v5 % 1000) (tg m4 o3) = true) <| rn d 16 194 [pR a0, pI (w32 (a1 + 1))] [] (mst m4 v5 a1 o3)) else gd (tg m a0 = 1) <| nm (vl m a0 9) fun v6 => gd (tg m v6 = 9) <| bV (cl (d - 1) 153 [pR v6] m) fun m1 => nm (vl m1 a0 9) fun v7 => gd (tg m1 v7 = 9) <| bV (cl (d - 1) 154 [pR v7, pI 1, pI 0, pI 0, pI 3] m1) fun m2 => some (.inl none, (mst m2 a0 15 1))) (rn d 16 194 [pR a0, pI a1] [] m) := by
  refine r_iln1 (p := 195) f16_194 rfl ?_
  refine r_bipush (p := 197) f16_195 rfl (pinD rfl rfl) ?_
  refine r_icge (t := 219) (p := 200) f16_197 (by decide) rfl rfl ?_ ?_
  · refine r_aln0 (p := 201) f16_200 rfl ?_
    refine le2_gd (fun h6 => ?_)
    refine r_gfR (f := 13) (p := 204) f16_201 rfl rfl rfl (Or.inl h6) rfl ?_
    refine r_nmR (fun v5 ev5 => ?_)
    refine r_iln1 (p := 205) f16_204 rfl ?_
    refine r_new (t1 := 10) (f1 := 4) (p := 208) f16_205 rfl rfl rfl rfl rfl (fun o3 m3 h7 k3 => ?_)
    have hz3 := z_k k3 hz
    refine r_dup (p := 209) f16_208 rfl rfl ?_
    refine r_ispV (p := 212) f16_209 rfl rfl rfl (Or.inl h7) hd (Nat.le_of_ble_eq_true rfl) rfl rfl rfl (fun _ => rfl) (fun m4 c4 => ?_)
    have hz4 := z_k c4 hz3
    refine le2_gd (fun h8 => ?_)
    refine le2_gd (fun h9 => ?_)
    refine le2_gd (fun h10 => ?_)
    refine r_aastore (p := 213) f16_212 rfl (dj1 (fun x => 1000 ≤ x ∧ (110 < x % 1000 ∧ x % 1000 < 119) ∧ Nat.testBit (eM 16) (bix x 0) = true) h8 (by decide)) h9 h10 ?_
    refine r_iinc1 (p := 216) f16_213 rfl rfl ?_
    refine r_goto (p := 194) f16_216 (by decide) rfl ?_
    exact le2_refl _
  · refine r_aln0 (p := 220) f16_219 rfl ?_
    refine le2_gd (fun h1 => ?_)
    refine r_gfR (f := 9) (p := 223) f16_220 rfl rfl rfl (Or.inl h1) rfl ?_
    refine r_nmR (fun v6 ev6 => ?_)
    refine le2_gd (fun h2 => ?_)
    refine r_invV (p := 226) f16_223 rfl rfl rfl (Or.inl h2) hd (Nat.le_of_ble_eq_true rfl) rfl rfl rfl (fun _ => rfl) (fun m1 c1 => ?_)
    have hz1 := z_k c1 hz
    refine r_aln0 (p := 227) f16_226 rfl ?_
    have h3 := k_t1 c1 hz h1 (by decide)
    refine r_gfR (f := 9) (p := 230) f16_227 rfl rfl rfl (Or.inl h3) rfl ?_
    refine r_nmR (fun v7 ev7 => ?_)
    refine r_iconst (p := 231) f16_230 rfl (pinD rfl rfl) ?_
    refine r_iconst (p := 232) f16_231 rfl (pinD rfl rfl) ?_
    refine r_iconst (p := 233) f16_232 rfl (pinD rfl rfl) ?_
    refine r_iconst (p := 234) f16_233 rfl (pinD rfl rfl) ?_
    refine le2_gd (fun h4 => ?_)
    refine r_invV (p := 237) f16_234 rfl rfl rfl (Or.inl h4) hd (Nat.le_of_ble_eq_true rfl) rfl rfl rfl (fun _ => rfl) (fun m2 c2 => ?_)
    have hz2 := z_k c2 hz1
    refine r_aln0 (p := 238) f16_237 rfl ?_
    refine r_iconst (p := 239) f16_238 rfl (pinD rfl rfl) ?_
    have h5 := k_t1 c2 hz1 h3 (by decide)
    refine r_pfI (f := 15) (p := 242) f16_239 rfl rfl rfl (by decide) (by decide) (Or.inl h5) rfl ?_
    exact r_ret f16_242
/-! 17 PathStore.mount ()I -/
def w17_6 : List UInt8 := [180, 0, 175, 172]
abbrev u17_6 : List UInt8 := w17_6 ++ []
def w17_5 : List UInt8 := [181, 0, 169, 42, 180, 0, 77, 42, 180, 0, 60, 27, 182, 1, 84, 181, 0, 175, 42, 180, 0, 77]
abbrev u17_5 : List UInt8 := w17_5 ++ u17_6
def w17_4 : List UInt8 := [42, 42, 180, 0, 60, 27, 182, 1, 80, 181, 0, 112, 42, 180, 0, 77, 42, 180, 0, 60, 27, 182, 1, 82]
abbrev u17_4 : List UInt8 := w17_4 ++ u17_5
def w17_3 : List UInt8 := [180, 0, 112, 159, 0, 21, 42, 180, 0, 77, 42, 89, 180, 0, 178, 4, 96, 90, 181, 0, 178, 181, 0, 181]
abbrev u17_3 : List UInt8 := w17_3 ++ u17_4
def w17_2 : List UInt8 := [182, 1, 80, 164, 0, 5, 28, 60, 132, 2, 1, 167, 255, 212, 42, 180, 0, 60, 27, 182, 1, 80, 42]
abbrev u17_2 : List UInt8 := w17_2 ++ u17_3
def w17_1 : List UInt8 := [182, 1, 77, 153, 0, 28, 27, 155, 0, 22, 42, 180, 0, 60, 28, 182, 1, 80, 42, 180, 0, 60, 27]
abbrev u17_1 : List UInt8 := w17_1 ++ u17_2
def w17_0 : List UInt8 := [42, 2, 181, 0, 91, 42, 3, 181, 0, 144, 2, 60, 3, 61, 28, 5, 162, 0, 45, 42, 180, 0, 60, 28]
abbrev u17_0 : List UInt8 := w17_0 ++ u17_1
theorem s17_0 : (prog_1_method_32_code).data.toList.drop 0 = u17_0 := by decide +kernel
theorem s17_1 : (prog_1_method_32_code).data.toList.drop 24 = u17_1 := dk_seg s17_0 24 rfl rfl
theorem s17_2 : (prog_1_method_32_code).data.toList.drop 47 = u17_2 := dk_seg s17_1 23 rfl rfl
theorem s17_3 : (prog_1_method_32_code).data.toList.drop 70 = u17_3 := dk_seg s17_2 23 rfl rfl
theorem s17_4 : (prog_1_method_32_code).data.toList.drop 94 = u17_4 := dk_seg s17_3 24 rfl rfl
theorem s17_5 : (prog_1_method_32_code).data.toList.drop 118 = u17_5 := dk_seg s17_4 24 rfl rfl
theorem s17_6 : (prog_1_method_32_code).data.toList.drop 140 = u17_6 := dk_seg s17_5 22 rfl rfl
theorem Fm17 {pc len : Nat} {i : Instr} (h : decode (prog_1_method_32_code) pc = .ok (i, len)) (hl : len = ilen i len) : ft 17 pc = some (1, 1, 0, i, len) := ft_mk rfl h hl
theorem f17_0 : ft 17 0 = some (1, 1, 0, .aload_n 0, 1) := Fm17 (dk_42 (dk_at s17_0 0 rfl rfl)) rfl
theorem f17_1 : ft 17 1 = some (1, 1, 0, .iconst (-1), 1) := Fm17 (dk_2 (dk_at s17_0 1 rfl rfl)) rfl
theorem f17_2 : ft 17 2 = some (1, 1, 0, .putfield 91, 3) := Fm17 (dk_181 0 91 (dk_at s17_0 2 rfl rfl)) rfl
theorem f17_5 : ft 17 5 = some (1, 1, 0, .aload_n 0, 1) := Fm17 (dk_42 (dk_at s17_0 5 rfl rfl)) rfl
theorem f17_6 : ft 17 6 = some (1, 1, 0, .iconst 0, 1) := Fm17 (dk_3 (dk_at s17_0 6 rfl rfl)) rfl
theorem f17_7 : ft 17 7 = some (1, 1, 0, .putfield 144, 3) := Fm17 (dk_181 0 144 (dk_at s17_0 7 rfl rfl)) rfl
theorem f17_10 : ft 17 10 = some (1, 1, 0, .iconst (-1), 1) := Fm17 (dk_2 (dk_at s17_0 10 rfl rfl)) rfl
theorem f17_11 : ft 17 11 = some (1, 1, 0, .istore_n 1, 1) := Fm17 (dk_60 (dk_at s17_0 11 rfl rfl)) rfl
theorem f17_12 : ft 17 12 = some (1, 1, 0, .iconst 0, 1) := Fm17 (dk_3 (dk_at s17_0 12 rfl rfl)) rfl
theorem f17_13 : ft 17 13 = some (1, 1, 0, .istore_n 2, 1) := Fm17 (dk_61 (dk_at s17_0 13 rfl rfl)) rfl
theorem f17_14 : ft 17 14 = some (1, 1, 0, .iload_n 2, 1) := Fm17 (dk_28 (dk_at s17_0 14 rfl rfl)) rfl
theorem f17_15 : ft 17 15 = some (1, 1, 0, .iconst 2, 1) := Fm17 (dk_5 (dk_at s17_0 15 rfl rfl)) rfl
theorem f17_16 : ft 17 16 = some (1, 1, 0, .if_icmp .ge 45, 3) := Fm17 (dk_162 0 45 (dk_at s17_0 16 rfl rfl)) rfl
theorem f17_19 : ft 17 19 = some (1, 1, 0, .aload_n 0, 1) := Fm17 (dk_42 (dk_at s17_0 19 rfl rfl)) rfl
theorem f17_20 : ft 17 20 = some (1, 1, 0, .getfield 60, 3) := Fm17 (dk_180 0 60 (dk_at s17_0 20 rfl rfl)) rfl
theorem f17_23 : ft 17 23 = some (1, 1, 0, .iload_n 2, 1) := Fm17 (dk_28 (dk_at s17_0 23 rfl rfl)) rfl
theorem f17_24 : ft 17 24 = some (1, 1, 0, .invokevirtual 333, 3) := Fm17 (dk_182 1 77 (dk_at s17_1 0 rfl rfl)) rfl
theorem f17_27 : ft 17 27 = some (1, 1, 0, .ifCond .eq 28, 3) := Fm17 (dk_153 0 28 (dk_at s17_1 3 rfl rfl)) rfl
theorem f17_30 : ft 17 30 = some (1, 1, 0, .iload_n 1, 1) := Fm17 (dk_27 (dk_at s17_1 6 rfl rfl)) rfl
theorem f17_31 : ft 17 31 = some (1, 1, 0, .ifCond .lt 22, 3) := Fm17 (dk_155 0 22 (dk_at s17_1 7 rfl rfl)) rfl
theorem f17_34 : ft 17 34 = some (1, 1, 0, .aload_n 0, 1) := Fm17 (dk_42 (dk_at s17_1 10 rfl rfl)) rfl
theorem f17_35 : ft 17 35 = some (1, 1, 0, .getfield 60, 3) := Fm17 (dk_180 0 60 (dk_at s17_1 11 rfl rfl)) rfl
theorem f17_38 : ft 17 38 = some (1, 1, 0, .iload_n 2, 1) := Fm17 (dk_28 (dk_at s17_1 14 rfl rfl)) rfl
theorem f17_39 : ft 17 39 = some (1, 1, 0, .invokevirtual 336, 3) := Fm17 (dk_182 1 80 (dk_at s17_1 15 rfl rfl)) rfl
theorem f17_42 : ft 17 42 = some (1, 1, 0, .aload_n 0, 1) := Fm17 (dk_42 (dk_at s17_1 18 rfl rfl)) rfl
theorem f17_43 : ft 17 43 = some (1, 1, 0, .getfield 60, 3) := Fm17 (dk_180 0 60 (dk_at s17_1 19 rfl rfl)) rfl
theorem f17_46 : ft 17 46 = some (1, 1, 0, .iload_n 1, 1) := Fm17 (dk_27 (dk_at s17_1 22 rfl rfl)) rfl
theorem f17_47 : ft 17 47 = some (1, 1, 0, .invokevirtual 336, 3) := Fm17 (dk_182 1 80 (dk_at s17_2 0 rfl rfl)) rfl
theorem f17_50 : ft 17 50 = some (1, 1, 0, .if_icmp .le 5, 3) := Fm17 (dk_164 0 5 (dk_at s17_2 3 rfl rfl)) rfl
theorem f17_53 : ft 17 53 = some (1, 1, 0, .iload_n 2, 1) := Fm17 (dk_28 (dk_at s17_2 6 rfl rfl)) rfl
theorem f17_54 : ft 17 54 = some (1, 1, 0, .istore_n 1, 1) := Fm17 (dk_60 (dk_at s17_2 7 rfl rfl)) rfl
theorem f17_55 : ft 17 55 = some (1, 1, 0, .iinc 2 1, 3) := Fm17 (dk_132 2 1 (dk_at s17_2 8 rfl rfl)) rfl
theorem f17_58 : ft 17 58 = some (1, 1, 0, .goto (-44), 3) := Fm17 (dk_167 255 212 (dk_at s17_2 11 rfl rfl)) rfl
theorem f17_61 : ft 17 61 = some (1, 1, 0, .aload_n 0, 1) := Fm17 (dk_42 (dk_at s17_2 14 rfl rfl)) rfl
theorem f17_62 : ft 17 62 = some (1, 1, 0, .getfield 60, 3) := Fm17 (dk_180 0 60 (dk_at s17_2 15 rfl rfl)) rfl
theorem f17_65 : ft 17 65 = some (1, 1, 0, .iload_n 1, 1) := Fm17 (dk_27 (dk_at s17_2 18 rfl rfl)) rfl
theorem f17_66 : ft 17 66 = some (1, 1, 0, .invokevirtual 336, 3) := Fm17 (dk_182 1 80 (dk_at s17_2 19 rfl rfl)) rfl
theorem f17_69 : ft 17 69 = some (1, 1, 0, .aload_n 0, 1) := Fm17 (dk_42 (dk_at s17_2 22 rfl rfl)) rfl
theorem f17_70 : ft 17 70 = some (1, 1, 0, .getfield 112, 3) := Fm17 (dk_180 0 112 (dk_at s17_3 0 rfl rfl)) rfl
theorem f17_73 : ft 17 73 = some (1, 1, 0, .if_icmp .eq 21, 3) := Fm17 (dk_159 0 21 (dk_at s17_3 3 rfl rfl)) rfl
theorem f17_76 : ft 17 76 = some (1, 1, 0, .aload_n 0, 1) := Fm17 (dk_42 (dk_at s17_3 6 rfl rfl)) rfl
theorem f17_77 : ft 17 77 = some (1, 1, 0, .getfield 77, 3) := Fm17 (dk_180 0 77 (dk_at s17_3 7 rfl rfl)) rfl
theorem f17_80 : ft 17 80 = some (1, 1, 0, .aload_n 0, 1) := Fm17 (dk_42 (dk_at s17_3 10 rfl rfl)) rfl
theorem f17_81 : ft 17 81 = some (1, 1, 0, .dup, 1) := Fm17 (dk_89 (dk_at s17_3 11 rfl rfl)) rfl
theorem f17_82 : ft 17 82 = some (1, 1, 0, .getfield 178, 3) := Fm17 (dk_180 0 178 (dk_at s17_3 12 rfl rfl)) rfl
theorem f17_85 : ft 17 85 = some (1, 1, 0, .iconst 1, 1) := Fm17 (dk_4 (dk_at s17_3 15 rfl rfl)) rfl
theorem f17_86 : ft 17 86 = some (1, 1, 0, .iadd, 1) := Fm17 (dk_96 (dk_at s17_3 16 rfl rfl)) rfl
theorem f17_87 : ft 17 87 = some (1, 1, 0, .dup_x1, 1) := Fm17 (dk_90 (dk_at s17_3 17 rfl rfl)) rfl
theorem f17_88 : ft 17 88 = some (1, 1, 0, .putfield 178, 3) := Fm17 (dk_181 0 178 (dk_at s17_3 18 rfl rfl)) rfl
theorem f17_91 : ft 17 91 = some (1, 1, 0, .putfield 181, 3) := Fm17 (dk_181 0 181 (dk_at s17_3 21 rfl rfl)) rfl
theorem f17_94 : ft 17 94 = some (1, 1, 0, .aload_n 0, 1) := Fm17 (dk_42 (dk_at s17_4 0 rfl rfl)) rfl
theorem f17_95 : ft 17 95 = some (1, 1, 0, .aload_n 0, 1) := Fm17 (dk_42 (dk_at s17_4 1 rfl rfl)) rfl
theorem f17_96 : ft 17 96 = some (1, 1, 0, .getfield 60, 3) := Fm17 (dk_180 0 60 (dk_at s17_4 2 rfl rfl)) rfl
theorem f17_99 : ft 17 99 = some (1, 1, 0, .iload_n 1, 1) := Fm17 (dk_27 (dk_at s17_4 5 rfl rfl)) rfl
theorem f17_100 : ft 17 100 = some (1, 1, 0, .invokevirtual 336, 3) := Fm17 (dk_182 1 80 (dk_at s17_4 6 rfl rfl)) rfl
theorem f17_103 : ft 17 103 = some (1, 1, 0, .putfield 112, 3) := Fm17 (dk_181 0 112 (dk_at s17_4 9 rfl rfl)) rfl
theorem f17_106 : ft 17 106 = some (1, 1, 0, .aload_n 0, 1) := Fm17 (dk_42 (dk_at s17_4 12 rfl rfl)) rfl
theorem f17_107 : ft 17 107 = some (1, 1, 0, .getfield 77, 3) := Fm17 (dk_180 0 77 (dk_at s17_4 13 rfl rfl)) rfl
theorem f17_110 : ft 17 110 = some (1, 1, 0, .aload_n 0, 1) := Fm17 (dk_42 (dk_at s17_4 16 rfl rfl)) rfl
theorem f17_111 : ft 17 111 = some (1, 1, 0, .getfield 60, 3) := Fm17 (dk_180 0 60 (dk_at s17_4 17 rfl rfl)) rfl
theorem f17_114 : ft 17 114 = some (1, 1, 0, .iload_n 1, 1) := Fm17 (dk_27 (dk_at s17_4 20 rfl rfl)) rfl
theorem f17_115 : ft 17 115 = some (1, 1, 0, .invokevirtual 338, 3) := Fm17 (dk_182 1 82 (dk_at s17_4 21 rfl rfl)) rfl
theorem f17_118 : ft 17 118 = some (1, 1, 0, .putfield 169, 3) := Fm17 (dk_181 0 169 (dk_at s17_5 0 rfl rfl)) rfl
theorem f17_121 : ft 17 121 = some (1, 1, 0, .aload_n 0, 1) := Fm17 (dk_42 (dk_at s17_5 3 rfl rfl)) rfl
theorem f17_122 : ft 17 122 = some (1, 1, 0, .getfield 77, 3) := Fm17 (dk_180 0 77 (dk_at s17_5 4 rfl rfl)) rfl
theorem f17_125 : ft 17 125 = some (1, 1, 0, .aload_n 0, 1) := Fm17 (dk_42 (dk_at s17_5 7 rfl rfl)) rfl
theorem f17_126 : ft 17 126 = some (1, 1, 0, .getfield 60, 3) := Fm17 (dk_180 0 60 (dk_at s17_5 8 rfl rfl)) rfl
theorem f17_129 : ft 17 129 = some (1, 1, 0, .iload_n 1, 1) := Fm17 (dk_27 (dk_at s17_5 11 rfl rfl)) rfl
theorem f17_130 : ft 17 130 = some (1, 1, 0, .invokevirtual 340, 3) := Fm17 (dk_182 1 84 (dk_at s17_5 12 rfl rfl)) rfl
theorem f17_133 : ft 17 133 = some (1, 1, 0, .putfield 175, 3) := Fm17 (dk_181 0 175 (dk_at s17_5 15 rfl rfl)) rfl
theorem f17_136 : ft 17 136 = some (1, 1, 0, .aload_n 0, 1) := Fm17 (dk_42 (dk_at s17_5 18 rfl rfl)) rfl
theorem f17_137 : ft 17 137 = some (1, 1, 0, .getfield 77, 3) := Fm17 (dk_180 0 77 (dk_at s17_5 19 rfl rfl)) rfl
theorem f17_140 : ft 17 140 = some (1, 1, 0, .getfield 175, 3) := Fm17 (dk_180 0 175 (dk_at s17_6 0 rfl rfl)) rfl
theorem f17_143 : ft 17 143 = some (1, 1, 0, .ireturn, 1) := Fm17 (dk_172 (dk_at s17_6 3 rfl rfl)) rfl
theorem q17 {d : Nat} {m : Mem} {a0 : Int} (hz : TZ m) : le2 (gd (tg m a0 = 1) <| rn d 17 14 [pR a0, pI (-1), pI 0] [] (mst (mst m a0 18 (-1)) a0 17 0)) (cl d 17 [pR a0] m) := by
  refine q_in (n := 3) (L := [pR a0, pU, pU]) rfl rfl rfl ?_
  refine r_aln0 (p := 1) f17_0 rfl ?_
  refine r_iconst (p := 2) f17_1 rfl (pinD rfl rfl) ?_
  refine le2_gd (fun h1 => ?_)
  refine r_pfI (f := 18) (p := 5) f17_2 rfl rfl rfl (by decide) (by decide) (Or.inl h1) rfl ?_
  refine r_aln0 (p := 6) f17_5 rfl ?_
  refine r_iconst (p := 7) f17_6 rfl (pinD rfl rfl) ?_
  refine r_pfZ (f := 17) (p := 10) f17_7 rfl rfl rfl (by decide) (by decide) (Or.inl h1) rfl (by decide) ?_
  refine r_iconst (p := 11) f17_10 rfl (pinD rfl rfl) ?_
  refine r_isn1 (p := 12) f17_11 rfl rfl ?_
  refine r_iconst (p := 13) f17_12 rfl (pinD rfl rfl) ?_
  refine r_isn2 (p := 14) f17_13 rfl rfl ?_
  exact le2_refl _
theorem q17_14 {d : Nat} {m : Mem} {a0 a1 a2 : Int} (hd : 0 < d) (hz : TZ m) : le2 (if a2 < 2 then (gd (tg m a0 = 1) <| nm (vl m a0 9) fun v5 => gd (tg m v5 = 9) <| bI (cl (d - 1) 159 [pR v5, pI a2] m) fun v2 m2 => if v2 = 0 then (rn d 17 14 [pR a0, pI a1, pI (w32 (a2 + 1))] [] m2) else if a1 < 0 then (rn d 17 14 [pR a0, pI a2, pI (w32 (a2 + 1))] [] m2) else nm (vl m2 a0 9) fun v6 => gd (tg m2 v6 = 9) <| bI (cl (d - 1) 161 [pR v6, pI a2] m2) fun v3 m3 => nm (vl m3 a0 9) fun v7 => gd (tg m3 v7 = 9) <| bI (cl (d - 1) 161 [pR v7, pI a1] m3) fun v4 m4 => if v4 < v3 then (rn d 17 14 [pR a0, pI a2, pI (w32 (a2 + 1))] [] m4) else rn d 17 14 [pR a0, pI a1, pI (w32 (a2 + 1))] [] m4) else gd (tg m a0 = 1) <| nm (vl m a0 9) fun v8 => gd (tg m v8 = 9) <| bI (cl (d - 1) 161 [pR v8, pI a1] m) fun v1 m1 => if v1 = (vl m1 a0 15) then (rn d 17 94 [pR a0, pI a1, pI a2] [] m1) else nm (vl m1 a0 12) fun v9 => nm (w32 ((vl m1 a0 16) + 1)) fun v10 => gd (tg m1 v9 = 10) <| rn d 17 94 [pR a0, pI a1, pI a2] [] (mst (mst m1 a0 16 v10) v9 2 v10)) (rn d 17 14 [pR a0, pI a1, pI a2] [] m) := by
  refine r_iln2 (p := 15) f17_14 rfl ?_
  refine r_iconst (p := 16) f17_15 rfl (pinD rfl rfl) ?_
  refine r_icge (t := 61) (p := 19) f17_16 (by decide) rfl rfl ?_ ?_
  · refine r_aln0 (p := 20) f17_19 rfl ?_
    refine le2_gd (fun h5 => ?_)
    refine r_gfR (f := 9) (p := 23) f17_20 rfl rfl rfl (Or.inl h5) rfl ?_
    refine r_nmR (fun v5 ev5 => ?_)
    refine r_iln2 (p := 24) f17_23 rfl ?_
    refine le2_gd (fun h6 => ?_)
    refine r_invI (p := 27) f17_24 rfl rfl rfl (Or.inl h6) hd (Nat.le_of_ble_eq_true rfl) rfl rfl rfl (fun _ => rfl) (fun v2 m2 c2 => ?_)
    have hz2 := z_k c2 hz
    refine r_ifeq (t := 55) (p := 30) f17_27 (by decide) rfl rfl ?_ ?_
    · refine r_iinc2 (p := 58) f17_55 rfl rfl ?_
      refine r_goto (p := 14) f17_58 (by decide) rfl ?_
      exact le2_refl _
    · refine r_iln1 (p := 31) f17_30 rfl ?_
      refine r_iflt (t := 53) (p := 34) f17_31 (by decide) rfl rfl ?_ ?_
      · refine r_iln2 (p := 54) f17_53 rfl ?_
        refine r_isn1 (p := 55) f17_54 rfl rfl ?_
        refine r_iinc2 (p := 58) f17_55 rfl rfl ?_
        refine r_goto (p := 14) f17_58 (by decide) rfl ?_
        exact le2_refl _
      · refine r_aln0 (p := 35) f17_34 rfl ?_
        have h7 := k_t1 c2 hz h5 (by decide)
        refine r_gfR (f := 9) (p := 38) f17_35 rfl rfl rfl (Or.inl h7) rfl ?_
        refine r_nmR (fun v6 ev6 => ?_)
        refine r_iln2 (p := 39) f17_38 rfl ?_
        refine le2_gd (fun h8 => ?_)
        refine r_invI (p := 42) f17_39 rfl rfl rfl (Or.inl h8) hd (Nat.le_of_ble_eq_true rfl) rfl rfl rfl (fun _ => rfl) (fun v3 m3 c3 => ?_)
        have hz3 := z_k c3 hz2
        refine r_aln0 (p := 43) f17_42 rfl ?_
        have h9 := k_t1 c3 hz2 h7 (by decide)
        refine r_gfR (f := 9) (p := 46) f17_43 rfl rfl rfl (Or.inl h9) rfl ?_
        refine r_nmR (fun v7 ev7 => ?_)
        refine r_iln1 (p := 47) f17_46 rfl ?_
        refine le2_gd (fun h10 => ?_)
        refine r_invI (p := 50) f17_47 rfl rfl rfl (Or.inl h10) hd (Nat.le_of_ble_eq_true rfl) rfl rfl rfl (fun _ => rfl) (fun v4 m4 c4 => ?_)
        have hz4 := z_k c4 hz3
        refine r_icle (t := 55) (p := 53) f17_50 (by decide) rfl rfl ?_ ?_
        · refine r_iln2 (p := 54) f17_53 rfl ?_
          refine r_isn1 (p := 55) f17_54 rfl rfl ?_
          refine r_iinc2 (p := 58) f17_55 rfl rfl ?_
          refine r_goto (p := 14) f17_58 (by decide) rfl ?_
          exact le2_refl _
        · refine r_iinc2 (p := 58) f17_55 rfl rfl ?_
          refine r_goto (p := 14) f17_58 (by decide) rfl ?_
          exact le2_refl _
  · refine r_aln0 (p := 62) f17_61 rfl ?_
    refine le2_gd (fun h1 => ?_)
    refine r_gfR (f := 9) (p := 65) f17_62 rfl rfl rfl (Or.inl h1) rfl ?_
    refine r_nmR (fun v8 ev8 => ?_)
    refine r_iln1 (p := 66) f17_65 rfl ?_
    refine le2_gd (fun h2 => ?_)
    refine r_invI (p := 69) f17_66 rfl rfl rfl (Or.inl h2) hd (Nat.le_of_ble_eq_true rfl) rfl rfl rfl (fun _ => rfl) (fun v1 m1 c1 => ?_)
    have hz1 := z_k c1 hz
    refine r_aln0 (p := 70) f17_69 rfl ?_
    have h3 := k_t1 c1 hz h1 (by decide)
    refine r_gfI (f := 15) (p := 73) f17_70 rfl rfl rfl (Or.inl h3) rfl ?_
    refine r_iceq (t := 94) (p := 76) f17_73 (by decide) rfl rfl ?_ ?_
    · exact le2_refl _
    · refine r_aln0 (p := 77) f17_76 rfl ?_
      refine r_gfR (f := 12) (p := 80) f17_77 rfl rfl rfl (Or.inl h3) rfl ?_
      refine r_nmR (fun v9 ev9 => ?_)
      refine r_aln0 (p := 81) f17_80 rfl ?_
      refine r_dup (p := 82) f17_81 rfl rfl ?_
      refine r_gfI (f := 16) (p := 85) f17_82 rfl rfl rfl (Or.inl h3) rfl ?_
      refine r_iconst (p := 86) f17_85 rfl (pinD rfl rfl) ?_
      refine r_iadd (p := 87) f17_86 rfl ?_
      refine r_nmI (fun v10 ev10 => ?_)
      refine r_dup_x1 (p := 88) f17_87 rfl rfl rfl ?_
      refine r_pfI (f := 16) (p := 91) f17_88 rfl rfl rfl (by decide) (by decide) (Or.inl h3) rfl ?_
      refine le2_gd (fun h4 => ?_)
      refine r_pfI (f := 2) (p := 94) f17_91 rfl rfl rfl (by decide) (by decide) (Or.inl h4) rfl ?_
      exact le2_refl _
theorem q17_94 {d : Nat} {m : Mem} {a0 a1 a2 : Int} (hd : 0 < d) (hz : TZ m) : le2 (gd (tg m a0 = 1) <| nm (vl m a0 9) fun v4 => gd (tg m v4 = 9) <| bI (cl (d - 1) 161 [pR v4, pI a1] m) fun v1 m1 => nm (vl m1 a0 12) fun v5 => nm (vl m1 a0 9) fun v6 => gd (tg m1 v6 = 9) <| bI (cl (d - 1) 163 [pR v6, pI a1] (mst m1 a0 15 v1)) fun v2 m2 => gd (tg m2 v5 = 10) <| nm (vl m2 a0 12) fun v7 => nm (vl m2 a0 9) fun v8 => gd (tg m2 v8 = 9) <| bI (cl (d - 1) 164 [pR v8, pI a1] (mst m2 v5 0 v2)) fun v3 m3 => gd (tg m3 v7 = 10) <| nm (vl m3 a0 12) fun v9 => gd (tg m3 v9 = 10) <| some (.inl (some (pI (vl (mst m3 v7 1 v3) v9 1))), (mst m3 v7 1 v3))) (rn d 17 94 [pR a0, pI a1, pI a2] [] m) := by
  refine r_aln0 (p := 95) f17_94 rfl ?_
  refine r_aln0 (p := 96) f17_95 rfl ?_
  refine le2_gd (fun h1 => ?_)
  refine r_gfR (f := 9) (p := 99) f17_96 rfl rfl rfl (Or.inl h1) rfl ?_
  refine r_nmR (fun v4 ev4 => ?_)
  refine r_iln1 (p := 100) f17_99 rfl ?_
  refine le2_gd (fun h2 => ?_)
  refine r_invI (p := 103) f17_100 rfl rfl rfl (Or.inl h2) hd (Nat.le_of_ble_eq_true rfl) rfl rfl rfl (fun _ => rfl) (fun v1 m1 c1 => ?_)
  have hz1 := z_k c1 hz
  have h3 := k_t1 c1 hz h1 (by decide)
  refine r_pfI (f := 15) (p := 106) f17_103 rfl rfl rfl (by decide) (by decide) (Or.inl h3) rfl ?_
  refine r_aln0 (p := 107) f17_106 rfl ?_
  refine r_gfR (f := 12) (p := 110) f17_107 rfl rfl rfl (Or.inl h3) (sk_f (by decide)) ?_
  refine r_nmR (fun v5 ev5 => ?_)
  refine r_aln0 (p := 111) f17_110 rfl ?_
  refine r_gfR (f := 9) (p := 114) f17_111 rfl rfl rfl (Or.inl h3) (sk_f (by decide)) ?_
  refine r_nmR (fun v6 ev6 => ?_)
  refine r_iln1 (p := 115) f17_114 rfl ?_
  refine le2_gd (fun h4 => ?_)
  refine r_invI (p := 118) f17_115 rfl rfl rfl (Or.inl h4) hd (Nat.le_of_ble_eq_true rfl) rfl rfl rfl (fun _ => rfl) (fun v2 m2 c2 => ?_)
  have hz2 := z_k c2 hz1
  refine le2_gd (fun h5 => ?_)
  refine r_pfI (f := 0) (p := 121) f17_118 rfl rfl rfl (by decide) (by decide) (Or.inl h5) rfl ?_
  refine r_aln0 (p := 122) f17_121 rfl ?_
  have h6 := k_t1 c2 hz1 h3 (by decide)
  refine r_gfR (f := 12) (p := 125) f17_122 rfl rfl rfl (Or.inl h6) (sk_f (by decide)) ?_
  refine r_nmR (fun v7 ev7 => ?_)
  refine r_aln0 (p := 126) f17_125 rfl ?_
  refine r_gfR (f := 9) (p := 129) f17_126 rfl rfl rfl (Or.inl h6) (sk_f (by decide)) ?_
  refine r_nmR (fun v8 ev8 => ?_)
  refine r_iln1 (p := 130) f17_129 rfl ?_
  refine le2_gd (fun h7 => ?_)
  refine r_invI (p := 133) f17_130 rfl rfl rfl (Or.inl h7) hd (Nat.le_of_ble_eq_true rfl) rfl rfl rfl (fun _ => rfl) (fun v3 m3 c3 => ?_)
  have hz3 := z_k c3 hz2
  refine le2_gd (fun h8 => ?_)
  refine r_pfI (f := 1) (p := 136) f17_133 rfl rfl rfl (by decide) (by decide) (Or.inl h8) rfl ?_
  refine r_aln0 (p := 137) f17_136 rfl ?_
  have h9 := k_t1 c3 hz2 h6 (by decide)
  refine r_gfR (f := 12) (p := 140) f17_137 rfl rfl rfl (Or.inl h9) (sk_f (by decide)) ?_
  refine r_nmR (fun v9 ev9 => ?_)
  refine le2_gd (fun h10 => ?_)
  refine r_gfI (f := 1) (p := 143) f17_140 rfl rfl rfl (Or.inl h10) rfl ?_
  exact r_iret1 f17_143
/-! 18 PathStore.feed (IIIII)I -/
def w18_2 : List UInt8 := [182, 0, 134, 42, 180, 0, 127, 172]
abbrev u18_2 : List UInt8 := w18_2 ++ []
def w18_1 : List UInt8 := [182, 0, 134, 42, 28, 182, 0, 134, 42, 29, 182, 0, 134, 42, 21, 4, 182, 0, 134, 42, 21, 5]
abbrev u18_1 : List UInt8 := w18_1 ++ u18_2
def w18_0 : List UInt8 := [42, 180, 0, 127, 16, 20, 96, 17, 64, 0, 163, 0, 7, 4, 167, 0, 4, 3, 184, 0, 130, 42, 27]
abbrev u18_0 : List UInt8 := w18_0 ++ u18_1
theorem s18_0 : (prog_1_method_8_code).data.toList.drop 0 = u18_0 := by decide +kernel
theorem s18_1 : (prog_1_method_8_code).data.toList.drop 23 = u18_1 := dk_seg s18_0 23 rfl rfl
theorem s18_2 : (prog_1_method_8_code).data.toList.drop 45 = u18_2 := dk_seg s18_1 22 rfl rfl
theorem Fm18 {pc len : Nat} {i : Instr} (h : decode (prog_1_method_8_code) pc = .ok (i, len)) (hl : len = ilen i len) : ft 18 pc = some (1, 1, 0, i, len) := ft_mk rfl h hl
theorem f18_0 : ft 18 0 = some (1, 1, 0, .aload_n 0, 1) := Fm18 (dk_42 (dk_at s18_0 0 rfl rfl)) rfl
theorem f18_1 : ft 18 1 = some (1, 1, 0, .getfield 127, 3) := Fm18 (dk_180 0 127 (dk_at s18_0 1 rfl rfl)) rfl
theorem f18_4 : ft 18 4 = some (1, 1, 0, .bipush 20, 2) := Fm18 (dk_16 20 (dk_at s18_0 4 rfl rfl)) rfl
theorem f18_6 : ft 18 6 = some (1, 1, 0, .iadd, 1) := Fm18 (dk_96 (dk_at s18_0 6 rfl rfl)) rfl
theorem f18_7 : ft 18 7 = some (1, 1, 0, .sipush 16384, 3) := Fm18 (dk_17 64 0 (dk_at s18_0 7 rfl rfl)) rfl
theorem f18_10 : ft 18 10 = some (1, 1, 0, .if_icmp .gt 7, 3) := Fm18 (dk_163 0 7 (dk_at s18_0 10 rfl rfl)) rfl
theorem f18_13 : ft 18 13 = some (1, 1, 0, .iconst 1, 1) := Fm18 (dk_4 (dk_at s18_0 13 rfl rfl)) rfl
theorem f18_14 : ft 18 14 = some (1, 1, 0, .goto 4, 3) := Fm18 (dk_167 0 4 (dk_at s18_0 14 rfl rfl)) rfl
theorem f18_17 : ft 18 17 = some (1, 1, 0, .iconst 0, 1) := Fm18 (dk_3 (dk_at s18_0 17 rfl rfl)) rfl
theorem f18_18 : ft 18 18 = some (1, 1, 0, .invokestatic 130, 3) := Fm18 (dk_184 0 130 (dk_at s18_0 18 rfl rfl)) rfl
theorem f18_21 : ft 18 21 = some (1, 1, 0, .aload_n 0, 1) := Fm18 (dk_42 (dk_at s18_0 21 rfl rfl)) rfl
theorem f18_22 : ft 18 22 = some (1, 1, 0, .iload_n 1, 1) := Fm18 (dk_27 (dk_at s18_0 22 rfl rfl)) rfl
theorem f18_23 : ft 18 23 = some (1, 1, 0, .invokevirtual 134, 3) := Fm18 (dk_182 0 134 (dk_at s18_1 0 rfl rfl)) rfl
theorem f18_26 : ft 18 26 = some (1, 1, 0, .aload_n 0, 1) := Fm18 (dk_42 (dk_at s18_1 3 rfl rfl)) rfl
theorem f18_27 : ft 18 27 = some (1, 1, 0, .iload_n 2, 1) := Fm18 (dk_28 (dk_at s18_1 4 rfl rfl)) rfl
theorem f18_28 : ft 18 28 = some (1, 1, 0, .invokevirtual 134, 3) := Fm18 (dk_182 0 134 (dk_at s18_1 5 rfl rfl)) rfl
theorem f18_31 : ft 18 31 = some (1, 1, 0, .aload_n 0, 1) := Fm18 (dk_42 (dk_at s18_1 8 rfl rfl)) rfl
theorem f18_32 : ft 18 32 = some (1, 1, 0, .iload_n 3, 1) := Fm18 (dk_29 (dk_at s18_1 9 rfl rfl)) rfl
theorem f18_33 : ft 18 33 = some (1, 1, 0, .invokevirtual 134, 3) := Fm18 (dk_182 0 134 (dk_at s18_1 10 rfl rfl)) rfl
theorem f18_36 : ft 18 36 = some (1, 1, 0, .aload_n 0, 1) := Fm18 (dk_42 (dk_at s18_1 13 rfl rfl)) rfl
theorem f18_37 : ft 18 37 = some (1, 1, 0, .iload 4, 2) := Fm18 (dk_21 4 (dk_at s18_1 14 rfl rfl)) rfl
theorem f18_39 : ft 18 39 = some (1, 1, 0, .invokevirtual 134, 3) := Fm18 (dk_182 0 134 (dk_at s18_1 16 rfl rfl)) rfl
theorem f18_42 : ft 18 42 = some (1, 1, 0, .aload_n 0, 1) := Fm18 (dk_42 (dk_at s18_1 19 rfl rfl)) rfl
theorem f18_43 : ft 18 43 = some (1, 1, 0, .iload 5, 2) := Fm18 (dk_21 5 (dk_at s18_1 20 rfl rfl)) rfl
theorem f18_45 : ft 18 45 = some (1, 1, 0, .invokevirtual 134, 3) := Fm18 (dk_182 0 134 (dk_at s18_2 0 rfl rfl)) rfl
theorem f18_48 : ft 18 48 = some (1, 1, 0, .aload_n 0, 1) := Fm18 (dk_42 (dk_at s18_2 3 rfl rfl)) rfl
theorem f18_49 : ft 18 49 = some (1, 1, 0, .getfield 127, 3) := Fm18 (dk_180 0 127 (dk_at s18_2 4 rfl rfl)) rfl
theorem f18_52 : ft 18 52 = some (1, 1, 0, .ireturn, 1) := Fm18 (dk_172 (dk_at s18_2 7 rfl rfl)) rfl
theorem q18 {d : Nat} {m : Mem} {a0 a1 a2 a3 a4 a5 : Int} (hz : TZ m) : le2 (gd (tg m a0 = 1) <| if 16384 < (w32 ((vl m a0 1) + 20)) then (rn d 18 18 [pR a0, pI a1, pI a2, pI a3, pI a4, pI a5] [pI 0] m) else rn d 18 18 [pR a0, pI a1, pI a2, pI a3, pI a4, pI a5] [pI 1] m) (cl d 18 [pR a0, pI a1, pI a2, pI a3, pI a4, pI a5] m) := by
  refine q_in (n := 6) (L := [pR a0, pI a1, pI a2, pI a3, pI a4, pI a5]) rfl rfl rfl ?_
  refine r_aln0 (p := 1) f18_0 rfl ?_
  refine le2_gd (fun h1 => ?_)
  refine r_gfI (f := 1) (p := 4) f18_1 rfl rfl rfl (Or.inl h1) rfl ?_
  refine r_bipush (p := 6) f18_4 rfl (pinD rfl rfl) ?_
  refine r_iadd (p := 7) f18_6 rfl ?_
  refine r_sipush (p := 10) f18_7 rfl (pinD rfl rfl) ?_
  refine r_icgt (t := 17) (p := 13) f18_10 (by decide) rfl rfl ?_ ?_
  · refine r_iconst (p := 18) f18_17 rfl (pinD rfl rfl) ?_
    exact le2_refl _
  · refine r_iconst (p := 14) f18_13 rfl (pinD rfl rfl) ?_
    refine r_goto (p := 18) f18_14 (by decide) rfl ?_
    exact le2_refl _
theorem q18_18 {d : Nat} {m : Mem} {a0 a1 a2 a3 a4 a5 s0 : Int} (hd : 0 < d) (hz : TZ m) : le2 (bV (cl (d - 1) 19 [pI s0] m) fun m1 => gd (tg m1 a0 = 1) <| bV (cl (d - 1) 20 [pR a0, pI a1] m1) fun m2 => bV (cl (d - 1) 20 [pR a0, pI a2] m2) fun m3 => bV (cl (d - 1) 20 [pR a0, pI a3] m3) fun m4 => bV (cl (d - 1) 20 [pR a0, pI a4] m4) fun m5 => bV (cl (d - 1) 20 [pR a0, pI a5] m5) fun m6 => some (.inl (some (pI (vl m6 a0 1))), m6)) (rn d 18 18 [pR a0, pI a1, pI a2, pI a3, pI a4, pI a5] [pI s0] m) := by
  refine r_istV (p := 21) f18_18 rfl rfl rfl hd (Nat.le_of_ble_eq_true rfl) rfl rfl rfl (fun _ => rfl) (fun m1 c1 => ?_)
  have hz1 := z_k c1 hz
  refine r_aln0 (p := 22) f18_21 rfl ?_
  refine r_iln1 (p := 23) f18_22 rfl ?_
  refine le2_gd (fun h1 => ?_)
  refine r_invV (p := 26) f18_23 rfl rfl rfl (Or.inl h1) hd (Nat.le_of_ble_eq_true rfl) rfl rfl rfl (fun _ => rfl) (fun m2 c2 => ?_)
  have hz2 := z_k c2 hz1
  refine r_aln0 (p := 27) f18_26 rfl ?_
  refine r_iln2 (p := 28) f18_27 rfl ?_
  have h2 := k_t1 c2 hz1 h1 (by decide)
  refine r_invV (p := 31) f18_28 rfl rfl rfl (Or.inl h2) hd (Nat.le_of_ble_eq_true rfl) rfl rfl rfl (fun _ => rfl) (fun m3 c3 => ?_)
  have hz3 := z_k c3 hz2
  refine r_aln0 (p := 32) f18_31 rfl ?_
  refine r_iln3 (p := 33) f18_32 rfl ?_
  have h3 := k_t1 c3 hz2 h2 (by decide)
  refine r_invV (p := 36) f18_33 rfl rfl rfl (Or.inl h3) hd (Nat.le_of_ble_eq_true rfl) rfl rfl rfl (fun _ => rfl) (fun m4 c4 => ?_)
  have hz4 := z_k c4 hz3
  refine r_aln0 (p := 37) f18_36 rfl ?_
  refine r_ilw4 (p := 39) f18_37 rfl ?_
  have h4 := k_t1 c4 hz3 h3 (by decide)
  refine r_invV (p := 42) f18_39 rfl rfl rfl (Or.inl h4) hd (Nat.le_of_ble_eq_true rfl) rfl rfl rfl (fun _ => rfl) (fun m5 c5 => ?_)
  have hz5 := z_k c5 hz4
  refine r_aln0 (p := 43) f18_42 rfl ?_
  refine r_ilw5 (p := 45) f18_43 rfl ?_
  have h5 := k_t1 c5 hz4 h4 (by decide)
  refine r_invV (p := 48) f18_45 rfl rfl rfl (Or.inl h5) hd (Nat.le_of_ble_eq_true rfl) rfl rfl rfl (fun _ => rfl) (fun m6 c6 => ?_)
  have hz6 := z_k c6 hz5
  refine r_aln0 (p := 49) f18_48 rfl ?_
  have h6 := k_t1 c6 hz5 h5 (by decide)
  refine r_gfI (f := 1) (p := 52) f18_49 rfl rfl rfl (Or.inl h6) rfl ?_
  exact r_iret1 f18_52
/-! 19 PathStore.within (Z)V -/
def w19_0 : List UInt8 := [26, 154, 0, 11, 187, 0, 124, 89, 183, 0, 126, 191, 177]
abbrev u19_0 : List UInt8 := w19_0 ++ []
theorem s19_0 : (prog_1_method_5_code).data.toList.drop 0 = u19_0 := by decide +kernel
theorem Fm19 {pc len : Nat} {i : Instr} (h : decode (prog_1_method_5_code) pc = .ok (i, len)) (hl : len = ilen i len) : ft 19 pc = some (1, 0, 0, i, len) := ft_mk rfl h hl
theorem f19_0 : ft 19 0 = some (1, 0, 0, .iload_n 0, 1) := Fm19 (dk_26 (dk_at s19_0 0 rfl rfl)) rfl
theorem f19_1 : ft 19 1 = some (1, 0, 0, .ifCond .ne 11, 3) := Fm19 (dk_154 0 11 (dk_at s19_0 1 rfl rfl)) rfl
theorem f19_4 : ft 19 4 = some (1, 0, 0, .new 124, 3) := Fm19 (dk_187 0 124 (dk_at s19_0 4 rfl rfl)) rfl
theorem f19_12 : ft 19 12 = some (1, 0, 0, .return_, 1) := Fm19 (dk_177 (dk_at s19_0 12 rfl rfl)) rfl
theorem q19 {d : Nat} {m : Mem} {a0 : Int} (hz : TZ m) : le2 (if a0 = 0 then (some (.inr 201, mal m 201 6)) else some (.inl none, m)) (cl d 19 [pI a0] m) := by
  refine q_in (n := 1) (L := [pI a0]) rfl rfl rfl ?_
  refine r_iln0 (p := 1) f19_0 rfl ?_
  refine r_ifne (t := 12) (p := 4) f19_1 (by decide) rfl rfl ?_ ?_
  · exact r_throw (e := 201) (f0 := 6) f19_4 rfl (by decide) (Nat.le_of_ble_eq_true rfl) rfl rfl
  · exact r_ret f19_12
/-! 20 PathStore.type (I)V -/
def w20_1 : List UInt8 := [124, 145, 84, 132, 2, 248, 167, 255, 229, 177]
abbrev u20_1 : List UInt8 := w20_1 ++ []
def w20_0 : List UInt8 := [16, 24, 61, 28, 155, 0, 29, 42, 180, 0, 9, 42, 89, 180, 0, 127, 90, 4, 96, 181, 0, 127, 27, 28]
abbrev u20_0 : List UInt8 := w20_0 ++ u20_1
theorem s20_0 : (prog_1_method_7_code).data.toList.drop 0 = u20_0 := by decide +kernel
theorem s20_1 : (prog_1_method_7_code).data.toList.drop 24 = u20_1 := dk_seg s20_0 24 rfl rfl
theorem Fm20 {pc len : Nat} {i : Instr} (h : decode (prog_1_method_7_code) pc = .ok (i, len)) (hl : len = ilen i len) : ft 20 pc = some (1, 0, 0, i, len) := ft_mk rfl h hl
theorem f20_0 : ft 20 0 = some (1, 0, 0, .bipush 24, 2) := Fm20 (dk_16 24 (dk_at s20_0 0 rfl rfl)) rfl
theorem f20_2 : ft 20 2 = some (1, 0, 0, .istore_n 2, 1) := Fm20 (dk_61 (dk_at s20_0 2 rfl rfl)) rfl
theorem f20_3 : ft 20 3 = some (1, 0, 0, .iload_n 2, 1) := Fm20 (dk_28 (dk_at s20_0 3 rfl rfl)) rfl
theorem f20_4 : ft 20 4 = some (1, 0, 0, .ifCond .lt 29, 3) := Fm20 (dk_155 0 29 (dk_at s20_0 4 rfl rfl)) rfl
theorem f20_7 : ft 20 7 = some (1, 0, 0, .aload_n 0, 1) := Fm20 (dk_42 (dk_at s20_0 7 rfl rfl)) rfl
theorem f20_8 : ft 20 8 = some (1, 0, 0, .getfield 9, 3) := Fm20 (dk_180 0 9 (dk_at s20_0 8 rfl rfl)) rfl
theorem f20_11 : ft 20 11 = some (1, 0, 0, .aload_n 0, 1) := Fm20 (dk_42 (dk_at s20_0 11 rfl rfl)) rfl
theorem f20_12 : ft 20 12 = some (1, 0, 0, .dup, 1) := Fm20 (dk_89 (dk_at s20_0 12 rfl rfl)) rfl
theorem f20_13 : ft 20 13 = some (1, 0, 0, .getfield 127, 3) := Fm20 (dk_180 0 127 (dk_at s20_0 13 rfl rfl)) rfl
theorem f20_16 : ft 20 16 = some (1, 0, 0, .dup_x1, 1) := Fm20 (dk_90 (dk_at s20_0 16 rfl rfl)) rfl
theorem f20_17 : ft 20 17 = some (1, 0, 0, .iconst 1, 1) := Fm20 (dk_4 (dk_at s20_0 17 rfl rfl)) rfl
theorem f20_18 : ft 20 18 = some (1, 0, 0, .iadd, 1) := Fm20 (dk_96 (dk_at s20_0 18 rfl rfl)) rfl
theorem f20_19 : ft 20 19 = some (1, 0, 0, .putfield 127, 3) := Fm20 (dk_181 0 127 (dk_at s20_0 19 rfl rfl)) rfl
theorem f20_22 : ft 20 22 = some (1, 0, 0, .iload_n 1, 1) := Fm20 (dk_27 (dk_at s20_0 22 rfl rfl)) rfl
theorem f20_23 : ft 20 23 = some (1, 0, 0, .iload_n 2, 1) := Fm20 (dk_28 (dk_at s20_0 23 rfl rfl)) rfl
theorem f20_24 : ft 20 24 = some (1, 0, 0, .iushr, 1) := Fm20 (dk_124 (dk_at s20_1 0 rfl rfl)) rfl
theorem f20_25 : ft 20 25 = some (1, 0, 0, .i2b, 1) := Fm20 (dk_145 (dk_at s20_1 1 rfl rfl)) rfl
theorem f20_26 : ft 20 26 = some (1, 0, 0, .bastore, 1) := Fm20 (dk_84 (dk_at s20_1 2 rfl rfl)) rfl
theorem f20_27 : ft 20 27 = some (1, 0, 0, .iinc 2 (-8), 3) := Fm20 (dk_132 2 248 (dk_at s20_1 3 rfl rfl)) rfl
theorem f20_30 : ft 20 30 = some (1, 0, 0, .goto (-27), 3) := Fm20 (dk_167 255 229 (dk_at s20_1 6 rfl rfl)) rfl
theorem f20_33 : ft 20 33 = some (1, 0, 0, .return_, 1) := Fm20 (dk_177 (dk_at s20_1 9 rfl rfl)) rfl
theorem q20 {d : Nat} {m : Mem} {a0 a1 : Int} (hz : TZ m) : le2 (rn d 20 3 [pR a0, pI a1, pI 24] [] m) (cl d 20 [pR a0, pI a1] m) := by
  refine q_in (n := 3) (L := [pR a0, pI a1, pU]) rfl rfl rfl ?_
  refine r_bipush (p := 2) f20_0 rfl (pinD rfl rfl) ?_
  refine r_isn2 (p := 3) f20_2 rfl rfl ?_
  exact le2_refl _
theorem q20_3 {d : Nat} {m : Mem} {a0 a1 a2 : Int} (hz : TZ m) : le2 (if a2 < 0 then (some (.inl none, m)) else gd (tg m a0 = 1) <| nm (vl m a0 0) fun v1 => nm (vl m a0 1) fun v2 => gd (tg m v1 = 17103) <| gd ((0 : Int) ≤ v2 ∧ v2 < ln m v1) <| rn d 20 3 [pR a0, pI a1, pI (w32 (a2 + (-8)))] [] (mst (mst m a0 1 (w32 (v2 + 1))) v1 v2 (w8 (w8 (pUshr a1 a2))))) (rn d 20 3 [pR a0, pI a1, pI a2] [] m) := by
  refine r_iln2 (p := 4) f20_3 rfl ?_
  refine r_iflt (t := 33) (p := 7) f20_4 (by decide) rfl rfl ?_ ?_
  · exact r_ret f20_33
  · refine r_aln0 (p := 8) f20_7 rfl ?_
    refine le2_gd (fun h1 => ?_)
    refine r_gfR (f := 0) (p := 11) f20_8 rfl rfl rfl (Or.inl h1) rfl ?_
    refine r_nmR (fun v1 ev1 => ?_)
    refine r_aln0 (p := 12) f20_11 rfl ?_
    refine r_dup (p := 13) f20_12 rfl rfl ?_
    refine r_gfI (f := 1) (p := 16) f20_13 rfl rfl rfl (Or.inl h1) rfl ?_
    refine r_nmI (fun v2 ev2 => ?_)
    refine r_dup_x1 (p := 17) f20_16 rfl rfl rfl ?_
    refine r_iconst (p := 18) f20_17 rfl (pinD rfl rfl) ?_
    refine r_iadd (p := 19) f20_18 rfl ?_
    refine r_pfI (f := 1) (p := 22) f20_19 rfl rfl rfl (by decide) (by decide) (Or.inl h1) rfl ?_
    refine r_iln1 (p := 23) f20_22 rfl ?_
    refine r_iln2 (p := 24) f20_23 rfl ?_
    refine r_iushr (p := 25) f20_24 rfl ?_
    refine r_i2b (p := 26) f20_25 rfl ?_
    refine le2_gd (fun h2 => ?_)
    refine le2_gd (fun h3 => ?_)
    refine r_bastore (p := 27) f20_26 rfl (dj1 (fun x => 1000 ≤ x ∧ x % 1000 = 103 ∧ Nat.testBit (eM 20) (bix x 0) = true) h2 (by decide)) h3 ?_
    refine r_iinc2 (p := 30) f20_27 rfl rfl ?_
    refine r_goto (p := 3) f20_30 (by decide) rfl ?_
    exact le2_refl _
/-! 21 PathStore.end (I)I -/
def w21_0 : List UInt8 := [27, 42, 180, 0, 127, 4, 96, 184, 0, 137, 184, 0, 141, 42, 27, 181, 0, 127, 27, 172]
abbrev u21_0 : List UInt8 := w21_0 ++ []
theorem s21_0 : (prog_1_method_9_code).data.toList.drop 0 = u21_0 := by decide +kernel
theorem Fm21 {pc len : Nat} {i : Instr} (h : decode (prog_1_method_9_code) pc = .ok (i, len)) (hl : len = ilen i len) : ft 21 pc = some (1, 1, 0, i, len) := ft_mk rfl h hl
theorem f21_0 : ft 21 0 = some (1, 1, 0, .iload_n 1, 1) := Fm21 (dk_27 (dk_at s21_0 0 rfl rfl)) rfl
theorem f21_1 : ft 21 1 = some (1, 1, 0, .aload_n 0, 1) := Fm21 (dk_42 (dk_at s21_0 1 rfl rfl)) rfl
theorem f21_2 : ft 21 2 = some (1, 1, 0, .getfield 127, 3) := Fm21 (dk_180 0 127 (dk_at s21_0 2 rfl rfl)) rfl
theorem f21_5 : ft 21 5 = some (1, 1, 0, .iconst 1, 1) := Fm21 (dk_4 (dk_at s21_0 5 rfl rfl)) rfl
theorem f21_6 : ft 21 6 = some (1, 1, 0, .iadd, 1) := Fm21 (dk_96 (dk_at s21_0 6 rfl rfl)) rfl
theorem f21_7 : ft 21 7 = some (1, 1, 0, .invokestatic 137, 3) := Fm21 (dk_184 0 137 (dk_at s21_0 7 rfl rfl)) rfl
theorem f21_10 : ft 21 10 = some (1, 1, 0, .invokestatic 141, 3) := Fm21 (dk_184 0 141 (dk_at s21_0 10 rfl rfl)) rfl
theorem f21_13 : ft 21 13 = some (1, 1, 0, .aload_n 0, 1) := Fm21 (dk_42 (dk_at s21_0 13 rfl rfl)) rfl
theorem f21_14 : ft 21 14 = some (1, 1, 0, .iload_n 1, 1) := Fm21 (dk_27 (dk_at s21_0 14 rfl rfl)) rfl
theorem f21_15 : ft 21 15 = some (1, 1, 0, .putfield 127, 3) := Fm21 (dk_181 0 127 (dk_at s21_0 15 rfl rfl)) rfl
theorem f21_18 : ft 21 18 = some (1, 1, 0, .iload_n 1, 1) := Fm21 (dk_27 (dk_at s21_0 18 rfl rfl)) rfl
theorem f21_19 : ft 21 19 = some (1, 1, 0, .ireturn, 1) := Fm21 (dk_172 (dk_at s21_0 19 rfl rfl)) rfl
theorem q21 {d : Nat} {m : Mem} {a0 a1 : Int} (hd : 0 < d) (hz : TZ m) : le2 (gd (tg m a0 = 1) <| bI (cl (d - 1) 22 [pI a1, pI (w32 ((vl m a0 1) + 1))] m) fun v1 m1 => bV (cl (d - 1) 23 [pI v1] m1) fun m2 => some (.inl (some (pI a1)), (mst m2 a0 1 a1))) (cl d 21 [pR a0, pI a1] m) := by
  refine q_in (n := 2) (L := [pR a0, pI a1]) rfl rfl rfl ?_
  refine r_iln1 (p := 1) f21_0 rfl ?_
  refine r_aln0 (p := 2) f21_1 rfl ?_
  refine le2_gd (fun h1 => ?_)
  refine r_gfI (f := 1) (p := 5) f21_2 rfl rfl rfl (Or.inl h1) rfl ?_
  refine r_iconst (p := 6) f21_5 rfl (pinD rfl rfl) ?_
  refine r_iadd (p := 7) f21_6 rfl ?_
  refine r_istI (p := 10) f21_7 rfl rfl rfl hd (Nat.le_of_ble_eq_true rfl) rfl rfl rfl (fun _ => rfl) (fun v1 m1 c1 => ?_)
  have hz1 := z_k c1 hz
  refine r_istV (p := 13) f21_10 rfl rfl rfl hd (Nat.le_of_ble_eq_true rfl) rfl rfl rfl (fun _ => rfl) (fun m2 c2 => ?_)
  have hz2 := z_k c2 hz1
  refine r_aln0 (p := 14) f21_13 rfl ?_
  refine r_iln1 (p := 15) f21_14 rfl ?_
  have h2 := k_t1 c1 hz h1 (by decide)
  have h3 := k_t1 c2 hz1 h2 (by decide)
  refine r_pfI (f := 1) (p := 18) f21_15 rfl rfl rfl (by decide) (by decide) (Or.inl h3) rfl ?_
  refine r_iln1 (p := 19) f21_18 rfl ?_
  exact r_iret1 f21_19
/-! 22 PathStore.in (II)Z -/
def w22_0 : List UInt8 := [26, 155, 0, 12, 26, 27, 162, 0, 7, 4, 167, 0, 4, 3, 172]
abbrev u22_0 : List UInt8 := w22_0 ++ []
theorem s22_0 : (prog_1_method_6_code).data.toList.drop 0 = u22_0 := by decide +kernel
theorem Fm22 {pc len : Nat} {i : Instr} (h : decode (prog_1_method_6_code) pc = .ok (i, len)) (hl : len = ilen i len) : ft 22 pc = some (1, 4, 0, i, len) := ft_mk rfl h hl
theorem f22_0 : ft 22 0 = some (1, 4, 0, .iload_n 0, 1) := Fm22 (dk_26 (dk_at s22_0 0 rfl rfl)) rfl
theorem f22_1 : ft 22 1 = some (1, 4, 0, .ifCond .lt 12, 3) := Fm22 (dk_155 0 12 (dk_at s22_0 1 rfl rfl)) rfl
theorem f22_4 : ft 22 4 = some (1, 4, 0, .iload_n 0, 1) := Fm22 (dk_26 (dk_at s22_0 4 rfl rfl)) rfl
theorem f22_5 : ft 22 5 = some (1, 4, 0, .iload_n 1, 1) := Fm22 (dk_27 (dk_at s22_0 5 rfl rfl)) rfl
theorem f22_6 : ft 22 6 = some (1, 4, 0, .if_icmp .ge 7, 3) := Fm22 (dk_162 0 7 (dk_at s22_0 6 rfl rfl)) rfl
theorem f22_9 : ft 22 9 = some (1, 4, 0, .iconst 1, 1) := Fm22 (dk_4 (dk_at s22_0 9 rfl rfl)) rfl
theorem f22_10 : ft 22 10 = some (1, 4, 0, .goto 4, 3) := Fm22 (dk_167 0 4 (dk_at s22_0 10 rfl rfl)) rfl
theorem f22_13 : ft 22 13 = some (1, 4, 0, .iconst 0, 1) := Fm22 (dk_3 (dk_at s22_0 13 rfl rfl)) rfl
theorem f22_14 : ft 22 14 = some (1, 4, 0, .ireturn, 1) := Fm22 (dk_172 (dk_at s22_0 14 rfl rfl)) rfl
theorem q22 {d : Nat} {m : Mem} {a0 a1 : Int} (hz : TZ m) : le2 (if a0 < 0 then (some (.inl (some (pI 0)), m)) else if a0 < a1 then (some (.inl (some (pI 1)), m)) else some (.inl (some (pI 0)), m)) (cl d 22 [pI a0, pI a1] m) := by
  refine q_in (n := 2) (L := [pI a0, pI a1]) rfl rfl rfl ?_
  refine r_iln0 (p := 1) f22_0 rfl ?_
  refine r_iflt (t := 13) (p := 4) f22_1 (by decide) rfl rfl ?_ ?_
  · refine r_iconst (p := 14) f22_13 rfl (pinD rfl rfl) ?_
    exact r_iret4 f22_14 (by decide)
  · refine r_iln0 (p := 5) f22_4 rfl ?_
    refine r_iln1 (p := 6) f22_5 rfl ?_
    refine r_icge (t := 13) (p := 9) f22_6 (by decide) rfl rfl ?_ ?_
    · refine r_iconst (p := 10) f22_9 rfl (pinD rfl rfl) ?_
      refine r_goto (p := 14) f22_10 (by decide) rfl ?_
      exact r_iret4 f22_14 (by decide)
    · refine r_iconst (p := 14) f22_13 rfl (pinD rfl rfl) ?_
      exact r_iret4 f22_14 (by decide)
/-! 23 PathStore.need (Z)V -/
def w23_0 : List UInt8 := [26, 154, 0, 11, 187, 0, 115, 89, 183, 0, 117, 191, 177]
abbrev u23_0 : List UInt8 := w23_0 ++ []
theorem s23_0 : (prog_1_method_2_code).data.toList.drop 0 = u23_0 := by decide +kernel
theorem Fm23 {pc len : Nat} {i : Instr} (h : decode (prog_1_method_2_code) pc = .ok (i, len)) (hl : len = ilen i len) : ft 23 pc = some (1, 0, 0, i, len) := ft_mk rfl h hl
theorem f23_0 : ft 23 0 = some (1, 0, 0, .iload_n 0, 1) := Fm23 (dk_26 (dk_at s23_0 0 rfl rfl)) rfl
theorem f23_1 : ft 23 1 = some (1, 0, 0, .ifCond .ne 11, 3) := Fm23 (dk_154 0 11 (dk_at s23_0 1 rfl rfl)) rfl
theorem f23_4 : ft 23 4 = some (1, 0, 0, .new 115, 3) := Fm23 (dk_187 0 115 (dk_at s23_0 4 rfl rfl)) rfl
theorem f23_12 : ft 23 12 = some (1, 0, 0, .return_, 1) := Fm23 (dk_177 (dk_at s23_0 12 rfl rfl)) rfl
theorem q23 {d : Nat} {m : Mem} {a0 : Int} (hz : TZ m) : le2 (if a0 = 0 then (some (.inr 202, mal m 202 6)) else some (.inl none, m)) (cl d 23 [pI a0] m) := by
  refine q_in (n := 1) (L := [pI a0]) rfl rfl rfl ?_
  refine r_iln0 (p := 1) f23_0 rfl ?_
  refine r_ifne (t := 12) (p := 4) f23_1 (by decide) rfl rfl ?_ ?_
  · exact r_throw (e := 202) (f0 := 6) f23_4 rfl (by decide) (Nat.le_of_ble_eq_true rfl) rfl rfl
  · exact r_ret f23_12
/-! 24 PathStore.put (I)I -/
def w24_6 : List UInt8 := [167, 0, 4, 3, 96, 182, 0, 208, 42, 180, 0, 77, 180, 0, 175, 172]
abbrev u24_6 : List UInt8 := w24_6 ++ []
def w24_5 : List UInt8 := [180, 0, 77, 180, 0, 169, 27, 21, 4, 182, 0, 204, 42, 180, 0, 77, 180, 0, 175, 29, 153, 0, 7, 4]
abbrev u24_5 : List UInt8 := w24_5 ++ u24_6
def w24_4 : List UInt8 := [42, 180, 0, 67, 3, 42, 180, 0, 67, 180, 0, 154, 182, 0, 200, 54, 4, 42, 42, 180, 0, 60, 42]
abbrev u24_4 : List UInt8 := w24_4 ++ u24_5
def w24_3 : List UInt8 := [180, 0, 175, 16, 100, 162, 0, 7, 4, 167, 0, 4, 3, 184, 0, 130, 42, 182, 0, 199, 42, 180, 0, 60]
abbrev u24_3 : List UInt8 := w24_3 ++ u24_4
def w24_2 : List UInt8 := [180, 0, 169, 27, 182, 0, 195, 154, 0, 7, 4, 167, 0, 4, 3, 62, 29, 153, 0, 15, 42, 180, 0, 77]
abbrev u24_2 : List UInt8 := w24_2 ++ u24_3
def w24_1 : List UInt8 := [3, 181, 0, 191, 42, 180, 0, 26, 42, 180, 0, 67, 3, 182, 0, 192, 42, 180, 0, 60, 42, 180, 0, 77]
abbrev u24_1 : List UInt8 := w24_1 ++ u24_2
def w24_0 : List UInt8 := [27, 17, 39, 16, 184, 0, 137, 184, 0, 141, 42, 182, 0, 184, 61, 42, 28, 182, 0, 188, 42, 180, 0, 26]
abbrev u24_0 : List UInt8 := w24_0 ++ u24_1
theorem s24_0 : (prog_1_method_16_code).data.toList.drop 0 = u24_0 := by decide +kernel
theorem s24_1 : (prog_1_method_16_code).data.toList.drop 24 = u24_1 := dk_seg s24_0 24 rfl rfl
theorem s24_2 : (prog_1_method_16_code).data.toList.drop 48 = u24_2 := dk_seg s24_1 24 rfl rfl
theorem s24_3 : (prog_1_method_16_code).data.toList.drop 72 = u24_3 := dk_seg s24_2 24 rfl rfl
theorem s24_4 : (prog_1_method_16_code).data.toList.drop 96 = u24_4 := dk_seg s24_3 24 rfl rfl
theorem s24_5 : (prog_1_method_16_code).data.toList.drop 119 = u24_5 := dk_seg s24_4 23 rfl rfl
theorem s24_6 : (prog_1_method_16_code).data.toList.drop 143 = u24_6 := dk_seg s24_5 24 rfl rfl
theorem Fm24 {pc len : Nat} {i : Instr} (h : decode (prog_1_method_16_code) pc = .ok (i, len)) (hl : len = ilen i len) : ft 24 pc = some (1, 1, 0, i, len) := ft_mk rfl h hl
theorem f24_0 : ft 24 0 = some (1, 1, 0, .iload_n 1, 1) := Fm24 (dk_27 (dk_at s24_0 0 rfl rfl)) rfl
theorem f24_1 : ft 24 1 = some (1, 1, 0, .sipush 10000, 3) := Fm24 (dk_17 39 16 (dk_at s24_0 1 rfl rfl)) rfl
theorem f24_4 : ft 24 4 = some (1, 1, 0, .invokestatic 137, 3) := Fm24 (dk_184 0 137 (dk_at s24_0 4 rfl rfl)) rfl
theorem f24_7 : ft 24 7 = some (1, 1, 0, .invokestatic 141, 3) := Fm24 (dk_184 0 141 (dk_at s24_0 7 rfl rfl)) rfl
theorem f24_10 : ft 24 10 = some (1, 1, 0, .aload_n 0, 1) := Fm24 (dk_42 (dk_at s24_0 10 rfl rfl)) rfl
theorem f24_11 : ft 24 11 = some (1, 1, 0, .invokevirtual 184, 3) := Fm24 (dk_182 0 184 (dk_at s24_0 11 rfl rfl)) rfl
theorem f24_14 : ft 24 14 = some (1, 1, 0, .istore_n 2, 1) := Fm24 (dk_61 (dk_at s24_0 14 rfl rfl)) rfl
theorem f24_15 : ft 24 15 = some (1, 1, 0, .aload_n 0, 1) := Fm24 (dk_42 (dk_at s24_0 15 rfl rfl)) rfl
theorem f24_16 : ft 24 16 = some (1, 1, 0, .iload_n 2, 1) := Fm24 (dk_28 (dk_at s24_0 16 rfl rfl)) rfl
theorem f24_17 : ft 24 17 = some (1, 1, 0, .invokevirtual 188, 3) := Fm24 (dk_182 0 188 (dk_at s24_0 17 rfl rfl)) rfl
theorem f24_20 : ft 24 20 = some (1, 1, 0, .aload_n 0, 1) := Fm24 (dk_42 (dk_at s24_0 20 rfl rfl)) rfl
theorem f24_21 : ft 24 21 = some (1, 1, 0, .getfield 26, 3) := Fm24 (dk_180 0 26 (dk_at s24_0 21 rfl rfl)) rfl
theorem f24_24 : ft 24 24 = some (1, 1, 0, .iconst 0, 1) := Fm24 (dk_3 (dk_at s24_1 0 rfl rfl)) rfl
theorem f24_25 : ft 24 25 = some (1, 1, 0, .putfield 191, 3) := Fm24 (dk_181 0 191 (dk_at s24_1 1 rfl rfl)) rfl
theorem f24_28 : ft 24 28 = some (1, 1, 0, .aload_n 0, 1) := Fm24 (dk_42 (dk_at s24_1 4 rfl rfl)) rfl
theorem f24_29 : ft 24 29 = some (1, 1, 0, .getfield 26, 3) := Fm24 (dk_180 0 26 (dk_at s24_1 5 rfl rfl)) rfl
theorem f24_32 : ft 24 32 = some (1, 1, 0, .aload_n 0, 1) := Fm24 (dk_42 (dk_at s24_1 8 rfl rfl)) rfl
theorem f24_33 : ft 24 33 = some (1, 1, 0, .getfield 67, 3) := Fm24 (dk_180 0 67 (dk_at s24_1 9 rfl rfl)) rfl
theorem f24_36 : ft 24 36 = some (1, 1, 0, .iconst 0, 1) := Fm24 (dk_3 (dk_at s24_1 12 rfl rfl)) rfl
theorem f24_37 : ft 24 37 = some (1, 1, 0, .invokevirtual 192, 3) := Fm24 (dk_182 0 192 (dk_at s24_1 13 rfl rfl)) rfl
theorem f24_40 : ft 24 40 = some (1, 1, 0, .aload_n 0, 1) := Fm24 (dk_42 (dk_at s24_1 16 rfl rfl)) rfl
theorem f24_41 : ft 24 41 = some (1, 1, 0, .getfield 60, 3) := Fm24 (dk_180 0 60 (dk_at s24_1 17 rfl rfl)) rfl
theorem f24_44 : ft 24 44 = some (1, 1, 0, .aload_n 0, 1) := Fm24 (dk_42 (dk_at s24_1 20 rfl rfl)) rfl
theorem f24_45 : ft 24 45 = some (1, 1, 0, .getfield 77, 3) := Fm24 (dk_180 0 77 (dk_at s24_1 21 rfl rfl)) rfl
theorem f24_48 : ft 24 48 = some (1, 1, 0, .getfield 169, 3) := Fm24 (dk_180 0 169 (dk_at s24_2 0 rfl rfl)) rfl
theorem f24_51 : ft 24 51 = some (1, 1, 0, .iload_n 1, 1) := Fm24 (dk_27 (dk_at s24_2 3 rfl rfl)) rfl
theorem f24_52 : ft 24 52 = some (1, 1, 0, .invokevirtual 195, 3) := Fm24 (dk_182 0 195 (dk_at s24_2 4 rfl rfl)) rfl
theorem f24_55 : ft 24 55 = some (1, 1, 0, .ifCond .ne 7, 3) := Fm24 (dk_154 0 7 (dk_at s24_2 7 rfl rfl)) rfl
theorem f24_58 : ft 24 58 = some (1, 1, 0, .iconst 1, 1) := Fm24 (dk_4 (dk_at s24_2 10 rfl rfl)) rfl
theorem f24_59 : ft 24 59 = some (1, 1, 0, .goto 4, 3) := Fm24 (dk_167 0 4 (dk_at s24_2 11 rfl rfl)) rfl
theorem f24_62 : ft 24 62 = some (1, 1, 0, .iconst 0, 1) := Fm24 (dk_3 (dk_at s24_2 14 rfl rfl)) rfl
theorem f24_63 : ft 24 63 = some (1, 1, 0, .istore_n 3, 1) := Fm24 (dk_62 (dk_at s24_2 15 rfl rfl)) rfl
theorem f24_64 : ft 24 64 = some (1, 1, 0, .iload_n 3, 1) := Fm24 (dk_29 (dk_at s24_2 16 rfl rfl)) rfl
theorem f24_65 : ft 24 65 = some (1, 1, 0, .ifCond .eq 15, 3) := Fm24 (dk_153 0 15 (dk_at s24_2 17 rfl rfl)) rfl
theorem f24_68 : ft 24 68 = some (1, 1, 0, .aload_n 0, 1) := Fm24 (dk_42 (dk_at s24_2 20 rfl rfl)) rfl
theorem f24_69 : ft 24 69 = some (1, 1, 0, .getfield 77, 3) := Fm24 (dk_180 0 77 (dk_at s24_2 21 rfl rfl)) rfl
theorem f24_72 : ft 24 72 = some (1, 1, 0, .getfield 175, 3) := Fm24 (dk_180 0 175 (dk_at s24_3 0 rfl rfl)) rfl
theorem f24_75 : ft 24 75 = some (1, 1, 0, .bipush 100, 2) := Fm24 (dk_16 100 (dk_at s24_3 3 rfl rfl)) rfl
theorem f24_77 : ft 24 77 = some (1, 1, 0, .if_icmp .ge 7, 3) := Fm24 (dk_162 0 7 (dk_at s24_3 5 rfl rfl)) rfl
theorem f24_80 : ft 24 80 = some (1, 1, 0, .iconst 1, 1) := Fm24 (dk_4 (dk_at s24_3 8 rfl rfl)) rfl
theorem f24_81 : ft 24 81 = some (1, 1, 0, .goto 4, 3) := Fm24 (dk_167 0 4 (dk_at s24_3 9 rfl rfl)) rfl
theorem f24_84 : ft 24 84 = some (1, 1, 0, .iconst 0, 1) := Fm24 (dk_3 (dk_at s24_3 12 rfl rfl)) rfl
theorem f24_85 : ft 24 85 = some (1, 1, 0, .invokestatic 130, 3) := Fm24 (dk_184 0 130 (dk_at s24_3 13 rfl rfl)) rfl
theorem f24_88 : ft 24 88 = some (1, 1, 0, .aload_n 0, 1) := Fm24 (dk_42 (dk_at s24_3 16 rfl rfl)) rfl
theorem f24_89 : ft 24 89 = some (1, 1, 0, .invokevirtual 199, 3) := Fm24 (dk_182 0 199 (dk_at s24_3 17 rfl rfl)) rfl
theorem f24_92 : ft 24 92 = some (1, 1, 0, .aload_n 0, 1) := Fm24 (dk_42 (dk_at s24_3 20 rfl rfl)) rfl
theorem f24_93 : ft 24 93 = some (1, 1, 0, .getfield 60, 3) := Fm24 (dk_180 0 60 (dk_at s24_3 21 rfl rfl)) rfl
theorem f24_96 : ft 24 96 = some (1, 1, 0, .aload_n 0, 1) := Fm24 (dk_42 (dk_at s24_4 0 rfl rfl)) rfl
theorem f24_97 : ft 24 97 = some (1, 1, 0, .getfield 67, 3) := Fm24 (dk_180 0 67 (dk_at s24_4 1 rfl rfl)) rfl
theorem f24_100 : ft 24 100 = some (1, 1, 0, .iconst 0, 1) := Fm24 (dk_3 (dk_at s24_4 4 rfl rfl)) rfl
theorem f24_101 : ft 24 101 = some (1, 1, 0, .aload_n 0, 1) := Fm24 (dk_42 (dk_at s24_4 5 rfl rfl)) rfl
theorem f24_102 : ft 24 102 = some (1, 1, 0, .getfield 67, 3) := Fm24 (dk_180 0 67 (dk_at s24_4 6 rfl rfl)) rfl
theorem f24_105 : ft 24 105 = some (1, 1, 0, .getfield 154, 3) := Fm24 (dk_180 0 154 (dk_at s24_4 9 rfl rfl)) rfl
theorem f24_108 : ft 24 108 = some (1, 1, 0, .invokevirtual 200, 3) := Fm24 (dk_182 0 200 (dk_at s24_4 12 rfl rfl)) rfl
theorem f24_111 : ft 24 111 = some (1, 1, 0, .istore 4, 2) := Fm24 (dk_54 4 (dk_at s24_4 15 rfl rfl)) rfl
theorem f24_113 : ft 24 113 = some (1, 1, 0, .aload_n 0, 1) := Fm24 (dk_42 (dk_at s24_4 17 rfl rfl)) rfl
theorem f24_114 : ft 24 114 = some (1, 1, 0, .aload_n 0, 1) := Fm24 (dk_42 (dk_at s24_4 18 rfl rfl)) rfl
theorem f24_115 : ft 24 115 = some (1, 1, 0, .getfield 60, 3) := Fm24 (dk_180 0 60 (dk_at s24_4 19 rfl rfl)) rfl
theorem f24_118 : ft 24 118 = some (1, 1, 0, .aload_n 0, 1) := Fm24 (dk_42 (dk_at s24_4 22 rfl rfl)) rfl
theorem f24_119 : ft 24 119 = some (1, 1, 0, .getfield 77, 3) := Fm24 (dk_180 0 77 (dk_at s24_5 0 rfl rfl)) rfl
theorem f24_122 : ft 24 122 = some (1, 1, 0, .getfield 169, 3) := Fm24 (dk_180 0 169 (dk_at s24_5 3 rfl rfl)) rfl
theorem f24_125 : ft 24 125 = some (1, 1, 0, .iload_n 1, 1) := Fm24 (dk_27 (dk_at s24_5 6 rfl rfl)) rfl
theorem f24_126 : ft 24 126 = some (1, 1, 0, .iload 4, 2) := Fm24 (dk_21 4 (dk_at s24_5 7 rfl rfl)) rfl
theorem f24_128 : ft 24 128 = some (1, 1, 0, .invokevirtual 204, 3) := Fm24 (dk_182 0 204 (dk_at s24_5 9 rfl rfl)) rfl
theorem f24_131 : ft 24 131 = some (1, 1, 0, .aload_n 0, 1) := Fm24 (dk_42 (dk_at s24_5 12 rfl rfl)) rfl
theorem f24_132 : ft 24 132 = some (1, 1, 0, .getfield 77, 3) := Fm24 (dk_180 0 77 (dk_at s24_5 13 rfl rfl)) rfl
theorem f24_135 : ft 24 135 = some (1, 1, 0, .getfield 175, 3) := Fm24 (dk_180 0 175 (dk_at s24_5 16 rfl rfl)) rfl
theorem f24_138 : ft 24 138 = some (1, 1, 0, .iload_n 3, 1) := Fm24 (dk_29 (dk_at s24_5 19 rfl rfl)) rfl
theorem f24_139 : ft 24 139 = some (1, 1, 0, .ifCond .eq 7, 3) := Fm24 (dk_153 0 7 (dk_at s24_5 20 rfl rfl)) rfl
theorem f24_142 : ft 24 142 = some (1, 1, 0, .iconst 1, 1) := Fm24 (dk_4 (dk_at s24_5 23 rfl rfl)) rfl
theorem f24_143 : ft 24 143 = some (1, 1, 0, .goto 4, 3) := Fm24 (dk_167 0 4 (dk_at s24_6 0 rfl rfl)) rfl
theorem f24_146 : ft 24 146 = some (1, 1, 0, .iconst 0, 1) := Fm24 (dk_3 (dk_at s24_6 3 rfl rfl)) rfl
theorem f24_147 : ft 24 147 = some (1, 1, 0, .iadd, 1) := Fm24 (dk_96 (dk_at s24_6 4 rfl rfl)) rfl
theorem f24_148 : ft 24 148 = some (1, 1, 0, .invokevirtual 208, 3) := Fm24 (dk_182 0 208 (dk_at s24_6 5 rfl rfl)) rfl
theorem f24_151 : ft 24 151 = some (1, 1, 0, .aload_n 0, 1) := Fm24 (dk_42 (dk_at s24_6 8 rfl rfl)) rfl
theorem f24_152 : ft 24 152 = some (1, 1, 0, .getfield 77, 3) := Fm24 (dk_180 0 77 (dk_at s24_6 9 rfl rfl)) rfl
theorem f24_155 : ft 24 155 = some (1, 1, 0, .getfield 175, 3) := Fm24 (dk_180 0 175 (dk_at s24_6 12 rfl rfl)) rfl
theorem f24_158 : ft 24 158 = some (1, 1, 0, .ireturn, 1) := Fm24 (dk_172 (dk_at s24_6 15 rfl rfl)) rfl
theorem q24 {d : Nat} {m : Mem} {a0 a1 : Int} (hd : 0 < d) (hz : TZ m) : le2 (bI (cl (d - 1) 22 [pI a1, pI 10000] m) fun v1 m1 => bV (cl (d - 1) 23 [pI v1] m1) fun m2 => gd (tg m2 a0 = 1) <| bI (cl (d - 1) 25 [pR a0] m2) fun v3 m3 => bV (cl (d - 1) 27 [pR a0, pI v3] m3) fun m4 => nm (vl m4 a0 4) fun v7 => gd (tg m4 v7 = 2) <| bV (cl (d - 1) 52 [pR v7, pR (vl m4 a0 10), pI 0] (mst m4 v7 1 0)) fun m5 => nm (vl m5 a0 9) fun v8 => nm (vl m5 a0 12) fun v9 => gd (tg m5 v9 = 10) <| gd (tg m5 v8 = 9) <| bI (cl (d - 1) 165 [pR v8, pI (vl m5 v9 0), pI a1] m5) fun v6 m6 => if v6 = 0 then (rn d 24 63 [pR a0, pI a1, pI v3, pU, pU] [pI 1] m6) else rn d 24 63 [pR a0, pI a1, pI v3, pU, pU] [pI 0] m6) (cl d 24 [pR a0, pI a1] m) := by
  refine q_in (n := 5) (L := [pR a0, pI a1, pU, pU, pU]) rfl rfl rfl ?_
  refine r_iln1 (p := 1) f24_0 rfl ?_
  refine r_sipush (p := 4) f24_1 rfl (pinD rfl rfl) ?_
  refine r_istI (p := 7) f24_4 rfl rfl rfl hd (Nat.le_of_ble_eq_true rfl) rfl rfl rfl (fun _ => rfl) (fun v1 m1 c1 => ?_)
  have hz1 := z_k c1 hz
  refine r_istV (p := 10) f24_7 rfl rfl rfl hd (Nat.le_of_ble_eq_true rfl) rfl rfl rfl (fun _ => rfl) (fun m2 c2 => ?_)
  have hz2 := z_k c2 hz1
  refine r_aln0 (p := 11) f24_10 rfl ?_
  refine le2_gd (fun h1 => ?_)
  refine r_invI (p := 14) f24_11 rfl rfl rfl (Or.inl h1) hd (Nat.le_of_ble_eq_true rfl) rfl rfl rfl (fun _ => rfl) (fun v3 m3 c3 => ?_)
  have hz3 := z_k c3 hz2
  refine r_isn2 (p := 15) f24_14 rfl rfl ?_
  refine r_aln0 (p := 16) f24_15 rfl ?_
  refine r_iln2 (p := 17) f24_16 rfl ?_
  have h2 := k_t1 c3 hz2 h1 (by decide)
  refine r_invV (p := 20) f24_17 rfl rfl rfl (Or.inl h2) hd (Nat.le_of_ble_eq_true rfl) rfl rfl rfl (fun _ => rfl) (fun m4 c4 => ?_)
  have hz4 := z_k c4 hz3
  refine r_aln0 (p := 21) f24_20 rfl ?_
  have h3 := k_t1 c4 hz3 h2 (by decide)
  refine r_gfR (f := 4) (p := 24) f24_21 rfl rfl rfl (Or.inl h3) rfl ?_
  refine r_nmR (fun v7 ev7 => ?_)
  refine r_iconst (p := 25) f24_24 rfl (pinD rfl rfl) ?_
  refine le2_gd (fun h4 => ?_)
  refine r_pfI (f := 1) (p := 28) f24_25 rfl rfl rfl (by decide) (by decide) (Or.inl h4) rfl ?_
  refine r_aln0 (p := 29) f24_28 rfl ?_
  refine r_gfR (f := 4) (p := 32) f24_29 rfl rfl rfl (Or.inl h3) (Eq.trans (sk_f (by decide)) ev7.symm) ?_
  refine r_aln0 (p := 33) f24_32 rfl ?_
  refine r_gfR (f := 10) (p := 36) f24_33 rfl rfl rfl (Or.inl h3) (sk_f (by decide)) ?_
  refine r_iconst (p := 37) f24_36 rfl (pinD rfl rfl) ?_
  refine r_invV (p := 40) f24_37 rfl rfl rfl (Or.inl h4) hd (Nat.le_of_ble_eq_true rfl) rfl rfl rfl (fun _ => rfl) (fun m5 c5 => ?_)
  have hz5 := z_k c5 hz4
  refine r_aln0 (p := 41) f24_40 rfl ?_
  have h5 := k_t1 c5 hz4 h3 (by decide)
  refine r_gfR (f := 9) (p := 44) f24_41 rfl rfl rfl (Or.inl h5) rfl ?_
  refine r_nmR (fun v8 ev8 => ?_)
  refine r_aln0 (p := 45) f24_44 rfl ?_
  refine r_gfR (f := 12) (p := 48) f24_45 rfl rfl rfl (Or.inl h5) rfl ?_
  refine r_nmR (fun v9 ev9 => ?_)
  refine le2_gd (fun h6 => ?_)
  refine r_gfI (f := 0) (p := 51) f24_48 rfl rfl rfl (Or.inl h6) rfl ?_
  refine r_iln1 (p := 52) f24_51 rfl ?_
  refine le2_gd (fun h7 => ?_)
  refine r_invI (p := 55) f24_52 rfl rfl rfl (Or.inl h7) hd (Nat.le_of_ble_eq_true rfl) rfl rfl rfl (fun _ => rfl) (fun v6 m6 c6 => ?_)
  have hz6 := z_k c6 hz5
  refine r_ifne (t := 62) (p := 58) f24_55 (by decide) rfl rfl ?_ ?_
  · refine r_iconst (p := 59) f24_58 rfl (pinD rfl rfl) ?_
    refine r_goto (p := 63) f24_59 (by decide) rfl ?_
    exact le2_refl _
  · refine r_iconst (p := 63) f24_62 rfl (pinD rfl rfl) ?_
    exact le2_refl _
theorem q24_63 {d : Nat} {m : Mem} {a0 a1 a2 s0 : Int} (hz : TZ m) : le2 (if s0 = 0 then (rn d 24 85 [pR a0, pI a1, pI a2, pI s0, pU] [pI 1] m) else gd (tg m a0 = 1) <| nm (vl m a0 12) fun v1 => gd (tg m v1 = 10) <| if (vl m v1 1) < 100 then (rn d 24 85 [pR a0, pI a1, pI a2, pI s0, pU] [pI 1] m) else rn d 24 85 [pR a0, pI a1, pI a2, pI s0, pU] [pI 0] m) (rn d 24 63 [pR a0, pI a1, pI a2, pU, pU] [pI s0] m) := by
  refine r_isn3 (p := 64) f24_63 rfl rfl ?_
  refine r_iln3 (p := 65) f24_64 rfl ?_
  refine r_ifeq (t := 80) (p := 68) f24_65 (by decide) rfl rfl ?_ ?_
  · refine r_iconst (p := 81) f24_80 rfl (pinD rfl rfl) ?_
    refine r_goto (p := 85) f24_81 (by decide) rfl ?_
    exact le2_refl _
  · refine r_aln0 (p := 69) f24_68 rfl ?_
    refine le2_gd (fun h1 => ?_)
    refine r_gfR (f := 12) (p := 72) f24_69 rfl rfl rfl (Or.inl h1) rfl ?_
    refine r_nmR (fun v1 ev1 => ?_)
    refine le2_gd (fun h2 => ?_)
    refine r_gfI (f := 1) (p := 75) f24_72 rfl rfl rfl (Or.inl h2) rfl ?_
    refine r_bipush (p := 77) f24_75 rfl (pinD rfl rfl) ?_
    refine r_icge (t := 84) (p := 80) f24_77 (by decide) rfl rfl ?_ ?_
    · refine r_iconst (p := 81) f24_80 rfl (pinD rfl rfl) ?_
      refine r_goto (p := 85) f24_81 (by decide) rfl ?_
      exact le2_refl _
    · refine r_iconst (p := 85) f24_84 rfl (pinD rfl rfl) ?_
      exact le2_refl _
theorem q24_85 {d : Nat} {m : Mem} {a0 a1 a2 a3 s0 : Int} (hd : 0 < d) (hz : TZ m) : le2 (bV (cl (d - 1) 19 [pI s0] m) fun m1 => gd (tg m1 a0 = 1) <| bV (cl (d - 1) 28 [pR a0] m1) fun m2 => nm (vl m2 a0 9) fun v7 => nm (vl m2 a0 10) fun v8 => gd (tg m2 v8 = 8) <| gd (tg m2 v7 = 9) <| bI (cl (d - 1) 169 [pR v7, pR v8, pI 0, pI (vl m2 v8 1)] m2) fun v3 m3 => nm (vl m3 a0 9) fun v9 => nm (vl m3 a0 12) fun v10 => gd (tg m3 v10 = 10) <| gd (tg m3 v9 = 9) <| bI (cl (d - 1) 171 [pR v9, pI (vl m3 v10 0), pI a1, pI v3] m3) fun v4 m4 => nm (vl m4 a0 12) fun v11 => gd (tg m4 v11 = 10) <| nm (vl m4 v11 1) fun v12 => if a3 = 0 then (bV (cl (d - 1) 29 [pR a0, pI v4, pI (w32 (v12 + 0))] m4) fun m5 => nm (vl m5 a0 12) fun v13 => gd (tg m5 v13 = 10) <| some (.inl (some (pI (vl m5 v13 1))), m5)) else bV (cl (d - 1) 29 [pR a0, pI v4, pI (w32 (v12 + 1))] m4) fun m6 => nm (vl m6 a0 12) fun v14 => gd (tg m6 v14 = 10) <| some (.inl (some (pI (vl m6 v14 1))), m6)) (rn d 24 85 [pR a0, pI a1, pI a2, pI a3, pU] [pI s0] m) := by
  refine r_istV (p := 88) f24_85 rfl rfl rfl hd (Nat.le_of_ble_eq_true rfl) rfl rfl rfl (fun _ => rfl) (fun m1 c1 => ?_)
  have hz1 := z_k c1 hz
  refine r_aln0 (p := 89) f24_88 rfl ?_
  refine le2_gd (fun h1 => ?_)
  refine r_invV (p := 92) f24_89 rfl rfl rfl (Or.inl h1) hd (Nat.le_of_ble_eq_true rfl) rfl rfl rfl (fun _ => rfl) (fun m2 c2 => ?_)
  have hz2 := z_k c2 hz1
  refine r_aln0 (p := 93) f24_92 rfl ?_
  have h2 := k_t1 c2 hz1 h1 (by decide)
  refine r_gfR (f := 9) (p := 96) f24_93 rfl rfl rfl (Or.inl h2) rfl ?_
  refine r_nmR (fun v7 ev7 => ?_)
  refine r_aln0 (p := 97) f24_96 rfl ?_
  refine r_gfR (f := 10) (p := 100) f24_97 rfl rfl rfl (Or.inl h2) rfl ?_
  refine r_nmR (fun v8 ev8 => ?_)
  refine r_iconst (p := 101) f24_100 rfl (pinD rfl rfl) ?_
  refine r_aln0 (p := 102) f24_101 rfl ?_
  refine r_gfR (f := 10) (p := 105) f24_102 rfl rfl rfl (Or.inl h2) ev8.symm ?_
  refine le2_gd (fun h3 => ?_)
  refine r_gfI (f := 1) (p := 108) f24_105 rfl rfl rfl (Or.inl h3) rfl ?_
  refine le2_gd (fun h4 => ?_)
  refine r_invI (p := 111) f24_108 rfl rfl rfl (Or.inl h4) hd (Nat.le_of_ble_eq_true rfl) rfl rfl rfl (fun _ => rfl) (fun v3 m3 c3 => ?_)
  have hz3 := z_k c3 hz2
  refine r_isw4 (p := 113) f24_111 rfl rfl ?_
  refine r_aln0 (p := 114) f24_113 rfl ?_
  refine r_aln0 (p := 115) f24_114 rfl ?_
  have h5 := k_t1 c3 hz2 h2 (by decide)
  refine r_gfR (f := 9) (p := 118) f24_115 rfl rfl rfl (Or.inl h5) rfl ?_
  refine r_nmR (fun v9 ev9 => ?_)
  refine r_aln0 (p := 119) f24_118 rfl ?_
  refine r_gfR (f := 12) (p := 122) f24_119 rfl rfl rfl (Or.inl h5) rfl ?_
  refine r_nmR (fun v10 ev10 => ?_)
  refine le2_gd (fun h6 => ?_)
  refine r_gfI (f := 0) (p := 125) f24_122 rfl rfl rfl (Or.inl h6) rfl ?_
  refine r_iln1 (p := 126) f24_125 rfl ?_
  refine r_ilw4 (p := 128) f24_126 rfl ?_
  refine le2_gd (fun h7 => ?_)
  refine r_invI (p := 131) f24_128 rfl rfl rfl (Or.inl h7) hd (Nat.le_of_ble_eq_true rfl) rfl rfl rfl (fun _ => rfl) (fun v4 m4 c4 => ?_)
  have hz4 := z_k c4 hz3
  refine r_aln0 (p := 132) f24_131 rfl ?_
  have h8 := k_t1 c4 hz3 h5 (by decide)
  refine r_gfR (f := 12) (p := 135) f24_132 rfl rfl rfl (Or.inl h8) rfl ?_
  refine r_nmR (fun v11 ev11 => ?_)
  refine le2_gd (fun h9 => ?_)
  refine r_gfI (f := 1) (p := 138) f24_135 rfl rfl rfl (Or.inl h9) rfl ?_
  refine r_nmI (fun v12 ev12 => ?_)
  refine r_iln3 (p := 139) f24_138 rfl ?_
  refine r_ifeq (t := 146) (p := 142) f24_139 (by decide) rfl rfl ?_ ?_
  · refine r_iconst (p := 147) f24_146 rfl (pinD rfl rfl) ?_
    refine r_iadd (p := 148) f24_147 rfl ?_
    refine r_invV (p := 151) f24_148 rfl rfl rfl (Or.inl h8) hd (Nat.le_of_ble_eq_true rfl) rfl rfl rfl (fun _ => rfl) (fun m5 c5 => ?_)
    have hz5 := z_k c5 hz4
    refine r_aln0 (p := 152) f24_151 rfl ?_
    have h10 := k_t1 c5 hz4 h8 (by decide)
    refine r_gfR (f := 12) (p := 155) f24_152 rfl rfl rfl (Or.inl h10) rfl ?_
    refine r_nmR (fun v13 ev13 => ?_)
    refine le2_gd (fun h11 => ?_)
    refine r_gfI (f := 1) (p := 158) f24_155 rfl rfl rfl (Or.inl h11) rfl ?_
    exact r_iret1 f24_158
  · refine r_iconst (p := 143) f24_142 rfl (pinD rfl rfl) ?_
    refine r_goto (p := 147) f24_143 (by decide) rfl ?_
    refine r_iadd (p := 148) f24_147 rfl ?_
    refine r_invV (p := 151) f24_148 rfl rfl rfl (Or.inl h8) hd (Nat.le_of_ble_eq_true rfl) rfl rfl rfl (fun _ => rfl) (fun m6 c6 => ?_)
    have hz6 := z_k c6 hz4
    refine r_aln0 (p := 152) f24_151 rfl ?_
    have h12 := k_t1 c6 hz4 h8 (by decide)
    refine r_gfR (f := 12) (p := 155) f24_152 rfl rfl rfl (Or.inl h12) rfl ?_
    refine r_nmR (fun v14 ev14 => ?_)
    refine le2_gd (fun h13 => ?_)
    refine r_gfI (f := 1) (p := 158) f24_155 rfl rfl rfl (Or.inl h13) rfl ?_
    exact r_iret1 f24_158
/-! 25 PathStore.taken ()I -/
def w25_1 : List UInt8 := [184, 0, 148, 27, 172]
abbrev u25_1 : List UInt8 := w25_1 ++ []
def w25_0 : List UInt8 := [42, 180, 0, 127, 60, 42, 3, 181, 0, 127, 42, 180, 0, 144, 154, 0, 7, 4, 167, 0, 4, 3]
abbrev u25_0 : List UInt8 := w25_0 ++ u25_1
theorem s25_0 : (prog_1_method_10_code).data.toList.drop 0 = u25_0 := by decide +kernel
theorem s25_1 : (prog_1_method_10_code).data.toList.drop 22 = u25_1 := dk_seg s25_0 22 rfl rfl
theorem Fm25 {pc len : Nat} {i : Instr} (h : decode (prog_1_method_10_code) pc = .ok (i, len)) (hl : len = ilen i len) : ft 25 pc = some (1, 1, 0, i, len) := ft_mk rfl h hl
theorem f25_0 : ft 25 0 = some (1, 1, 0, .aload_n 0, 1) := Fm25 (dk_42 (dk_at s25_0 0 rfl rfl)) rfl
theorem f25_1 : ft 25 1 = some (1, 1, 0, .getfield 127, 3) := Fm25 (dk_180 0 127 (dk_at s25_0 1 rfl rfl)) rfl
theorem f25_4 : ft 25 4 = some (1, 1, 0, .istore_n 1, 1) := Fm25 (dk_60 (dk_at s25_0 4 rfl rfl)) rfl
theorem f25_5 : ft 25 5 = some (1, 1, 0, .aload_n 0, 1) := Fm25 (dk_42 (dk_at s25_0 5 rfl rfl)) rfl
theorem f25_6 : ft 25 6 = some (1, 1, 0, .iconst 0, 1) := Fm25 (dk_3 (dk_at s25_0 6 rfl rfl)) rfl
theorem f25_7 : ft 25 7 = some (1, 1, 0, .putfield 127, 3) := Fm25 (dk_181 0 127 (dk_at s25_0 7 rfl rfl)) rfl
theorem f25_10 : ft 25 10 = some (1, 1, 0, .aload_n 0, 1) := Fm25 (dk_42 (dk_at s25_0 10 rfl rfl)) rfl
theorem f25_11 : ft 25 11 = some (1, 1, 0, .getfield 144, 3) := Fm25 (dk_180 0 144 (dk_at s25_0 11 rfl rfl)) rfl
theorem f25_14 : ft 25 14 = some (1, 1, 0, .ifCond .ne 7, 3) := Fm25 (dk_154 0 7 (dk_at s25_0 14 rfl rfl)) rfl
theorem f25_17 : ft 25 17 = some (1, 1, 0, .iconst 1, 1) := Fm25 (dk_4 (dk_at s25_0 17 rfl rfl)) rfl
theorem f25_18 : ft 25 18 = some (1, 1, 0, .goto 4, 3) := Fm25 (dk_167 0 4 (dk_at s25_0 18 rfl rfl)) rfl
theorem f25_21 : ft 25 21 = some (1, 1, 0, .iconst 0, 1) := Fm25 (dk_3 (dk_at s25_0 21 rfl rfl)) rfl
theorem f25_22 : ft 25 22 = some (1, 1, 0, .invokestatic 148, 3) := Fm25 (dk_184 0 148 (dk_at s25_1 0 rfl rfl)) rfl
theorem f25_25 : ft 25 25 = some (1, 1, 0, .iload_n 1, 1) := Fm25 (dk_27 (dk_at s25_1 3 rfl rfl)) rfl
theorem f25_26 : ft 25 26 = some (1, 1, 0, .ireturn, 1) := Fm25 (dk_172 (dk_at s25_1 4 rfl rfl)) rfl
theorem q25 {d : Nat} {m : Mem} {a0 : Int} (hd : 0 < d) (hz : TZ m) : le2 (gd (tg m a0 = 1) <| nm (vl m a0 1) fun v3 => if (vl m a0 17) = 0 then (bV (cl (d - 1) 26 [pI 1] (mst m a0 1 0)) fun m2 => some (.inl (some (pI v3)), m2)) else bV (cl (d - 1) 26 [pI 0] (mst m a0 1 0)) fun m1 => some (.inl (some (pI v3)), m1)) (cl d 25 [pR a0] m) := by
  refine q_in (n := 2) (L := [pR a0, pU]) rfl rfl rfl ?_
  refine r_aln0 (p := 1) f25_0 rfl ?_
  refine le2_gd (fun h1 => ?_)
  refine r_gfI (f := 1) (p := 4) f25_1 rfl rfl rfl (Or.inl h1) rfl ?_
  refine r_nmI (fun v3 ev3 => ?_)
  refine r_isn1 (p := 5) f25_4 rfl rfl ?_
  refine r_aln0 (p := 6) f25_5 rfl ?_
  refine r_iconst (p := 7) f25_6 rfl (pinD rfl rfl) ?_
  refine r_pfI (f := 1) (p := 10) f25_7 rfl rfl rfl (by decide) (by decide) (Or.inl h1) rfl ?_
  refine r_aln0 (p := 11) f25_10 rfl ?_
  refine r_gfIZ (f := 17) (p := 14) f25_11 rfl rfl rfl (Or.inl h1) (sk_f (by decide)) ?_
  refine r_ifne (t := 21) (p := 17) f25_14 (by decide) rfl rfl ?_ ?_
  · refine r_iconst (p := 18) f25_17 rfl (pinD rfl rfl) ?_
    refine r_goto (p := 22) f25_18 (by decide) rfl ?_
    refine r_istV (p := 25) f25_22 rfl rfl rfl hd (Nat.le_of_ble_eq_true rfl) rfl rfl rfl (fun _ => rfl) (fun m2 c2 => ?_)
    have hz2 := z_k c2 hz
    refine r_iln1 (p := 26) f25_25 rfl ?_
    exact r_iret1 f25_26
  · refine r_iconst (p := 22) f25_21 rfl (pinD rfl rfl) ?_
    refine r_istV (p := 25) f25_22 rfl rfl rfl hd (Nat.le_of_ble_eq_true rfl) rfl rfl rfl (fun _ => rfl) (fun m1 c1 => ?_)
    have hz1 := z_k c1 hz
    refine r_iln1 (p := 26) f25_25 rfl ?_
    exact r_iret1 f25_26
/-! 26 PathStore.state (Z)V -/
def w26_0 : List UInt8 := [26, 154, 0, 11, 187, 0, 118, 89, 183, 0, 120, 191, 177]
abbrev u26_0 : List UInt8 := w26_0 ++ []
theorem s26_0 : (prog_1_method_3_code).data.toList.drop 0 = u26_0 := by decide +kernel
theorem Fm26 {pc len : Nat} {i : Instr} (h : decode (prog_1_method_3_code) pc = .ok (i, len)) (hl : len = ilen i len) : ft 26 pc = some (1, 0, 0, i, len) := ft_mk rfl h hl
theorem f26_0 : ft 26 0 = some (1, 0, 0, .iload_n 0, 1) := Fm26 (dk_26 (dk_at s26_0 0 rfl rfl)) rfl
theorem f26_1 : ft 26 1 = some (1, 0, 0, .ifCond .ne 11, 3) := Fm26 (dk_154 0 11 (dk_at s26_0 1 rfl rfl)) rfl
theorem f26_4 : ft 26 4 = some (1, 0, 0, .new 118, 3) := Fm26 (dk_187 0 118 (dk_at s26_0 4 rfl rfl)) rfl
theorem f26_12 : ft 26 12 = some (1, 0, 0, .return_, 1) := Fm26 (dk_177 (dk_at s26_0 12 rfl rfl)) rfl
theorem q26 {d : Nat} {m : Mem} {a0 : Int} (hz : TZ m) : le2 (if a0 = 0 then (some (.inr 203, mal m 203 6)) else some (.inl none, m)) (cl d 26 [pI a0] m) := by
  refine q_in (n := 1) (L := [pI a0]) rfl rfl rfl ?_
  refine r_iln0 (p := 1) f26_0 rfl ?_
  refine r_ifne (t := 12) (p := 4) f26_1 (by decide) rfl rfl ?_ ?_
  · exact r_throw (e := 203) (f0 := 6) f26_4 rfl (by decide) (Nat.le_of_ble_eq_true rfl) rfl rfl
  · exact r_ret f26_12
/-! 27 PathStore.value (I)V -/
def w27_2 : List UInt8 := [89, 183, 0, 163, 191, 177]
abbrev u27_2 : List UInt8 := w27_2 ++ []
def w27_1 : List UInt8 := [180, 0, 67, 182, 0, 157, 167, 0, 23, 77, 42, 42, 180, 0, 32, 180, 0, 162, 181, 0, 95, 187, 0, 160]
abbrev u27_1 : List UInt8 := w27_1 ++ u27_2
def w27_0 : List UInt8 := [42, 180, 0, 67, 3, 181, 0, 154, 42, 2, 181, 0, 95, 42, 180, 0, 32, 42, 180, 0, 9, 27, 42]
abbrev u27_0 : List UInt8 := w27_0 ++ u27_1
theorem s27_0 : (prog_1_method_12_code).data.toList.drop 0 = u27_0 := by decide +kernel
theorem s27_1 : (prog_1_method_12_code).data.toList.drop 23 = u27_1 := dk_seg s27_0 23 rfl rfl
theorem s27_2 : (prog_1_method_12_code).data.toList.drop 47 = u27_2 := dk_seg s27_1 24 rfl rfl
theorem Fm27 {pc len : Nat} {i : Instr} (h : decode (prog_1_method_12_code) pc = .ok (i, len)) (hl : len = ilen i len) : ft 27 pc = some (1, 0, 0, i, len) := ft_mk rfl h hl
theorem f27_0 : ft 27 0 = some (1, 0, 0, .aload_n 0, 1) := Fm27 (dk_42 (dk_at s27_0 0 rfl rfl)) rfl
theorem f27_1 : ft 27 1 = some (1, 0, 0, .getfield 67, 3) := Fm27 (dk_180 0 67 (dk_at s27_0 1 rfl rfl)) rfl
theorem f27_4 : ft 27 4 = some (1, 0, 0, .iconst 0, 1) := Fm27 (dk_3 (dk_at s27_0 4 rfl rfl)) rfl
theorem f27_5 : ft 27 5 = some (1, 0, 0, .putfield 154, 3) := Fm27 (dk_181 0 154 (dk_at s27_0 5 rfl rfl)) rfl
theorem f27_8 : ft 27 8 = some (1, 0, 0, .aload_n 0, 1) := Fm27 (dk_42 (dk_at s27_0 8 rfl rfl)) rfl
theorem f27_9 : ft 27 9 = some (1, 0, 0, .iconst (-1), 1) := Fm27 (dk_2 (dk_at s27_0 9 rfl rfl)) rfl
theorem f27_10 : ft 27 10 = some (1, 0, 0, .putfield 95, 3) := Fm27 (dk_181 0 95 (dk_at s27_0 10 rfl rfl)) rfl
theorem f27_13 : ft 27 13 = some (1, 0, 0, .aload_n 0, 1) := Fm27 (dk_42 (dk_at s27_0 13 rfl rfl)) rfl
theorem f27_14 : ft 27 14 = some (1, 0, 0, .getfield 32, 3) := Fm27 (dk_180 0 32 (dk_at s27_0 14 rfl rfl)) rfl
theorem f27_17 : ft 27 17 = some (1, 0, 0, .aload_n 0, 1) := Fm27 (dk_42 (dk_at s27_0 17 rfl rfl)) rfl
theorem f27_18 : ft 27 18 = some (1, 0, 0, .getfield 9, 3) := Fm27 (dk_180 0 9 (dk_at s27_0 18 rfl rfl)) rfl
theorem f27_21 : ft 27 21 = some (1, 0, 0, .iload_n 1, 1) := Fm27 (dk_27 (dk_at s27_0 21 rfl rfl)) rfl
theorem f27_22 : ft 27 22 = some (1, 0, 0, .aload_n 0, 1) := Fm27 (dk_42 (dk_at s27_0 22 rfl rfl)) rfl
theorem f27_23 : ft 27 23 = some (1, 0, 0, .getfield 67, 3) := Fm27 (dk_180 0 67 (dk_at s27_1 0 rfl rfl)) rfl
theorem f27_26 : ft 27 26 = some (1, 0, 0, .invokevirtual 157, 3) := Fm27 (dk_182 0 157 (dk_at s27_1 3 rfl rfl)) rfl
theorem f27_29 : ft 27 29 = some (1, 0, 0, .goto 23, 3) := Fm27 (dk_167 0 23 (dk_at s27_1 6 rfl rfl)) rfl
theorem f27_32 : ft 27 32 = some (1, 0, 0, .astore_n 2, 1) := Fm27 (dk_77 (dk_at s27_1 9 rfl rfl)) rfl
theorem f27_33 : ft 27 33 = some (1, 0, 0, .aload_n 0, 1) := Fm27 (dk_42 (dk_at s27_1 10 rfl rfl)) rfl
theorem f27_34 : ft 27 34 = some (1, 0, 0, .aload_n 0, 1) := Fm27 (dk_42 (dk_at s27_1 11 rfl rfl)) rfl
theorem f27_35 : ft 27 35 = some (1, 0, 0, .getfield 32, 3) := Fm27 (dk_180 0 32 (dk_at s27_1 12 rfl rfl)) rfl
theorem f27_38 : ft 27 38 = some (1, 0, 0, .getfield 162, 3) := Fm27 (dk_180 0 162 (dk_at s27_1 15 rfl rfl)) rfl
theorem f27_41 : ft 27 41 = some (1, 0, 0, .putfield 95, 3) := Fm27 (dk_181 0 95 (dk_at s27_1 18 rfl rfl)) rfl
theorem f27_44 : ft 27 44 = some (1, 0, 0, .new 160, 3) := Fm27 (dk_187 0 160 (dk_at s27_1 21 rfl rfl)) rfl
theorem f27_52 : ft 27 52 = some (1, 0, 0, .return_, 1) := Fm27 (dk_177 (dk_at s27_2 5 rfl rfl)) rfl
theorem q27 {d : Nat} {m : Mem} {a0 a1 : Int} (hd : 0 < d) (hz : TZ m) : le2 (gd (tg m a0 = 1) <| nm (vl m a0 10) fun v3 => gd (tg m v3 = 8) <| nm (vl m a0 5) fun v4 => gd (tg m v4 = 4) <| bVh (cl (d - 1) 75 [pR v4, pR (vl m a0 0), pI a1, pR v3] (mst (mst m v3 1 0) a0 19 (-1))) (fun m1 => some (.inl none, m1)) fun x2 m2 => if x2 = 204 then (nm (vl m2 a0 5) fun v5 => gd (tg m2 v5 = 4) <| some (.inr 204, mal (mst m2 a0 19 (vl m2 v5 3)) 204 6)) else none) (cl d 27 [pR a0, pI a1] m) := by
  refine q_in (n := 3) (L := [pR a0, pI a1, pU]) rfl rfl rfl ?_
  refine r_aln0 (p := 1) f27_0 rfl ?_
  refine le2_gd (fun h1 => ?_)
  refine r_gfR (f := 10) (p := 4) f27_1 rfl rfl rfl (Or.inl h1) rfl ?_
  refine r_nmR (fun v3 ev3 => ?_)
  refine r_iconst (p := 5) f27_4 rfl (pinD rfl rfl) ?_
  refine le2_gd (fun h2 => ?_)
  refine r_pfI (f := 1) (p := 8) f27_5 rfl rfl rfl (by decide) (by decide) (Or.inl h2) rfl ?_
  refine r_aln0 (p := 9) f27_8 rfl ?_
  refine r_iconst (p := 10) f27_9 rfl (pinD rfl rfl) ?_
  refine r_pfI (f := 19) (p := 13) f27_10 rfl rfl rfl (by decide) (by decide) (Or.inl h1) rfl ?_
  refine r_aln0 (p := 14) f27_13 rfl ?_
  refine r_gfR (f := 5) (p := 17) f27_14 rfl rfl rfl (Or.inl h1) (Eq.trans (sk_f (by decide)) (sk_f (by decide))) ?_
  refine r_nmR (fun v4 ev4 => ?_)
  refine r_aln0 (p := 18) f27_17 rfl ?_
  refine r_gfR (f := 0) (p := 21) f27_18 rfl rfl rfl (Or.inl h1) (Eq.trans (sk_f (by decide)) (sk_f (by decide))) ?_
  refine r_iln1 (p := 22) f27_21 rfl ?_
  refine r_aln0 (p := 23) f27_22 rfl ?_
  refine r_gfR (f := 10) (p := 26) f27_23 rfl rfl rfl (Or.inl h1) (Eq.trans (sk_f (by decide)) (Eq.trans (sk_f (by decide)) ev3.symm)) ?_
  refine le2_gd (fun h3 => ?_)
  refine r_invVh (p := 29) f27_26 rfl rfl rfl (Or.inl h3) hd (Nat.le_of_ble_eq_true rfl) rfl rfl (fun m1 c1 => ?_) (fun x2 m2 c2 => ?_)
  · have hz1 := z_k c1 hz
    refine r_goto (p := 52) f27_29 (by decide) rfl ?_
    exact r_ret f27_52
  · have hz2 := z_k c2 hz
    refine le2_ite (fun h4 => ?_) (fun h4 => ?_)
    · refine hres_at (h := 32) (by rw [h4]; rfl) ?_
      refine r_asn2 (p := 33) f27_32 rfl rfl ?_
      refine r_aln0 (p := 34) f27_33 rfl ?_
      refine r_aln0 (p := 35) f27_34 rfl ?_
      have h5 := k_t1 c2 hz h1 (by decide)
      refine r_gfR (f := 5) (p := 38) f27_35 rfl rfl rfl (Or.inl h5) rfl ?_
      refine r_nmR (fun v5 ev5 => ?_)
      refine le2_gd (fun h6 => ?_)
      refine r_gfI (f := 3) (p := 41) f27_38 rfl rfl rfl (Or.inl h6) rfl ?_
      refine r_pfI (f := 19) (p := 44) f27_41 rfl rfl rfl (by decide) (by decide) (Or.inl h5) rfl ?_
      exact r_throw (e := 204) (f0 := 6) f27_44 rfl (by decide) (Nat.le_of_ble_eq_true rfl) rfl rfl
    · exact le2_none
/-! 28 PathStore.begin ()V -/
def w28_2 : List UInt8 := [153, 0, 15, 42, 180, 0, 60, 25, 4, 180, 0, 169, 182, 0, 172, 132, 3, 1, 167, 255, 223, 177]
abbrev u28_2 : List UInt8 := w28_2 ++ []
def w28_1 : List UInt8 := [180, 0, 81, 76, 43, 190, 61, 3, 62, 29, 28, 162, 0, 34, 43, 29, 50, 58, 4, 25, 4, 180, 0, 151]
abbrev u28_1 : List UInt8 := w28_1 ++ u28_2
def w28_0 : List UInt8 := [42, 180, 0, 60, 182, 0, 105, 42, 180, 0, 60, 42, 180, 0, 77, 180, 0, 169, 182, 0, 172, 42]
abbrev u28_0 : List UInt8 := w28_0 ++ u28_1
theorem s28_0 : (prog_1_method_14_code).data.toList.drop 0 = u28_0 := by decide +kernel
theorem s28_1 : (prog_1_method_14_code).data.toList.drop 22 = u28_1 := dk_seg s28_0 22 rfl rfl
theorem s28_2 : (prog_1_method_14_code).data.toList.drop 46 = u28_2 := dk_seg s28_1 24 rfl rfl
theorem Fm28 {pc len : Nat} {i : Instr} (h : decode (prog_1_method_14_code) pc = .ok (i, len)) (hl : len = ilen i len) : ft 28 pc = some (1, 0, 0, i, len) := ft_mk rfl h hl
theorem f28_0 : ft 28 0 = some (1, 0, 0, .aload_n 0, 1) := Fm28 (dk_42 (dk_at s28_0 0 rfl rfl)) rfl
theorem f28_1 : ft 28 1 = some (1, 0, 0, .getfield 60, 3) := Fm28 (dk_180 0 60 (dk_at s28_0 1 rfl rfl)) rfl
theorem f28_4 : ft 28 4 = some (1, 0, 0, .invokevirtual 105, 3) := Fm28 (dk_182 0 105 (dk_at s28_0 4 rfl rfl)) rfl
theorem f28_7 : ft 28 7 = some (1, 0, 0, .aload_n 0, 1) := Fm28 (dk_42 (dk_at s28_0 7 rfl rfl)) rfl
theorem f28_8 : ft 28 8 = some (1, 0, 0, .getfield 60, 3) := Fm28 (dk_180 0 60 (dk_at s28_0 8 rfl rfl)) rfl
theorem f28_11 : ft 28 11 = some (1, 0, 0, .aload_n 0, 1) := Fm28 (dk_42 (dk_at s28_0 11 rfl rfl)) rfl
theorem f28_12 : ft 28 12 = some (1, 0, 0, .getfield 77, 3) := Fm28 (dk_180 0 77 (dk_at s28_0 12 rfl rfl)) rfl
theorem f28_15 : ft 28 15 = some (1, 0, 0, .getfield 169, 3) := Fm28 (dk_180 0 169 (dk_at s28_0 15 rfl rfl)) rfl
theorem f28_18 : ft 28 18 = some (1, 0, 0, .invokevirtual 172, 3) := Fm28 (dk_182 0 172 (dk_at s28_0 18 rfl rfl)) rfl
theorem f28_21 : ft 28 21 = some (1, 0, 0, .aload_n 0, 1) := Fm28 (dk_42 (dk_at s28_0 21 rfl rfl)) rfl
theorem f28_22 : ft 28 22 = some (1, 0, 0, .getfield 81, 3) := Fm28 (dk_180 0 81 (dk_at s28_1 0 rfl rfl)) rfl
theorem f28_25 : ft 28 25 = some (1, 0, 0, .astore_n 1, 1) := Fm28 (dk_76 (dk_at s28_1 3 rfl rfl)) rfl
theorem f28_26 : ft 28 26 = some (1, 0, 0, .aload_n 1, 1) := Fm28 (dk_43 (dk_at s28_1 4 rfl rfl)) rfl
theorem f28_27 : ft 28 27 = some (1, 0, 0, .arraylength, 1) := Fm28 (dk_190 (dk_at s28_1 5 rfl rfl)) rfl
theorem f28_28 : ft 28 28 = some (1, 0, 0, .istore_n 2, 1) := Fm28 (dk_61 (dk_at s28_1 6 rfl rfl)) rfl
theorem f28_29 : ft 28 29 = some (1, 0, 0, .iconst 0, 1) := Fm28 (dk_3 (dk_at s28_1 7 rfl rfl)) rfl
theorem f28_30 : ft 28 30 = some (1, 0, 0, .istore_n 3, 1) := Fm28 (dk_62 (dk_at s28_1 8 rfl rfl)) rfl
theorem f28_31 : ft 28 31 = some (1, 0, 0, .iload_n 3, 1) := Fm28 (dk_29 (dk_at s28_1 9 rfl rfl)) rfl
theorem f28_32 : ft 28 32 = some (1, 0, 0, .iload_n 2, 1) := Fm28 (dk_28 (dk_at s28_1 10 rfl rfl)) rfl
theorem f28_33 : ft 28 33 = some (1, 0, 0, .if_icmp .ge 34, 3) := Fm28 (dk_162 0 34 (dk_at s28_1 11 rfl rfl)) rfl
theorem f28_36 : ft 28 36 = some (1, 0, 0, .aload_n 1, 1) := Fm28 (dk_43 (dk_at s28_1 14 rfl rfl)) rfl
theorem f28_37 : ft 28 37 = some (1, 0, 0, .iload_n 3, 1) := Fm28 (dk_29 (dk_at s28_1 15 rfl rfl)) rfl
theorem f28_38 : ft 28 38 = some (1, 0, 0, .aaload, 1) := Fm28 (dk_50 (dk_at s28_1 16 rfl rfl)) rfl
theorem f28_39 : ft 28 39 = some (1, 0, 0, .astore 4, 2) := Fm28 (dk_58 4 (dk_at s28_1 17 rfl rfl)) rfl
theorem f28_41 : ft 28 41 = some (1, 0, 0, .aload 4, 2) := Fm28 (dk_25 4 (dk_at s28_1 19 rfl rfl)) rfl
theorem f28_43 : ft 28 43 = some (1, 0, 0, .getfield 151, 3) := Fm28 (dk_180 0 151 (dk_at s28_1 21 rfl rfl)) rfl
theorem f28_46 : ft 28 46 = some (1, 0, 0, .ifCond .eq 15, 3) := Fm28 (dk_153 0 15 (dk_at s28_2 0 rfl rfl)) rfl
theorem f28_49 : ft 28 49 = some (1, 0, 0, .aload_n 0, 1) := Fm28 (dk_42 (dk_at s28_2 3 rfl rfl)) rfl
theorem f28_50 : ft 28 50 = some (1, 0, 0, .getfield 60, 3) := Fm28 (dk_180 0 60 (dk_at s28_2 4 rfl rfl)) rfl
theorem f28_53 : ft 28 53 = some (1, 0, 0, .aload 4, 2) := Fm28 (dk_25 4 (dk_at s28_2 7 rfl rfl)) rfl
theorem f28_55 : ft 28 55 = some (1, 0, 0, .getfield 169, 3) := Fm28 (dk_180 0 169 (dk_at s28_2 9 rfl rfl)) rfl
theorem f28_58 : ft 28 58 = some (1, 0, 0, .invokevirtual 172, 3) := Fm28 (dk_182 0 172 (dk_at s28_2 12 rfl rfl)) rfl
theorem f28_61 : ft 28 61 = some (1, 0, 0, .iinc 3 1, 3) := Fm28 (dk_132 3 1 (dk_at s28_2 15 rfl rfl)) rfl
theorem f28_64 : ft 28 64 = some (1, 0, 0, .goto (-33), 3) := Fm28 (dk_167 255 223 (dk_at s28_2 18 rfl rfl)) rfl
theorem f28_67 : ft 28 67 = some (1, 0, 0, .return_, 1) := Fm28 (dk_177 (dk_at s28_2 21 rfl rfl)) rfl
theorem q28 {d : Nat} {m : Mem} {a0 : Int} (hd : 0 < d) (hz : TZ m) : le2 (gd (tg m a0 = 1) <| nm (vl m a0 9) fun v3 => gd (tg m v3 = 9) <| bV (cl (d - 1) 153 [pR v3] m) fun m1 => nm (vl m1 a0 9) fun v4 => nm (vl m1 a0 12) fun v5 => gd (tg m1 v5 = 10) <| gd (tg m1 v4 = 9) <| bV (cl (d - 1) 168 [pR v4, pI (vl m1 v5 0)] m1) fun m2 => nm (vl m2 a0 13) fun v6 => gd (tg m2 v6 = 17115) <| rn d 28 31 [pR a0, pR v6, pI (ln m2 v6), pI 0, pU] [] m2) (cl d 28 [pR a0] m) := by
  refine q_in (n := 5) (L := [pR a0, pU, pU, pU, pU]) rfl rfl rfl ?_
  refine r_aln0 (p := 1) f28_0 rfl ?_
  refine le2_gd (fun h1 => ?_)
  refine r_gfR (f := 9) (p := 4) f28_1 rfl rfl rfl (Or.inl h1) rfl ?_
  refine r_nmR (fun v3 ev3 => ?_)
  refine le2_gd (fun h2 => ?_)
  refine r_invV (p := 7) f28_4 rfl rfl rfl (Or.inl h2) hd (Nat.le_of_ble_eq_true rfl) rfl rfl rfl (fun _ => rfl) (fun m1 c1 => ?_)
  have hz1 := z_k c1 hz
  refine r_aln0 (p := 8) f28_7 rfl ?_
  have h3 := k_t1 c1 hz h1 (by decide)
  refine r_gfR (f := 9) (p := 11) f28_8 rfl rfl rfl (Or.inl h3) rfl ?_
  refine r_nmR (fun v4 ev4 => ?_)
  refine r_aln0 (p := 12) f28_11 rfl ?_
  refine r_gfR (f := 12) (p := 15) f28_12 rfl rfl rfl (Or.inl h3) rfl ?_
  refine r_nmR (fun v5 ev5 => ?_)
  refine le2_gd (fun h4 => ?_)
  refine r_gfI (f := 0) (p := 18) f28_15 rfl rfl rfl (Or.inl h4) rfl ?_
  refine le2_gd (fun h5 => ?_)
  refine r_invV (p := 21) f28_18 rfl rfl rfl (Or.inl h5) hd (Nat.le_of_ble_eq_true rfl) rfl rfl rfl (fun _ => rfl) (fun m2 c2 => ?_)
  have hz2 := z_k c2 hz1
  refine r_aln0 (p := 22) f28_21 rfl ?_
  have h6 := k_t1 c2 hz1 h3 (by decide)
  refine r_gfR (f := 13) (p := 25) f28_22 rfl rfl rfl (Or.inl h6) rfl ?_
  refine r_nmR (fun v6 ev6 => ?_)
  refine r_asn1 (p := 26) f28_25 rfl rfl ?_
  refine r_aln1 (p := 27) f28_26 rfl ?_
  refine le2_gd (fun h7 => ?_)
  refine r_alen (p := 28) f28_27 rfl (dj1 (fun x => 100 < x % 1000 ∧ x % 1000 < 119) h7 (by decide)) ?_
  refine r_isn2 (p := 29) f28_28 rfl rfl ?_
  refine r_iconst (p := 30) f28_29 rfl (pinD rfl rfl) ?_
  refine r_isn3 (p := 31) f28_30 rfl rfl ?_
  exact le2_refl _
theorem q28_31 {d : Nat} {m : Mem} {a0 a1 a2 a3 : Int} {z4 : PV} (hd : 0 < d) (hz : TZ m) (hcz4 : cat z4 = 1) : le2 (if a3 < a2 then (gd (tg m a1 = 17115) <| gd ((0 : Int) ≤ a3 ∧ a3 < ln m a1) <| nm (vl m a1 a3) fun v2 => gd (tg m v2 = 10) <| if (vl m v2 3) = 0 then (rn d 28 31 [pR a0, pR a1, pI a2, pI (w32 (a3 + 1)), pR v2] [] m) else gd (tg m a0 = 1) <| nm (vl m a0 9) fun v3 => gd (tg m v3 = 9) <| bV (cl (d - 1) 168 [pR v3, pI (vl m v2 0)] m) fun m1 => rn d 28 31 [pR a0, pR a1, pI a2, pI (w32 (a3 + 1)), pR v2] [] m1) else some (.inl none, m)) (rn d 28 31 [pR a0, pR a1, pI a2, pI a3, z4] [] m) := by
  refine r_iln3 (p := 32) f28_31 rfl ?_
  refine r_iln2 (p := 33) f28_32 rfl ?_
  refine r_icge (t := 67) (p := 36) f28_33 (by decide) rfl rfl ?_ ?_
  · refine r_aln1 (p := 37) f28_36 rfl ?_
    refine r_iln3 (p := 38) f28_37 rfl ?_
    refine le2_gd (fun h1 => ?_)
    refine le2_gd (fun h2 => ?_)
    refine r_aaload (p := 39) f28_38 rfl (dj1 (fun x => 110 < x % 1000 ∧ x % 1000 < 119) h1 (by decide)) h2 rfl ?_
    refine r_nmR (fun v2 ev2 => ?_)
    refine r_asw4 (p := 41) f28_39 rfl rfl ?_
    refine r_alw4 (p := 43) f28_41 rfl ?_
    refine le2_gd (fun h3 => ?_)
    refine r_gfIZ (f := 3) (p := 46) f28_43 rfl rfl rfl (Or.inl h3) rfl ?_
    refine r_ifeq (t := 61) (p := 49) f28_46 (by decide) rfl rfl ?_ ?_
    · refine r_iinc3 (p := 64) f28_61 rfl rfl ?_
      refine r_goto (p := 31) f28_64 (by decide) rfl ?_
      exact le2_refl _
    · refine r_aln0 (p := 50) f28_49 rfl ?_
      refine le2_gd (fun h4 => ?_)
      refine r_gfR (f := 9) (p := 53) f28_50 rfl rfl rfl (Or.inl h4) rfl ?_
      refine r_nmR (fun v3 ev3 => ?_)
      refine r_alw4 (p := 55) f28_53 rfl ?_
      refine r_gfI (f := 0) (p := 58) f28_55 rfl rfl rfl (Or.inl h3) rfl ?_
      refine le2_gd (fun h5 => ?_)
      refine r_invV (p := 61) f28_58 rfl rfl rfl (Or.inl h5) hd (Nat.le_of_ble_eq_true rfl) rfl rfl rfl (fun _ => rfl) (fun m1 c1 => ?_)
      have hz1 := z_k c1 hz
      refine r_iinc3 (p := 64) f28_61 rfl rfl ?_
      refine r_goto (p := 31) f28_64 (by decide) rfl ?_
      exact le2_refl _
  · exact r_ret f28_67
/-! 29 PathStore.commit (II)V -/
def w29_6 : List UInt8 := [187, 0, 118, 89, 183, 0, 120, 191]
abbrev u29_6 : List UInt8 := w29_6 ++ []
def w29_5 : List UInt8 := [162, 0, 22, 25, 4, 21, 6, 50, 58, 7, 25, 7, 3, 181, 0, 151, 132, 6, 1, 167, 255, 233]
abbrev u29_5 : List UInt8 := w29_5 ++ u29_6
def w29_4 : List UInt8 := [4, 181, 0, 144, 42, 180, 0, 81, 58, 4, 25, 4, 190, 54, 5, 3, 54, 6, 21, 6, 21, 5]
abbrev u29_4 : List UInt8 := w29_4 ++ u29_5
def w29_3 : List UInt8 := [42, 180, 0, 77, 42, 89, 180, 0, 178, 4, 96, 90, 181, 0, 178, 181, 0, 181, 29, 156, 0, 4, 177, 42]
abbrev u29_3 : List UInt8 := w29_3 ++ u29_4
def w29_2 : List UInt8 := [180, 0, 112, 4, 96, 181, 0, 112, 42, 180, 0, 77, 27, 181, 0, 169, 42, 180, 0, 77, 28, 181, 0, 175]
abbrev u29_2 : List UInt8 := w29_2 ++ u29_3
def w29_1 : List UInt8 := [156, 0, 7, 6, 167, 0, 4, 29, 182, 0, 108, 29, 155, 0, 8, 29, 6, 160, 0, 47, 42, 89]
abbrev u29_1 : List UInt8 := w29_1 ++ u29_2
def w29_0 : List UInt8 := [42, 180, 0, 91, 62, 42, 2, 181, 0, 91, 42, 180, 0, 60, 42, 180, 0, 112, 4, 96, 27, 28, 29]
abbrev u29_0 : List UInt8 := w29_0 ++ u29_1
theorem s29_0 : (prog_1_method_15_code).data.toList.drop 0 = u29_0 := by decide +kernel
theorem s29_1 : (prog_1_method_15_code).data.toList.drop 23 = u29_1 := dk_seg s29_0 23 rfl rfl
theorem s29_2 : (prog_1_method_15_code).data.toList.drop 45 = u29_2 := dk_seg s29_1 22 rfl rfl
theorem s29_3 : (prog_1_method_15_code).data.toList.drop 69 = u29_3 := dk_seg s29_2 24 rfl rfl
theorem s29_4 : (prog_1_method_15_code).data.toList.drop 93 = u29_4 := dk_seg s29_3 24 rfl rfl
theorem s29_5 : (prog_1_method_15_code).data.toList.drop 115 = u29_5 := dk_seg s29_4 22 rfl rfl
theorem s29_6 : (prog_1_method_15_code).data.toList.drop 137 = u29_6 := dk_seg s29_5 22 rfl rfl
theorem Fm29 {pc len : Nat} {i : Instr} (h : decode (prog_1_method_15_code) pc = .ok (i, len)) (hl : len = ilen i len) : ft 29 pc = some (1, 0, 0, i, len) := ft_mk rfl h hl
theorem f29_0 : ft 29 0 = some (1, 0, 0, .aload_n 0, 1) := Fm29 (dk_42 (dk_at s29_0 0 rfl rfl)) rfl
theorem f29_1 : ft 29 1 = some (1, 0, 0, .getfield 91, 3) := Fm29 (dk_180 0 91 (dk_at s29_0 1 rfl rfl)) rfl
theorem f29_4 : ft 29 4 = some (1, 0, 0, .istore_n 3, 1) := Fm29 (dk_62 (dk_at s29_0 4 rfl rfl)) rfl
theorem f29_5 : ft 29 5 = some (1, 0, 0, .aload_n 0, 1) := Fm29 (dk_42 (dk_at s29_0 5 rfl rfl)) rfl
theorem f29_6 : ft 29 6 = some (1, 0, 0, .iconst (-1), 1) := Fm29 (dk_2 (dk_at s29_0 6 rfl rfl)) rfl
theorem f29_7 : ft 29 7 = some (1, 0, 0, .putfield 91, 3) := Fm29 (dk_181 0 91 (dk_at s29_0 7 rfl rfl)) rfl
theorem f29_10 : ft 29 10 = some (1, 0, 0, .aload_n 0, 1) := Fm29 (dk_42 (dk_at s29_0 10 rfl rfl)) rfl
theorem f29_11 : ft 29 11 = some (1, 0, 0, .getfield 60, 3) := Fm29 (dk_180 0 60 (dk_at s29_0 11 rfl rfl)) rfl
theorem f29_14 : ft 29 14 = some (1, 0, 0, .aload_n 0, 1) := Fm29 (dk_42 (dk_at s29_0 14 rfl rfl)) rfl
theorem f29_15 : ft 29 15 = some (1, 0, 0, .getfield 112, 3) := Fm29 (dk_180 0 112 (dk_at s29_0 15 rfl rfl)) rfl
theorem f29_18 : ft 29 18 = some (1, 0, 0, .iconst 1, 1) := Fm29 (dk_4 (dk_at s29_0 18 rfl rfl)) rfl
theorem f29_19 : ft 29 19 = some (1, 0, 0, .iadd, 1) := Fm29 (dk_96 (dk_at s29_0 19 rfl rfl)) rfl
theorem f29_20 : ft 29 20 = some (1, 0, 0, .iload_n 1, 1) := Fm29 (dk_27 (dk_at s29_0 20 rfl rfl)) rfl
theorem f29_21 : ft 29 21 = some (1, 0, 0, .iload_n 2, 1) := Fm29 (dk_28 (dk_at s29_0 21 rfl rfl)) rfl
theorem f29_22 : ft 29 22 = some (1, 0, 0, .iload_n 3, 1) := Fm29 (dk_29 (dk_at s29_0 22 rfl rfl)) rfl
theorem f29_23 : ft 29 23 = some (1, 0, 0, .ifCond .ge 7, 3) := Fm29 (dk_156 0 7 (dk_at s29_1 0 rfl rfl)) rfl
theorem f29_26 : ft 29 26 = some (1, 0, 0, .iconst 3, 1) := Fm29 (dk_6 (dk_at s29_1 3 rfl rfl)) rfl
theorem f29_27 : ft 29 27 = some (1, 0, 0, .goto 4, 3) := Fm29 (dk_167 0 4 (dk_at s29_1 4 rfl rfl)) rfl
theorem f29_30 : ft 29 30 = some (1, 0, 0, .iload_n 3, 1) := Fm29 (dk_29 (dk_at s29_1 7 rfl rfl)) rfl
theorem f29_31 : ft 29 31 = some (1, 0, 0, .invokevirtual 108, 3) := Fm29 (dk_182 0 108 (dk_at s29_1 8 rfl rfl)) rfl
theorem f29_34 : ft 29 34 = some (1, 0, 0, .iload_n 3, 1) := Fm29 (dk_29 (dk_at s29_1 11 rfl rfl)) rfl
theorem f29_35 : ft 29 35 = some (1, 0, 0, .ifCond .lt 8, 3) := Fm29 (dk_155 0 8 (dk_at s29_1 12 rfl rfl)) rfl
theorem f29_38 : ft 29 38 = some (1, 0, 0, .iload_n 3, 1) := Fm29 (dk_29 (dk_at s29_1 15 rfl rfl)) rfl
theorem f29_39 : ft 29 39 = some (1, 0, 0, .iconst 3, 1) := Fm29 (dk_6 (dk_at s29_1 16 rfl rfl)) rfl
theorem f29_40 : ft 29 40 = some (1, 0, 0, .if_icmp .ne 47, 3) := Fm29 (dk_160 0 47 (dk_at s29_1 17 rfl rfl)) rfl
theorem f29_43 : ft 29 43 = some (1, 0, 0, .aload_n 0, 1) := Fm29 (dk_42 (dk_at s29_1 20 rfl rfl)) rfl
theorem f29_44 : ft 29 44 = some (1, 0, 0, .dup, 1) := Fm29 (dk_89 (dk_at s29_1 21 rfl rfl)) rfl
theorem f29_45 : ft 29 45 = some (1, 0, 0, .getfield 112, 3) := Fm29 (dk_180 0 112 (dk_at s29_2 0 rfl rfl)) rfl
theorem f29_48 : ft 29 48 = some (1, 0, 0, .iconst 1, 1) := Fm29 (dk_4 (dk_at s29_2 3 rfl rfl)) rfl
theorem f29_49 : ft 29 49 = some (1, 0, 0, .iadd, 1) := Fm29 (dk_96 (dk_at s29_2 4 rfl rfl)) rfl
theorem f29_50 : ft 29 50 = some (1, 0, 0, .putfield 112, 3) := Fm29 (dk_181 0 112 (dk_at s29_2 5 rfl rfl)) rfl
theorem f29_53 : ft 29 53 = some (1, 0, 0, .aload_n 0, 1) := Fm29 (dk_42 (dk_at s29_2 8 rfl rfl)) rfl
theorem f29_54 : ft 29 54 = some (1, 0, 0, .getfield 77, 3) := Fm29 (dk_180 0 77 (dk_at s29_2 9 rfl rfl)) rfl
theorem f29_57 : ft 29 57 = some (1, 0, 0, .iload_n 1, 1) := Fm29 (dk_27 (dk_at s29_2 12 rfl rfl)) rfl
theorem f29_58 : ft 29 58 = some (1, 0, 0, .putfield 169, 3) := Fm29 (dk_181 0 169 (dk_at s29_2 13 rfl rfl)) rfl
theorem f29_61 : ft 29 61 = some (1, 0, 0, .aload_n 0, 1) := Fm29 (dk_42 (dk_at s29_2 16 rfl rfl)) rfl
theorem f29_62 : ft 29 62 = some (1, 0, 0, .getfield 77, 3) := Fm29 (dk_180 0 77 (dk_at s29_2 17 rfl rfl)) rfl
theorem f29_65 : ft 29 65 = some (1, 0, 0, .iload_n 2, 1) := Fm29 (dk_28 (dk_at s29_2 20 rfl rfl)) rfl
theorem f29_66 : ft 29 66 = some (1, 0, 0, .putfield 175, 3) := Fm29 (dk_181 0 175 (dk_at s29_2 21 rfl rfl)) rfl
theorem f29_69 : ft 29 69 = some (1, 0, 0, .aload_n 0, 1) := Fm29 (dk_42 (dk_at s29_3 0 rfl rfl)) rfl
theorem f29_70 : ft 29 70 = some (1, 0, 0, .getfield 77, 3) := Fm29 (dk_180 0 77 (dk_at s29_3 1 rfl rfl)) rfl
theorem f29_73 : ft 29 73 = some (1, 0, 0, .aload_n 0, 1) := Fm29 (dk_42 (dk_at s29_3 4 rfl rfl)) rfl
theorem f29_74 : ft 29 74 = some (1, 0, 0, .dup, 1) := Fm29 (dk_89 (dk_at s29_3 5 rfl rfl)) rfl
theorem f29_75 : ft 29 75 = some (1, 0, 0, .getfield 178, 3) := Fm29 (dk_180 0 178 (dk_at s29_3 6 rfl rfl)) rfl
theorem f29_78 : ft 29 78 = some (1, 0, 0, .iconst 1, 1) := Fm29 (dk_4 (dk_at s29_3 9 rfl rfl)) rfl
theorem f29_79 : ft 29 79 = some (1, 0, 0, .iadd, 1) := Fm29 (dk_96 (dk_at s29_3 10 rfl rfl)) rfl
theorem f29_80 : ft 29 80 = some (1, 0, 0, .dup_x1, 1) := Fm29 (dk_90 (dk_at s29_3 11 rfl rfl)) rfl
theorem f29_81 : ft 29 81 = some (1, 0, 0, .putfield 178, 3) := Fm29 (dk_181 0 178 (dk_at s29_3 12 rfl rfl)) rfl
theorem f29_84 : ft 29 84 = some (1, 0, 0, .putfield 181, 3) := Fm29 (dk_181 0 181 (dk_at s29_3 15 rfl rfl)) rfl
theorem f29_87 : ft 29 87 = some (1, 0, 0, .iload_n 3, 1) := Fm29 (dk_29 (dk_at s29_3 18 rfl rfl)) rfl
theorem f29_88 : ft 29 88 = some (1, 0, 0, .ifCond .ge 4, 3) := Fm29 (dk_156 0 4 (dk_at s29_3 19 rfl rfl)) rfl
theorem f29_91 : ft 29 91 = some (1, 0, 0, .return_, 1) := Fm29 (dk_177 (dk_at s29_3 22 rfl rfl)) rfl
theorem f29_92 : ft 29 92 = some (1, 0, 0, .aload_n 0, 1) := Fm29 (dk_42 (dk_at s29_3 23 rfl rfl)) rfl
theorem f29_93 : ft 29 93 = some (1, 0, 0, .iconst 1, 1) := Fm29 (dk_4 (dk_at s29_4 0 rfl rfl)) rfl
theorem f29_94 : ft 29 94 = some (1, 0, 0, .putfield 144, 3) := Fm29 (dk_181 0 144 (dk_at s29_4 1 rfl rfl)) rfl
theorem f29_97 : ft 29 97 = some (1, 0, 0, .aload_n 0, 1) := Fm29 (dk_42 (dk_at s29_4 4 rfl rfl)) rfl
theorem f29_98 : ft 29 98 = some (1, 0, 0, .getfield 81, 3) := Fm29 (dk_180 0 81 (dk_at s29_4 5 rfl rfl)) rfl
theorem f29_101 : ft 29 101 = some (1, 0, 0, .astore 4, 2) := Fm29 (dk_58 4 (dk_at s29_4 8 rfl rfl)) rfl
theorem f29_103 : ft 29 103 = some (1, 0, 0, .aload 4, 2) := Fm29 (dk_25 4 (dk_at s29_4 10 rfl rfl)) rfl
theorem f29_105 : ft 29 105 = some (1, 0, 0, .arraylength, 1) := Fm29 (dk_190 (dk_at s29_4 12 rfl rfl)) rfl
theorem f29_106 : ft 29 106 = some (1, 0, 0, .istore 5, 2) := Fm29 (dk_54 5 (dk_at s29_4 13 rfl rfl)) rfl
theorem f29_108 : ft 29 108 = some (1, 0, 0, .iconst 0, 1) := Fm29 (dk_3 (dk_at s29_4 15 rfl rfl)) rfl
theorem f29_109 : ft 29 109 = some (1, 0, 0, .istore 6, 2) := Fm29 (dk_54 6 (dk_at s29_4 16 rfl rfl)) rfl
theorem f29_111 : ft 29 111 = some (1, 0, 0, .iload 6, 2) := Fm29 (dk_21 6 (dk_at s29_4 18 rfl rfl)) rfl
theorem f29_113 : ft 29 113 = some (1, 0, 0, .iload 5, 2) := Fm29 (dk_21 5 (dk_at s29_4 20 rfl rfl)) rfl
theorem f29_115 : ft 29 115 = some (1, 0, 0, .if_icmp .ge 22, 3) := Fm29 (dk_162 0 22 (dk_at s29_5 0 rfl rfl)) rfl
theorem f29_118 : ft 29 118 = some (1, 0, 0, .aload 4, 2) := Fm29 (dk_25 4 (dk_at s29_5 3 rfl rfl)) rfl
theorem f29_120 : ft 29 120 = some (1, 0, 0, .iload 6, 2) := Fm29 (dk_21 6 (dk_at s29_5 5 rfl rfl)) rfl
theorem f29_122 : ft 29 122 = some (1, 0, 0, .aaload, 1) := Fm29 (dk_50 (dk_at s29_5 7 rfl rfl)) rfl
theorem f29_123 : ft 29 123 = some (1, 0, 0, .astore 7, 2) := Fm29 (dk_58 7 (dk_at s29_5 8 rfl rfl)) rfl
theorem f29_125 : ft 29 125 = some (1, 0, 0, .aload 7, 2) := Fm29 (dk_25 7 (dk_at s29_5 10 rfl rfl)) rfl
theorem f29_127 : ft 29 127 = some (1, 0, 0, .iconst 0, 1) := Fm29 (dk_3 (dk_at s29_5 12 rfl rfl)) rfl
theorem f29_128 : ft 29 128 = some (1, 0, 0, .putfield 151, 3) := Fm29 (dk_181 0 151 (dk_at s29_5 13 rfl rfl)) rfl
theorem f29_131 : ft 29 131 = some (1, 0, 0, .iinc 6 1, 3) := Fm29 (dk_132 6 1 (dk_at s29_5 16 rfl rfl)) rfl
theorem f29_134 : ft 29 134 = some (1, 0, 0, .goto (-23), 3) := Fm29 (dk_167 255 233 (dk_at s29_5 19 rfl rfl)) rfl
theorem f29_137 : ft 29 137 = some (1, 0, 0, .new 118, 3) := Fm29 (dk_187 0 118 (dk_at s29_6 0 rfl rfl)) rfl
theorem q29 {d : Nat} {m : Mem} {a0 a1 a2 : Int} (hd : 0 < d) (hz : TZ m) : le2 (gd (tg m a0 = 1) <| nm (vl m a0 18) fun v3 => nm (vl m a0 9) fun v4 => nm (w32 ((vl m a0 15) + 1)) fun v5 => if v3 < 0 then (gd (tg m v4 = 9) <| bV (cl (d - 1) 154 [pR v4, pI v5, pI a1, pI a2, pI 3] (mst m a0 18 (-1))) fun m2 => if v3 < 0 then (rn d 29 43 [pR a0, pI a1, pI a2, pI v3, pU, pU, pU, pU] [] m2) else if v3 = 3 then (rn d 29 43 [pR a0, pI a1, pI a2, pI v3, pU, pU, pU, pU] [] m2) else rn d 29 87 [pR a0, pI a1, pI a2, pI v3, pU, pU, pU, pU] [] m2) else gd (tg m v4 = 9) <| bV (cl (d - 1) 154 [pR v4, pI v5, pI a1, pI a2, pI v3] (mst m a0 18 (-1))) fun m1 => if v3 < 0 then (rn d 29 43 [pR a0, pI a1, pI a2, pI v3, pU, pU, pU, pU] [] m1) else if v3 = 3 then (rn d 29 43 [pR a0, pI a1, pI a2, pI v3, pU, pU, pU, pU] [] m1) else rn d 29 87 [pR a0, pI a1, pI a2, pI v3, pU, pU, pU, pU] [] m1) (cl d 29 [pR a0, pI a1, pI a2] m) := by
  refine q_in (n := 8) (L := [pR a0, pI a1, pI a2, pU, pU, pU, pU, pU]) rfl rfl rfl ?_
  refine r_aln0 (p := 1) f29_0 rfl ?_
  refine le2_gd (fun h1 => ?_)
  refine r_gfI (f := 18) (p := 4) f29_1 rfl rfl rfl (Or.inl h1) rfl ?_
  refine r_nmI (fun v3 ev3 => ?_)
  refine r_isn3 (p := 5) f29_4 rfl rfl ?_
  refine r_aln0 (p := 6) f29_5 rfl ?_
  refine r_iconst (p := 7) f29_6 rfl (pinD rfl rfl) ?_
  refine r_pfI (f := 18) (p := 10) f29_7 rfl rfl rfl (by decide) (by decide) (Or.inl h1) rfl ?_
  refine r_aln0 (p := 11) f29_10 rfl ?_
  refine r_gfR (f := 9) (p := 14) f29_11 rfl rfl rfl (Or.inl h1) (sk_f (by decide)) ?_
  refine r_nmR (fun v4 ev4 => ?_)
  refine r_aln0 (p := 15) f29_14 rfl ?_
  refine r_gfI (f := 15) (p := 18) f29_15 rfl rfl rfl (Or.inl h1) (sk_f (by decide)) ?_
  refine r_iconst (p := 19) f29_18 rfl (pinD rfl rfl) ?_
  refine r_iadd (p := 20) f29_19 rfl ?_
  refine r_nmI (fun v5 ev5 => ?_)
  refine r_iln1 (p := 21) f29_20 rfl ?_
  refine r_iln2 (p := 22) f29_21 rfl ?_
  refine r_iln3 (p := 23) f29_22 rfl ?_
  refine r_ifge (t := 30) (p := 26) f29_23 (by decide) rfl rfl ?_ ?_
  · refine r_iconst (p := 27) f29_26 rfl (pinD rfl rfl) ?_
    refine r_goto (p := 31) f29_27 (by decide) rfl ?_
    refine le2_gd (fun h3 => ?_)
    refine r_invV (p := 34) f29_31 rfl rfl rfl (Or.inl h3) hd (Nat.le_of_ble_eq_true rfl) rfl rfl rfl (fun _ => rfl) (fun m2 c2 => ?_)
    have hz2 := z_k c2 hz
    refine r_iln3 (p := 35) f29_34 rfl ?_
    refine r_iflt (t := 43) (p := 38) f29_35 (by decide) rfl rfl ?_ ?_
    · exact le2_refl _
    · refine r_iln3 (p := 39) f29_38 rfl ?_
      refine r_iconst (p := 40) f29_39 rfl (pinD rfl rfl) ?_
      refine r_icne (t := 87) (p := 43) f29_40 (by decide) rfl rfl ?_ ?_
      · exact le2_refl _
      · exact le2_refl _
  · refine r_iln3 (p := 31) f29_30 rfl ?_
    refine le2_gd (fun h2 => ?_)
    refine r_invV (p := 34) f29_31 rfl rfl rfl (Or.inl h2) hd (Nat.le_of_ble_eq_true rfl) rfl rfl rfl (fun _ => rfl) (fun m1 c1 => ?_)
    have hz1 := z_k c1 hz
    refine r_iln3 (p := 35) f29_34 rfl ?_
    refine r_iflt (t := 43) (p := 38) f29_35 (by decide) rfl rfl ?_ ?_
    · exact le2_refl _
    · refine r_iln3 (p := 39) f29_38 rfl ?_
      refine r_iconst (p := 40) f29_39 rfl (pinD rfl rfl) ?_
      refine r_icne (t := 87) (p := 43) f29_40 (by decide) rfl rfl ?_ ?_
      · exact le2_refl _
      · exact le2_refl _
theorem q29_43 {d : Nat} {m : Mem} {a0 a1 a2 a3 : Int} (hz : TZ m) : le2 (gd (tg m a0 = 1) <| nm (vl m a0 12) fun v1 => gd (tg m v1 = 10) <| nm (w32 ((vl m a0 16) + 1)) fun v2 => rn d 29 87 [pR a0, pI a1, pI a2, pI a3, pU, pU, pU, pU] [] (mst (mst (mst (mst (mst m a0 15 (w32 ((vl m a0 15) + 1))) v1 0 a1) v1 1 a2) a0 16 v2) v1 2 v2)) (rn d 29 43 [pR a0, pI a1, pI a2, pI a3, pU, pU, pU, pU] [] m) := by
  refine r_aln0 (p := 44) f29_43 rfl ?_
  refine r_dup (p := 45) f29_44 rfl rfl ?_
  refine le2_gd (fun h1 => ?_)
  refine r_gfI (f := 15) (p := 48) f29_45 rfl rfl rfl (Or.inl h1) rfl ?_
  refine r_iconst (p := 49) f29_48 rfl (pinD rfl rfl) ?_
  refine r_iadd (p := 50) f29_49 rfl ?_
  refine r_pfI (f := 15) (p := 53) f29_50 rfl rfl rfl (by decide) (by decide) (Or.inl h1) rfl ?_
  refine r_aln0 (p := 54) f29_53 rfl ?_
  refine r_gfR (f := 12) (p := 57) f29_54 rfl rfl rfl (Or.inl h1) (sk_f (by decide)) ?_
  refine r_nmR (fun v1 ev1 => ?_)
  refine r_iln1 (p := 58) f29_57 rfl ?_
  refine le2_gd (fun h2 => ?_)
  refine r_pfI (f := 0) (p := 61) f29_58 rfl rfl rfl (by decide) (by decide) (Or.inl h2) rfl ?_
  refine r_aln0 (p := 62) f29_61 rfl ?_
  refine r_gfR (f := 12) (p := 65) f29_62 rfl rfl rfl (Or.inl h1) (Eq.trans (sk_f (by decide)) (Eq.trans (sk_f (by decide)) ev1.symm)) ?_
  refine r_iln2 (p := 66) f29_65 rfl ?_
  refine r_pfI (f := 1) (p := 69) f29_66 rfl rfl rfl (by decide) (by decide) (Or.inl h2) rfl ?_
  refine r_aln0 (p := 70) f29_69 rfl ?_
  refine r_gfR (f := 12) (p := 73) f29_70 rfl rfl rfl (Or.inl h1) (Eq.trans (sk_f (by decide)) (Eq.trans (sk_f (by decide)) (Eq.trans (sk_f (by decide)) ev1.symm))) ?_
  refine r_aln0 (p := 74) f29_73 rfl ?_
  refine r_dup (p := 75) f29_74 rfl rfl ?_
  refine r_gfI (f := 16) (p := 78) f29_75 rfl rfl rfl (Or.inl h1) (Eq.trans (sk_f (by decide)) (Eq.trans (sk_f (by decide)) (sk_f (by decide)))) ?_
  refine r_iconst (p := 79) f29_78 rfl (pinD rfl rfl) ?_
  refine r_iadd (p := 80) f29_79 rfl ?_
  refine r_nmI (fun v2 ev2 => ?_)
  refine r_dup_x1 (p := 81) f29_80 rfl rfl rfl ?_
  refine r_pfI (f := 16) (p := 84) f29_81 rfl rfl rfl (by decide) (by decide) (Or.inl h1) rfl ?_
  refine r_pfI (f := 2) (p := 87) f29_84 rfl rfl rfl (by decide) (by decide) (Or.inl h2) rfl ?_
  exact le2_refl _
theorem q29_87 {d : Nat} {m : Mem} {a0 a1 a2 a3 : Int} (hz : TZ m) : le2 (if a3 < 0 then (some (.inl none, m)) else gd (tg m a0 = 1) <| nm (vl m a0 13) fun v1 => gd (tg m v1 = 17115) <| rn d 29 111 [pR a0, pI a1, pI a2, pI a3, pR v1, pI (ln m v1), pI 0, pU] [] (mst m a0 17 1)) (rn d 29 87 [pR a0, pI a1, pI a2, pI a3, pU, pU, pU, pU] [] m) := by
  refine r_iln3 (p := 88) f29_87 rfl ?_
  refine r_ifge (t := 92) (p := 91) f29_88 (by decide) rfl rfl ?_ ?_
  · exact r_ret f29_91
  · refine r_aln0 (p := 93) f29_92 rfl ?_
    refine r_iconst (p := 94) f29_93 rfl (pinD rfl rfl) ?_
    refine le2_gd (fun h1 => ?_)
    refine r_pfZ (f := 17) (p := 97) f29_94 rfl rfl rfl (by decide) (by decide) (Or.inl h1) rfl (by decide) ?_
    refine r_aln0 (p := 98) f29_97 rfl ?_
    refine r_gfR (f := 13) (p := 101) f29_98 rfl rfl rfl (Or.inl h1) (sk_f (by decide)) ?_
    refine r_nmR (fun v1 ev1 => ?_)
    refine r_asw4 (p := 103) f29_101 rfl rfl ?_
    refine r_alw4 (p := 105) f29_103 rfl ?_
    refine le2_gd (fun h2 => ?_)
    refine r_alen (p := 106) f29_105 rfl (dj1 (fun x => 100 < x % 1000 ∧ x % 1000 < 119) h2 (by decide)) ?_
    refine r_isw5 (p := 108) f29_106 rfl rfl ?_
    refine r_iconst (p := 109) f29_108 rfl (pinD rfl rfl) ?_
    refine r_isw6 (p := 111) f29_109 rfl rfl ?_
    exact le2_refl _
theorem q29_111 {d : Nat} {m : Mem} {a0 a1 a2 a3 a4 a5 a6 : Int} {z7 : PV} (hz : TZ m) (hcz7 : cat z7 = 1) : le2 (if a6 < a5 then (gd (tg m a4 = 17115) <| gd ((0 : Int) ≤ a6 ∧ a6 < ln m a4) <| nm (vl m a4 a6) fun v1 => gd (tg m v1 = 10) <| rn d 29 111 [pR a0, pI a1, pI a2, pI a3, pR a4, pI a5, pI (w32 (a6 + 1)), pR v1] [] (mst m v1 3 0)) else some (.inr 203, mal m 203 6)) (rn d 29 111 [pR a0, pI a1, pI a2, pI a3, pR a4, pI a5, pI a6, z7] [] m) := by
  refine r_ilw6 (p := 113) f29_111 rfl ?_
  refine r_ilw5 (p := 115) f29_113 rfl ?_
  refine r_icge (t := 137) (p := 118) f29_115 (by decide) rfl rfl ?_ ?_
  · refine r_alw4 (p := 120) f29_118 rfl ?_
    refine r_ilw6 (p := 122) f29_120 rfl ?_
    refine le2_gd (fun h1 => ?_)
    refine le2_gd (fun h2 => ?_)
    refine r_aaload (p := 123) f29_122 rfl (dj1 (fun x => 110 < x % 1000 ∧ x % 1000 < 119) h1 (by decide)) h2 rfl ?_
    refine r_nmR (fun v1 ev1 => ?_)
    refine r_asw7 (p := 125) f29_123 rfl rfl ?_
    refine r_alw7 (p := 127) f29_125 rfl ?_
    refine r_iconst (p := 128) f29_127 rfl (pinD rfl rfl) ?_
    refine le2_gd (fun h3 => ?_)
    refine r_pfZ (f := 3) (p := 131) f29_128 rfl rfl rfl (by decide) (by decide) (Or.inl h3) rfl (by decide) ?_
    refine r_iinc6 (p := 134) f29_131 rfl rfl ?_
    refine r_goto (p := 111) f29_134 (by decide) rfl ?_
    exact le2_refl _
  · exact r_throw (e := 203) (f0 := 6) f29_137 rfl (by decide) (Nat.le_of_ble_eq_true rfl) rfl rfl
/-! 30 PathStore.get (II)I -/
def w30_4 : List UInt8 := [42, 180, 0, 19, 42, 180, 0, 71, 3, 182, 0, 192, 42, 180, 0, 19, 180, 0, 191, 172]
abbrev u30_4 : List UInt8 := w30_4 ++ []
def w30_3 : List UInt8 := [3, 184, 0, 215, 42, 180, 0, 60, 29, 42, 180, 0, 71, 182, 0, 218, 42, 180, 0, 19, 3, 181, 0, 191]
abbrev u30_3 : List UInt8 := w30_3 ++ u30_4
def w30_2 : List UInt8 := [180, 0, 60, 42, 27, 182, 0, 211, 180, 0, 169, 28, 182, 0, 195, 62, 29, 153, 0, 7, 4, 167, 0, 4]
abbrev u30_2 : List UInt8 := w30_2 ++ u30_3
def w30_1 : List UInt8 := [167, 0, 4, 3, 184, 0, 141, 42, 180, 0, 144, 154, 0, 7, 4, 167, 0, 4, 3, 184, 0, 148, 42]
abbrev u30_1 : List UInt8 := w30_1 ++ u30_2
def w30_0 : List UInt8 := [27, 4, 96, 16, 9, 184, 0, 137, 153, 0, 17, 28, 17, 39, 16, 184, 0, 137, 153, 0, 7, 4]
abbrev u30_0 : List UInt8 := w30_0 ++ u30_1
theorem s30_0 : (prog_1_method_17_code).data.toList.drop 0 = u30_0 := by decide +kernel
theorem s30_1 : (prog_1_method_17_code).data.toList.drop 22 = u30_1 := dk_seg s30_0 22 rfl rfl
theorem s30_2 : (prog_1_method_17_code).data.toList.drop 45 = u30_2 := dk_seg s30_1 23 rfl rfl
theorem s30_3 : (prog_1_method_17_code).data.toList.drop 69 = u30_3 := dk_seg s30_2 24 rfl rfl
theorem s30_4 : (prog_1_method_17_code).data.toList.drop 93 = u30_4 := dk_seg s30_3 24 rfl rfl
theorem Fm30 {pc len : Nat} {i : Instr} (h : decode (prog_1_method_17_code) pc = .ok (i, len)) (hl : len = ilen i len) : ft 30 pc = some (1, 1, 0, i, len) := ft_mk rfl h hl
theorem f30_0 : ft 30 0 = some (1, 1, 0, .iload_n 1, 1) := Fm30 (dk_27 (dk_at s30_0 0 rfl rfl)) rfl
theorem f30_1 : ft 30 1 = some (1, 1, 0, .iconst 1, 1) := Fm30 (dk_4 (dk_at s30_0 1 rfl rfl)) rfl
theorem f30_2 : ft 30 2 = some (1, 1, 0, .iadd, 1) := Fm30 (dk_96 (dk_at s30_0 2 rfl rfl)) rfl
theorem f30_3 : ft 30 3 = some (1, 1, 0, .bipush 9, 2) := Fm30 (dk_16 9 (dk_at s30_0 3 rfl rfl)) rfl
theorem f30_5 : ft 30 5 = some (1, 1, 0, .invokestatic 137, 3) := Fm30 (dk_184 0 137 (dk_at s30_0 5 rfl rfl)) rfl
theorem f30_8 : ft 30 8 = some (1, 1, 0, .ifCond .eq 17, 3) := Fm30 (dk_153 0 17 (dk_at s30_0 8 rfl rfl)) rfl
theorem f30_11 : ft 30 11 = some (1, 1, 0, .iload_n 2, 1) := Fm30 (dk_28 (dk_at s30_0 11 rfl rfl)) rfl
theorem f30_12 : ft 30 12 = some (1, 1, 0, .sipush 10000, 3) := Fm30 (dk_17 39 16 (dk_at s30_0 12 rfl rfl)) rfl
theorem f30_15 : ft 30 15 = some (1, 1, 0, .invokestatic 137, 3) := Fm30 (dk_184 0 137 (dk_at s30_0 15 rfl rfl)) rfl
theorem f30_18 : ft 30 18 = some (1, 1, 0, .ifCond .eq 7, 3) := Fm30 (dk_153 0 7 (dk_at s30_0 18 rfl rfl)) rfl
theorem f30_21 : ft 30 21 = some (1, 1, 0, .iconst 1, 1) := Fm30 (dk_4 (dk_at s30_0 21 rfl rfl)) rfl
theorem f30_22 : ft 30 22 = some (1, 1, 0, .goto 4, 3) := Fm30 (dk_167 0 4 (dk_at s30_1 0 rfl rfl)) rfl
theorem f30_25 : ft 30 25 = some (1, 1, 0, .iconst 0, 1) := Fm30 (dk_3 (dk_at s30_1 3 rfl rfl)) rfl
theorem f30_26 : ft 30 26 = some (1, 1, 0, .invokestatic 141, 3) := Fm30 (dk_184 0 141 (dk_at s30_1 4 rfl rfl)) rfl
theorem f30_29 : ft 30 29 = some (1, 1, 0, .aload_n 0, 1) := Fm30 (dk_42 (dk_at s30_1 7 rfl rfl)) rfl
theorem f30_30 : ft 30 30 = some (1, 1, 0, .getfield 144, 3) := Fm30 (dk_180 0 144 (dk_at s30_1 8 rfl rfl)) rfl
theorem f30_33 : ft 30 33 = some (1, 1, 0, .ifCond .ne 7, 3) := Fm30 (dk_154 0 7 (dk_at s30_1 11 rfl rfl)) rfl
theorem f30_36 : ft 30 36 = some (1, 1, 0, .iconst 1, 1) := Fm30 (dk_4 (dk_at s30_1 14 rfl rfl)) rfl
theorem f30_37 : ft 30 37 = some (1, 1, 0, .goto 4, 3) := Fm30 (dk_167 0 4 (dk_at s30_1 15 rfl rfl)) rfl
theorem f30_40 : ft 30 40 = some (1, 1, 0, .iconst 0, 1) := Fm30 (dk_3 (dk_at s30_1 18 rfl rfl)) rfl
theorem f30_41 : ft 30 41 = some (1, 1, 0, .invokestatic 148, 3) := Fm30 (dk_184 0 148 (dk_at s30_1 19 rfl rfl)) rfl
theorem f30_44 : ft 30 44 = some (1, 1, 0, .aload_n 0, 1) := Fm30 (dk_42 (dk_at s30_1 22 rfl rfl)) rfl
theorem f30_45 : ft 30 45 = some (1, 1, 0, .getfield 60, 3) := Fm30 (dk_180 0 60 (dk_at s30_2 0 rfl rfl)) rfl
theorem f30_48 : ft 30 48 = some (1, 1, 0, .aload_n 0, 1) := Fm30 (dk_42 (dk_at s30_2 3 rfl rfl)) rfl
theorem f30_49 : ft 30 49 = some (1, 1, 0, .iload_n 1, 1) := Fm30 (dk_27 (dk_at s30_2 4 rfl rfl)) rfl
theorem f30_50 : ft 30 50 = some (1, 1, 0, .invokevirtual 211, 3) := Fm30 (dk_182 0 211 (dk_at s30_2 5 rfl rfl)) rfl
theorem f30_53 : ft 30 53 = some (1, 1, 0, .getfield 169, 3) := Fm30 (dk_180 0 169 (dk_at s30_2 8 rfl rfl)) rfl
theorem f30_56 : ft 30 56 = some (1, 1, 0, .iload_n 2, 1) := Fm30 (dk_28 (dk_at s30_2 11 rfl rfl)) rfl
theorem f30_57 : ft 30 57 = some (1, 1, 0, .invokevirtual 195, 3) := Fm30 (dk_182 0 195 (dk_at s30_2 12 rfl rfl)) rfl
theorem f30_60 : ft 30 60 = some (1, 1, 0, .istore_n 3, 1) := Fm30 (dk_62 (dk_at s30_2 15 rfl rfl)) rfl
theorem f30_61 : ft 30 61 = some (1, 1, 0, .iload_n 3, 1) := Fm30 (dk_29 (dk_at s30_2 16 rfl rfl)) rfl
theorem f30_62 : ft 30 62 = some (1, 1, 0, .ifCond .eq 7, 3) := Fm30 (dk_153 0 7 (dk_at s30_2 17 rfl rfl)) rfl
theorem f30_65 : ft 30 65 = some (1, 1, 0, .iconst 1, 1) := Fm30 (dk_4 (dk_at s30_2 20 rfl rfl)) rfl
theorem f30_66 : ft 30 66 = some (1, 1, 0, .goto 4, 3) := Fm30 (dk_167 0 4 (dk_at s30_2 21 rfl rfl)) rfl
theorem f30_69 : ft 30 69 = some (1, 1, 0, .iconst 0, 1) := Fm30 (dk_3 (dk_at s30_3 0 rfl rfl)) rfl
theorem f30_70 : ft 30 70 = some (1, 1, 0, .invokestatic 215, 3) := Fm30 (dk_184 0 215 (dk_at s30_3 1 rfl rfl)) rfl
theorem f30_73 : ft 30 73 = some (1, 1, 0, .aload_n 0, 1) := Fm30 (dk_42 (dk_at s30_3 4 rfl rfl)) rfl
theorem f30_74 : ft 30 74 = some (1, 1, 0, .getfield 60, 3) := Fm30 (dk_180 0 60 (dk_at s30_3 5 rfl rfl)) rfl
theorem f30_77 : ft 30 77 = some (1, 1, 0, .iload_n 3, 1) := Fm30 (dk_29 (dk_at s30_3 8 rfl rfl)) rfl
theorem f30_78 : ft 30 78 = some (1, 1, 0, .aload_n 0, 1) := Fm30 (dk_42 (dk_at s30_3 9 rfl rfl)) rfl
theorem f30_79 : ft 30 79 = some (1, 1, 0, .getfield 71, 3) := Fm30 (dk_180 0 71 (dk_at s30_3 10 rfl rfl)) rfl
theorem f30_82 : ft 30 82 = some (1, 1, 0, .invokevirtual 218, 3) := Fm30 (dk_182 0 218 (dk_at s30_3 13 rfl rfl)) rfl
theorem f30_85 : ft 30 85 = some (1, 1, 0, .aload_n 0, 1) := Fm30 (dk_42 (dk_at s30_3 16 rfl rfl)) rfl
theorem f30_86 : ft 30 86 = some (1, 1, 0, .getfield 19, 3) := Fm30 (dk_180 0 19 (dk_at s30_3 17 rfl rfl)) rfl
theorem f30_89 : ft 30 89 = some (1, 1, 0, .iconst 0, 1) := Fm30 (dk_3 (dk_at s30_3 20 rfl rfl)) rfl
theorem f30_90 : ft 30 90 = some (1, 1, 0, .putfield 191, 3) := Fm30 (dk_181 0 191 (dk_at s30_3 21 rfl rfl)) rfl
theorem f30_93 : ft 30 93 = some (1, 1, 0, .aload_n 0, 1) := Fm30 (dk_42 (dk_at s30_4 0 rfl rfl)) rfl
theorem f30_94 : ft 30 94 = some (1, 1, 0, .getfield 19, 3) := Fm30 (dk_180 0 19 (dk_at s30_4 1 rfl rfl)) rfl
theorem f30_97 : ft 30 97 = some (1, 1, 0, .aload_n 0, 1) := Fm30 (dk_42 (dk_at s30_4 4 rfl rfl)) rfl
theorem f30_98 : ft 30 98 = some (1, 1, 0, .getfield 71, 3) := Fm30 (dk_180 0 71 (dk_at s30_4 5 rfl rfl)) rfl
theorem f30_101 : ft 30 101 = some (1, 1, 0, .iconst 0, 1) := Fm30 (dk_3 (dk_at s30_4 8 rfl rfl)) rfl
theorem f30_102 : ft 30 102 = some (1, 1, 0, .invokevirtual 192, 3) := Fm30 (dk_182 0 192 (dk_at s30_4 9 rfl rfl)) rfl
theorem f30_105 : ft 30 105 = some (1, 1, 0, .aload_n 0, 1) := Fm30 (dk_42 (dk_at s30_4 12 rfl rfl)) rfl
theorem f30_106 : ft 30 106 = some (1, 1, 0, .getfield 19, 3) := Fm30 (dk_180 0 19 (dk_at s30_4 13 rfl rfl)) rfl
theorem f30_109 : ft 30 109 = some (1, 1, 0, .getfield 191, 3) := Fm30 (dk_180 0 191 (dk_at s30_4 16 rfl rfl)) rfl
theorem f30_112 : ft 30 112 = some (1, 1, 0, .ireturn, 1) := Fm30 (dk_172 (dk_at s30_4 19 rfl rfl)) rfl
theorem q30 {d : Nat} {m : Mem} {a0 a1 a2 : Int} (hd : 0 < d) (hz : TZ m) : le2 (bI (cl (d - 1) 22 [pI (w32 (a1 + 1)), pI 9] m) fun v1 m1 => if v1 = 0 then (bV (cl (d - 1) 23 [pI 0] m1) fun m2 => gd (tg m2 a0 = 1) <| if (vl m2 a0 17) = 0 then (rn d 30 41 [pR a0, pI a1, pI a2, pU] [pI 1] m2) else rn d 30 41 [pR a0, pI a1, pI a2, pU] [pI 0] m2) else bI (cl (d - 1) 22 [pI a2, pI 10000] m1) fun v3 m3 => if v3 = 0 then (bV (cl (d - 1) 23 [pI 0] m3) fun m4 => gd (tg m4 a0 = 1) <| if (vl m4 a0 17) = 0 then (rn d 30 41 [pR a0, pI a1, pI a2, pU] [pI 1] m4) else rn d 30 41 [pR a0, pI a1, pI a2, pU] [pI 0] m4) else bV (cl (d - 1) 23 [pI 1] m3) fun m5 => gd (tg m5 a0 = 1) <| if (vl m5 a0 17) = 0 then (rn d 30 41 [pR a0, pI a1, pI a2, pU] [pI 1] m5) else rn d 30 41 [pR a0, pI a1, pI a2, pU] [pI 0] m5) (cl d 30 [pR a0, pI a1, pI a2] m) := by
  refine q_in (n := 4) (L := [pR a0, pI a1, pI a2, pU]) rfl rfl rfl ?_
  refine r_iln1 (p := 1) f30_0 rfl ?_
  refine r_iconst (p := 2) f30_1 rfl (pinD rfl rfl) ?_
  refine r_iadd (p := 3) f30_2 rfl ?_
  refine r_bipush (p := 5) f30_3 rfl (pinD rfl rfl) ?_
  refine r_istI (p := 8) f30_5 rfl rfl rfl hd (Nat.le_of_ble_eq_true rfl) rfl rfl rfl (fun _ => rfl) (fun v1 m1 c1 => ?_)
  have hz1 := z_k c1 hz
  refine r_ifeq (t := 25) (p := 11) f30_8 (by decide) rfl rfl ?_ ?_
  · refine r_iconst (p := 26) f30_25 rfl (pinD rfl rfl) ?_
    refine r_istV (p := 29) f30_26 rfl rfl rfl hd (Nat.le_of_ble_eq_true rfl) rfl rfl rfl (fun _ => rfl) (fun m2 c2 => ?_)
    have hz2 := z_k c2 hz1
    refine r_aln0 (p := 30) f30_29 rfl ?_
    refine le2_gd (fun h1 => ?_)
    refine r_gfIZ (f := 17) (p := 33) f30_30 rfl rfl rfl (Or.inl h1) rfl ?_
    refine r_ifne (t := 40) (p := 36) f30_33 (by decide) rfl rfl ?_ ?_
    · refine r_iconst (p := 37) f30_36 rfl (pinD rfl rfl) ?_
      refine r_goto (p := 41) f30_37 (by decide) rfl ?_
      exact le2_refl _
    · refine r_iconst (p := 41) f30_40 rfl (pinD rfl rfl) ?_
      exact le2_refl _
  · refine r_iln2 (p := 12) f30_11 rfl ?_
    refine r_sipush (p := 15) f30_12 rfl (pinD rfl rfl) ?_
    refine r_istI (p := 18) f30_15 rfl rfl rfl hd (Nat.le_of_ble_eq_true rfl) rfl rfl rfl (fun _ => rfl) (fun v3 m3 c3 => ?_)
    have hz3 := z_k c3 hz1
    refine r_ifeq (t := 25) (p := 21) f30_18 (by decide) rfl rfl ?_ ?_
    · refine r_iconst (p := 26) f30_25 rfl (pinD rfl rfl) ?_
      refine r_istV (p := 29) f30_26 rfl rfl rfl hd (Nat.le_of_ble_eq_true rfl) rfl rfl rfl (fun _ => rfl) (fun m4 c4 => ?_)
      have hz4 := z_k c4 hz3
      refine r_aln0 (p := 30) f30_29 rfl ?_
      refine le2_gd (fun h2 => ?_)
      refine r_gfIZ (f := 17) (p := 33) f30_30 rfl rfl rfl (Or.inl h2) rfl ?_
      refine r_ifne (t := 40) (p := 36) f30_33 (by decide) rfl rfl ?_ ?_
      · refine r_iconst (p := 37) f30_36 rfl (pinD rfl rfl) ?_
        refine r_goto (p := 41) f30_37 (by decide) rfl ?_
        exact le2_refl _
      · refine r_iconst (p := 41) f30_40 rfl (pinD rfl rfl) ?_
        exact le2_refl _
    · refine r_iconst (p := 22) f30_21 rfl (pinD rfl rfl) ?_
      refine r_goto (p := 26) f30_22 (by decide) rfl ?_
      refine r_istV (p := 29) f30_26 rfl rfl rfl hd (Nat.le_of_ble_eq_true rfl) rfl rfl rfl (fun _ => rfl) (fun m5 c5 => ?_)
      have hz5 := z_k c5 hz3
      refine r_aln0 (p := 30) f30_29 rfl ?_
      refine le2_gd (fun h3 => ?_)
      refine r_gfIZ (f := 17) (p := 33) f30_30 rfl rfl rfl (Or.inl h3) rfl ?_
      refine r_ifne (t := 40) (p := 36) f30_33 (by decide) rfl rfl ?_ ?_
      · refine r_iconst (p := 37) f30_36 rfl (pinD rfl rfl) ?_
        refine r_goto (p := 41) f30_37 (by decide) rfl ?_
        exact le2_refl _
      · refine r_iconst (p := 41) f30_40 rfl (pinD rfl rfl) ?_
        exact le2_refl _
theorem q30_41 {d : Nat} {m : Mem} {a0 a1 a2 s0 : Int} (hd : 0 < d) (hz : TZ m) : le2 (bV (cl (d - 1) 26 [pI s0] m) fun m1 => gd (tg m1 a0 = 1) <| nm (vl m1 a0 9) fun v4 => bR (cl (d - 1) 31 [pR a0, pI a1] m1) fun v2 m2 => gd (tg m2 v2 = 10) <| gd (tg m2 v4 = 9) <| bI (cl (d - 1) 165 [pR v4, pI (vl m2 v2 0), pI a2] m2) fun v3 m3 => if v3 = 0 then (rn d 30 70 [pR a0, pI a1, pI a2, pI v3] [pI 0] m3) else rn d 30 70 [pR a0, pI a1, pI a2, pI v3] [pI 1] m3) (rn d 30 41 [pR a0, pI a1, pI a2, pU] [pI s0] m) := by
  refine r_istV (p := 44) f30_41 rfl rfl rfl hd (Nat.le_of_ble_eq_true rfl) rfl rfl rfl (fun _ => rfl) (fun m1 c1 => ?_)
  have hz1 := z_k c1 hz
  refine r_aln0 (p := 45) f30_44 rfl ?_
  refine le2_gd (fun h1 => ?_)
  refine r_gfR (f := 9) (p := 48) f30_45 rfl rfl rfl (Or.inl h1) rfl ?_
  refine r_nmR (fun v4 ev4 => ?_)
  refine r_aln0 (p := 49) f30_48 rfl ?_
  refine r_iln1 (p := 50) f30_49 rfl ?_
  refine r_invR (p := 53) f30_50 rfl rfl rfl (Or.inl h1) hd (Nat.le_of_ble_eq_true rfl) rfl rfl rfl (fun _ => rfl) (fun v2 m2 c2 => ?_)
  have hz2 := z_k c2 hz1
  refine le2_gd (fun h2 => ?_)
  refine r_gfI (f := 0) (p := 56) f30_53 rfl rfl rfl (Or.inl h2) rfl ?_
  refine r_iln2 (p := 57) f30_56 rfl ?_
  refine le2_gd (fun h3 => ?_)
  refine r_invI (p := 60) f30_57 rfl rfl rfl (Or.inl h3) hd (Nat.le_of_ble_eq_true rfl) rfl rfl rfl (fun _ => rfl) (fun v3 m3 c3 => ?_)
  have hz3 := z_k c3 hz2
  refine r_isn3 (p := 61) f30_60 rfl rfl ?_
  refine r_iln3 (p := 62) f30_61 rfl ?_
  refine r_ifeq (t := 69) (p := 65) f30_62 (by decide) rfl rfl ?_ ?_
  · refine r_iconst (p := 70) f30_69 rfl (pinD rfl rfl) ?_
    exact le2_refl _
  · refine r_iconst (p := 66) f30_65 rfl (pinD rfl rfl) ?_
    refine r_goto (p := 70) f30_66 (by decide) rfl ?_
    exact le2_refl _
theorem q30_70 {d : Nat} {m : Mem} {a0 a1 a2 a3 s0 : Int} (hd : 0 < d) (hz : TZ m) : le2 (bV (cl (d - 1) 32 [pI s0] m) fun m1 => gd (tg m1 a0 = 1) <| nm (vl m1 a0 9) fun v4 => gd (tg m1 v4 = 9) <| bV (cl (d - 1) 178 [pR v4, pI a3, pR (vl m1 a0 11)] m1) fun m2 => nm (vl m2 a0 2) fun v5 => gd (tg m2 v5 = 2) <| bV (cl (d - 1) 52 [pR v5, pR (vl m2 a0 11), pI 0] (mst m2 v5 1 0)) fun m3 => nm (vl m3 a0 2) fun v6 => gd (tg m3 v6 = 2) <| some (.inl (some (pI (vl m3 v6 1))), m3)) (rn d 30 70 [pR a0, pI a1, pI a2, pI a3] [pI s0] m) := by
  refine r_istV (p := 73) f30_70 rfl rfl rfl hd (Nat.le_of_ble_eq_true rfl) rfl rfl rfl (fun _ => rfl) (fun m1 c1 => ?_)
  have hz1 := z_k c1 hz
  refine r_aln0 (p := 74) f30_73 rfl ?_
  refine le2_gd (fun h1 => ?_)
  refine r_gfR (f := 9) (p := 77) f30_74 rfl rfl rfl (Or.inl h1) rfl ?_
  refine r_nmR (fun v4 ev4 => ?_)
  refine r_iln3 (p := 78) f30_77 rfl ?_
  refine r_aln0 (p := 79) f30_78 rfl ?_
  refine r_gfR (f := 11) (p := 82) f30_79 rfl rfl rfl (Or.inl h1) rfl ?_
  refine le2_gd (fun h2 => ?_)
  refine r_invV (p := 85) f30_82 rfl rfl rfl (Or.inl h2) hd (Nat.le_of_ble_eq_true rfl) rfl rfl rfl (fun _ => rfl) (fun m2 c2 => ?_)
  have hz2 := z_k c2 hz1
  refine r_aln0 (p := 86) f30_85 rfl ?_
  have h3 := k_t1 c2 hz1 h1 (by decide)
  refine r_gfR (f := 2) (p := 89) f30_86 rfl rfl rfl (Or.inl h3) rfl ?_
  refine r_nmR (fun v5 ev5 => ?_)
  refine r_iconst (p := 90) f30_89 rfl (pinD rfl rfl) ?_
  refine le2_gd (fun h4 => ?_)
  refine r_pfI (f := 1) (p := 93) f30_90 rfl rfl rfl (by decide) (by decide) (Or.inl h4) rfl ?_
  refine r_aln0 (p := 94) f30_93 rfl ?_
  refine r_gfR (f := 2) (p := 97) f30_94 rfl rfl rfl (Or.inl h3) (Eq.trans (sk_f (by decide)) ev5.symm) ?_
  refine r_aln0 (p := 98) f30_97 rfl ?_
  refine r_gfR (f := 11) (p := 101) f30_98 rfl rfl rfl (Or.inl h3) (sk_f (by decide)) ?_
  refine r_iconst (p := 102) f30_101 rfl (pinD rfl rfl) ?_
  refine r_invV (p := 105) f30_102 rfl rfl rfl (Or.inl h4) hd (Nat.le_of_ble_eq_true rfl) rfl rfl rfl (fun _ => rfl) (fun m3 c3 => ?_)
  have hz3 := z_k c3 hz2
  refine r_aln0 (p := 106) f30_105 rfl ?_
  have h5 := k_t1 c3 hz2 h3 (by decide)
  refine r_gfR (f := 2) (p := 109) f30_106 rfl rfl rfl (Or.inl h5) rfl ?_
  refine r_nmR (fun v6 ev6 => ?_)
  refine le2_gd (fun h6 => ?_)
  refine r_gfI (f := 1) (p := 112) f30_109 rfl rfl rfl (Or.inl h6) rfl ?_
  exact r_iret1 f30_112
/-! 31 PathStore.version (I)LPathStore$Version; -/
def w31_1 : List UInt8 := [180, 0, 81, 27, 50, 176]
abbrev u31_1 : List UInt8 := w31_1 ++ []
def w31_0 : List UInt8 := [27, 156, 0, 8, 42, 180, 0, 77, 176, 42, 180, 0, 81, 27, 50, 180, 0, 151, 184, 0, 148, 42]
abbrev u31_0 : List UInt8 := w31_0 ++ u31_1
theorem s31_0 : (prog_1_method_11_code).data.toList.drop 0 = u31_0 := by decide +kernel
theorem s31_1 : (prog_1_method_11_code).data.toList.drop 22 = u31_1 := dk_seg s31_0 22 rfl rfl
theorem Fm31 {pc len : Nat} {i : Instr} (h : decode (prog_1_method_11_code) pc = .ok (i, len)) (hl : len = ilen i len) : ft 31 pc = some (1, 3, 0, i, len) := ft_mk rfl h hl
theorem f31_0 : ft 31 0 = some (1, 3, 0, .iload_n 1, 1) := Fm31 (dk_27 (dk_at s31_0 0 rfl rfl)) rfl
theorem f31_1 : ft 31 1 = some (1, 3, 0, .ifCond .ge 8, 3) := Fm31 (dk_156 0 8 (dk_at s31_0 1 rfl rfl)) rfl
theorem f31_4 : ft 31 4 = some (1, 3, 0, .aload_n 0, 1) := Fm31 (dk_42 (dk_at s31_0 4 rfl rfl)) rfl
theorem f31_5 : ft 31 5 = some (1, 3, 0, .getfield 77, 3) := Fm31 (dk_180 0 77 (dk_at s31_0 5 rfl rfl)) rfl
theorem f31_8 : ft 31 8 = some (1, 3, 0, .areturn, 1) := Fm31 (dk_176 (dk_at s31_0 8 rfl rfl)) rfl
theorem f31_9 : ft 31 9 = some (1, 3, 0, .aload_n 0, 1) := Fm31 (dk_42 (dk_at s31_0 9 rfl rfl)) rfl
theorem f31_10 : ft 31 10 = some (1, 3, 0, .getfield 81, 3) := Fm31 (dk_180 0 81 (dk_at s31_0 10 rfl rfl)) rfl
theorem f31_13 : ft 31 13 = some (1, 3, 0, .iload_n 1, 1) := Fm31 (dk_27 (dk_at s31_0 13 rfl rfl)) rfl
theorem f31_14 : ft 31 14 = some (1, 3, 0, .aaload, 1) := Fm31 (dk_50 (dk_at s31_0 14 rfl rfl)) rfl
theorem f31_15 : ft 31 15 = some (1, 3, 0, .getfield 151, 3) := Fm31 (dk_180 0 151 (dk_at s31_0 15 rfl rfl)) rfl
theorem f31_18 : ft 31 18 = some (1, 3, 0, .invokestatic 148, 3) := Fm31 (dk_184 0 148 (dk_at s31_0 18 rfl rfl)) rfl
theorem f31_21 : ft 31 21 = some (1, 3, 0, .aload_n 0, 1) := Fm31 (dk_42 (dk_at s31_0 21 rfl rfl)) rfl
theorem f31_22 : ft 31 22 = some (1, 3, 0, .getfield 81, 3) := Fm31 (dk_180 0 81 (dk_at s31_1 0 rfl rfl)) rfl
theorem f31_25 : ft 31 25 = some (1, 3, 0, .iload_n 1, 1) := Fm31 (dk_27 (dk_at s31_1 3 rfl rfl)) rfl
theorem f31_26 : ft 31 26 = some (1, 3, 0, .aaload, 1) := Fm31 (dk_50 (dk_at s31_1 4 rfl rfl)) rfl
theorem f31_27 : ft 31 27 = some (1, 3, 0, .areturn, 1) := Fm31 (dk_176 (dk_at s31_1 5 rfl rfl)) rfl
theorem q31 {d : Nat} {m : Mem} {a0 a1 : Int} (hd : 0 < d) (hz : TZ m) : le2 (if a1 < 0 then (gd (tg m a0 = 1) <| some (.inl (some (pR (vl m a0 12))), m)) else gd (tg m a0 = 1) <| nm (vl m a0 13) fun v2 => gd (tg m v2 = 17115) <| gd ((0 : Int) ≤ a1 ∧ a1 < ln m v2) <| nm (vl m v2 a1) fun v3 => gd (tg m v3 = 10) <| bV (cl (d - 1) 26 [pI (vl m v3 3)] m) fun m1 => nm (vl m1 a0 13) fun v4 => gd (tg m1 v4 = 17115) <| gd ((0 : Int) ≤ a1 ∧ a1 < ln m1 v4) <| some (.inl (some (pR (vl m1 v4 a1))), m1)) (cl d 31 [pR a0, pI a1] m) := by
  refine q_in (n := 2) (L := [pR a0, pI a1]) rfl rfl rfl ?_
  refine r_iln1 (p := 1) f31_0 rfl ?_
  refine r_ifge (t := 9) (p := 4) f31_1 (by decide) rfl rfl ?_ ?_
  · refine r_aln0 (p := 5) f31_4 rfl ?_
    refine le2_gd (fun h8 => ?_)
    refine r_gfR (f := 12) (p := 8) f31_5 rfl rfl rfl (Or.inl h8) rfl ?_
    exact r_aret f31_8
  · refine r_aln0 (p := 10) f31_9 rfl ?_
    refine le2_gd (fun h1 => ?_)
    refine r_gfR (f := 13) (p := 13) f31_10 rfl rfl rfl (Or.inl h1) rfl ?_
    refine r_nmR (fun v2 ev2 => ?_)
    refine r_iln1 (p := 14) f31_13 rfl ?_
    refine le2_gd (fun h2 => ?_)
    refine le2_gd (fun h3 => ?_)
    refine r_aaload (p := 15) f31_14 rfl (dj1 (fun x => 110 < x % 1000 ∧ x % 1000 < 119) h2 (by decide)) h3 rfl ?_
    refine r_nmR (fun v3 ev3 => ?_)
    refine le2_gd (fun h4 => ?_)
    refine r_gfIZ (f := 3) (p := 18) f31_15 rfl rfl rfl (Or.inl h4) rfl ?_
    refine r_istV (p := 21) f31_18 rfl rfl rfl hd (Nat.le_of_ble_eq_true rfl) rfl rfl rfl (fun _ => rfl) (fun m1 c1 => ?_)
    have hz1 := z_k c1 hz
    refine r_aln0 (p := 22) f31_21 rfl ?_
    have h5 := k_t1 c1 hz h1 (by decide)
    refine r_gfR (f := 13) (p := 25) f31_22 rfl rfl rfl (Or.inl h5) rfl ?_
    refine r_nmR (fun v4 ev4 => ?_)
    refine r_iln1 (p := 26) f31_25 rfl ?_
    refine le2_gd (fun h6 => ?_)
    refine le2_gd (fun h7 => ?_)
    refine r_aaload (p := 27) f31_26 rfl (dj1 (fun x => 110 < x % 1000 ∧ x % 1000 < 119) h6 (by decide)) h7 rfl ?_
    exact r_aret f31_27
/-! 32 PathStore.there (Z)V -/
def w32_0 : List UInt8 := [26, 154, 0, 11, 187, 0, 121, 89, 183, 0, 123, 191, 177]
abbrev u32_0 : List UInt8 := w32_0 ++ []
theorem s32_0 : (prog_1_method_4_code).data.toList.drop 0 = u32_0 := by decide +kernel
theorem Fm32 {pc len : Nat} {i : Instr} (h : decode (prog_1_method_4_code) pc = .ok (i, len)) (hl : len = ilen i len) : ft 32 pc = some (1, 0, 0, i, len) := ft_mk rfl h hl
theorem f32_0 : ft 32 0 = some (1, 0, 0, .iload_n 0, 1) := Fm32 (dk_26 (dk_at s32_0 0 rfl rfl)) rfl
theorem f32_1 : ft 32 1 = some (1, 0, 0, .ifCond .ne 11, 3) := Fm32 (dk_154 0 11 (dk_at s32_0 1 rfl rfl)) rfl
theorem f32_4 : ft 32 4 = some (1, 0, 0, .new 121, 3) := Fm32 (dk_187 0 121 (dk_at s32_0 4 rfl rfl)) rfl
theorem f32_12 : ft 32 12 = some (1, 0, 0, .return_, 1) := Fm32 (dk_177 (dk_at s32_0 12 rfl rfl)) rfl
theorem q32 {d : Nat} {m : Mem} {a0 : Int} (hz : TZ m) : le2 (if a0 = 0 then (some (.inr 205, mal m 205 6)) else some (.inl none, m)) (cl d 32 [pI a0] m) := by
  refine q_in (n := 1) (L := [pI a0]) rfl rfl rfl ?_
  refine r_iln0 (p := 1) f32_0 rfl ?_
  refine r_ifne (t := 12) (p := 4) f32_1 (by decide) rfl rfl ?_ ?_
  · exact r_throw (e := 205) (f0 := 6) f32_4 rfl (by decide) (Nat.le_of_ble_eq_true rfl) rfl rfl
  · exact r_ret f32_12
/-! 33 PathStore.out (I)I -/
def w33_3 : List UInt8 := [182, 0, 222, 42, 180, 0, 77, 180, 0, 175, 4, 100, 182, 0, 208, 42, 180, 0, 77, 180, 0, 175, 172]
abbrev u33_3 : List UInt8 := w33_3 ++ []
def w33_2 : List UInt8 := [167, 0, 4, 3, 184, 0, 215, 42, 182, 0, 199, 42, 42, 180, 0, 60, 42, 180, 0, 77, 180, 0, 169, 27]
abbrev u33_2 : List UInt8 := w33_2 ++ u33_3
def w33_1 : List UInt8 := [184, 0, 148, 42, 180, 0, 60, 42, 180, 0, 77, 180, 0, 169, 27, 182, 0, 195, 153, 0, 7, 4]
abbrev u33_1 : List UInt8 := w33_1 ++ u33_2
def w33_0 : List UInt8 := [27, 17, 39, 16, 184, 0, 137, 184, 0, 141, 42, 180, 0, 144, 154, 0, 7, 4, 167, 0, 4, 3]
abbrev u33_0 : List UInt8 := w33_0 ++ u33_1
theorem s33_0 : (prog_1_method_18_code).data.toList.drop 0 = u33_0 := by decide +kernel
theorem s33_1 : (prog_1_method_18_code).data.toList.drop 22 = u33_1 := dk_seg s33_0 22 rfl rfl
theorem s33_2 : (prog_1_method_18_code).data.toList.drop 44 = u33_2 := dk_seg s33_1 22 rfl rfl
theorem s33_3 : (prog_1_method_18_code).data.toList.drop 68 = u33_3 := dk_seg s33_2 24 rfl rfl
theorem Fm33 {pc len : Nat} {i : Instr} (h : decode (prog_1_method_18_code) pc = .ok (i, len)) (hl : len = ilen i len) : ft 33 pc = some (1, 1, 0, i, len) := ft_mk rfl h hl
theorem f33_0 : ft 33 0 = some (1, 1, 0, .iload_n 1, 1) := Fm33 (dk_27 (dk_at s33_0 0 rfl rfl)) rfl
theorem f33_1 : ft 33 1 = some (1, 1, 0, .sipush 10000, 3) := Fm33 (dk_17 39 16 (dk_at s33_0 1 rfl rfl)) rfl
theorem f33_4 : ft 33 4 = some (1, 1, 0, .invokestatic 137, 3) := Fm33 (dk_184 0 137 (dk_at s33_0 4 rfl rfl)) rfl
theorem f33_7 : ft 33 7 = some (1, 1, 0, .invokestatic 141, 3) := Fm33 (dk_184 0 141 (dk_at s33_0 7 rfl rfl)) rfl
theorem f33_10 : ft 33 10 = some (1, 1, 0, .aload_n 0, 1) := Fm33 (dk_42 (dk_at s33_0 10 rfl rfl)) rfl
theorem f33_11 : ft 33 11 = some (1, 1, 0, .getfield 144, 3) := Fm33 (dk_180 0 144 (dk_at s33_0 11 rfl rfl)) rfl
theorem f33_14 : ft 33 14 = some (1, 1, 0, .ifCond .ne 7, 3) := Fm33 (dk_154 0 7 (dk_at s33_0 14 rfl rfl)) rfl
theorem f33_17 : ft 33 17 = some (1, 1, 0, .iconst 1, 1) := Fm33 (dk_4 (dk_at s33_0 17 rfl rfl)) rfl
theorem f33_18 : ft 33 18 = some (1, 1, 0, .goto 4, 3) := Fm33 (dk_167 0 4 (dk_at s33_0 18 rfl rfl)) rfl
theorem f33_21 : ft 33 21 = some (1, 1, 0, .iconst 0, 1) := Fm33 (dk_3 (dk_at s33_0 21 rfl rfl)) rfl
theorem f33_22 : ft 33 22 = some (1, 1, 0, .invokestatic 148, 3) := Fm33 (dk_184 0 148 (dk_at s33_1 0 rfl rfl)) rfl
theorem f33_25 : ft 33 25 = some (1, 1, 0, .aload_n 0, 1) := Fm33 (dk_42 (dk_at s33_1 3 rfl rfl)) rfl
theorem f33_26 : ft 33 26 = some (1, 1, 0, .getfield 60, 3) := Fm33 (dk_180 0 60 (dk_at s33_1 4 rfl rfl)) rfl
theorem f33_29 : ft 33 29 = some (1, 1, 0, .aload_n 0, 1) := Fm33 (dk_42 (dk_at s33_1 7 rfl rfl)) rfl
theorem f33_30 : ft 33 30 = some (1, 1, 0, .getfield 77, 3) := Fm33 (dk_180 0 77 (dk_at s33_1 8 rfl rfl)) rfl
theorem f33_33 : ft 33 33 = some (1, 1, 0, .getfield 169, 3) := Fm33 (dk_180 0 169 (dk_at s33_1 11 rfl rfl)) rfl
theorem f33_36 : ft 33 36 = some (1, 1, 0, .iload_n 1, 1) := Fm33 (dk_27 (dk_at s33_1 14 rfl rfl)) rfl
theorem f33_37 : ft 33 37 = some (1, 1, 0, .invokevirtual 195, 3) := Fm33 (dk_182 0 195 (dk_at s33_1 15 rfl rfl)) rfl
theorem f33_40 : ft 33 40 = some (1, 1, 0, .ifCond .eq 7, 3) := Fm33 (dk_153 0 7 (dk_at s33_1 18 rfl rfl)) rfl
theorem f33_43 : ft 33 43 = some (1, 1, 0, .iconst 1, 1) := Fm33 (dk_4 (dk_at s33_1 21 rfl rfl)) rfl
theorem f33_44 : ft 33 44 = some (1, 1, 0, .goto 4, 3) := Fm33 (dk_167 0 4 (dk_at s33_2 0 rfl rfl)) rfl
theorem f33_47 : ft 33 47 = some (1, 1, 0, .iconst 0, 1) := Fm33 (dk_3 (dk_at s33_2 3 rfl rfl)) rfl
theorem f33_48 : ft 33 48 = some (1, 1, 0, .invokestatic 215, 3) := Fm33 (dk_184 0 215 (dk_at s33_2 4 rfl rfl)) rfl
theorem f33_51 : ft 33 51 = some (1, 1, 0, .aload_n 0, 1) := Fm33 (dk_42 (dk_at s33_2 7 rfl rfl)) rfl
theorem f33_52 : ft 33 52 = some (1, 1, 0, .invokevirtual 199, 3) := Fm33 (dk_182 0 199 (dk_at s33_2 8 rfl rfl)) rfl
theorem f33_55 : ft 33 55 = some (1, 1, 0, .aload_n 0, 1) := Fm33 (dk_42 (dk_at s33_2 11 rfl rfl)) rfl
theorem f33_56 : ft 33 56 = some (1, 1, 0, .aload_n 0, 1) := Fm33 (dk_42 (dk_at s33_2 12 rfl rfl)) rfl
theorem f33_57 : ft 33 57 = some (1, 1, 0, .getfield 60, 3) := Fm33 (dk_180 0 60 (dk_at s33_2 13 rfl rfl)) rfl
theorem f33_60 : ft 33 60 = some (1, 1, 0, .aload_n 0, 1) := Fm33 (dk_42 (dk_at s33_2 16 rfl rfl)) rfl
theorem f33_61 : ft 33 61 = some (1, 1, 0, .getfield 77, 3) := Fm33 (dk_180 0 77 (dk_at s33_2 17 rfl rfl)) rfl
theorem f33_64 : ft 33 64 = some (1, 1, 0, .getfield 169, 3) := Fm33 (dk_180 0 169 (dk_at s33_2 20 rfl rfl)) rfl
theorem f33_67 : ft 33 67 = some (1, 1, 0, .iload_n 1, 1) := Fm33 (dk_27 (dk_at s33_2 23 rfl rfl)) rfl
theorem f33_68 : ft 33 68 = some (1, 1, 0, .invokevirtual 222, 3) := Fm33 (dk_182 0 222 (dk_at s33_3 0 rfl rfl)) rfl
theorem f33_71 : ft 33 71 = some (1, 1, 0, .aload_n 0, 1) := Fm33 (dk_42 (dk_at s33_3 3 rfl rfl)) rfl
theorem f33_72 : ft 33 72 = some (1, 1, 0, .getfield 77, 3) := Fm33 (dk_180 0 77 (dk_at s33_3 4 rfl rfl)) rfl
theorem f33_75 : ft 33 75 = some (1, 1, 0, .getfield 175, 3) := Fm33 (dk_180 0 175 (dk_at s33_3 7 rfl rfl)) rfl
theorem f33_78 : ft 33 78 = some (1, 1, 0, .iconst 1, 1) := Fm33 (dk_4 (dk_at s33_3 10 rfl rfl)) rfl
theorem f33_79 : ft 33 79 = some (1, 1, 0, .isub, 1) := Fm33 (dk_100 (dk_at s33_3 11 rfl rfl)) rfl
theorem f33_80 : ft 33 80 = some (1, 1, 0, .invokevirtual 208, 3) := Fm33 (dk_182 0 208 (dk_at s33_3 12 rfl rfl)) rfl
theorem f33_83 : ft 33 83 = some (1, 1, 0, .aload_n 0, 1) := Fm33 (dk_42 (dk_at s33_3 15 rfl rfl)) rfl
theorem f33_84 : ft 33 84 = some (1, 1, 0, .getfield 77, 3) := Fm33 (dk_180 0 77 (dk_at s33_3 16 rfl rfl)) rfl
theorem f33_87 : ft 33 87 = some (1, 1, 0, .getfield 175, 3) := Fm33 (dk_180 0 175 (dk_at s33_3 19 rfl rfl)) rfl
theorem f33_90 : ft 33 90 = some (1, 1, 0, .ireturn, 1) := Fm33 (dk_172 (dk_at s33_3 22 rfl rfl)) rfl
theorem q33 {d : Nat} {m : Mem} {a0 a1 : Int} (hd : 0 < d) (hz : TZ m) : le2 (bI (cl (d - 1) 22 [pI a1, pI 10000] m) fun v1 m1 => bV (cl (d - 1) 23 [pI v1] m1) fun m2 => gd (tg m2 a0 = 1) <| if (vl m2 a0 17) = 0 then (rn d 33 22 [pR a0, pI a1] [pI 1] m2) else rn d 33 22 [pR a0, pI a1] [pI 0] m2) (cl d 33 [pR a0, pI a1] m) := by
  refine q_in (n := 2) (L := [pR a0, pI a1]) rfl rfl rfl ?_
  refine r_iln1 (p := 1) f33_0 rfl ?_
  refine r_sipush (p := 4) f33_1 rfl (pinD rfl rfl) ?_
  refine r_istI (p := 7) f33_4 rfl rfl rfl hd (Nat.le_of_ble_eq_true rfl) rfl rfl rfl (fun _ => rfl) (fun v1 m1 c1 => ?_)
  have hz1 := z_k c1 hz
  refine r_istV (p := 10) f33_7 rfl rfl rfl hd (Nat.le_of_ble_eq_true rfl) rfl rfl rfl (fun _ => rfl) (fun m2 c2 => ?_)
  have hz2 := z_k c2 hz1
  refine r_aln0 (p := 11) f33_10 rfl ?_
  refine le2_gd (fun h1 => ?_)
  refine r_gfIZ (f := 17) (p := 14) f33_11 rfl rfl rfl (Or.inl h1) rfl ?_
  refine r_ifne (t := 21) (p := 17) f33_14 (by decide) rfl rfl ?_ ?_
  · refine r_iconst (p := 18) f33_17 rfl (pinD rfl rfl) ?_
    refine r_goto (p := 22) f33_18 (by decide) rfl ?_
    exact le2_refl _
  · refine r_iconst (p := 22) f33_21 rfl (pinD rfl rfl) ?_
    exact le2_refl _
theorem q33_22 {d : Nat} {m : Mem} {a0 a1 s0 : Int} (hd : 0 < d) (hz : TZ m) : le2 (bV (cl (d - 1) 26 [pI s0] m) fun m1 => gd (tg m1 a0 = 1) <| nm (vl m1 a0 9) fun v3 => nm (vl m1 a0 12) fun v4 => gd (tg m1 v4 = 10) <| gd (tg m1 v3 = 9) <| bI (cl (d - 1) 165 [pR v3, pI (vl m1 v4 0), pI a1] m1) fun v2 m2 => if v2 = 0 then (rn d 33 48 [pR a0, pI a1] [pI 0] m2) else rn d 33 48 [pR a0, pI a1] [pI 1] m2) (rn d 33 22 [pR a0, pI a1] [pI s0] m) := by
  refine r_istV (p := 25) f33_22 rfl rfl rfl hd (Nat.le_of_ble_eq_true rfl) rfl rfl rfl (fun _ => rfl) (fun m1 c1 => ?_)
  have hz1 := z_k c1 hz
  refine r_aln0 (p := 26) f33_25 rfl ?_
  refine le2_gd (fun h1 => ?_)
  refine r_gfR (f := 9) (p := 29) f33_26 rfl rfl rfl (Or.inl h1) rfl ?_
  refine r_nmR (fun v3 ev3 => ?_)
  refine r_aln0 (p := 30) f33_29 rfl ?_
  refine r_gfR (f := 12) (p := 33) f33_30 rfl rfl rfl (Or.inl h1) rfl ?_
  refine r_nmR (fun v4 ev4 => ?_)
  refine le2_gd (fun h2 => ?_)
  refine r_gfI (f := 0) (p := 36) f33_33 rfl rfl rfl (Or.inl h2) rfl ?_
  refine r_iln1 (p := 37) f33_36 rfl ?_
  refine le2_gd (fun h3 => ?_)
  refine r_invI (p := 40) f33_37 rfl rfl rfl (Or.inl h3) hd (Nat.le_of_ble_eq_true rfl) rfl rfl rfl (fun _ => rfl) (fun v2 m2 c2 => ?_)
  have hz2 := z_k c2 hz1
  refine r_ifeq (t := 47) (p := 43) f33_40 (by decide) rfl rfl ?_ ?_
  · refine r_iconst (p := 48) f33_47 rfl (pinD rfl rfl) ?_
    exact le2_refl _
  · refine r_iconst (p := 44) f33_43 rfl (pinD rfl rfl) ?_
    refine r_goto (p := 48) f33_44 (by decide) rfl ?_
    exact le2_refl _
theorem q33_48 {d : Nat} {m : Mem} {a0 a1 s0 : Int} (hd : 0 < d) (hz : TZ m) : le2 (bV (cl (d - 1) 32 [pI s0] m) fun m1 => gd (tg m1 a0 = 1) <| bV (cl (d - 1) 28 [pR a0] m1) fun m2 => nm (vl m2 a0 9) fun v5 => nm (vl m2 a0 12) fun v6 => gd (tg m2 v6 = 10) <| gd (tg m2 v5 = 9) <| bI (cl (d - 1) 179 [pR v5, pI (vl m2 v6 0), pI a1] m2) fun v3 m3 => nm (vl m3 a0 12) fun v7 => gd (tg m3 v7 = 10) <| bV (cl (d - 1) 29 [pR a0, pI v3, pI (w32 ((vl m3 v7 1) - 1))] m3) fun m4 => nm (vl m4 a0 12) fun v8 => gd (tg m4 v8 = 10) <| some (.inl (some (pI (vl m4 v8 1))), m4)) (rn d 33 48 [pR a0, pI a1] [pI s0] m) := by
  refine r_istV (p := 51) f33_48 rfl rfl rfl hd (Nat.le_of_ble_eq_true rfl) rfl rfl rfl (fun _ => rfl) (fun m1 c1 => ?_)
  have hz1 := z_k c1 hz
  refine r_aln0 (p := 52) f33_51 rfl ?_
  refine le2_gd (fun h1 => ?_)
  refine r_invV (p := 55) f33_52 rfl rfl rfl (Or.inl h1) hd (Nat.le_of_ble_eq_true rfl) rfl rfl rfl (fun _ => rfl) (fun m2 c2 => ?_)
  have hz2 := z_k c2 hz1
  refine r_aln0 (p := 56) f33_55 rfl ?_
  refine r_aln0 (p := 57) f33_56 rfl ?_
  have h2 := k_t1 c2 hz1 h1 (by decide)
  refine r_gfR (f := 9) (p := 60) f33_57 rfl rfl rfl (Or.inl h2) rfl ?_
  refine r_nmR (fun v5 ev5 => ?_)
  refine r_aln0 (p := 61) f33_60 rfl ?_
  refine r_gfR (f := 12) (p := 64) f33_61 rfl rfl rfl (Or.inl h2) rfl ?_
  refine r_nmR (fun v6 ev6 => ?_)
  refine le2_gd (fun h3 => ?_)
  refine r_gfI (f := 0) (p := 67) f33_64 rfl rfl rfl (Or.inl h3) rfl ?_
  refine r_iln1 (p := 68) f33_67 rfl ?_
  refine le2_gd (fun h4 => ?_)
  refine r_invI (p := 71) f33_68 rfl rfl rfl (Or.inl h4) hd (Nat.le_of_ble_eq_true rfl) rfl rfl rfl (fun _ => rfl) (fun v3 m3 c3 => ?_)
  have hz3 := z_k c3 hz2
  refine r_aln0 (p := 72) f33_71 rfl ?_
  have h5 := k_t1 c3 hz2 h2 (by decide)
  refine r_gfR (f := 12) (p := 75) f33_72 rfl rfl rfl (Or.inl h5) rfl ?_
  refine r_nmR (fun v7 ev7 => ?_)
  refine le2_gd (fun h6 => ?_)
  refine r_gfI (f := 1) (p := 78) f33_75 rfl rfl rfl (Or.inl h6) rfl ?_
  refine r_iconst (p := 79) f33_78 rfl (pinD rfl rfl) ?_
  refine r_isub (p := 80) f33_79 rfl ?_
  refine r_invV (p := 83) f33_80 rfl rfl rfl (Or.inl h5) hd (Nat.le_of_ble_eq_true rfl) rfl rfl rfl (fun _ => rfl) (fun m4 c4 => ?_)
  have hz4 := z_k c4 hz3
  refine r_aln0 (p := 84) f33_83 rfl ?_
  have h7 := k_t1 c4 hz3 h5 (by decide)
  refine r_gfR (f := 12) (p := 87) f33_84 rfl rfl rfl (Or.inl h7) rfl ?_
  refine r_nmR (fun v8 ev8 => ?_)
  refine le2_gd (fun h8 => ?_)
  refine r_gfI (f := 1) (p := 90) f33_87 rfl rfl rfl (Or.inl h8) rfl ?_
  exact r_iret1 f33_90
/-! 34 PathStore.clear ()I -/
def w34_1 : List UInt8 := [182, 0, 199, 42, 3, 3, 182, 0, 208, 27, 172]
abbrev u34_1 : List UInt8 := w34_1 ++ []
def w34_0 : List UInt8 := [42, 180, 0, 144, 154, 0, 7, 4, 167, 0, 4, 3, 184, 0, 148, 42, 180, 0, 77, 180, 0, 175, 60, 42]
abbrev u34_0 : List UInt8 := w34_0 ++ u34_1
theorem s34_0 : (prog_1_method_19_code).data.toList.drop 0 = u34_0 := by decide +kernel
theorem s34_1 : (prog_1_method_19_code).data.toList.drop 24 = u34_1 := dk_seg s34_0 24 rfl rfl
theorem Fm34 {pc len : Nat} {i : Instr} (h : decode (prog_1_method_19_code) pc = .ok (i, len)) (hl : len = ilen i len) : ft 34 pc = some (1, 1, 0, i, len) := ft_mk rfl h hl
theorem f34_0 : ft 34 0 = some (1, 1, 0, .aload_n 0, 1) := Fm34 (dk_42 (dk_at s34_0 0 rfl rfl)) rfl
theorem f34_1 : ft 34 1 = some (1, 1, 0, .getfield 144, 3) := Fm34 (dk_180 0 144 (dk_at s34_0 1 rfl rfl)) rfl
theorem f34_4 : ft 34 4 = some (1, 1, 0, .ifCond .ne 7, 3) := Fm34 (dk_154 0 7 (dk_at s34_0 4 rfl rfl)) rfl
theorem f34_7 : ft 34 7 = some (1, 1, 0, .iconst 1, 1) := Fm34 (dk_4 (dk_at s34_0 7 rfl rfl)) rfl
theorem f34_8 : ft 34 8 = some (1, 1, 0, .goto 4, 3) := Fm34 (dk_167 0 4 (dk_at s34_0 8 rfl rfl)) rfl
theorem f34_11 : ft 34 11 = some (1, 1, 0, .iconst 0, 1) := Fm34 (dk_3 (dk_at s34_0 11 rfl rfl)) rfl
theorem f34_12 : ft 34 12 = some (1, 1, 0, .invokestatic 148, 3) := Fm34 (dk_184 0 148 (dk_at s34_0 12 rfl rfl)) rfl
theorem f34_15 : ft 34 15 = some (1, 1, 0, .aload_n 0, 1) := Fm34 (dk_42 (dk_at s34_0 15 rfl rfl)) rfl
theorem f34_16 : ft 34 16 = some (1, 1, 0, .getfield 77, 3) := Fm34 (dk_180 0 77 (dk_at s34_0 16 rfl rfl)) rfl
theorem f34_19 : ft 34 19 = some (1, 1, 0, .getfield 175, 3) := Fm34 (dk_180 0 175 (dk_at s34_0 19 rfl rfl)) rfl
theorem f34_22 : ft 34 22 = some (1, 1, 0, .istore_n 1, 1) := Fm34 (dk_60 (dk_at s34_0 22 rfl rfl)) rfl
theorem f34_23 : ft 34 23 = some (1, 1, 0, .aload_n 0, 1) := Fm34 (dk_42 (dk_at s34_0 23 rfl rfl)) rfl
theorem f34_24 : ft 34 24 = some (1, 1, 0, .invokevirtual 199, 3) := Fm34 (dk_182 0 199 (dk_at s34_1 0 rfl rfl)) rfl
theorem f34_27 : ft 34 27 = some (1, 1, 0, .aload_n 0, 1) := Fm34 (dk_42 (dk_at s34_1 3 rfl rfl)) rfl
theorem f34_28 : ft 34 28 = some (1, 1, 0, .iconst 0, 1) := Fm34 (dk_3 (dk_at s34_1 4 rfl rfl)) rfl
theorem f34_29 : ft 34 29 = some (1, 1, 0, .iconst 0, 1) := Fm34 (dk_3 (dk_at s34_1 5 rfl rfl)) rfl
theorem f34_30 : ft 34 30 = some (1, 1, 0, .invokevirtual 208, 3) := Fm34 (dk_182 0 208 (dk_at s34_1 6 rfl rfl)) rfl
theorem f34_33 : ft 34 33 = some (1, 1, 0, .iload_n 1, 1) := Fm34 (dk_27 (dk_at s34_1 9 rfl rfl)) rfl
theorem f34_34 : ft 34 34 = some (1, 1, 0, .ireturn, 1) := Fm34 (dk_172 (dk_at s34_1 10 rfl rfl)) rfl
theorem q34 {d : Nat} {m : Mem} {a0 : Int} (hz : TZ m) : le2 (gd (tg m a0 = 1) <| if (vl m a0 17) = 0 then (rn d 34 12 [pR a0, pU] [pI 1] m) else rn d 34 12 [pR a0, pU] [pI 0] m) (cl d 34 [pR a0] m) := by
  refine q_in (n := 2) (L := [pR a0, pU]) rfl rfl rfl ?_
  refine r_aln0 (p := 1) f34_0 rfl ?_
  refine le2_gd (fun h1 => ?_)
  refine r_gfIZ (f := 17) (p := 4) f34_1 rfl rfl rfl (Or.inl h1) rfl ?_
  refine r_ifne (t := 11) (p := 7) f34_4 (by decide) rfl rfl ?_ ?_
  · refine r_iconst (p := 8) f34_7 rfl (pinD rfl rfl) ?_
    refine r_goto (p := 12) f34_8 (by decide) rfl ?_
    exact le2_refl _
  · refine r_iconst (p := 12) f34_11 rfl (pinD rfl rfl) ?_
    exact le2_refl _
theorem q34_12 {d : Nat} {m : Mem} {a0 s0 : Int} (hd : 0 < d) (hz : TZ m) : le2 (bV (cl (d - 1) 26 [pI s0] m) fun m1 => gd (tg m1 a0 = 1) <| nm (vl m1 a0 12) fun v4 => gd (tg m1 v4 = 10) <| bV (cl (d - 1) 28 [pR a0] m1) fun m2 => bV (cl (d - 1) 29 [pR a0, pI 0, pI 0] m2) fun m3 => some (.inl (some (pI (vl m1 v4 1))), m3)) (rn d 34 12 [pR a0, pU] [pI s0] m) := by
  refine r_istV (p := 15) f34_12 rfl rfl rfl hd (Nat.le_of_ble_eq_true rfl) rfl rfl rfl (fun _ => rfl) (fun m1 c1 => ?_)
  have hz1 := z_k c1 hz
  refine r_aln0 (p := 16) f34_15 rfl ?_
  refine le2_gd (fun h1 => ?_)
  refine r_gfR (f := 12) (p := 19) f34_16 rfl rfl rfl (Or.inl h1) rfl ?_
  refine r_nmR (fun v4 ev4 => ?_)
  refine le2_gd (fun h2 => ?_)
  refine r_gfI (f := 1) (p := 22) f34_19 rfl rfl rfl (Or.inl h2) rfl ?_
  refine r_isn1 (p := 23) f34_22 rfl rfl ?_
  refine r_aln0 (p := 24) f34_23 rfl ?_
  refine r_invV (p := 27) f34_24 rfl rfl rfl (Or.inl h1) hd (Nat.le_of_ble_eq_true rfl) rfl rfl rfl (fun _ => rfl) (fun m2 c2 => ?_)
  have hz2 := z_k c2 hz1
  refine r_aln0 (p := 28) f34_27 rfl ?_
  refine r_iconst (p := 29) f34_28 rfl (pinD rfl rfl) ?_
  refine r_iconst (p := 30) f34_29 rfl (pinD rfl rfl) ?_
  have h3 := k_t1 c2 hz1 h1 (by decide)
  refine r_invV (p := 33) f34_30 rfl rfl rfl (Or.inl h3) hd (Nat.le_of_ble_eq_true rfl) rfl rfl rfl (fun _ => rfl) (fun m3 c3 => ?_)
  have hz3 := z_k c3 hz2
  refine r_iln1 (p := 34) f34_33 rfl ?_
  exact r_iret1 f34_34
/-! 35 PathStore.patch (I)I -/
def w35_7 : List UInt8 := [21, 5, 182, 0, 204, 42, 180, 0, 77, 180, 0, 175, 182, 0, 208, 21, 4, 172]
abbrev u35_7 : List UInt8 := w35_7 ++ []
def w35_6 : List UInt8 := [180, 0, 232, 180, 0, 154, 182, 0, 200, 54, 5, 42, 42, 180, 0, 60, 42, 180, 0, 77, 180, 0, 169, 27]
abbrev u35_6 : List UInt8 := w35_6 ++ u35_7
def w35_5 : List UInt8 := [183, 0, 231, 191, 42, 182, 0, 199, 42, 180, 0, 60, 42, 180, 0, 53, 180, 0, 232, 3, 42, 180, 0, 53]
abbrev u35_5 : List UInt8 := w35_5 ++ u35_6
def w35_4 : List UInt8 := [54, 4, 167, 0, 24, 58, 5, 42, 42, 180, 0, 53, 180, 0, 239, 181, 0, 95, 187, 0, 229, 89]
abbrev u35_4 : List UInt8 := w35_4 ++ u35_5
def w35_3 : List UInt8 := [29, 42, 180, 0, 53, 180, 0, 232, 182, 0, 218, 42, 180, 0, 53, 42, 180, 0, 67, 3, 182, 0, 235]
abbrev u35_3 : List UInt8 := w35_3 ++ u35_4
def w35_2 : List UInt8 := [42, 180, 0, 67, 3, 182, 0, 225, 8, 159, 0, 11, 187, 0, 229, 89, 183, 0, 231, 191, 42, 180, 0, 60]
abbrev u35_2 : List UInt8 := w35_2 ++ u35_3
def w35_1 : List UInt8 := [42, 180, 0, 77, 180, 0, 169, 27, 182, 0, 195, 62, 29, 153, 0, 7, 4, 167, 0, 4, 3, 184, 0, 215]
abbrev u35_1 : List UInt8 := w35_1 ++ u35_2
def w35_0 : List UInt8 := [27, 17, 39, 16, 184, 0, 137, 184, 0, 141, 42, 182, 0, 184, 61, 42, 28, 182, 0, 188, 42, 180, 0, 60]
abbrev u35_0 : List UInt8 := w35_0 ++ u35_1
theorem s35_0 : (prog_1_method_20_code).data.toList.drop 0 = u35_0 := by decide +kernel
theorem s35_1 : (prog_1_method_20_code).data.toList.drop 24 = u35_1 := dk_seg s35_0 24 rfl rfl
theorem s35_2 : (prog_1_method_20_code).data.toList.drop 48 = u35_2 := dk_seg s35_1 24 rfl rfl
theorem s35_3 : (prog_1_method_20_code).data.toList.drop 72 = u35_3 := dk_seg s35_2 24 rfl rfl
theorem s35_4 : (prog_1_method_20_code).data.toList.drop 95 = u35_4 := dk_seg s35_3 23 rfl rfl
theorem s35_5 : (prog_1_method_20_code).data.toList.drop 117 = u35_5 := dk_seg s35_4 22 rfl rfl
theorem s35_6 : (prog_1_method_20_code).data.toList.drop 141 = u35_6 := dk_seg s35_5 24 rfl rfl
theorem s35_7 : (prog_1_method_20_code).data.toList.drop 165 = u35_7 := dk_seg s35_6 24 rfl rfl
theorem Fm35 {pc len : Nat} {i : Instr} (h : decode (prog_1_method_20_code) pc = .ok (i, len)) (hl : len = ilen i len) : ft 35 pc = some (1, 1, 0, i, len) := ft_mk rfl h hl
theorem f35_0 : ft 35 0 = some (1, 1, 0, .iload_n 1, 1) := Fm35 (dk_27 (dk_at s35_0 0 rfl rfl)) rfl
theorem f35_1 : ft 35 1 = some (1, 1, 0, .sipush 10000, 3) := Fm35 (dk_17 39 16 (dk_at s35_0 1 rfl rfl)) rfl
theorem f35_4 : ft 35 4 = some (1, 1, 0, .invokestatic 137, 3) := Fm35 (dk_184 0 137 (dk_at s35_0 4 rfl rfl)) rfl
theorem f35_7 : ft 35 7 = some (1, 1, 0, .invokestatic 141, 3) := Fm35 (dk_184 0 141 (dk_at s35_0 7 rfl rfl)) rfl
theorem f35_10 : ft 35 10 = some (1, 1, 0, .aload_n 0, 1) := Fm35 (dk_42 (dk_at s35_0 10 rfl rfl)) rfl
theorem f35_11 : ft 35 11 = some (1, 1, 0, .invokevirtual 184, 3) := Fm35 (dk_182 0 184 (dk_at s35_0 11 rfl rfl)) rfl
theorem f35_14 : ft 35 14 = some (1, 1, 0, .istore_n 2, 1) := Fm35 (dk_61 (dk_at s35_0 14 rfl rfl)) rfl
theorem f35_15 : ft 35 15 = some (1, 1, 0, .aload_n 0, 1) := Fm35 (dk_42 (dk_at s35_0 15 rfl rfl)) rfl
theorem f35_16 : ft 35 16 = some (1, 1, 0, .iload_n 2, 1) := Fm35 (dk_28 (dk_at s35_0 16 rfl rfl)) rfl
theorem f35_17 : ft 35 17 = some (1, 1, 0, .invokevirtual 188, 3) := Fm35 (dk_182 0 188 (dk_at s35_0 17 rfl rfl)) rfl
theorem f35_20 : ft 35 20 = some (1, 1, 0, .aload_n 0, 1) := Fm35 (dk_42 (dk_at s35_0 20 rfl rfl)) rfl
theorem f35_21 : ft 35 21 = some (1, 1, 0, .getfield 60, 3) := Fm35 (dk_180 0 60 (dk_at s35_0 21 rfl rfl)) rfl
theorem f35_24 : ft 35 24 = some (1, 1, 0, .aload_n 0, 1) := Fm35 (dk_42 (dk_at s35_1 0 rfl rfl)) rfl
theorem f35_25 : ft 35 25 = some (1, 1, 0, .getfield 77, 3) := Fm35 (dk_180 0 77 (dk_at s35_1 1 rfl rfl)) rfl
theorem f35_28 : ft 35 28 = some (1, 1, 0, .getfield 169, 3) := Fm35 (dk_180 0 169 (dk_at s35_1 4 rfl rfl)) rfl
theorem f35_31 : ft 35 31 = some (1, 1, 0, .iload_n 1, 1) := Fm35 (dk_27 (dk_at s35_1 7 rfl rfl)) rfl
theorem f35_32 : ft 35 32 = some (1, 1, 0, .invokevirtual 195, 3) := Fm35 (dk_182 0 195 (dk_at s35_1 8 rfl rfl)) rfl
theorem f35_35 : ft 35 35 = some (1, 1, 0, .istore_n 3, 1) := Fm35 (dk_62 (dk_at s35_1 11 rfl rfl)) rfl
theorem f35_36 : ft 35 36 = some (1, 1, 0, .iload_n 3, 1) := Fm35 (dk_29 (dk_at s35_1 12 rfl rfl)) rfl
theorem f35_37 : ft 35 37 = some (1, 1, 0, .ifCond .eq 7, 3) := Fm35 (dk_153 0 7 (dk_at s35_1 13 rfl rfl)) rfl
theorem f35_40 : ft 35 40 = some (1, 1, 0, .iconst 1, 1) := Fm35 (dk_4 (dk_at s35_1 16 rfl rfl)) rfl
theorem f35_41 : ft 35 41 = some (1, 1, 0, .goto 4, 3) := Fm35 (dk_167 0 4 (dk_at s35_1 17 rfl rfl)) rfl
theorem f35_44 : ft 35 44 = some (1, 1, 0, .iconst 0, 1) := Fm35 (dk_3 (dk_at s35_1 20 rfl rfl)) rfl
theorem f35_45 : ft 35 45 = some (1, 1, 0, .invokestatic 215, 3) := Fm35 (dk_184 0 215 (dk_at s35_1 21 rfl rfl)) rfl
theorem f35_48 : ft 35 48 = some (1, 1, 0, .aload_n 0, 1) := Fm35 (dk_42 (dk_at s35_2 0 rfl rfl)) rfl
theorem f35_49 : ft 35 49 = some (1, 1, 0, .getfield 67, 3) := Fm35 (dk_180 0 67 (dk_at s35_2 1 rfl rfl)) rfl
theorem f35_52 : ft 35 52 = some (1, 1, 0, .iconst 0, 1) := Fm35 (dk_3 (dk_at s35_2 4 rfl rfl)) rfl
theorem f35_53 : ft 35 53 = some (1, 1, 0, .invokevirtual 225, 3) := Fm35 (dk_182 0 225 (dk_at s35_2 5 rfl rfl)) rfl
theorem f35_56 : ft 35 56 = some (1, 1, 0, .iconst 5, 1) := Fm35 (dk_8 (dk_at s35_2 8 rfl rfl)) rfl
theorem f35_57 : ft 35 57 = some (1, 1, 0, .if_icmp .eq 11, 3) := Fm35 (dk_159 0 11 (dk_at s35_2 9 rfl rfl)) rfl
theorem f35_60 : ft 35 60 = some (1, 1, 0, .new 229, 3) := Fm35 (dk_187 0 229 (dk_at s35_2 12 rfl rfl)) rfl
theorem f35_68 : ft 35 68 = some (1, 1, 0, .aload_n 0, 1) := Fm35 (dk_42 (dk_at s35_2 20 rfl rfl)) rfl
theorem f35_69 : ft 35 69 = some (1, 1, 0, .getfield 60, 3) := Fm35 (dk_180 0 60 (dk_at s35_2 21 rfl rfl)) rfl
theorem f35_72 : ft 35 72 = some (1, 1, 0, .iload_n 3, 1) := Fm35 (dk_29 (dk_at s35_3 0 rfl rfl)) rfl
theorem f35_73 : ft 35 73 = some (1, 1, 0, .aload_n 0, 1) := Fm35 (dk_42 (dk_at s35_3 1 rfl rfl)) rfl
theorem f35_74 : ft 35 74 = some (1, 1, 0, .getfield 53, 3) := Fm35 (dk_180 0 53 (dk_at s35_3 2 rfl rfl)) rfl
theorem f35_77 : ft 35 77 = some (1, 1, 0, .getfield 232, 3) := Fm35 (dk_180 0 232 (dk_at s35_3 5 rfl rfl)) rfl
theorem f35_80 : ft 35 80 = some (1, 1, 0, .invokevirtual 218, 3) := Fm35 (dk_182 0 218 (dk_at s35_3 8 rfl rfl)) rfl
theorem f35_83 : ft 35 83 = some (1, 1, 0, .aload_n 0, 1) := Fm35 (dk_42 (dk_at s35_3 11 rfl rfl)) rfl
theorem f35_84 : ft 35 84 = some (1, 1, 0, .getfield 53, 3) := Fm35 (dk_180 0 53 (dk_at s35_3 12 rfl rfl)) rfl
theorem f35_87 : ft 35 87 = some (1, 1, 0, .aload_n 0, 1) := Fm35 (dk_42 (dk_at s35_3 15 rfl rfl)) rfl
theorem f35_88 : ft 35 88 = some (1, 1, 0, .getfield 67, 3) := Fm35 (dk_180 0 67 (dk_at s35_3 16 rfl rfl)) rfl
theorem f35_91 : ft 35 91 = some (1, 1, 0, .iconst 0, 1) := Fm35 (dk_3 (dk_at s35_3 19 rfl rfl)) rfl
theorem f35_92 : ft 35 92 = some (1, 1, 0, .invokevirtual 235, 3) := Fm35 (dk_182 0 235 (dk_at s35_3 20 rfl rfl)) rfl
theorem f35_95 : ft 35 95 = some (1, 1, 0, .istore 4, 2) := Fm35 (dk_54 4 (dk_at s35_4 0 rfl rfl)) rfl
theorem f35_97 : ft 35 97 = some (1, 1, 0, .goto 24, 3) := Fm35 (dk_167 0 24 (dk_at s35_4 2 rfl rfl)) rfl
theorem f35_100 : ft 35 100 = some (1, 1, 0, .astore 5, 2) := Fm35 (dk_58 5 (dk_at s35_4 5 rfl rfl)) rfl
theorem f35_102 : ft 35 102 = some (1, 1, 0, .aload_n 0, 1) := Fm35 (dk_42 (dk_at s35_4 7 rfl rfl)) rfl
theorem f35_103 : ft 35 103 = some (1, 1, 0, .aload_n 0, 1) := Fm35 (dk_42 (dk_at s35_4 8 rfl rfl)) rfl
theorem f35_104 : ft 35 104 = some (1, 1, 0, .getfield 53, 3) := Fm35 (dk_180 0 53 (dk_at s35_4 9 rfl rfl)) rfl
theorem f35_107 : ft 35 107 = some (1, 1, 0, .getfield 239, 3) := Fm35 (dk_180 0 239 (dk_at s35_4 12 rfl rfl)) rfl
theorem f35_110 : ft 35 110 = some (1, 1, 0, .putfield 95, 3) := Fm35 (dk_181 0 95 (dk_at s35_4 15 rfl rfl)) rfl
theorem f35_113 : ft 35 113 = some (1, 1, 0, .new 229, 3) := Fm35 (dk_187 0 229 (dk_at s35_4 18 rfl rfl)) rfl
theorem f35_121 : ft 35 121 = some (1, 1, 0, .aload_n 0, 1) := Fm35 (dk_42 (dk_at s35_5 4 rfl rfl)) rfl
theorem f35_122 : ft 35 122 = some (1, 1, 0, .invokevirtual 199, 3) := Fm35 (dk_182 0 199 (dk_at s35_5 5 rfl rfl)) rfl
theorem f35_125 : ft 35 125 = some (1, 1, 0, .aload_n 0, 1) := Fm35 (dk_42 (dk_at s35_5 8 rfl rfl)) rfl
theorem f35_126 : ft 35 126 = some (1, 1, 0, .getfield 60, 3) := Fm35 (dk_180 0 60 (dk_at s35_5 9 rfl rfl)) rfl
theorem f35_129 : ft 35 129 = some (1, 1, 0, .aload_n 0, 1) := Fm35 (dk_42 (dk_at s35_5 12 rfl rfl)) rfl
theorem f35_130 : ft 35 130 = some (1, 1, 0, .getfield 53, 3) := Fm35 (dk_180 0 53 (dk_at s35_5 13 rfl rfl)) rfl
theorem f35_133 : ft 35 133 = some (1, 1, 0, .getfield 232, 3) := Fm35 (dk_180 0 232 (dk_at s35_5 16 rfl rfl)) rfl
theorem f35_136 : ft 35 136 = some (1, 1, 0, .iconst 0, 1) := Fm35 (dk_3 (dk_at s35_5 19 rfl rfl)) rfl
theorem f35_137 : ft 35 137 = some (1, 1, 0, .aload_n 0, 1) := Fm35 (dk_42 (dk_at s35_5 20 rfl rfl)) rfl
theorem f35_138 : ft 35 138 = some (1, 1, 0, .getfield 53, 3) := Fm35 (dk_180 0 53 (dk_at s35_5 21 rfl rfl)) rfl
theorem f35_141 : ft 35 141 = some (1, 1, 0, .getfield 232, 3) := Fm35 (dk_180 0 232 (dk_at s35_6 0 rfl rfl)) rfl
theorem f35_144 : ft 35 144 = some (1, 1, 0, .getfield 154, 3) := Fm35 (dk_180 0 154 (dk_at s35_6 3 rfl rfl)) rfl
theorem f35_147 : ft 35 147 = some (1, 1, 0, .invokevirtual 200, 3) := Fm35 (dk_182 0 200 (dk_at s35_6 6 rfl rfl)) rfl
theorem f35_150 : ft 35 150 = some (1, 1, 0, .istore 5, 2) := Fm35 (dk_54 5 (dk_at s35_6 9 rfl rfl)) rfl
theorem f35_152 : ft 35 152 = some (1, 1, 0, .aload_n 0, 1) := Fm35 (dk_42 (dk_at s35_6 11 rfl rfl)) rfl
theorem f35_153 : ft 35 153 = some (1, 1, 0, .aload_n 0, 1) := Fm35 (dk_42 (dk_at s35_6 12 rfl rfl)) rfl
theorem f35_154 : ft 35 154 = some (1, 1, 0, .getfield 60, 3) := Fm35 (dk_180 0 60 (dk_at s35_6 13 rfl rfl)) rfl
theorem f35_157 : ft 35 157 = some (1, 1, 0, .aload_n 0, 1) := Fm35 (dk_42 (dk_at s35_6 16 rfl rfl)) rfl
theorem f35_158 : ft 35 158 = some (1, 1, 0, .getfield 77, 3) := Fm35 (dk_180 0 77 (dk_at s35_6 17 rfl rfl)) rfl
theorem f35_161 : ft 35 161 = some (1, 1, 0, .getfield 169, 3) := Fm35 (dk_180 0 169 (dk_at s35_6 20 rfl rfl)) rfl
theorem f35_164 : ft 35 164 = some (1, 1, 0, .iload_n 1, 1) := Fm35 (dk_27 (dk_at s35_6 23 rfl rfl)) rfl
theorem f35_165 : ft 35 165 = some (1, 1, 0, .iload 5, 2) := Fm35 (dk_21 5 (dk_at s35_7 0 rfl rfl)) rfl
theorem f35_167 : ft 35 167 = some (1, 1, 0, .invokevirtual 204, 3) := Fm35 (dk_182 0 204 (dk_at s35_7 2 rfl rfl)) rfl
theorem f35_170 : ft 35 170 = some (1, 1, 0, .aload_n 0, 1) := Fm35 (dk_42 (dk_at s35_7 5 rfl rfl)) rfl
theorem f35_171 : ft 35 171 = some (1, 1, 0, .getfield 77, 3) := Fm35 (dk_180 0 77 (dk_at s35_7 6 rfl rfl)) rfl
theorem f35_174 : ft 35 174 = some (1, 1, 0, .getfield 175, 3) := Fm35 (dk_180 0 175 (dk_at s35_7 9 rfl rfl)) rfl
theorem f35_177 : ft 35 177 = some (1, 1, 0, .invokevirtual 208, 3) := Fm35 (dk_182 0 208 (dk_at s35_7 12 rfl rfl)) rfl
theorem f35_180 : ft 35 180 = some (1, 1, 0, .iload 4, 2) := Fm35 (dk_21 4 (dk_at s35_7 15 rfl rfl)) rfl
theorem f35_182 : ft 35 182 = some (1, 1, 0, .ireturn, 1) := Fm35 (dk_172 (dk_at s35_7 17 rfl rfl)) rfl
theorem q35 {d : Nat} {m : Mem} {a0 a1 : Int} (hd : 0 < d) (hz : TZ m) : le2 (bI (cl (d - 1) 22 [pI a1, pI 10000] m) fun v1 m1 => bV (cl (d - 1) 23 [pI v1] m1) fun m2 => gd (tg m2 a0 = 1) <| bI (cl (d - 1) 25 [pR a0] m2) fun v3 m3 => bV (cl (d - 1) 27 [pR a0, pI v3] m3) fun m4 => nm (vl m4 a0 9) fun v6 => nm (vl m4 a0 12) fun v7 => gd (tg m4 v7 = 10) <| gd (tg m4 v6 = 9) <| bI (cl (d - 1) 165 [pR v6, pI (vl m4 v7 0), pI a1] m4) fun v5 m5 => if v5 = 0 then (rn d 35 45 [pR a0, pI a1, pI v3, pI v5, pU, pU] [pI 0] m5) else rn d 35 45 [pR a0, pI a1, pI v3, pI v5, pU, pU] [pI 1] m5) (cl d 35 [pR a0, pI a1] m) := by
  refine q_in (n := 6) (L := [pR a0, pI a1, pU, pU, pU, pU]) rfl rfl rfl ?_
  refine r_iln1 (p := 1) f35_0 rfl ?_
  refine r_sipush (p := 4) f35_1 rfl (pinD rfl rfl) ?_
  refine r_istI (p := 7) f35_4 rfl rfl rfl hd (Nat.le_of_ble_eq_true rfl) rfl rfl rfl (fun _ => rfl) (fun v1 m1 c1 => ?_)
  have hz1 := z_k c1 hz
  refine r_istV (p := 10) f35_7 rfl rfl rfl hd (Nat.le_of_ble_eq_true rfl) rfl rfl rfl (fun _ => rfl) (fun m2 c2 => ?_)
  have hz2 := z_k c2 hz1
  refine r_aln0 (p := 11) f35_10 rfl ?_
  refine le2_gd (fun h1 => ?_)
  refine r_invI (p := 14) f35_11 rfl rfl rfl (Or.inl h1) hd (Nat.le_of_ble_eq_true rfl) rfl rfl rfl (fun _ => rfl) (fun v3 m3 c3 => ?_)
  have hz3 := z_k c3 hz2
  refine r_isn2 (p := 15) f35_14 rfl rfl ?_
  refine r_aln0 (p := 16) f35_15 rfl ?_
  refine r_iln2 (p := 17) f35_16 rfl ?_
  have h2 := k_t1 c3 hz2 h1 (by decide)
  refine r_invV (p := 20) f35_17 rfl rfl rfl (Or.inl h2) hd (Nat.le_of_ble_eq_true rfl) rfl rfl rfl (fun _ => rfl) (fun m4 c4 => ?_)
  have hz4 := z_k c4 hz3
  refine r_aln0 (p := 21) f35_20 rfl ?_
  have h3 := k_t1 c4 hz3 h2 (by decide)
  refine r_gfR (f := 9) (p := 24) f35_21 rfl rfl rfl (Or.inl h3) rfl ?_
  refine r_nmR (fun v6 ev6 => ?_)
  refine r_aln0 (p := 25) f35_24 rfl ?_
  refine r_gfR (f := 12) (p := 28) f35_25 rfl rfl rfl (Or.inl h3) rfl ?_
  refine r_nmR (fun v7 ev7 => ?_)
  refine le2_gd (fun h4 => ?_)
  refine r_gfI (f := 0) (p := 31) f35_28 rfl rfl rfl (Or.inl h4) rfl ?_
  refine r_iln1 (p := 32) f35_31 rfl ?_
  refine le2_gd (fun h5 => ?_)
  refine r_invI (p := 35) f35_32 rfl rfl rfl (Or.inl h5) hd (Nat.le_of_ble_eq_true rfl) rfl rfl rfl (fun _ => rfl) (fun v5 m5 c5 => ?_)
  have hz5 := z_k c5 hz4
  refine r_isn3 (p := 36) f35_35 rfl rfl ?_
  refine r_iln3 (p := 37) f35_36 rfl ?_
  refine r_ifeq (t := 44) (p := 40) f35_37 (by decide) rfl rfl ?_ ?_
  · refine r_iconst (p := 45) f35_44 rfl (pinD rfl rfl) ?_
    exact le2_refl _
  · refine r_iconst (p := 41) f35_40 rfl (pinD rfl rfl) ?_
    refine r_goto (p := 45) f35_41 (by decide) rfl ?_
    exact le2_refl _
theorem q35_45 {d : Nat} {m : Mem} {a0 a1 a2 a3 s0 : Int} (hd : 0 < d) (hz : TZ m) : le2 (bV (cl (d - 1) 32 [pI s0] m) fun m1 => gd (tg m1 a0 = 1) <| nm (vl m1 a0 10) fun v10 => gd (tg m1 v10 = 8) <| bI (cl (d - 1) 139 [pR v10, pI 0] m1) fun v2 m2 => if v2 = 5 then (nm (vl m2 a0 9) fun v11 => nm (vl m2 a0 8) fun v12 => gd (tg m2 v12 = 7) <| gd (tg m2 v11 = 9) <| bV (cl (d - 1) 178 [pR v11, pI a3, pR (vl m2 v12 5)] m2) fun m3 => nm (vl m3 a0 8) fun v13 => gd (tg m3 v13 = 7) <| bIh (cl (d - 1) 113 [pR v13, pR (vl m3 a0 10), pI 0] m3) (fun v4 m4 => bV (cl (d - 1) 28 [pR a0] m4) fun m5 => nm (vl m5 a0 9) fun v14 => nm (vl m5 a0 8) fun v15 => gd (tg m5 v15 = 7) <| nm (vl m5 v15 5) fun v16 => gd (tg m5 v16 = 8) <| gd (tg m5 v14 = 9) <| bI (cl (d - 1) 169 [pR v14, pR v16, pI 0, pI (vl m5 v16 1)] m5) fun v6 m6 => nm (vl m6 a0 9) fun v17 => nm (vl m6 a0 12) fun v18 => gd (tg m6 v18 = 10) <| gd (tg m6 v17 = 9) <| bI (cl (d - 1) 171 [pR v17, pI (vl m6 v18 0), pI a1, pI v6] m6) fun v7 m7 => nm (vl m7 a0 12) fun v19 => gd (tg m7 v19 = 10) <| bV (cl (d - 1) 29 [pR a0, pI v7, pI (vl m7 v19 1)] m7) fun m8 => some (.inl (some (pI v4)), m8)) fun x9 m9 => if x9 = 206 then (nm (vl m9 a0 8) fun v20 => gd (tg m9 v20 = 7) <| some (.inr 206, mal (mst m9 a0 19 (vl m9 v20 16)) 206 6)) else if 200 < x9 ∧ x9 < 207 then (some (.inr x9, m9)) else none) else some (.inr 206, mal m2 206 6)) (rn d 35 45 [pR a0, pI a1, pI a2, pI a3, pU, pU] [pI s0] m) := by
  refine r_istV (p := 48) f35_45 rfl rfl rfl hd (Nat.le_of_ble_eq_true rfl) rfl rfl rfl (fun _ => rfl) (fun m1 c1 => ?_)
  have hz1 := z_k c1 hz
  refine r_aln0 (p := 49) f35_48 rfl ?_
  refine le2_gd (fun h1 => ?_)
  refine r_gfR (f := 10) (p := 52) f35_49 rfl rfl rfl (Or.inl h1) rfl ?_
  refine r_nmR (fun v10 ev10 => ?_)
  refine r_iconst (p := 53) f35_52 rfl (pinD rfl rfl) ?_
  refine le2_gd (fun h2 => ?_)
  refine r_invI (p := 56) f35_53 rfl rfl rfl (Or.inl h2) hd (Nat.le_of_ble_eq_true rfl) rfl rfl rfl (fun _ => rfl) (fun v2 m2 c2 => ?_)
  have hz2 := z_k c2 hz1
  refine r_iconst (p := 57) f35_56 rfl (pinD rfl rfl) ?_
  refine r_iceq (t := 68) (p := 60) f35_57 (by decide) rfl rfl ?_ ?_
  · refine r_aln0 (p := 69) f35_68 rfl ?_
    have h3 := k_t1 c2 hz1 h1 (by decide)
    refine r_gfR (f := 9) (p := 72) f35_69 rfl rfl rfl (Or.inl h3) rfl ?_
    refine r_nmR (fun v11 ev11 => ?_)
    refine r_iln3 (p := 73) f35_72 rfl ?_
    refine r_aln0 (p := 74) f35_73 rfl ?_
    refine r_gfR (f := 8) (p := 77) f35_74 rfl rfl rfl (Or.inl h3) rfl ?_
    refine r_nmR (fun v12 ev12 => ?_)
    refine le2_gd (fun h4 => ?_)
    refine r_gfR (f := 5) (p := 80) f35_77 rfl rfl rfl (Or.inl h4) rfl ?_
    refine le2_gd (fun h5 => ?_)
    refine r_invV (p := 83) f35_80 rfl rfl rfl (Or.inl h5) hd (Nat.le_of_ble_eq_true rfl) rfl rfl rfl (fun _ => rfl) (fun m3 c3 => ?_)
    have hz3 := z_k c3 hz2
    refine r_aln0 (p := 84) f35_83 rfl ?_
    have h6 := k_t1 c3 hz2 h3 (by decide)
    refine r_gfR (f := 8) (p := 87) f35_84 rfl rfl rfl (Or.inl h6) rfl ?_
    refine r_nmR (fun v13 ev13 => ?_)
    refine r_aln0 (p := 88) f35_87 rfl ?_
    refine r_gfR (f := 10) (p := 91) f35_88 rfl rfl rfl (Or.inl h6) rfl ?_
    refine r_iconst (p := 92) f35_91 rfl (pinD rfl rfl) ?_
    refine le2_gd (fun h7 => ?_)
    refine r_invIh (p := 95) f35_92 rfl rfl rfl (Or.inl h7) hd (Nat.le_of_ble_eq_true rfl) rfl rfl (fun v4 m4 c4 => ?_) (fun x9 m9 c9 => ?_)
    · have hz4 := z_k c4 hz3
      refine r_isw4 (p := 97) f35_95 rfl rfl ?_
      refine r_goto (p := 121) f35_97 (by decide) rfl ?_
      refine r_aln0 (p := 122) f35_121 rfl ?_
      have h8 := k_t1 c4 hz3 h6 (by decide)
      refine r_invV (p := 125) f35_122 rfl rfl rfl (Or.inl h8) hd (Nat.le_of_ble_eq_true rfl) rfl rfl rfl (fun _ => rfl) (fun m5 c5 => ?_)
      have hz5 := z_k c5 hz4
      refine r_aln0 (p := 126) f35_125 rfl ?_
      have h9 := k_t1 c5 hz4 h8 (by decide)
      refine r_gfR (f := 9) (p := 129) f35_126 rfl rfl rfl (Or.inl h9) rfl ?_
      refine r_nmR (fun v14 ev14 => ?_)
      refine r_aln0 (p := 130) f35_129 rfl ?_
      refine r_gfR (f := 8) (p := 133) f35_130 rfl rfl rfl (Or.inl h9) rfl ?_
      refine r_nmR (fun v15 ev15 => ?_)
      refine le2_gd (fun h10 => ?_)
      refine r_gfR (f := 5) (p := 136) f35_133 rfl rfl rfl (Or.inl h10) rfl ?_
      refine r_nmR (fun v16 ev16 => ?_)
      refine r_iconst (p := 137) f35_136 rfl (pinD rfl rfl) ?_
      refine r_aln0 (p := 138) f35_137 rfl ?_
      refine r_gfR (f := 8) (p := 141) f35_138 rfl rfl rfl (Or.inl h9) ev15.symm ?_
      refine r_gfR (f := 5) (p := 144) f35_141 rfl rfl rfl (Or.inl h10) ev16.symm ?_
      refine le2_gd (fun h11 => ?_)
      refine r_gfI (f := 1) (p := 147) f35_144 rfl rfl rfl (Or.inl h11) rfl ?_
      refine le2_gd (fun h12 => ?_)
      refine r_invI (p := 150) f35_147 rfl rfl rfl (Or.inl h12) hd (Nat.le_of_ble_eq_true rfl) rfl rfl rfl (fun _ => rfl) (fun v6 m6 c6 => ?_)
      have hz6 := z_k c6 hz5
      refine r_isw5 (p := 152) f35_150 rfl rfl ?_
      refine r_aln0 (p := 153) f35_152 rfl ?_
      refine r_aln0 (p := 154) f35_153 rfl ?_
      have h13 := k_t1 c6 hz5 h9 (by decide)
      refine r_gfR (f := 9) (p := 157) f35_154 rfl rfl rfl (Or.inl h13) rfl ?_
      refine r_nmR (fun v17 ev17 => ?_)
      refine r_aln0 (p := 158) f35_157 rfl ?_
      refine r_gfR (f := 12) (p := 161) f35_158 rfl rfl rfl (Or.inl h13) rfl ?_
      refine r_nmR (fun v18 ev18 => ?_)
      refine le2_gd (fun h14 => ?_)
      refine r_gfI (f := 0) (p := 164) f35_161 rfl rfl rfl (Or.inl h14) rfl ?_
      refine r_iln1 (p := 165) f35_164 rfl ?_
      refine r_ilw5 (p := 167) f35_165 rfl ?_
      refine le2_gd (fun h15 => ?_)
      refine r_invI (p := 170) f35_167 rfl rfl rfl (Or.inl h15) hd (Nat.le_of_ble_eq_true rfl) rfl rfl rfl (fun _ => rfl) (fun v7 m7 c7 => ?_)
      have hz7 := z_k c7 hz6
      refine r_aln0 (p := 171) f35_170 rfl ?_
      have h16 := k_t1 c7 hz6 h13 (by decide)
      refine r_gfR (f := 12) (p := 174) f35_171 rfl rfl rfl (Or.inl h16) rfl ?_
      refine r_nmR (fun v19 ev19 => ?_)
      refine le2_gd (fun h17 => ?_)
      refine r_gfI (f := 1) (p := 177) f35_174 rfl rfl rfl (Or.inl h17) rfl ?_
      refine r_invV (p := 180) f35_177 rfl rfl rfl (Or.inl h16) hd (Nat.le_of_ble_eq_true rfl) rfl rfl rfl (fun _ => rfl) (fun m8 c8 => ?_)
      have hz8 := z_k c8 hz7
      refine r_ilw4 (p := 182) f35_180 rfl ?_
      exact r_iret1 f35_182
    · have hz9 := z_k c9 hz3
      refine le2_ite (fun h19 => ?_) (fun h19 => ?_)
      · refine hres_at (h := 100) (by rw [h19]; rfl) ?_
        refine r_asw5 (p := 102) f35_100 rfl rfl ?_
        refine r_aln0 (p := 103) f35_102 rfl ?_
        refine r_aln0 (p := 104) f35_103 rfl ?_
        have h20 := k_t1 c9 hz3 h6 (by decide)
        refine r_gfR (f := 8) (p := 107) f35_104 rfl rfl rfl (Or.inl h20) rfl ?_
        refine r_nmR (fun v20 ev20 => ?_)
        refine le2_gd (fun h21 => ?_)
        refine r_gfI (f := 16) (p := 110) f35_107 rfl rfl rfl (Or.inl h21) rfl ?_
        refine r_pfI (f := 19) (p := 113) f35_110 rfl rfl rfl (by decide) (by decide) (Or.inl h20) rfl ?_
        exact r_throw (e := 206) (f0 := 6) f35_113 rfl (by decide) (Nat.le_of_ble_eq_true rfl) rfl rfl
      · refine le2_ite (fun h18 => ?_) (fun h18 => ?_)
        · exact hres_skip (t := 206) rfl rfl h19 h18
        · exact le2_none
  · exact r_throw (e := 206) (f0 := 6) f35_60 rfl (by decide) (Nat.le_of_ble_eq_true rfl) rfl rfl
/-! 36 PathStore.open (I)V -/
def w36_3 : List UInt8 := [180, 0, 77, 180, 0, 181, 181, 0, 181, 44, 4, 181, 0, 151, 177]
abbrev u36_3 : List UInt8 := w36_3 ++ []
def w36_2 : List UInt8 := [180, 0, 77, 180, 0, 169, 181, 0, 169, 44, 42, 180, 0, 77, 180, 0, 175, 181, 0, 175, 44, 42]
abbrev u36_2 : List UInt8 := w36_2 ++ u36_3
def w36_1 : List UInt8 := [180, 0, 151, 154, 0, 7, 4, 167, 0, 4, 3, 184, 0, 148, 42, 180, 0, 81, 27, 50, 77, 44, 42]
abbrev u36_1 : List UInt8 := w36_1 ++ u36_2
def w36_0 : List UInt8 := [27, 16, 8, 184, 0, 137, 184, 0, 141, 42, 180, 0, 144, 154, 0, 19, 42, 180, 0, 81, 27, 50]
abbrev u36_0 : List UInt8 := w36_0 ++ u36_1
theorem s36_0 : (prog_1_method_21_code).data.toList.drop 0 = u36_0 := by decide +kernel
theorem s36_1 : (prog_1_method_21_code).data.toList.drop 22 = u36_1 := dk_seg s36_0 22 rfl rfl
theorem s36_2 : (prog_1_method_21_code).data.toList.drop 45 = u36_2 := dk_seg s36_1 23 rfl rfl
theorem s36_3 : (prog_1_method_21_code).data.toList.drop 67 = u36_3 := dk_seg s36_2 22 rfl rfl
theorem Fm36 {pc len : Nat} {i : Instr} (h : decode (prog_1_method_21_code) pc = .ok (i, len)) (hl : len = ilen i len) : ft 36 pc = some (1, 0, 0, i, len) := ft_mk rfl h hl
theorem f36_0 : ft 36 0 = some (1, 0, 0, .iload_n 1, 1) := Fm36 (dk_27 (dk_at s36_0 0 rfl rfl)) rfl
theorem f36_1 : ft 36 1 = some (1, 0, 0, .bipush 8, 2) := Fm36 (dk_16 8 (dk_at s36_0 1 rfl rfl)) rfl
theorem f36_3 : ft 36 3 = some (1, 0, 0, .invokestatic 137, 3) := Fm36 (dk_184 0 137 (dk_at s36_0 3 rfl rfl)) rfl
theorem f36_6 : ft 36 6 = some (1, 0, 0, .invokestatic 141, 3) := Fm36 (dk_184 0 141 (dk_at s36_0 6 rfl rfl)) rfl
theorem f36_9 : ft 36 9 = some (1, 0, 0, .aload_n 0, 1) := Fm36 (dk_42 (dk_at s36_0 9 rfl rfl)) rfl
theorem f36_10 : ft 36 10 = some (1, 0, 0, .getfield 144, 3) := Fm36 (dk_180 0 144 (dk_at s36_0 10 rfl rfl)) rfl
theorem f36_13 : ft 36 13 = some (1, 0, 0, .ifCond .ne 19, 3) := Fm36 (dk_154 0 19 (dk_at s36_0 13 rfl rfl)) rfl
theorem f36_16 : ft 36 16 = some (1, 0, 0, .aload_n 0, 1) := Fm36 (dk_42 (dk_at s36_0 16 rfl rfl)) rfl
theorem f36_17 : ft 36 17 = some (1, 0, 0, .getfield 81, 3) := Fm36 (dk_180 0 81 (dk_at s36_0 17 rfl rfl)) rfl
theorem f36_20 : ft 36 20 = some (1, 0, 0, .iload_n 1, 1) := Fm36 (dk_27 (dk_at s36_0 20 rfl rfl)) rfl
theorem f36_21 : ft 36 21 = some (1, 0, 0, .aaload, 1) := Fm36 (dk_50 (dk_at s36_0 21 rfl rfl)) rfl
theorem f36_22 : ft 36 22 = some (1, 0, 0, .getfield 151, 3) := Fm36 (dk_180 0 151 (dk_at s36_1 0 rfl rfl)) rfl
theorem f36_25 : ft 36 25 = some (1, 0, 0, .ifCond .ne 7, 3) := Fm36 (dk_154 0 7 (dk_at s36_1 3 rfl rfl)) rfl
theorem f36_28 : ft 36 28 = some (1, 0, 0, .iconst 1, 1) := Fm36 (dk_4 (dk_at s36_1 6 rfl rfl)) rfl
theorem f36_29 : ft 36 29 = some (1, 0, 0, .goto 4, 3) := Fm36 (dk_167 0 4 (dk_at s36_1 7 rfl rfl)) rfl
theorem f36_32 : ft 36 32 = some (1, 0, 0, .iconst 0, 1) := Fm36 (dk_3 (dk_at s36_1 10 rfl rfl)) rfl
theorem f36_33 : ft 36 33 = some (1, 0, 0, .invokestatic 148, 3) := Fm36 (dk_184 0 148 (dk_at s36_1 11 rfl rfl)) rfl
theorem f36_36 : ft 36 36 = some (1, 0, 0, .aload_n 0, 1) := Fm36 (dk_42 (dk_at s36_1 14 rfl rfl)) rfl
theorem f36_37 : ft 36 37 = some (1, 0, 0, .getfield 81, 3) := Fm36 (dk_180 0 81 (dk_at s36_1 15 rfl rfl)) rfl
theorem f36_40 : ft 36 40 = some (1, 0, 0, .iload_n 1, 1) := Fm36 (dk_27 (dk_at s36_1 18 rfl rfl)) rfl
theorem f36_41 : ft 36 41 = some (1, 0, 0, .aaload, 1) := Fm36 (dk_50 (dk_at s36_1 19 rfl rfl)) rfl
theorem f36_42 : ft 36 42 = some (1, 0, 0, .astore_n 2, 1) := Fm36 (dk_77 (dk_at s36_1 20 rfl rfl)) rfl
theorem f36_43 : ft 36 43 = some (1, 0, 0, .aload_n 2, 1) := Fm36 (dk_44 (dk_at s36_1 21 rfl rfl)) rfl
theorem f36_44 : ft 36 44 = some (1, 0, 0, .aload_n 0, 1) := Fm36 (dk_42 (dk_at s36_1 22 rfl rfl)) rfl
theorem f36_45 : ft 36 45 = some (1, 0, 0, .getfield 77, 3) := Fm36 (dk_180 0 77 (dk_at s36_2 0 rfl rfl)) rfl
theorem f36_48 : ft 36 48 = some (1, 0, 0, .getfield 169, 3) := Fm36 (dk_180 0 169 (dk_at s36_2 3 rfl rfl)) rfl
theorem f36_51 : ft 36 51 = some (1, 0, 0, .putfield 169, 3) := Fm36 (dk_181 0 169 (dk_at s36_2 6 rfl rfl)) rfl
theorem f36_54 : ft 36 54 = some (1, 0, 0, .aload_n 2, 1) := Fm36 (dk_44 (dk_at s36_2 9 rfl rfl)) rfl
theorem f36_55 : ft 36 55 = some (1, 0, 0, .aload_n 0, 1) := Fm36 (dk_42 (dk_at s36_2 10 rfl rfl)) rfl
theorem f36_56 : ft 36 56 = some (1, 0, 0, .getfield 77, 3) := Fm36 (dk_180 0 77 (dk_at s36_2 11 rfl rfl)) rfl
theorem f36_59 : ft 36 59 = some (1, 0, 0, .getfield 175, 3) := Fm36 (dk_180 0 175 (dk_at s36_2 14 rfl rfl)) rfl
theorem f36_62 : ft 36 62 = some (1, 0, 0, .putfield 175, 3) := Fm36 (dk_181 0 175 (dk_at s36_2 17 rfl rfl)) rfl
theorem f36_65 : ft 36 65 = some (1, 0, 0, .aload_n 2, 1) := Fm36 (dk_44 (dk_at s36_2 20 rfl rfl)) rfl
theorem f36_66 : ft 36 66 = some (1, 0, 0, .aload_n 0, 1) := Fm36 (dk_42 (dk_at s36_2 21 rfl rfl)) rfl
theorem f36_67 : ft 36 67 = some (1, 0, 0, .getfield 77, 3) := Fm36 (dk_180 0 77 (dk_at s36_3 0 rfl rfl)) rfl
theorem f36_70 : ft 36 70 = some (1, 0, 0, .getfield 181, 3) := Fm36 (dk_180 0 181 (dk_at s36_3 3 rfl rfl)) rfl
theorem f36_73 : ft 36 73 = some (1, 0, 0, .putfield 181, 3) := Fm36 (dk_181 0 181 (dk_at s36_3 6 rfl rfl)) rfl
theorem f36_76 : ft 36 76 = some (1, 0, 0, .aload_n 2, 1) := Fm36 (dk_44 (dk_at s36_3 9 rfl rfl)) rfl
theorem f36_77 : ft 36 77 = some (1, 0, 0, .iconst 1, 1) := Fm36 (dk_4 (dk_at s36_3 10 rfl rfl)) rfl
theorem f36_78 : ft 36 78 = some (1, 0, 0, .putfield 151, 3) := Fm36 (dk_181 0 151 (dk_at s36_3 11 rfl rfl)) rfl
theorem f36_81 : ft 36 81 = some (1, 0, 0, .return_, 1) := Fm36 (dk_177 (dk_at s36_3 14 rfl rfl)) rfl
theorem q36 {d : Nat} {m : Mem} {a0 a1 : Int} (hd : 0 < d) (hz : TZ m) : le2 (bI (cl (d - 1) 22 [pI a1, pI 8] m) fun v1 m1 => bV (cl (d - 1) 23 [pI v1] m1) fun m2 => gd (tg m2 a0 = 1) <| if (vl m2 a0 17) = 0 then (nm (vl m2 a0 13) fun v3 => gd (tg m2 v3 = 17115) <| gd ((0 : Int) ≤ a1 ∧ a1 < ln m2 v3) <| nm (vl m2 v3 a1) fun v4 => gd (tg m2 v4 = 10) <| if (vl m2 v4 3) = 0 then (rn d 36 33 [pR a0, pI a1, pU] [pI 1] m2) else rn d 36 33 [pR a0, pI a1, pU] [pI 0] m2) else rn d 36 33 [pR a0, pI a1, pU] [pI 0] m2) (cl d 36 [pR a0, pI a1] m) := by
  refine q_in (n := 3) (L := [pR a0, pI a1, pU]) rfl rfl rfl ?_
  refine r_iln1 (p := 1) f36_0 rfl ?_
  refine r_bipush (p := 3) f36_1 rfl (pinD rfl rfl) ?_
  refine r_istI (p := 6) f36_3 rfl rfl rfl hd (Nat.le_of_ble_eq_true rfl) rfl rfl rfl (fun _ => rfl) (fun v1 m1 c1 => ?_)
  have hz1 := z_k c1 hz
  refine r_istV (p := 9) f36_6 rfl rfl rfl hd (Nat.le_of_ble_eq_true rfl) rfl rfl rfl (fun _ => rfl) (fun m2 c2 => ?_)
  have hz2 := z_k c2 hz1
  refine r_aln0 (p := 10) f36_9 rfl ?_
  refine le2_gd (fun h1 => ?_)
  refine r_gfIZ (f := 17) (p := 13) f36_10 rfl rfl rfl (Or.inl h1) rfl ?_
  refine r_ifne (t := 32) (p := 16) f36_13 (by decide) rfl rfl ?_ ?_
  · refine r_aln0 (p := 17) f36_16 rfl ?_
    refine r_gfR (f := 13) (p := 20) f36_17 rfl rfl rfl (Or.inl h1) rfl ?_
    refine r_nmR (fun v3 ev3 => ?_)
    refine r_iln1 (p := 21) f36_20 rfl ?_
    refine le2_gd (fun h2 => ?_)
    refine le2_gd (fun h3 => ?_)
    refine r_aaload (p := 22) f36_21 rfl (dj1 (fun x => 110 < x % 1000 ∧ x % 1000 < 119) h2 (by decide)) h3 rfl ?_
    refine r_nmR (fun v4 ev4 => ?_)
    refine le2_gd (fun h4 => ?_)
    refine r_gfIZ (f := 3) (p := 25) f36_22 rfl rfl rfl (Or.inl h4) rfl ?_
    refine r_ifne (t := 32) (p := 28) f36_25 (by decide) rfl rfl ?_ ?_
    · refine r_iconst (p := 29) f36_28 rfl (pinD rfl rfl) ?_
      refine r_goto (p := 33) f36_29 (by decide) rfl ?_
      exact le2_refl _
    · refine r_iconst (p := 33) f36_32 rfl (pinD rfl rfl) ?_
      exact le2_refl _
  · refine r_iconst (p := 33) f36_32 rfl (pinD rfl rfl) ?_
    exact le2_refl _
theorem q36_33 {d : Nat} {m : Mem} {a0 a1 s0 : Int} (hd : 0 < d) (hz : TZ m) : le2 (bV (cl (d - 1) 26 [pI s0] m) fun m1 => gd (tg m1 a0 = 1) <| nm (vl m1 a0 13) fun v2 => gd (tg m1 v2 = 17115) <| gd ((0 : Int) ≤ a1 ∧ a1 < ln m1 v2) <| nm (vl m1 v2 a1) fun v3 => nm (vl m1 a0 12) fun v4 => gd (tg m1 v4 = 10) <| gd (tg m1 v3 = 10) <| some (.inl none, (mst (mst (mst (mst m1 v3 0 (vl m1 v4 0)) v3 1 (vl m1 v4 1)) v3 2 (vl m1 v4 2)) v3 3 1))) (rn d 36 33 [pR a0, pI a1, pU] [pI s0] m) := by
  refine r_istV (p := 36) f36_33 rfl rfl rfl hd (Nat.le_of_ble_eq_true rfl) rfl rfl rfl (fun _ => rfl) (fun m1 c1 => ?_)
  have hz1 := z_k c1 hz
  refine r_aln0 (p := 37) f36_36 rfl ?_
  refine le2_gd (fun h1 => ?_)
  refine r_gfR (f := 13) (p := 40) f36_37 rfl rfl rfl (Or.inl h1) rfl ?_
  refine r_nmR (fun v2 ev2 => ?_)
  refine r_iln1 (p := 41) f36_40 rfl ?_
  refine le2_gd (fun h2 => ?_)
  refine le2_gd (fun h3 => ?_)
  refine r_aaload (p := 42) f36_41 rfl (dj1 (fun x => 110 < x % 1000 ∧ x % 1000 < 119) h2 (by decide)) h3 rfl ?_
  refine r_nmR (fun v3 ev3 => ?_)
  refine r_asn2 (p := 43) f36_42 rfl rfl ?_
  refine r_aln2 (p := 44) f36_43 rfl ?_
  refine r_aln0 (p := 45) f36_44 rfl ?_
  refine r_gfR (f := 12) (p := 48) f36_45 rfl rfl rfl (Or.inl h1) rfl ?_
  refine r_nmR (fun v4 ev4 => ?_)
  refine le2_gd (fun h4 => ?_)
  refine r_gfI (f := 0) (p := 51) f36_48 rfl rfl rfl (Or.inl h4) rfl ?_
  refine le2_gd (fun h5 => ?_)
  refine r_pfI (f := 0) (p := 54) f36_51 rfl rfl rfl (by decide) (by decide) (Or.inl h5) rfl ?_
  refine r_aln2 (p := 55) f36_54 rfl ?_
  refine r_aln0 (p := 56) f36_55 rfl ?_
  refine r_gfR (f := 12) (p := 59) f36_56 rfl rfl rfl (Or.inl h1) (Eq.trans (sk_f (by decide)) ev4.symm) ?_
  refine r_gfI (f := 1) (p := 62) f36_59 rfl rfl rfl (Or.inl h4) (sk_f (by decide)) ?_
  refine r_pfI (f := 1) (p := 65) f36_62 rfl rfl rfl (by decide) (by decide) (Or.inl h5) rfl ?_
  refine r_aln2 (p := 66) f36_65 rfl ?_
  refine r_aln0 (p := 67) f36_66 rfl ?_
  refine r_gfR (f := 12) (p := 70) f36_67 rfl rfl rfl (Or.inl h1) (Eq.trans (sk_f (by decide)) (Eq.trans (sk_f (by decide)) ev4.symm)) ?_
  refine r_gfI (f := 2) (p := 73) f36_70 rfl rfl rfl (Or.inl h4) (Eq.trans (sk_f (by decide)) (sk_f (by decide))) ?_
  refine r_pfI (f := 2) (p := 76) f36_73 rfl rfl rfl (by decide) (by decide) (Or.inl h5) rfl ?_
  refine r_aln2 (p := 77) f36_76 rfl ?_
  refine r_iconst (p := 78) f36_77 rfl (pinD rfl rfl) ?_
  refine r_pfZ (f := 3) (p := 81) f36_78 rfl rfl rfl (by decide) (by decide) (Or.inl h5) rfl (by decide) ?_
  exact r_ret f36_81
/-! 37 PathStore.close (I)V -/
def w37_2 : List UInt8 := [177]
abbrev u37_2 : List UInt8 := w37_2 ++ []
def w37_1 : List UInt8 := [180, 0, 151, 153, 0, 7, 4, 167, 0, 4, 3, 184, 0, 148, 42, 180, 0, 81, 27, 50, 3, 181, 0, 151]
abbrev u37_1 : List UInt8 := w37_1 ++ u37_2
def w37_0 : List UInt8 := [27, 16, 8, 184, 0, 137, 184, 0, 141, 42, 180, 0, 144, 154, 0, 19, 42, 180, 0, 81, 27, 50]
abbrev u37_0 : List UInt8 := w37_0 ++ u37_1
theorem s37_0 : (prog_1_method_22_code).data.toList.drop 0 = u37_0 := by decide +kernel
theorem s37_1 : (prog_1_method_22_code).data.toList.drop 22 = u37_1 := dk_seg s37_0 22 rfl rfl
theorem s37_2 : (prog_1_method_22_code).data.toList.drop 46 = u37_2 := dk_seg s37_1 24 rfl rfl
theorem Fm37 {pc len : Nat} {i : Instr} (h : decode (prog_1_method_22_code) pc = .ok (i, len)) (hl : len = ilen i len) : ft 37 pc = some (1, 0, 0, i, len) := ft_mk rfl h hl
theorem f37_0 : ft 37 0 = some (1, 0, 0, .iload_n 1, 1) := Fm37 (dk_27 (dk_at s37_0 0 rfl rfl)) rfl
theorem f37_1 : ft 37 1 = some (1, 0, 0, .bipush 8, 2) := Fm37 (dk_16 8 (dk_at s37_0 1 rfl rfl)) rfl
theorem f37_3 : ft 37 3 = some (1, 0, 0, .invokestatic 137, 3) := Fm37 (dk_184 0 137 (dk_at s37_0 3 rfl rfl)) rfl
theorem f37_6 : ft 37 6 = some (1, 0, 0, .invokestatic 141, 3) := Fm37 (dk_184 0 141 (dk_at s37_0 6 rfl rfl)) rfl
theorem f37_9 : ft 37 9 = some (1, 0, 0, .aload_n 0, 1) := Fm37 (dk_42 (dk_at s37_0 9 rfl rfl)) rfl
theorem f37_10 : ft 37 10 = some (1, 0, 0, .getfield 144, 3) := Fm37 (dk_180 0 144 (dk_at s37_0 10 rfl rfl)) rfl
theorem f37_13 : ft 37 13 = some (1, 0, 0, .ifCond .ne 19, 3) := Fm37 (dk_154 0 19 (dk_at s37_0 13 rfl rfl)) rfl
theorem f37_16 : ft 37 16 = some (1, 0, 0, .aload_n 0, 1) := Fm37 (dk_42 (dk_at s37_0 16 rfl rfl)) rfl
theorem f37_17 : ft 37 17 = some (1, 0, 0, .getfield 81, 3) := Fm37 (dk_180 0 81 (dk_at s37_0 17 rfl rfl)) rfl
theorem f37_20 : ft 37 20 = some (1, 0, 0, .iload_n 1, 1) := Fm37 (dk_27 (dk_at s37_0 20 rfl rfl)) rfl
theorem f37_21 : ft 37 21 = some (1, 0, 0, .aaload, 1) := Fm37 (dk_50 (dk_at s37_0 21 rfl rfl)) rfl
theorem f37_22 : ft 37 22 = some (1, 0, 0, .getfield 151, 3) := Fm37 (dk_180 0 151 (dk_at s37_1 0 rfl rfl)) rfl
theorem f37_25 : ft 37 25 = some (1, 0, 0, .ifCond .eq 7, 3) := Fm37 (dk_153 0 7 (dk_at s37_1 3 rfl rfl)) rfl
theorem f37_28 : ft 37 28 = some (1, 0, 0, .iconst 1, 1) := Fm37 (dk_4 (dk_at s37_1 6 rfl rfl)) rfl
theorem f37_29 : ft 37 29 = some (1, 0, 0, .goto 4, 3) := Fm37 (dk_167 0 4 (dk_at s37_1 7 rfl rfl)) rfl
theorem f37_32 : ft 37 32 = some (1, 0, 0, .iconst 0, 1) := Fm37 (dk_3 (dk_at s37_1 10 rfl rfl)) rfl
theorem f37_33 : ft 37 33 = some (1, 0, 0, .invokestatic 148, 3) := Fm37 (dk_184 0 148 (dk_at s37_1 11 rfl rfl)) rfl
theorem f37_36 : ft 37 36 = some (1, 0, 0, .aload_n 0, 1) := Fm37 (dk_42 (dk_at s37_1 14 rfl rfl)) rfl
theorem f37_37 : ft 37 37 = some (1, 0, 0, .getfield 81, 3) := Fm37 (dk_180 0 81 (dk_at s37_1 15 rfl rfl)) rfl
theorem f37_40 : ft 37 40 = some (1, 0, 0, .iload_n 1, 1) := Fm37 (dk_27 (dk_at s37_1 18 rfl rfl)) rfl
theorem f37_41 : ft 37 41 = some (1, 0, 0, .aaload, 1) := Fm37 (dk_50 (dk_at s37_1 19 rfl rfl)) rfl
theorem f37_42 : ft 37 42 = some (1, 0, 0, .iconst 0, 1) := Fm37 (dk_3 (dk_at s37_1 20 rfl rfl)) rfl
theorem f37_43 : ft 37 43 = some (1, 0, 0, .putfield 151, 3) := Fm37 (dk_181 0 151 (dk_at s37_1 21 rfl rfl)) rfl
theorem f37_46 : ft 37 46 = some (1, 0, 0, .return_, 1) := Fm37 (dk_177 (dk_at s37_2 0 rfl rfl)) rfl
theorem q37 {d : Nat} {m : Mem} {a0 a1 : Int} (hd : 0 < d) (hz : TZ m) : le2 (bI (cl (d - 1) 22 [pI a1, pI 8] m) fun v1 m1 => bV (cl (d - 1) 23 [pI v1] m1) fun m2 => gd (tg m2 a0 = 1) <| if (vl m2 a0 17) = 0 then (nm (vl m2 a0 13) fun v4 => gd (tg m2 v4 = 17115) <| gd ((0 : Int) ≤ a1 ∧ a1 < ln m2 v4) <| nm (vl m2 v4 a1) fun v5 => gd (tg m2 v5 = 10) <| if (vl m2 v5 3) = 0 then (rn d 37 32 [pR a0, pI a1] [] m2) else bV (cl (d - 1) 26 [pI 1] m2) fun m3 => nm (vl m3 a0 13) fun v6 => gd (tg m3 v6 = 17115) <| gd ((0 : Int) ≤ a1 ∧ a1 < ln m3 v6) <| nm (vl m3 v6 a1) fun v7 => gd (tg m3 v7 = 10) <| some (.inl none, (mst m3 v7 3 0))) else rn d 37 32 [pR a0, pI a1] [] m2) (cl d 37 [pR a0, pI a1] m) := by
  refine q_in (n := 2) (L := [pR a0, pI a1]) rfl rfl rfl ?_
  refine r_iln1 (p := 1) f37_0 rfl ?_
  refine r_bipush (p := 3) f37_1 rfl (pinD rfl rfl) ?_
  refine r_istI (p := 6) f37_3 rfl rfl rfl hd (Nat.le_of_ble_eq_true rfl) rfl rfl rfl (fun _ => rfl) (fun v1 m1 c1 => ?_)
  have hz1 := z_k c1 hz
  refine r_istV (p := 9) f37_6 rfl rfl rfl hd (Nat.le_of_ble_eq_true rfl) rfl rfl rfl (fun _ => rfl) (fun m2 c2 => ?_)
  have hz2 := z_k c2 hz1
  refine r_aln0 (p := 10) f37_9 rfl ?_
  refine le2_gd (fun h1 => ?_)
  refine r_gfIZ (f := 17) (p := 13) f37_10 rfl rfl rfl (Or.inl h1) rfl ?_
  refine r_ifne (t := 32) (p := 16) f37_13 (by decide) rfl rfl ?_ ?_
  · refine r_aln0 (p := 17) f37_16 rfl ?_
    refine r_gfR (f := 13) (p := 20) f37_17 rfl rfl rfl (Or.inl h1) rfl ?_
    refine r_nmR (fun v4 ev4 => ?_)
    refine r_iln1 (p := 21) f37_20 rfl ?_
    refine le2_gd (fun h2 => ?_)
    refine le2_gd (fun h3 => ?_)
    refine r_aaload (p := 22) f37_21 rfl (dj1 (fun x => 110 < x % 1000 ∧ x % 1000 < 119) h2 (by decide)) h3 rfl ?_
    refine r_nmR (fun v5 ev5 => ?_)
    refine le2_gd (fun h4 => ?_)
    refine r_gfIZ (f := 3) (p := 25) f37_22 rfl rfl rfl (Or.inl h4) rfl ?_
    refine r_ifeq (t := 32) (p := 28) f37_25 (by decide) rfl rfl ?_ ?_
    · exact le2_refl _
    · refine r_iconst (p := 29) f37_28 rfl (pinD rfl rfl) ?_
      refine r_goto (p := 33) f37_29 (by decide) rfl ?_
      refine r_istV (p := 36) f37_33 rfl rfl rfl hd (Nat.le_of_ble_eq_true rfl) rfl rfl rfl (fun _ => rfl) (fun m3 c3 => ?_)
      have hz3 := z_k c3 hz2
      refine r_aln0 (p := 37) f37_36 rfl ?_
      have h5 := k_t1 c3 hz2 h1 (by decide)
      refine r_gfR (f := 13) (p := 40) f37_37 rfl rfl rfl (Or.inl h5) rfl ?_
      refine r_nmR (fun v6 ev6 => ?_)
      refine r_iln1 (p := 41) f37_40 rfl ?_
      refine le2_gd (fun h6 => ?_)
      refine le2_gd (fun h7 => ?_)
      refine r_aaload (p := 42) f37_41 rfl (dj1 (fun x => 110 < x % 1000 ∧ x % 1000 < 119) h6 (by decide)) h7 rfl ?_
      refine r_nmR (fun v7 ev7 => ?_)
      refine r_iconst (p := 43) f37_42 rfl (pinD rfl rfl) ?_
      refine le2_gd (fun h8 => ?_)
      refine r_pfZ (f := 3) (p := 46) f37_43 rfl rfl rfl (by decide) (by decide) (Or.inl h8) rfl (by decide) ?_
      exact r_ret f37_46
  · exact le2_refl _
theorem q37_32 {d : Nat} {m : Mem} {a0 a1 : Int} (hd : 0 < d) (hz : TZ m) : le2 (bV (cl (d - 1) 26 [pI 0] m) fun m1 => gd (tg m1 a0 = 1) <| nm (vl m1 a0 13) fun v2 => gd (tg m1 v2 = 17115) <| gd ((0 : Int) ≤ a1 ∧ a1 < ln m1 v2) <| nm (vl m1 v2 a1) fun v3 => gd (tg m1 v3 = 10) <| some (.inl none, (mst m1 v3 3 0))) (rn d 37 32 [pR a0, pI a1] [] m) := by
  refine r_iconst (p := 33) f37_32 rfl (pinD rfl rfl) ?_
  refine r_istV (p := 36) f37_33 rfl rfl rfl hd (Nat.le_of_ble_eq_true rfl) rfl rfl rfl (fun _ => rfl) (fun m1 c1 => ?_)
  have hz1 := z_k c1 hz
  refine r_aln0 (p := 37) f37_36 rfl ?_
  refine le2_gd (fun h1 => ?_)
  refine r_gfR (f := 13) (p := 40) f37_37 rfl rfl rfl (Or.inl h1) rfl ?_
  refine r_nmR (fun v2 ev2 => ?_)
  refine r_iln1 (p := 41) f37_40 rfl ?_
  refine le2_gd (fun h2 => ?_)
  refine le2_gd (fun h3 => ?_)
  refine r_aaload (p := 42) f37_41 rfl (dj1 (fun x => 110 < x % 1000 ∧ x % 1000 < 119) h2 (by decide)) h3 rfl ?_
  refine r_nmR (fun v3 ev3 => ?_)
  refine r_iconst (p := 43) f37_42 rfl (pinD rfl rfl) ?_
  refine le2_gd (fun h4 => ?_)
  refine r_pfZ (f := 3) (p := 46) f37_43 rfl rfl rfl (by decide) (by decide) (Or.inl h4) rfl (by decide) ?_
  exact r_ret f37_46
/-! 38 PathStore.query (I)I -/
def w38_10 : List UInt8 := [132, 6, 1, 167, 255, 81, 42, 182, 1, 32, 21, 5, 172]
abbrev u38_10 : List UInt8 := w38_10 ++ []
def w38_9 : List UInt8 := [42, 180, 0, 23, 16, 10, 182, 1, 23, 132, 8, 1, 167, 255, 157, 21, 5, 21, 7, 96, 54, 5]
abbrev u38_9 : List UInt8 := w38_9 ++ u38_10
def w38_8 : List UInt8 := [182, 1, 23, 42, 180, 0, 23, 42, 180, 0, 71, 42, 180, 0, 46, 180, 1, 25, 21, 8, 46, 182, 0, 192]
abbrev u38_8 : List UInt8 := w38_8 ++ u38_9
def w38_7 : List UInt8 := [42, 180, 0, 23, 42, 180, 0, 46, 180, 1, 25, 21, 8, 46, 182, 1, 28, 42, 180, 0, 23, 16, 32]
abbrev u38_7 : List UInt8 := w38_7 ++ u38_8
def w38_6 : List UInt8 := [42, 180, 0, 98, 21, 6, 46, 133, 182, 1, 19, 42, 180, 0, 23, 16, 32, 182, 1, 23, 42, 180, 0, 46]
abbrev u38_6 : List UInt8 := w38_6 ++ u38_7
def w38_5 : List UInt8 := [180, 1, 18, 21, 7, 100, 54, 8, 21, 8, 42, 180, 0, 46, 180, 1, 18, 162, 0, 93, 42, 180, 0, 23]
abbrev u38_5 : List UInt8 := w38_5 ++ u38_6
def w38_4 : List UInt8 := [180, 0, 71, 3, 182, 1, 12, 42, 180, 0, 46, 25, 4, 3, 182, 1, 15, 54, 7, 42, 180, 0, 46]
abbrev u38_4 : List UInt8 := w38_4 ++ u38_5
def w38_3 : List UInt8 := [180, 0, 60, 42, 180, 0, 102, 21, 6, 46, 42, 180, 0, 71, 182, 0, 218, 42, 180, 0, 46, 42]
abbrev u38_3 : List UInt8 := w38_3 ++ u38_4
def w38_2 : List UInt8 := [180, 0, 169, 182, 1, 9, 3, 54, 5, 3, 54, 6, 21, 6, 42, 180, 0, 242, 162, 0, 172, 42]
abbrev u38_2 : List UInt8 := w38_2 ++ u38_3
def w38_1 : List UInt8 := [182, 1, 4, 58, 4, 42, 180, 0, 23, 3, 181, 0, 191, 42, 180, 0, 46, 3, 181, 1, 8, 42, 45]
abbrev u38_1 : List UInt8 := w38_1 ++ u38_2
def w38_0 : List UInt8 := [27, 4, 96, 16, 9, 184, 0, 137, 184, 0, 141, 42, 182, 0, 184, 61, 42, 27, 182, 0, 211, 78, 42, 28]
abbrev u38_0 : List UInt8 := w38_0 ++ u38_1
theorem s38_0 : (prog_1_method_26_code).data.toList.drop 0 = u38_0 := by decide +kernel
theorem s38_1 : (prog_1_method_26_code).data.toList.drop 24 = u38_1 := dk_seg s38_0 24 rfl rfl
theorem s38_2 : (prog_1_method_26_code).data.toList.drop 47 = u38_2 := dk_seg s38_1 23 rfl rfl
theorem s38_3 : (prog_1_method_26_code).data.toList.drop 69 = u38_3 := dk_seg s38_2 22 rfl rfl
theorem s38_4 : (prog_1_method_26_code).data.toList.drop 91 = u38_4 := dk_seg s38_3 22 rfl rfl
theorem s38_5 : (prog_1_method_26_code).data.toList.drop 114 = u38_5 := dk_seg s38_4 23 rfl rfl
theorem s38_6 : (prog_1_method_26_code).data.toList.drop 138 = u38_6 := dk_seg s38_5 24 rfl rfl
theorem s38_7 : (prog_1_method_26_code).data.toList.drop 162 = u38_7 := dk_seg s38_6 24 rfl rfl
theorem s38_8 : (prog_1_method_26_code).data.toList.drop 185 = u38_8 := dk_seg s38_7 23 rfl rfl
theorem s38_9 : (prog_1_method_26_code).data.toList.drop 209 = u38_9 := dk_seg s38_8 24 rfl rfl
theorem s38_10 : (prog_1_method_26_code).data.toList.drop 231 = u38_10 := dk_seg s38_9 22 rfl rfl
theorem Fm38 {pc len : Nat} {i : Instr} (h : decode (prog_1_method_26_code) pc = .ok (i, len)) (hl : len = ilen i len) : ft 38 pc = some (1, 1, 0, i, len) := ft_mk rfl h hl
theorem f38_0 : ft 38 0 = some (1, 1, 0, .iload_n 1, 1) := Fm38 (dk_27 (dk_at s38_0 0 rfl rfl)) rfl
theorem f38_1 : ft 38 1 = some (1, 1, 0, .iconst 1, 1) := Fm38 (dk_4 (dk_at s38_0 1 rfl rfl)) rfl
theorem f38_2 : ft 38 2 = some (1, 1, 0, .iadd, 1) := Fm38 (dk_96 (dk_at s38_0 2 rfl rfl)) rfl
theorem f38_3 : ft 38 3 = some (1, 1, 0, .bipush 9, 2) := Fm38 (dk_16 9 (dk_at s38_0 3 rfl rfl)) rfl
theorem f38_5 : ft 38 5 = some (1, 1, 0, .invokestatic 137, 3) := Fm38 (dk_184 0 137 (dk_at s38_0 5 rfl rfl)) rfl
theorem f38_8 : ft 38 8 = some (1, 1, 0, .invokestatic 141, 3) := Fm38 (dk_184 0 141 (dk_at s38_0 8 rfl rfl)) rfl
theorem f38_11 : ft 38 11 = some (1, 1, 0, .aload_n 0, 1) := Fm38 (dk_42 (dk_at s38_0 11 rfl rfl)) rfl
theorem f38_12 : ft 38 12 = some (1, 1, 0, .invokevirtual 184, 3) := Fm38 (dk_182 0 184 (dk_at s38_0 12 rfl rfl)) rfl
theorem f38_15 : ft 38 15 = some (1, 1, 0, .istore_n 2, 1) := Fm38 (dk_61 (dk_at s38_0 15 rfl rfl)) rfl
theorem f38_16 : ft 38 16 = some (1, 1, 0, .aload_n 0, 1) := Fm38 (dk_42 (dk_at s38_0 16 rfl rfl)) rfl
theorem f38_17 : ft 38 17 = some (1, 1, 0, .iload_n 1, 1) := Fm38 (dk_27 (dk_at s38_0 17 rfl rfl)) rfl
theorem f38_18 : ft 38 18 = some (1, 1, 0, .invokevirtual 211, 3) := Fm38 (dk_182 0 211 (dk_at s38_0 18 rfl rfl)) rfl
theorem f38_21 : ft 38 21 = some (1, 1, 0, .astore_n 3, 1) := Fm38 (dk_78 (dk_at s38_0 21 rfl rfl)) rfl
theorem f38_22 : ft 38 22 = some (1, 1, 0, .aload_n 0, 1) := Fm38 (dk_42 (dk_at s38_0 22 rfl rfl)) rfl
theorem f38_23 : ft 38 23 = some (1, 1, 0, .iload_n 2, 1) := Fm38 (dk_28 (dk_at s38_0 23 rfl rfl)) rfl
theorem f38_24 : ft 38 24 = some (1, 1, 0, .invokevirtual 260, 3) := Fm38 (dk_182 1 4 (dk_at s38_1 0 rfl rfl)) rfl
theorem f38_27 : ft 38 27 = some (1, 1, 0, .astore 4, 2) := Fm38 (dk_58 4 (dk_at s38_1 3 rfl rfl)) rfl
theorem f38_29 : ft 38 29 = some (1, 1, 0, .aload_n 0, 1) := Fm38 (dk_42 (dk_at s38_1 5 rfl rfl)) rfl
theorem f38_30 : ft 38 30 = some (1, 1, 0, .getfield 23, 3) := Fm38 (dk_180 0 23 (dk_at s38_1 6 rfl rfl)) rfl
theorem f38_33 : ft 38 33 = some (1, 1, 0, .iconst 0, 1) := Fm38 (dk_3 (dk_at s38_1 9 rfl rfl)) rfl
theorem f38_34 : ft 38 34 = some (1, 1, 0, .putfield 191, 3) := Fm38 (dk_181 0 191 (dk_at s38_1 10 rfl rfl)) rfl
theorem f38_37 : ft 38 37 = some (1, 1, 0, .aload_n 0, 1) := Fm38 (dk_42 (dk_at s38_1 13 rfl rfl)) rfl
theorem f38_38 : ft 38 38 = some (1, 1, 0, .getfield 46, 3) := Fm38 (dk_180 0 46 (dk_at s38_1 14 rfl rfl)) rfl
theorem f38_41 : ft 38 41 = some (1, 1, 0, .iconst 0, 1) := Fm38 (dk_3 (dk_at s38_1 17 rfl rfl)) rfl
theorem f38_42 : ft 38 42 = some (1, 1, 0, .putfield 264, 3) := Fm38 (dk_181 1 8 (dk_at s38_1 18 rfl rfl)) rfl
theorem f38_45 : ft 38 45 = some (1, 1, 0, .aload_n 0, 1) := Fm38 (dk_42 (dk_at s38_1 21 rfl rfl)) rfl
theorem f38_46 : ft 38 46 = some (1, 1, 0, .aload_n 3, 1) := Fm38 (dk_45 (dk_at s38_1 22 rfl rfl)) rfl
theorem f38_47 : ft 38 47 = some (1, 1, 0, .getfield 169, 3) := Fm38 (dk_180 0 169 (dk_at s38_2 0 rfl rfl)) rfl
theorem f38_50 : ft 38 50 = some (1, 1, 0, .invokevirtual 265, 3) := Fm38 (dk_182 1 9 (dk_at s38_2 3 rfl rfl)) rfl
theorem f38_53 : ft 38 53 = some (1, 1, 0, .iconst 0, 1) := Fm38 (dk_3 (dk_at s38_2 6 rfl rfl)) rfl
theorem f38_54 : ft 38 54 = some (1, 1, 0, .istore 5, 2) := Fm38 (dk_54 5 (dk_at s38_2 7 rfl rfl)) rfl
theorem f38_56 : ft 38 56 = some (1, 1, 0, .iconst 0, 1) := Fm38 (dk_3 (dk_at s38_2 9 rfl rfl)) rfl
theorem f38_57 : ft 38 57 = some (1, 1, 0, .istore 6, 2) := Fm38 (dk_54 6 (dk_at s38_2 10 rfl rfl)) rfl
theorem f38_59 : ft 38 59 = some (1, 1, 0, .iload 6, 2) := Fm38 (dk_21 6 (dk_at s38_2 12 rfl rfl)) rfl
theorem f38_61 : ft 38 61 = some (1, 1, 0, .aload_n 0, 1) := Fm38 (dk_42 (dk_at s38_2 14 rfl rfl)) rfl
theorem f38_62 : ft 38 62 = some (1, 1, 0, .getfield 242, 3) := Fm38 (dk_180 0 242 (dk_at s38_2 15 rfl rfl)) rfl
theorem f38_65 : ft 38 65 = some (1, 1, 0, .if_icmp .ge 172, 3) := Fm38 (dk_162 0 172 (dk_at s38_2 18 rfl rfl)) rfl
theorem f38_68 : ft 38 68 = some (1, 1, 0, .aload_n 0, 1) := Fm38 (dk_42 (dk_at s38_2 21 rfl rfl)) rfl
theorem f38_69 : ft 38 69 = some (1, 1, 0, .getfield 60, 3) := Fm38 (dk_180 0 60 (dk_at s38_3 0 rfl rfl)) rfl
theorem f38_72 : ft 38 72 = some (1, 1, 0, .aload_n 0, 1) := Fm38 (dk_42 (dk_at s38_3 3 rfl rfl)) rfl
theorem f38_73 : ft 38 73 = some (1, 1, 0, .getfield 102, 3) := Fm38 (dk_180 0 102 (dk_at s38_3 4 rfl rfl)) rfl
theorem f38_76 : ft 38 76 = some (1, 1, 0, .iload 6, 2) := Fm38 (dk_21 6 (dk_at s38_3 7 rfl rfl)) rfl
theorem f38_78 : ft 38 78 = some (1, 1, 0, .iaload, 1) := Fm38 (dk_46 (dk_at s38_3 9 rfl rfl)) rfl
theorem f38_79 : ft 38 79 = some (1, 1, 0, .aload_n 0, 1) := Fm38 (dk_42 (dk_at s38_3 10 rfl rfl)) rfl
theorem f38_80 : ft 38 80 = some (1, 1, 0, .getfield 71, 3) := Fm38 (dk_180 0 71 (dk_at s38_3 11 rfl rfl)) rfl
theorem f38_83 : ft 38 83 = some (1, 1, 0, .invokevirtual 218, 3) := Fm38 (dk_182 0 218 (dk_at s38_3 14 rfl rfl)) rfl
theorem f38_86 : ft 38 86 = some (1, 1, 0, .aload_n 0, 1) := Fm38 (dk_42 (dk_at s38_3 17 rfl rfl)) rfl
theorem f38_87 : ft 38 87 = some (1, 1, 0, .getfield 46, 3) := Fm38 (dk_180 0 46 (dk_at s38_3 18 rfl rfl)) rfl
theorem f38_90 : ft 38 90 = some (1, 1, 0, .aload_n 0, 1) := Fm38 (dk_42 (dk_at s38_3 21 rfl rfl)) rfl
theorem f38_91 : ft 38 91 = some (1, 1, 0, .getfield 71, 3) := Fm38 (dk_180 0 71 (dk_at s38_4 0 rfl rfl)) rfl
theorem f38_94 : ft 38 94 = some (1, 1, 0, .iconst 0, 1) := Fm38 (dk_3 (dk_at s38_4 3 rfl rfl)) rfl
theorem f38_95 : ft 38 95 = some (1, 1, 0, .invokevirtual 268, 3) := Fm38 (dk_182 1 12 (dk_at s38_4 4 rfl rfl)) rfl
theorem f38_98 : ft 38 98 = some (1, 1, 0, .aload_n 0, 1) := Fm38 (dk_42 (dk_at s38_4 7 rfl rfl)) rfl
theorem f38_99 : ft 38 99 = some (1, 1, 0, .getfield 46, 3) := Fm38 (dk_180 0 46 (dk_at s38_4 8 rfl rfl)) rfl
theorem f38_102 : ft 38 102 = some (1, 1, 0, .aload 4, 2) := Fm38 (dk_25 4 (dk_at s38_4 11 rfl rfl)) rfl
theorem f38_104 : ft 38 104 = some (1, 1, 0, .iconst 0, 1) := Fm38 (dk_3 (dk_at s38_4 13 rfl rfl)) rfl
theorem f38_105 : ft 38 105 = some (1, 1, 0, .invokevirtual 271, 3) := Fm38 (dk_182 1 15 (dk_at s38_4 14 rfl rfl)) rfl
theorem f38_108 : ft 38 108 = some (1, 1, 0, .istore 7, 2) := Fm38 (dk_54 7 (dk_at s38_4 17 rfl rfl)) rfl
theorem f38_110 : ft 38 110 = some (1, 1, 0, .aload_n 0, 1) := Fm38 (dk_42 (dk_at s38_4 19 rfl rfl)) rfl
theorem f38_111 : ft 38 111 = some (1, 1, 0, .getfield 46, 3) := Fm38 (dk_180 0 46 (dk_at s38_4 20 rfl rfl)) rfl
theorem f38_114 : ft 38 114 = some (1, 1, 0, .getfield 274, 3) := Fm38 (dk_180 1 18 (dk_at s38_5 0 rfl rfl)) rfl
theorem f38_117 : ft 38 117 = some (1, 1, 0, .iload 7, 2) := Fm38 (dk_21 7 (dk_at s38_5 3 rfl rfl)) rfl
theorem f38_119 : ft 38 119 = some (1, 1, 0, .isub, 1) := Fm38 (dk_100 (dk_at s38_5 5 rfl rfl)) rfl
theorem f38_120 : ft 38 120 = some (1, 1, 0, .istore 8, 2) := Fm38 (dk_54 8 (dk_at s38_5 6 rfl rfl)) rfl
theorem f38_122 : ft 38 122 = some (1, 1, 0, .iload 8, 2) := Fm38 (dk_21 8 (dk_at s38_5 8 rfl rfl)) rfl
theorem f38_124 : ft 38 124 = some (1, 1, 0, .aload_n 0, 1) := Fm38 (dk_42 (dk_at s38_5 10 rfl rfl)) rfl
theorem f38_125 : ft 38 125 = some (1, 1, 0, .getfield 46, 3) := Fm38 (dk_180 0 46 (dk_at s38_5 11 rfl rfl)) rfl
theorem f38_128 : ft 38 128 = some (1, 1, 0, .getfield 274, 3) := Fm38 (dk_180 1 18 (dk_at s38_5 14 rfl rfl)) rfl
theorem f38_131 : ft 38 131 = some (1, 1, 0, .if_icmp .ge 93, 3) := Fm38 (dk_162 0 93 (dk_at s38_5 17 rfl rfl)) rfl
theorem f38_134 : ft 38 134 = some (1, 1, 0, .aload_n 0, 1) := Fm38 (dk_42 (dk_at s38_5 20 rfl rfl)) rfl
theorem f38_135 : ft 38 135 = some (1, 1, 0, .getfield 23, 3) := Fm38 (dk_180 0 23 (dk_at s38_5 21 rfl rfl)) rfl
theorem f38_138 : ft 38 138 = some (1, 1, 0, .aload_n 0, 1) := Fm38 (dk_42 (dk_at s38_6 0 rfl rfl)) rfl
theorem f38_139 : ft 38 139 = some (1, 1, 0, .getfield 98, 3) := Fm38 (dk_180 0 98 (dk_at s38_6 1 rfl rfl)) rfl
theorem f38_142 : ft 38 142 = some (1, 1, 0, .iload 6, 2) := Fm38 (dk_21 6 (dk_at s38_6 4 rfl rfl)) rfl
theorem f38_144 : ft 38 144 = some (1, 1, 0, .iaload, 1) := Fm38 (dk_46 (dk_at s38_6 6 rfl rfl)) rfl
theorem f38_145 : ft 38 145 = some (1, 1, 0, .i2l, 1) := Fm38 (dk_133 (dk_at s38_6 7 rfl rfl)) rfl
theorem f38_146 : ft 38 146 = some (1, 1, 0, .invokevirtual 275, 3) := Fm38 (dk_182 1 19 (dk_at s38_6 8 rfl rfl)) rfl
theorem f38_149 : ft 38 149 = some (1, 1, 0, .aload_n 0, 1) := Fm38 (dk_42 (dk_at s38_6 11 rfl rfl)) rfl
theorem f38_150 : ft 38 150 = some (1, 1, 0, .getfield 23, 3) := Fm38 (dk_180 0 23 (dk_at s38_6 12 rfl rfl)) rfl
theorem f38_153 : ft 38 153 = some (1, 1, 0, .bipush 32, 2) := Fm38 (dk_16 32 (dk_at s38_6 15 rfl rfl)) rfl
theorem f38_155 : ft 38 155 = some (1, 1, 0, .invokevirtual 279, 3) := Fm38 (dk_182 1 23 (dk_at s38_6 17 rfl rfl)) rfl
theorem f38_158 : ft 38 158 = some (1, 1, 0, .aload_n 0, 1) := Fm38 (dk_42 (dk_at s38_6 20 rfl rfl)) rfl
theorem f38_159 : ft 38 159 = some (1, 1, 0, .getfield 46, 3) := Fm38 (dk_180 0 46 (dk_at s38_6 21 rfl rfl)) rfl
theorem f38_162 : ft 38 162 = some (1, 1, 0, .aload_n 0, 1) := Fm38 (dk_42 (dk_at s38_7 0 rfl rfl)) rfl
theorem f38_163 : ft 38 163 = some (1, 1, 0, .getfield 23, 3) := Fm38 (dk_180 0 23 (dk_at s38_7 1 rfl rfl)) rfl
theorem f38_166 : ft 38 166 = some (1, 1, 0, .aload_n 0, 1) := Fm38 (dk_42 (dk_at s38_7 4 rfl rfl)) rfl
theorem f38_167 : ft 38 167 = some (1, 1, 0, .getfield 46, 3) := Fm38 (dk_180 0 46 (dk_at s38_7 5 rfl rfl)) rfl
theorem f38_170 : ft 38 170 = some (1, 1, 0, .getfield 281, 3) := Fm38 (dk_180 1 25 (dk_at s38_7 8 rfl rfl)) rfl
theorem f38_173 : ft 38 173 = some (1, 1, 0, .iload 8, 2) := Fm38 (dk_21 8 (dk_at s38_7 11 rfl rfl)) rfl
theorem f38_175 : ft 38 175 = some (1, 1, 0, .iaload, 1) := Fm38 (dk_46 (dk_at s38_7 13 rfl rfl)) rfl
theorem f38_176 : ft 38 176 = some (1, 1, 0, .invokevirtual 284, 3) := Fm38 (dk_182 1 28 (dk_at s38_7 14 rfl rfl)) rfl
theorem f38_179 : ft 38 179 = some (1, 1, 0, .aload_n 0, 1) := Fm38 (dk_42 (dk_at s38_7 17 rfl rfl)) rfl
theorem f38_180 : ft 38 180 = some (1, 1, 0, .getfield 23, 3) := Fm38 (dk_180 0 23 (dk_at s38_7 18 rfl rfl)) rfl
theorem f38_183 : ft 38 183 = some (1, 1, 0, .bipush 32, 2) := Fm38 (dk_16 32 (dk_at s38_7 21 rfl rfl)) rfl
theorem f38_185 : ft 38 185 = some (1, 1, 0, .invokevirtual 279, 3) := Fm38 (dk_182 1 23 (dk_at s38_8 0 rfl rfl)) rfl
theorem f38_188 : ft 38 188 = some (1, 1, 0, .aload_n 0, 1) := Fm38 (dk_42 (dk_at s38_8 3 rfl rfl)) rfl
theorem f38_189 : ft 38 189 = some (1, 1, 0, .getfield 23, 3) := Fm38 (dk_180 0 23 (dk_at s38_8 4 rfl rfl)) rfl
theorem f38_192 : ft 38 192 = some (1, 1, 0, .aload_n 0, 1) := Fm38 (dk_42 (dk_at s38_8 7 rfl rfl)) rfl
theorem f38_193 : ft 38 193 = some (1, 1, 0, .getfield 71, 3) := Fm38 (dk_180 0 71 (dk_at s38_8 8 rfl rfl)) rfl
theorem f38_196 : ft 38 196 = some (1, 1, 0, .aload_n 0, 1) := Fm38 (dk_42 (dk_at s38_8 11 rfl rfl)) rfl
theorem f38_197 : ft 38 197 = some (1, 1, 0, .getfield 46, 3) := Fm38 (dk_180 0 46 (dk_at s38_8 12 rfl rfl)) rfl
theorem f38_200 : ft 38 200 = some (1, 1, 0, .getfield 281, 3) := Fm38 (dk_180 1 25 (dk_at s38_8 15 rfl rfl)) rfl
theorem f38_203 : ft 38 203 = some (1, 1, 0, .iload 8, 2) := Fm38 (dk_21 8 (dk_at s38_8 18 rfl rfl)) rfl
theorem f38_205 : ft 38 205 = some (1, 1, 0, .iaload, 1) := Fm38 (dk_46 (dk_at s38_8 20 rfl rfl)) rfl
theorem f38_206 : ft 38 206 = some (1, 1, 0, .invokevirtual 192, 3) := Fm38 (dk_182 0 192 (dk_at s38_8 21 rfl rfl)) rfl
theorem f38_209 : ft 38 209 = some (1, 1, 0, .aload_n 0, 1) := Fm38 (dk_42 (dk_at s38_9 0 rfl rfl)) rfl
theorem f38_210 : ft 38 210 = some (1, 1, 0, .getfield 23, 3) := Fm38 (dk_180 0 23 (dk_at s38_9 1 rfl rfl)) rfl
theorem f38_213 : ft 38 213 = some (1, 1, 0, .bipush 10, 2) := Fm38 (dk_16 10 (dk_at s38_9 4 rfl rfl)) rfl
theorem f38_215 : ft 38 215 = some (1, 1, 0, .invokevirtual 279, 3) := Fm38 (dk_182 1 23 (dk_at s38_9 6 rfl rfl)) rfl
theorem f38_218 : ft 38 218 = some (1, 1, 0, .iinc 8 1, 3) := Fm38 (dk_132 8 1 (dk_at s38_9 9 rfl rfl)) rfl
theorem f38_221 : ft 38 221 = some (1, 1, 0, .goto (-99), 3) := Fm38 (dk_167 255 157 (dk_at s38_9 12 rfl rfl)) rfl
theorem f38_224 : ft 38 224 = some (1, 1, 0, .iload 5, 2) := Fm38 (dk_21 5 (dk_at s38_9 15 rfl rfl)) rfl
theorem f38_226 : ft 38 226 = some (1, 1, 0, .iload 7, 2) := Fm38 (dk_21 7 (dk_at s38_9 17 rfl rfl)) rfl
theorem f38_228 : ft 38 228 = some (1, 1, 0, .iadd, 1) := Fm38 (dk_96 (dk_at s38_9 19 rfl rfl)) rfl
theorem f38_229 : ft 38 229 = some (1, 1, 0, .istore 5, 2) := Fm38 (dk_54 5 (dk_at s38_9 20 rfl rfl)) rfl
theorem f38_231 : ft 38 231 = some (1, 1, 0, .iinc 6 1, 3) := Fm38 (dk_132 6 1 (dk_at s38_10 0 rfl rfl)) rfl
theorem f38_234 : ft 38 234 = some (1, 1, 0, .goto (-175), 3) := Fm38 (dk_167 255 81 (dk_at s38_10 3 rfl rfl)) rfl
theorem f38_237 : ft 38 237 = some (1, 1, 0, .aload_n 0, 1) := Fm38 (dk_42 (dk_at s38_10 6 rfl rfl)) rfl
theorem f38_238 : ft 38 238 = some (1, 1, 0, .invokevirtual 288, 3) := Fm38 (dk_182 1 32 (dk_at s38_10 7 rfl rfl)) rfl
theorem f38_241 : ft 38 241 = some (1, 1, 0, .iload 5, 2) := Fm38 (dk_21 5 (dk_at s38_10 10 rfl rfl)) rfl
theorem f38_243 : ft 38 243 = some (1, 1, 0, .ireturn, 1) := Fm38 (dk_172 (dk_at s38_10 12 rfl rfl)) rfl
theorem q38 {d : Nat} {m : Mem} {a0 a1 : Int} (hd : 0 < d) (hz : TZ m) : le2 (bI (cl (d - 1) 22 [pI (w32 (a1 + 1)), pI 9] m) fun v1 m1 => bV (cl (d - 1) 23 [pI v1] m1) fun m2 => gd (tg m2 a0 = 1) <| bI (cl (d - 1) 25 [pR a0] m2) fun v3 m3 => bR (cl (d - 1) 31 [pR a0, pI a1] m3) fun v4 m4 => bR (cl (d - 1) 39 [pR a0, pI v3] m4) fun v5 m5 => nm (vl m5 a0 3) fun v7 => gd (tg m5 v7 = 2) <| nm (vl m5 a0 7) fun v8 => gd (tg m5 v8 = 6) <| gd (tg m5 v4 = 10) <| bV (cl (d - 1) 40 [pR a0, pI (vl m5 v4 0)] (mst (mst m5 v7 1 0) v8 4 0)) fun m6 => rn d 38 59 [pR a0, pI a1, pI v3, pR v4, pR v5, pI 0, pI 0, pU, pU] [] m6) (cl d 38 [pR a0, pI a1] m) := by
  refine q_in (n := 9) (L := [pR a0, pI a1, pU, pU, pU, pU, pU, pU, pU]) rfl rfl rfl ?_
  refine r_iln1 (p := 1) f38_0 rfl ?_
  refine r_iconst (p := 2) f38_1 rfl (pinD rfl rfl) ?_
  refine r_iadd (p := 3) f38_2 rfl ?_
  refine r_bipush (p := 5) f38_3 rfl (pinD rfl rfl) ?_
  refine r_istI (p := 8) f38_5 rfl rfl rfl hd (Nat.le_of_ble_eq_true rfl) rfl rfl rfl (fun _ => rfl) (fun v1 m1 c1 => ?_)
  have hz1 := z_k c1 hz
  refine r_istV (p := 11) f38_8 rfl rfl rfl hd (Nat.le_of_ble_eq_true rfl) rfl rfl rfl (fun _ => rfl) (fun m2 c2 => ?_)
  have hz2 := z_k c2 hz1
  refine r_aln0 (p := 12) f38_11 rfl ?_
  refine le2_gd (fun h1 => ?_)
  refine r_invI (p := 15) f38_12 rfl rfl rfl (Or.inl h1) hd (Nat.le_of_ble_eq_true rfl) rfl rfl rfl (fun _ => rfl) (fun v3 m3 c3 => ?_)
  have hz3 := z_k c3 hz2
  refine r_isn2 (p := 16) f38_15 rfl rfl ?_
  refine r_aln0 (p := 17) f38_16 rfl ?_
  refine r_iln1 (p := 18) f38_17 rfl ?_
  have h2 := k_t1 c3 hz2 h1 (by decide)
  refine r_invR (p := 21) f38_18 rfl rfl rfl (Or.inl h2) hd (Nat.le_of_ble_eq_true rfl) rfl rfl rfl (fun _ => rfl) (fun v4 m4 c4 => ?_)
  have hz4 := z_k c4 hz3
  refine r_asn3 (p := 22) f38_21 rfl rfl ?_
  refine r_aln0 (p := 23) f38_22 rfl ?_
  refine r_iln2 (p := 24) f38_23 rfl ?_
  have h3 := k_t1 c4 hz3 h2 (by decide)
  refine r_invR (p := 27) f38_24 rfl rfl rfl (Or.inl h3) hd (Nat.le_of_ble_eq_true rfl) rfl rfl rfl (fun _ => rfl) (fun v5 m5 c5 => ?_)
  have hz5 := z_k c5 hz4
  refine r_asw4 (p := 29) f38_27 rfl rfl ?_
  refine r_aln0 (p := 30) f38_29 rfl ?_
  have h4 := k_t1 c5 hz4 h3 (by decide)
  refine r_gfR (f := 3) (p := 33) f38_30 rfl rfl rfl (Or.inl h4) rfl ?_
  refine r_nmR (fun v7 ev7 => ?_)
  refine r_iconst (p := 34) f38_33 rfl (pinD rfl rfl) ?_
  refine le2_gd (fun h5 => ?_)
  refine r_pfI (f := 1) (p := 37) f38_34 rfl rfl rfl (by decide) (by decide) (Or.inl h5) rfl ?_
  refine r_aln0 (p := 38) f38_37 rfl ?_
  refine r_gfR (f := 7) (p := 41) f38_38 rfl rfl rfl (Or.inl h4) (sk_f (by decide)) ?_
  refine r_nmR (fun v8 ev8 => ?_)
  refine r_iconst (p := 42) f38_41 rfl (pinD rfl rfl) ?_
  refine le2_gd (fun h6 => ?_)
  refine r_pfI (f := 4) (p := 45) f38_42 rfl rfl rfl (by decide) (by decide) (Or.inl h6) rfl ?_
  refine r_aln0 (p := 46) f38_45 rfl ?_
  refine r_aln3 (p := 47) f38_46 rfl ?_
  refine le2_gd (fun h7 => ?_)
  refine r_gfI (f := 0) (p := 50) f38_47 rfl rfl rfl (Or.inl h7) (Eq.trans (sk_f (by decide)) (sk_f (by decide))) ?_
  refine r_invV (p := 53) f38_50 rfl rfl rfl (Or.inl h4) hd (Nat.le_of_ble_eq_true rfl) rfl rfl rfl (fun _ => rfl) (fun m6 c6 => ?_)
  have hz6 := z_k c6 hz5
  refine r_iconst (p := 54) f38_53 rfl (pinD rfl rfl) ?_
  refine r_isw5 (p := 56) f38_54 rfl rfl ?_
  refine r_iconst (p := 57) f38_56 rfl (pinD rfl rfl) ?_
  refine r_isw6 (p := 59) f38_57 rfl rfl ?_
  exact le2_refl _
theorem q38_59 {d : Nat} {m : Mem} {a0 a1 a2 a3 a4 a5 a6 : Int} {z7 z8 : PV} (hd : 0 < d) (hz : TZ m) (hcz7 : cat z7 = 1) (hcz8 : cat z8 = 1) : le2 (gd (tg m a0 = 1) <| if a6 < (vl m a0 22) then (nm (vl m a0 9) fun v5 => nm (vl m a0 21) fun v6 => gd (tg m v6 = 17101) <| gd ((0 : Int) ≤ a6 ∧ a6 < ln m v6) <| gd (tg m v5 = 9) <| bV (cl (d - 1) 178 [pR v5, pI (vl m v6 a6), pR (vl m a0 11)] m) fun m2 => nm (vl m2 a0 7) fun v7 => gd (tg m2 v7 = 6) <| bV (cl (d - 1) 104 [pR v7, pR (vl m2 a0 11), pI 0] m2) fun m3 => nm (vl m3 a0 7) fun v8 => gd (tg m3 v8 = 6) <| bI (cl (d - 1) 105 [pR v8, pR a4, pI 0] m3) fun v4 m4 => nm (vl m4 a0 7) fun v9 => gd (tg m4 v9 = 6) <| rn d 38 122 [pR a0, pI a1, pI a2, pR a3, pR a4, pI a5, pI a6, pI v4, pI (w32 ((vl m4 v9 3) - v4))] [] m4) else bV (cl (d - 1) 42 [pR a0] m) fun m1 => some (.inl (some (pI a5)), m1)) (rn d 38 59 [pR a0, pI a1, pI a2, pR a3, pR a4, pI a5, pI a6, z7, z8] [] m) := by
  refine r_ilw6 (p := 61) f38_59 rfl ?_
  refine r_aln0 (p := 62) f38_61 rfl ?_
  refine le2_gd (fun h1 => ?_)
  refine r_gfI (f := 22) (p := 65) f38_62 rfl rfl rfl (Or.inl h1) rfl ?_
  refine r_icge (t := 237) (p := 68) f38_65 (by decide) rfl rfl ?_ ?_
  · refine r_aln0 (p := 69) f38_68 rfl ?_
    refine r_gfR (f := 9) (p := 72) f38_69 rfl rfl rfl (Or.inl h1) rfl ?_
    refine r_nmR (fun v5 ev5 => ?_)
    refine r_aln0 (p := 73) f38_72 rfl ?_
    refine r_gfR (f := 21) (p := 76) f38_73 rfl rfl rfl (Or.inl h1) rfl ?_
    refine r_nmR (fun v6 ev6 => ?_)
    refine r_ilw6 (p := 78) f38_76 rfl ?_
    refine le2_gd (fun h2 => ?_)
    refine le2_gd (fun h3 => ?_)
    refine r_iaload (p := 79) f38_78 rfl (dj1 (fun x => x % 1000 = 101) h2 (by decide)) h3 rfl ?_
    refine r_aln0 (p := 80) f38_79 rfl ?_
    refine r_gfR (f := 11) (p := 83) f38_80 rfl rfl rfl (Or.inl h1) rfl ?_
    refine le2_gd (fun h4 => ?_)
    refine r_invV (p := 86) f38_83 rfl rfl rfl (Or.inl h4) hd (Nat.le_of_ble_eq_true rfl) rfl rfl rfl (fun _ => rfl) (fun m2 c2 => ?_)
    have hz2 := z_k c2 hz
    refine r_aln0 (p := 87) f38_86 rfl ?_
    have h5 := k_t1 c2 hz h1 (by decide)
    refine r_gfR (f := 7) (p := 90) f38_87 rfl rfl rfl (Or.inl h5) rfl ?_
    refine r_nmR (fun v7 ev7 => ?_)
    refine r_aln0 (p := 91) f38_90 rfl ?_
    refine r_gfR (f := 11) (p := 94) f38_91 rfl rfl rfl (Or.inl h5) rfl ?_
    refine r_iconst (p := 95) f38_94 rfl (pinD rfl rfl) ?_
    refine le2_gd (fun h6 => ?_)
    refine r_invV (p := 98) f38_95 rfl rfl rfl (Or.inl h6) hd (Nat.le_of_ble_eq_true rfl) rfl rfl rfl (fun _ => rfl) (fun m3 c3 => ?_)
    have hz3 := z_k c3 hz2
    refine r_aln0 (p := 99) f38_98 rfl ?_
    have h7 := k_t1 c3 hz2 h5 (by decide)
    refine r_gfR (f := 7) (p := 102) f38_99 rfl rfl rfl (Or.inl h7) rfl ?_
    refine r_nmR (fun v8 ev8 => ?_)
    refine r_alw4 (p := 104) f38_102 rfl ?_
    refine r_iconst (p := 105) f38_104 rfl (pinD rfl rfl) ?_
    refine le2_gd (fun h8 => ?_)
    refine r_invI (p := 108) f38_105 rfl rfl rfl (Or.inl h8) hd (Nat.le_of_ble_eq_true rfl) rfl rfl rfl (fun _ => rfl) (fun v4 m4 c4 => ?_)
    have hz4 := z_k c4 hz3
    refine r_isw7 (p := 110) f38_108 rfl rfl ?_
    refine r_aln0 (p := 111) f38_110 rfl ?_
    have h9 := k_t1 c4 hz3 h7 (by decide)
    refine r_gfR (f := 7) (p := 114) f38_111 rfl rfl rfl (Or.inl h9) rfl ?_
    refine r_nmR (fun v9 ev9 => ?_)
    refine le2_gd (fun h10 => ?_)
    refine r_gfI (f := 3) (p := 117) f38_114 rfl rfl rfl (Or.inl h10) rfl ?_
    refine r_ilw7 (p := 119) f38_117 rfl ?_
    refine r_isub (p := 120) f38_119 rfl ?_
    refine r_isw8 (p := 122) f38_120 rfl rfl ?_
    exact le2_refl _
  · refine r_aln0 (p := 238) f38_237 rfl ?_
    refine r_invV (p := 241) f38_238 rfl rfl rfl (Or.inl h1) hd (Nat.le_of_ble_eq_true rfl) rfl rfl rfl (fun _ => rfl) (fun m1 c1 => ?_)
    have hz1 := z_k c1 hz
    refine r_ilw5 (p := 243) f38_241 rfl ?_
    exact r_iret1 f38_243
theorem q38_122 {d : Nat} {m : Mem} {a0 a1 a2 a3 a4 a5 a6 a7 a8 : Int} (hd : 0 < d) (hz : TZ m) : le2 (gd (tg m a0 = 1) <| nm (vl m a0 7) fun v7 => gd (tg m v7 = 6) <| if a8 < (vl m v7 3) then (nm (vl m a0 3) fun v8 => nm (vl m a0 20) fun v9 => gd (tg m v9 = 17101) <| gd ((0 : Int) ≤ a6 ∧ a6 < ln m v9) <| gd (tg m v8 = 2) <| bV (cl (d - 1) 55 [pR v8, pL (vl m v9 a6)] m) fun m1 => nm (vl m1 a0 3) fun v10 => gd (tg m1 v10 = 2) <| bV (cl (d - 1) 54 [pR v10, pI 32] m1) fun m2 => nm (vl m2 a0 7) fun v11 => gd (tg m2 v11 = 6) <| nm (vl m2 v11 2) fun v12 => gd (tg m2 v12 = 104101 ∨ tg m2 v12 = 107101) <| gd ((0 : Int) ≤ a8 ∧ a8 < ln m2 v12) <| bV (cl (d - 1) 110 [pR v11, pR (vl m2 a0 3), pI (vl m2 v12 a8)] m2) fun m3 => nm (vl m3 a0 3) fun v13 => gd (tg m3 v13 = 2) <| bV (cl (d - 1) 54 [pR v13, pI 32] m3) fun m4 => nm (vl m4 a0 3) fun v14 => nm (vl m4 a0 7) fun v15 => gd (tg m4 v15 = 6) <| nm (vl m4 v15 2) fun v16 => gd (tg m4 v16 = 104101 ∨ tg m4 v16 = 107101) <| gd ((0 : Int) ≤ a8 ∧ a8 < ln m4 v16) <| gd (tg m4 v14 = 2) <| bV (cl (d - 1) 52 [pR v14, pR (vl m4 a0 11), pI (vl m4 v16 a8)] m4) fun m5 => nm (vl m5 a0 3) fun v17 => gd (tg m5 v17 = 2) <| bV (cl (d - 1) 54 [pR v17, pI 10] m5) fun m6 => rn d 38 122 [pR a0, pI a1, pI a2, pR a3, pR a4, pI a5, pI a6, pI a7, pI (w32 (a8 + 1))] [] m6) else rn d 38 59 [pR a0, pI a1, pI a2, pR a3, pR a4, pI (w32 (a5 + a7)), pI (w32 (a6 + 1)), pI a7, pI a8] [] m) (rn d 38 122 [pR a0, pI a1, pI a2, pR a3, pR a4, pI a5, pI a6, pI a7, pI a8] [] m) := by
  refine r_ilw8 (p := 124) f38_122 rfl ?_
  refine r_aln0 (p := 125) f38_124 rfl ?_
  refine le2_gd (fun h1 => ?_)
  refine r_gfR (f := 7) (p := 128) f38_125 rfl rfl rfl (Or.inl h1) rfl ?_
  refine r_nmR (fun v7 ev7 => ?_)
  refine le2_gd (fun h2 => ?_)
  refine r_gfI (f := 3) (p := 131) f38_128 rfl rfl rfl (Or.inl h2) rfl ?_
  refine r_icge (t := 224) (p := 134) f38_131 (by decide) rfl rfl ?_ ?_
  · refine r_aln0 (p := 135) f38_134 rfl ?_
    refine r_gfR (f := 3) (p := 138) f38_135 rfl rfl rfl (Or.inl h1) rfl ?_
    refine r_nmR (fun v8 ev8 => ?_)
    refine r_aln0 (p := 139) f38_138 rfl ?_
    refine r_gfR (f := 20) (p := 142) f38_139 rfl rfl rfl (Or.inl h1) rfl ?_
    refine r_nmR (fun v9 ev9 => ?_)
    refine r_ilw6 (p := 144) f38_142 rfl ?_
    refine le2_gd (fun h3 => ?_)
    refine le2_gd (fun h4 => ?_)
    refine r_iaload (p := 145) f38_144 rfl (dj1 (fun x => x % 1000 = 101) h3 (by decide)) h4 rfl ?_
    refine r_i2l (p := 146) f38_145 rfl ?_
    refine le2_gd (fun h5 => ?_)
    refine r_invV (p := 149) f38_146 rfl rfl rfl (Or.inl h5) hd (Nat.le_of_ble_eq_true rfl) rfl rfl rfl (fun _ => rfl) (fun m1 c1 => ?_)
    have hz1 := z_k c1 hz
    refine r_aln0 (p := 150) f38_149 rfl ?_
    have h6 := k_t1 c1 hz h1 (by decide)
    refine r_gfR (f := 3) (p := 153) f38_150 rfl rfl rfl (Or.inl h6) rfl ?_
    refine r_nmR (fun v10 ev10 => ?_)
    refine r_bipush (p := 155) f38_153 rfl (pinD rfl rfl) ?_
    refine le2_gd (fun h7 => ?_)
    refine r_invV (p := 158) f38_155 rfl rfl rfl (Or.inl h7) hd (Nat.le_of_ble_eq_true rfl) rfl rfl rfl (fun _ => rfl) (fun m2 c2 => ?_)
    have hz2 := z_k c2 hz1
    refine r_aln0 (p := 159) f38_158 rfl ?_
    have h8 := k_t1 c2 hz1 h6 (by decide)
    refine r_gfR (f := 7) (p := 162) f38_159 rfl rfl rfl (Or.inl h8) rfl ?_
    refine r_nmR (fun v11 ev11 => ?_)
    refine r_aln0 (p := 163) f38_162 rfl ?_
    refine r_gfR (f := 3) (p := 166) f38_163 rfl rfl rfl (Or.inl h8) rfl ?_
    refine r_aln0 (p := 167) f38_166 rfl ?_
    refine r_gfR (f := 7) (p := 170) f38_167 rfl rfl rfl (Or.inl h8) ev11.symm ?_
    refine le2_gd (fun h9 => ?_)
    refine r_gfR (f := 2) (p := 173) f38_170 rfl rfl rfl (Or.inl h9) rfl ?_
    refine r_nmR (fun v12 ev12 => ?_)
    refine r_ilw8 (p := 175) f38_173 rfl ?_
    refine le2_gd (fun h10 => ?_)
    refine le2_gd (fun h11 => ?_)
    refine r_iaload (p := 176) f38_175 rfl (dj2 (fun x => x % 1000 = 101) h10 (by decide) (by decide)) h11 rfl ?_
    refine r_invV (p := 179) f38_176 rfl rfl rfl (Or.inl h9) hd (Nat.le_of_ble_eq_true rfl) rfl rfl rfl (fun _ => rfl) (fun m3 c3 => ?_)
    have hz3 := z_k c3 hz2
    refine r_aln0 (p := 180) f38_179 rfl ?_
    have h12 := k_t1 c3 hz2 h8 (by decide)
    refine r_gfR (f := 3) (p := 183) f38_180 rfl rfl rfl (Or.inl h12) rfl ?_
    refine r_nmR (fun v13 ev13 => ?_)
    refine r_bipush (p := 185) f38_183 rfl (pinD rfl rfl) ?_
    refine le2_gd (fun h13 => ?_)
    refine r_invV (p := 188) f38_185 rfl rfl rfl (Or.inl h13) hd (Nat.le_of_ble_eq_true rfl) rfl rfl rfl (fun _ => rfl) (fun m4 c4 => ?_)
    have hz4 := z_k c4 hz3
    refine r_aln0 (p := 189) f38_188 rfl ?_
    have h14 := k_t1 c4 hz3 h12 (by decide)
    refine r_gfR (f := 3) (p := 192) f38_189 rfl rfl rfl (Or.inl h14) rfl ?_
    refine r_nmR (fun v14 ev14 => ?_)
    refine r_aln0 (p := 193) f38_192 rfl ?_
    refine r_gfR (f := 11) (p := 196) f38_193 rfl rfl rfl (Or.inl h14) rfl ?_
    refine r_aln0 (p := 197) f38_196 rfl ?_
    refine r_gfR (f := 7) (p := 200) f38_197 rfl rfl rfl (Or.inl h14) rfl ?_
    refine r_nmR (fun v15 ev15 => ?_)
    refine le2_gd (fun h15 => ?_)
    refine r_gfR (f := 2) (p := 203) f38_200 rfl rfl rfl (Or.inl h15) rfl ?_
    refine r_nmR (fun v16 ev16 => ?_)
    refine r_ilw8 (p := 205) f38_203 rfl ?_
    refine le2_gd (fun h16 => ?_)
    refine le2_gd (fun h17 => ?_)
    refine r_iaload (p := 206) f38_205 rfl (dj2 (fun x => x % 1000 = 101) h16 (by decide) (by decide)) h17 rfl ?_
    refine le2_gd (fun h18 => ?_)
    refine r_invV (p := 209) f38_206 rfl rfl rfl (Or.inl h18) hd (Nat.le_of_ble_eq_true rfl) rfl rfl rfl (fun _ => rfl) (fun m5 c5 => ?_)
    have hz5 := z_k c5 hz4
    refine r_aln0 (p := 210) f38_209 rfl ?_
    have h19 := k_t1 c5 hz4 h14 (by decide)
    refine r_gfR (f := 3) (p := 213) f38_210 rfl rfl rfl (Or.inl h19) rfl ?_
    refine r_nmR (fun v17 ev17 => ?_)
    refine r_bipush (p := 215) f38_213 rfl (pinD rfl rfl) ?_
    refine le2_gd (fun h20 => ?_)
    refine r_invV (p := 218) f38_215 rfl rfl rfl (Or.inl h20) hd (Nat.le_of_ble_eq_true rfl) rfl rfl rfl (fun _ => rfl) (fun m6 c6 => ?_)
    have hz6 := z_k c6 hz5
    refine r_iinc8 (p := 221) f38_218 rfl rfl ?_
    refine r_goto (p := 122) f38_221 (by decide) rfl ?_
    exact le2_refl _
  · refine r_ilw5 (p := 226) f38_224 rfl ?_
    refine r_ilw7 (p := 228) f38_226 rfl ?_
    refine r_iadd (p := 229) f38_228 rfl ?_
    refine r_isw5 (p := 231) f38_229 rfl rfl ?_
    refine r_iinc6 (p := 234) f38_231 rfl rfl ?_
    refine r_goto (p := 59) f38_234 (by decide) rfl ?_
    exact le2_refl _
/-! 39 PathStore.compiled (I)LPathStore$Query; -/
def w39_1 : List UInt8 := [180, 0, 168, 181, 0, 95, 187, 0, 160, 89, 183, 0, 163, 191]
abbrev u39_1 : List UInt8 := w39_1 ++ []
def w39_0 : List UInt8 := [42, 2, 181, 0, 95, 42, 180, 0, 39, 42, 180, 0, 9, 27, 182, 0, 164, 176, 77, 42, 42, 180, 0, 39]
abbrev u39_0 : List UInt8 := w39_0 ++ u39_1
theorem s39_0 : (prog_1_method_13_code).data.toList.drop 0 = u39_0 := by decide +kernel
theorem s39_1 : (prog_1_method_13_code).data.toList.drop 24 = u39_1 := dk_seg s39_0 24 rfl rfl
theorem Fm39 {pc len : Nat} {i : Instr} (h : decode (prog_1_method_13_code) pc = .ok (i, len)) (hl : len = ilen i len) : ft 39 pc = some (1, 3, 0, i, len) := ft_mk rfl h hl
theorem f39_0 : ft 39 0 = some (1, 3, 0, .aload_n 0, 1) := Fm39 (dk_42 (dk_at s39_0 0 rfl rfl)) rfl
theorem f39_1 : ft 39 1 = some (1, 3, 0, .iconst (-1), 1) := Fm39 (dk_2 (dk_at s39_0 1 rfl rfl)) rfl
theorem f39_2 : ft 39 2 = some (1, 3, 0, .putfield 95, 3) := Fm39 (dk_181 0 95 (dk_at s39_0 2 rfl rfl)) rfl
theorem f39_5 : ft 39 5 = some (1, 3, 0, .aload_n 0, 1) := Fm39 (dk_42 (dk_at s39_0 5 rfl rfl)) rfl
theorem f39_6 : ft 39 6 = some (1, 3, 0, .getfield 39, 3) := Fm39 (dk_180 0 39 (dk_at s39_0 6 rfl rfl)) rfl
theorem f39_9 : ft 39 9 = some (1, 3, 0, .aload_n 0, 1) := Fm39 (dk_42 (dk_at s39_0 9 rfl rfl)) rfl
theorem f39_10 : ft 39 10 = some (1, 3, 0, .getfield 9, 3) := Fm39 (dk_180 0 9 (dk_at s39_0 10 rfl rfl)) rfl
theorem f39_13 : ft 39 13 = some (1, 3, 0, .iload_n 1, 1) := Fm39 (dk_27 (dk_at s39_0 13 rfl rfl)) rfl
theorem f39_14 : ft 39 14 = some (1, 3, 0, .invokevirtual 164, 3) := Fm39 (dk_182 0 164 (dk_at s39_0 14 rfl rfl)) rfl
theorem f39_17 : ft 39 17 = some (1, 3, 0, .areturn, 1) := Fm39 (dk_176 (dk_at s39_0 17 rfl rfl)) rfl
theorem f39_18 : ft 39 18 = some (1, 3, 0, .astore_n 2, 1) := Fm39 (dk_77 (dk_at s39_0 18 rfl rfl)) rfl
theorem f39_19 : ft 39 19 = some (1, 3, 0, .aload_n 0, 1) := Fm39 (dk_42 (dk_at s39_0 19 rfl rfl)) rfl
theorem f39_20 : ft 39 20 = some (1, 3, 0, .aload_n 0, 1) := Fm39 (dk_42 (dk_at s39_0 20 rfl rfl)) rfl
theorem f39_21 : ft 39 21 = some (1, 3, 0, .getfield 39, 3) := Fm39 (dk_180 0 39 (dk_at s39_0 21 rfl rfl)) rfl
theorem f39_24 : ft 39 24 = some (1, 3, 0, .getfield 168, 3) := Fm39 (dk_180 0 168 (dk_at s39_1 0 rfl rfl)) rfl
theorem f39_27 : ft 39 27 = some (1, 3, 0, .putfield 95, 3) := Fm39 (dk_181 0 95 (dk_at s39_1 3 rfl rfl)) rfl
theorem f39_30 : ft 39 30 = some (1, 3, 0, .new 160, 3) := Fm39 (dk_187 0 160 (dk_at s39_1 6 rfl rfl)) rfl
theorem q39 {d : Nat} {m : Mem} {a0 a1 : Int} (hd : 0 < d) (hz : TZ m) : le2 (gd (tg m a0 = 1) <| nm (vl m a0 6) fun v3 => gd (tg m v3 = 5) <| bRh (cl (d - 1) 81 [pR v3, pR (vl m a0 0), pI a1] (mst m a0 19 (-1))) (fun v1 m1 => some (.inl (some (pR v1)), m1)) fun x2 m2 => if x2 = 204 then (nm (vl m2 a0 6) fun v4 => gd (tg m2 v4 = 5) <| some (.inr 204, mal (mst m2 a0 19 (vl m2 v4 3)) 204 6)) else none) (cl d 39 [pR a0, pI a1] m) := by
  refine q_in (n := 3) (L := [pR a0, pI a1, pU]) rfl rfl rfl ?_
  refine r_aln0 (p := 1) f39_0 rfl ?_
  refine r_iconst (p := 2) f39_1 rfl (pinD rfl rfl) ?_
  refine le2_gd (fun h1 => ?_)
  refine r_pfI (f := 19) (p := 5) f39_2 rfl rfl rfl (by decide) (by decide) (Or.inl h1) rfl ?_
  refine r_aln0 (p := 6) f39_5 rfl ?_
  refine r_gfR (f := 6) (p := 9) f39_6 rfl rfl rfl (Or.inl h1) (sk_f (by decide)) ?_
  refine r_nmR (fun v3 ev3 => ?_)
  refine r_aln0 (p := 10) f39_9 rfl ?_
  refine r_gfR (f := 0) (p := 13) f39_10 rfl rfl rfl (Or.inl h1) (sk_f (by decide)) ?_
  refine r_iln1 (p := 14) f39_13 rfl ?_
  refine le2_gd (fun h2 => ?_)
  refine r_invRh (p := 17) f39_14 rfl rfl rfl (Or.inl h2) hd (Nat.le_of_ble_eq_true rfl) rfl rfl (fun v1 m1 c1 => ?_) (fun x2 m2 c2 => ?_)
  · have hz1 := z_k c1 hz
    exact r_aret f39_17
  · have hz2 := z_k c2 hz
    refine le2_ite (fun h3 => ?_) (fun h3 => ?_)
    · refine hres_at (h := 18) (by rw [h3]; rfl) ?_
      refine r_asn2 (p := 19) f39_18 rfl rfl ?_
      refine r_aln0 (p := 20) f39_19 rfl ?_
      refine r_aln0 (p := 21) f39_20 rfl ?_
      have h4 := k_t1 c2 hz h1 (by decide)
      refine r_gfR (f := 6) (p := 24) f39_21 rfl rfl rfl (Or.inl h4) rfl ?_
      refine r_nmR (fun v4 ev4 => ?_)
      refine le2_gd (fun h5 => ?_)
      refine r_gfI (f := 3) (p := 27) f39_24 rfl rfl rfl (Or.inl h5) rfl ?_
      refine r_pfI (f := 19) (p := 30) f39_27 rfl rfl rfl (by decide) (by decide) (Or.inl h4) rfl ?_
      exact r_throw (e := 204) (f0 := 6) f39_30 rfl (by decide) (Nat.le_of_ble_eq_true rfl) rfl rfl
    · exact le2_none
/-! 40 PathStore.list (I)V -/
def w40_0 : List UInt8 := [42, 3, 181, 0, 242, 27, 153, 0, 8, 42, 27, 182, 0, 245, 177]
abbrev u40_0 : List UInt8 := w40_0 ++ []
theorem s40_0 : (prog_1_method_23_code).data.toList.drop 0 = u40_0 := by decide +kernel
theorem Fm40 {pc len : Nat} {i : Instr} (h : decode (prog_1_method_23_code) pc = .ok (i, len)) (hl : len = ilen i len) : ft 40 pc = some (1, 0, 0, i, len) := ft_mk rfl h hl
theorem f40_0 : ft 40 0 = some (1, 0, 0, .aload_n 0, 1) := Fm40 (dk_42 (dk_at s40_0 0 rfl rfl)) rfl
theorem f40_1 : ft 40 1 = some (1, 0, 0, .iconst 0, 1) := Fm40 (dk_3 (dk_at s40_0 1 rfl rfl)) rfl
theorem f40_2 : ft 40 2 = some (1, 0, 0, .putfield 242, 3) := Fm40 (dk_181 0 242 (dk_at s40_0 2 rfl rfl)) rfl
theorem f40_5 : ft 40 5 = some (1, 0, 0, .iload_n 1, 1) := Fm40 (dk_27 (dk_at s40_0 5 rfl rfl)) rfl
theorem f40_6 : ft 40 6 = some (1, 0, 0, .ifCond .eq 8, 3) := Fm40 (dk_153 0 8 (dk_at s40_0 6 rfl rfl)) rfl
theorem f40_9 : ft 40 9 = some (1, 0, 0, .aload_n 0, 1) := Fm40 (dk_42 (dk_at s40_0 9 rfl rfl)) rfl
theorem f40_10 : ft 40 10 = some (1, 0, 0, .iload_n 1, 1) := Fm40 (dk_27 (dk_at s40_0 10 rfl rfl)) rfl
theorem f40_11 : ft 40 11 = some (1, 0, 0, .invokevirtual 245, 3) := Fm40 (dk_182 0 245 (dk_at s40_0 11 rfl rfl)) rfl
theorem f40_14 : ft 40 14 = some (1, 0, 0, .return_, 1) := Fm40 (dk_177 (dk_at s40_0 14 rfl rfl)) rfl
theorem q40 {d : Nat} {m : Mem} {a0 a1 : Int} (hd : 0 < d) (hz : TZ m) : le2 (gd (tg m a0 = 1) <| if a1 = 0 then (some (.inl none, (mst m a0 22 0))) else bV (cl (d - 1) 41 [pR a0, pI a1] (mst m a0 22 0)) fun m1 => some (.inl none, m1)) (cl d 40 [pR a0, pI a1] m) := by
  refine q_in (n := 2) (L := [pR a0, pI a1]) rfl rfl rfl ?_
  refine r_aln0 (p := 1) f40_0 rfl ?_
  refine r_iconst (p := 2) f40_1 rfl (pinD rfl rfl) ?_
  refine le2_gd (fun h1 => ?_)
  refine r_pfI (f := 22) (p := 5) f40_2 rfl rfl rfl (by decide) (by decide) (Or.inl h1) rfl ?_
  refine r_iln1 (p := 6) f40_5 rfl ?_
  refine r_ifeq (t := 14) (p := 9) f40_6 (by decide) rfl rfl ?_ ?_
  · exact r_ret f40_14
  · refine r_aln0 (p := 10) f40_9 rfl ?_
    refine r_iln1 (p := 11) f40_10 rfl ?_
    refine r_invV (p := 14) f40_11 rfl rfl rfl (Or.inl h1) hd (Nat.le_of_ble_eq_true rfl) rfl rfl rfl (fun _ => rfl) (fun m1 c1 => ?_)
    have hz1 := z_k c1 hz
    exact r_ret f40_14
/-! 41 PathStore.gather (I)V -/
def w41_3 : List UInt8 := [96, 181, 0, 242, 42, 180, 0, 60, 27, 29, 182, 0, 254, 79, 132, 3, 1, 167, 255, 178, 177]
abbrev u41_3 : List UInt8 := w41_3 ++ []
def w41_2 : List UInt8 := [180, 0, 242, 42, 180, 0, 60, 27, 29, 182, 1, 1, 79, 42, 180, 0, 102, 42, 89, 180, 0, 242, 90, 4]
abbrev u41_2 : List UInt8 := w41_2 ++ u41_3
def w41_1 : List UInt8 := [154, 0, 19, 42, 42, 180, 0, 60, 27, 29, 182, 0, 254, 182, 0, 245, 167, 0, 46, 42, 180, 0, 98, 42]
abbrev u41_1 : List UInt8 := w41_1 ++ u41_2
def w41_0 : List UInt8 := [42, 180, 0, 60, 27, 182, 0, 248, 61, 3, 62, 29, 28, 162, 0, 79, 42, 180, 0, 60, 27, 182, 0, 250]
abbrev u41_0 : List UInt8 := w41_0 ++ u41_1
theorem s41_0 : (prog_1_method_24_code).data.toList.drop 0 = u41_0 := by decide +kernel
theorem s41_1 : (prog_1_method_24_code).data.toList.drop 24 = u41_1 := dk_seg s41_0 24 rfl rfl
theorem s41_2 : (prog_1_method_24_code).data.toList.drop 48 = u41_2 := dk_seg s41_1 24 rfl rfl
theorem s41_3 : (prog_1_method_24_code).data.toList.drop 72 = u41_3 := dk_seg s41_2 24 rfl rfl
theorem Fm41 {pc len : Nat} {i : Instr} (h : decode (prog_1_method_24_code) pc = .ok (i, len)) (hl : len = ilen i len) : ft 41 pc = some (1, 0, 0, i, len) := ft_mk rfl h hl
theorem f41_0 : ft 41 0 = some (1, 0, 0, .aload_n 0, 1) := Fm41 (dk_42 (dk_at s41_0 0 rfl rfl)) rfl
theorem f41_1 : ft 41 1 = some (1, 0, 0, .getfield 60, 3) := Fm41 (dk_180 0 60 (dk_at s41_0 1 rfl rfl)) rfl
theorem f41_4 : ft 41 4 = some (1, 0, 0, .iload_n 1, 1) := Fm41 (dk_27 (dk_at s41_0 4 rfl rfl)) rfl
theorem f41_5 : ft 41 5 = some (1, 0, 0, .invokevirtual 248, 3) := Fm41 (dk_182 0 248 (dk_at s41_0 5 rfl rfl)) rfl
theorem f41_8 : ft 41 8 = some (1, 0, 0, .istore_n 2, 1) := Fm41 (dk_61 (dk_at s41_0 8 rfl rfl)) rfl
theorem f41_9 : ft 41 9 = some (1, 0, 0, .iconst 0, 1) := Fm41 (dk_3 (dk_at s41_0 9 rfl rfl)) rfl
theorem f41_10 : ft 41 10 = some (1, 0, 0, .istore_n 3, 1) := Fm41 (dk_62 (dk_at s41_0 10 rfl rfl)) rfl
theorem f41_11 : ft 41 11 = some (1, 0, 0, .iload_n 3, 1) := Fm41 (dk_29 (dk_at s41_0 11 rfl rfl)) rfl
theorem f41_12 : ft 41 12 = some (1, 0, 0, .iload_n 2, 1) := Fm41 (dk_28 (dk_at s41_0 12 rfl rfl)) rfl
theorem f41_13 : ft 41 13 = some (1, 0, 0, .if_icmp .ge 79, 3) := Fm41 (dk_162 0 79 (dk_at s41_0 13 rfl rfl)) rfl
theorem f41_16 : ft 41 16 = some (1, 0, 0, .aload_n 0, 1) := Fm41 (dk_42 (dk_at s41_0 16 rfl rfl)) rfl
theorem f41_17 : ft 41 17 = some (1, 0, 0, .getfield 60, 3) := Fm41 (dk_180 0 60 (dk_at s41_0 17 rfl rfl)) rfl
theorem f41_20 : ft 41 20 = some (1, 0, 0, .iload_n 1, 1) := Fm41 (dk_27 (dk_at s41_0 20 rfl rfl)) rfl
theorem f41_21 : ft 41 21 = some (1, 0, 0, .invokevirtual 250, 3) := Fm41 (dk_182 0 250 (dk_at s41_0 21 rfl rfl)) rfl
theorem f41_24 : ft 41 24 = some (1, 0, 0, .ifCond .ne 19, 3) := Fm41 (dk_154 0 19 (dk_at s41_1 0 rfl rfl)) rfl
theorem f41_27 : ft 41 27 = some (1, 0, 0, .aload_n 0, 1) := Fm41 (dk_42 (dk_at s41_1 3 rfl rfl)) rfl
theorem f41_28 : ft 41 28 = some (1, 0, 0, .aload_n 0, 1) := Fm41 (dk_42 (dk_at s41_1 4 rfl rfl)) rfl
theorem f41_29 : ft 41 29 = some (1, 0, 0, .getfield 60, 3) := Fm41 (dk_180 0 60 (dk_at s41_1 5 rfl rfl)) rfl
theorem f41_32 : ft 41 32 = some (1, 0, 0, .iload_n 1, 1) := Fm41 (dk_27 (dk_at s41_1 8 rfl rfl)) rfl
theorem f41_33 : ft 41 33 = some (1, 0, 0, .iload_n 3, 1) := Fm41 (dk_29 (dk_at s41_1 9 rfl rfl)) rfl
theorem f41_34 : ft 41 34 = some (1, 0, 0, .invokevirtual 254, 3) := Fm41 (dk_182 0 254 (dk_at s41_1 10 rfl rfl)) rfl
theorem f41_37 : ft 41 37 = some (1, 0, 0, .invokevirtual 245, 3) := Fm41 (dk_182 0 245 (dk_at s41_1 13 rfl rfl)) rfl
theorem f41_40 : ft 41 40 = some (1, 0, 0, .goto 46, 3) := Fm41 (dk_167 0 46 (dk_at s41_1 16 rfl rfl)) rfl
theorem f41_43 : ft 41 43 = some (1, 0, 0, .aload_n 0, 1) := Fm41 (dk_42 (dk_at s41_1 19 rfl rfl)) rfl
theorem f41_44 : ft 41 44 = some (1, 0, 0, .getfield 98, 3) := Fm41 (dk_180 0 98 (dk_at s41_1 20 rfl rfl)) rfl
theorem f41_47 : ft 41 47 = some (1, 0, 0, .aload_n 0, 1) := Fm41 (dk_42 (dk_at s41_1 23 rfl rfl)) rfl
theorem f41_48 : ft 41 48 = some (1, 0, 0, .getfield 242, 3) := Fm41 (dk_180 0 242 (dk_at s41_2 0 rfl rfl)) rfl
theorem f41_51 : ft 41 51 = some (1, 0, 0, .aload_n 0, 1) := Fm41 (dk_42 (dk_at s41_2 3 rfl rfl)) rfl
theorem f41_52 : ft 41 52 = some (1, 0, 0, .getfield 60, 3) := Fm41 (dk_180 0 60 (dk_at s41_2 4 rfl rfl)) rfl
theorem f41_55 : ft 41 55 = some (1, 0, 0, .iload_n 1, 1) := Fm41 (dk_27 (dk_at s41_2 7 rfl rfl)) rfl
theorem f41_56 : ft 41 56 = some (1, 0, 0, .iload_n 3, 1) := Fm41 (dk_29 (dk_at s41_2 8 rfl rfl)) rfl
theorem f41_57 : ft 41 57 = some (1, 0, 0, .invokevirtual 257, 3) := Fm41 (dk_182 1 1 (dk_at s41_2 9 rfl rfl)) rfl
theorem f41_60 : ft 41 60 = some (1, 0, 0, .iastore, 1) := Fm41 (dk_79 (dk_at s41_2 12 rfl rfl)) rfl
theorem f41_61 : ft 41 61 = some (1, 0, 0, .aload_n 0, 1) := Fm41 (dk_42 (dk_at s41_2 13 rfl rfl)) rfl
theorem f41_62 : ft 41 62 = some (1, 0, 0, .getfield 102, 3) := Fm41 (dk_180 0 102 (dk_at s41_2 14 rfl rfl)) rfl
theorem f41_65 : ft 41 65 = some (1, 0, 0, .aload_n 0, 1) := Fm41 (dk_42 (dk_at s41_2 17 rfl rfl)) rfl
theorem f41_66 : ft 41 66 = some (1, 0, 0, .dup, 1) := Fm41 (dk_89 (dk_at s41_2 18 rfl rfl)) rfl
theorem f41_67 : ft 41 67 = some (1, 0, 0, .getfield 242, 3) := Fm41 (dk_180 0 242 (dk_at s41_2 19 rfl rfl)) rfl
theorem f41_70 : ft 41 70 = some (1, 0, 0, .dup_x1, 1) := Fm41 (dk_90 (dk_at s41_2 22 rfl rfl)) rfl
theorem f41_71 : ft 41 71 = some (1, 0, 0, .iconst 1, 1) := Fm41 (dk_4 (dk_at s41_2 23 rfl rfl)) rfl
theorem f41_72 : ft 41 72 = some (1, 0, 0, .iadd, 1) := Fm41 (dk_96 (dk_at s41_3 0 rfl rfl)) rfl
theorem f41_73 : ft 41 73 = some (1, 0, 0, .putfield 242, 3) := Fm41 (dk_181 0 242 (dk_at s41_3 1 rfl rfl)) rfl
theorem f41_76 : ft 41 76 = some (1, 0, 0, .aload_n 0, 1) := Fm41 (dk_42 (dk_at s41_3 4 rfl rfl)) rfl
theorem f41_77 : ft 41 77 = some (1, 0, 0, .getfield 60, 3) := Fm41 (dk_180 0 60 (dk_at s41_3 5 rfl rfl)) rfl
theorem f41_80 : ft 41 80 = some (1, 0, 0, .iload_n 1, 1) := Fm41 (dk_27 (dk_at s41_3 8 rfl rfl)) rfl
theorem f41_81 : ft 41 81 = some (1, 0, 0, .iload_n 3, 1) := Fm41 (dk_29 (dk_at s41_3 9 rfl rfl)) rfl
theorem f41_82 : ft 41 82 = some (1, 0, 0, .invokevirtual 254, 3) := Fm41 (dk_182 0 254 (dk_at s41_3 10 rfl rfl)) rfl
theorem f41_85 : ft 41 85 = some (1, 0, 0, .iastore, 1) := Fm41 (dk_79 (dk_at s41_3 13 rfl rfl)) rfl
theorem f41_86 : ft 41 86 = some (1, 0, 0, .iinc 3 1, 3) := Fm41 (dk_132 3 1 (dk_at s41_3 14 rfl rfl)) rfl
theorem f41_89 : ft 41 89 = some (1, 0, 0, .goto (-78), 3) := Fm41 (dk_167 255 178 (dk_at s41_3 17 rfl rfl)) rfl
theorem f41_92 : ft 41 92 = some (1, 0, 0, .return_, 1) := Fm41 (dk_177 (dk_at s41_3 20 rfl rfl)) rfl
theorem q41 {d : Nat} {m : Mem} {a0 a1 : Int} (hd : 0 < d) (hz : TZ m) : le2 (gd (tg m a0 = 1) <| nm (vl m a0 9) fun v2 => gd (tg m v2 = 9) <| bI (cl (d - 1) 181 [pR v2, pI a1] m) fun v1 m1 => rn d 41 11 [pR a0, pI a1, pI v1, pI 0] [] m1) (cl d 41 [pR a0, pI a1] m) := by
  refine q_in (n := 4) (L := [pR a0, pI a1, pU, pU]) rfl rfl rfl ?_
  refine r_aln0 (p := 1) f41_0 rfl ?_
  refine le2_gd (fun h1 => ?_)
  refine r_gfR (f := 9) (p := 4) f41_1 rfl rfl rfl (Or.inl h1) rfl ?_
  refine r_nmR (fun v2 ev2 => ?_)
  refine r_iln1 (p := 5) f41_4 rfl ?_
  refine le2_gd (fun h2 => ?_)
  refine r_invI (p := 8) f41_5 rfl rfl rfl (Or.inl h2) hd (Nat.le_of_ble_eq_true rfl) rfl rfl rfl (fun _ => rfl) (fun v1 m1 c1 => ?_)
  have hz1 := z_k c1 hz
  refine r_isn2 (p := 9) f41_8 rfl rfl ?_
  refine r_iconst (p := 10) f41_9 rfl (pinD rfl rfl) ?_
  refine r_isn3 (p := 11) f41_10 rfl rfl ?_
  exact le2_refl _
theorem q41_11 {d : Nat} {m : Mem} {a0 a1 a2 a3 : Int} (hd : 0 < d) (hz : TZ m) : le2 (if a3 < a2 then (gd (tg m a0 = 1) <| nm (vl m a0 9) fun v6 => gd (tg m v6 = 9) <| bI (cl (d - 1) 182 [pR v6, pI a1] m) fun v1 m1 => if v1 = 0 then (nm (vl m1 a0 9) fun v7 => gd (tg m1 v7 = 9) <| bI (cl (d - 1) 167 [pR v7, pI a1, pI a3] m1) fun v4 m4 => bV (cl (d - 1) 41 [pR a0, pI v4] m4) fun m5 => rn d 41 11 [pR a0, pI a1, pI a2, pI (w32 (a3 + 1))] [] m5) else nm (vl m1 a0 20) fun v8 => nm (vl m1 a0 22) fun v9 => nm (vl m1 a0 9) fun v10 => gd (tg m1 v10 = 9) <| bI (cl (d - 1) 166 [pR v10, pI a1, pI a3] m1) fun v2 m2 => gd (tg m2 v8 = 17101) <| gd ((0 : Int) ≤ v9 ∧ v9 < ln m2 v8) <| nm (vl m2 a0 21) fun v11 => nm (vl m2 a0 22) fun v12 => nm (vl m2 a0 9) fun v13 => gd (tg m2 v13 = 9) <| bI (cl (d - 1) 167 [pR v13, pI a1, pI a3] (mst (mst m2 v8 v9 v2) a0 22 (w32 (v12 + 1)))) fun v3 m3 => gd (tg m3 v11 = 17101) <| gd ((0 : Int) ≤ v12 ∧ v12 < ln m3 v11) <| rn d 41 11 [pR a0, pI a1, pI a2, pI (w32 (a3 + 1))] [] (mst m3 v11 v12 v3)) else some (.inl none, m)) (rn d 41 11 [pR a0, pI a1, pI a2, pI a3] [] m) := by
  refine r_iln3 (p := 12) f41_11 rfl ?_
  refine r_iln2 (p := 13) f41_12 rfl ?_
  refine r_icge (t := 92) (p := 16) f41_13 (by decide) rfl rfl ?_ ?_
  · refine r_aln0 (p := 17) f41_16 rfl ?_
    refine le2_gd (fun h1 => ?_)
    refine r_gfR (f := 9) (p := 20) f41_17 rfl rfl rfl (Or.inl h1) rfl ?_
    refine r_nmR (fun v6 ev6 => ?_)
    refine r_iln1 (p := 21) f41_20 rfl ?_
    refine le2_gd (fun h2 => ?_)
    refine r_invI (p := 24) f41_21 rfl rfl rfl (Or.inl h2) hd (Nat.le_of_ble_eq_true rfl) rfl rfl rfl (fun _ => rfl) (fun v1 m1 c1 => ?_)
    have hz1 := z_k c1 hz
    refine r_ifne (t := 43) (p := 27) f41_24 (by decide) rfl rfl ?_ ?_
    · refine r_aln0 (p := 28) f41_27 rfl ?_
      refine r_aln0 (p := 29) f41_28 rfl ?_
      have h11 := k_t1 c1 hz h1 (by decide)
      refine r_gfR (f := 9) (p := 32) f41_29 rfl rfl rfl (Or.inl h11) rfl ?_
      refine r_nmR (fun v7 ev7 => ?_)
      refine r_iln1 (p := 33) f41_32 rfl ?_
      refine r_iln3 (p := 34) f41_33 rfl ?_
      refine le2_gd (fun h12 => ?_)
      refine r_invI (p := 37) f41_34 rfl rfl rfl (Or.inl h12) hd (Nat.le_of_ble_eq_true rfl) rfl rfl rfl (fun _ => rfl) (fun v4 m4 c4 => ?_)
      have hz4 := z_k c4 hz1
      have h13 := k_t1 c4 hz1 h11 (by decide)
      refine r_invV (p := 40) f41_37 rfl rfl rfl (Or.inl h13) hd (Nat.le_of_ble_eq_true rfl) rfl rfl rfl (fun _ => rfl) (fun m5 c5 => ?_)
      have hz5 := z_k c5 hz4
      refine r_goto (p := 86) f41_40 (by decide) rfl ?_
      refine r_iinc3 (p := 89) f41_86 rfl rfl ?_
      refine r_goto (p := 11) f41_89 (by decide) rfl ?_
      exact le2_refl _
    · refine r_aln0 (p := 44) f41_43 rfl ?_
      have h3 := k_t1 c1 hz h1 (by decide)
      refine r_gfR (f := 20) (p := 47) f41_44 rfl rfl rfl (Or.inl h3) rfl ?_
      refine r_nmR (fun v8 ev8 => ?_)
      refine r_aln0 (p := 48) f41_47 rfl ?_
      refine r_gfI (f := 22) (p := 51) f41_48 rfl rfl rfl (Or.inl h3) rfl ?_
      refine r_nmI (fun v9 ev9 => ?_)
      refine r_aln0 (p := 52) f41_51 rfl ?_
      refine r_gfR (f := 9) (p := 55) f41_52 rfl rfl rfl (Or.inl h3) rfl ?_
      refine r_nmR (fun v10 ev10 => ?_)
      refine r_iln1 (p := 56) f41_55 rfl ?_
      refine r_iln3 (p := 57) f41_56 rfl ?_
      refine le2_gd (fun h4 => ?_)
      refine r_invI (p := 60) f41_57 rfl rfl rfl (Or.inl h4) hd (Nat.le_of_ble_eq_true rfl) rfl rfl rfl (fun _ => rfl) (fun v2 m2 c2 => ?_)
      have hz2 := z_k c2 hz1
      refine le2_gd (fun h5 => ?_)
      refine le2_gd (fun h6 => ?_)
      refine r_iastore (p := 61) f41_60 rfl (dj1 (fun x => 1000 ≤ x ∧ x % 1000 = 101 ∧ Nat.testBit (eM 41) (bix x 0) = true) h5 (by decide)) h6 ?_
      refine r_aln0 (p := 62) f41_61 rfl ?_
      have h7 := k_t1 c2 hz1 h3 (by decide)
      refine r_gfR (f := 21) (p := 65) f41_62 rfl rfl rfl (Or.inl h7) (sk_o (ne_oa (dj1 (fun x => x < 100) h7 (by decide)) (dj1 (fun x => ¬ x < 100) h5 (by decide)))) ?_
      refine r_nmR (fun v11 ev11 => ?_)
      refine r_aln0 (p := 66) f41_65 rfl ?_
      refine r_dup (p := 67) f41_66 rfl rfl ?_
      refine r_gfI (f := 22) (p := 70) f41_67 rfl rfl rfl (Or.inl h7) (sk_o (ne_oa (dj1 (fun x => x < 100) h7 (by decide)) (dj1 (fun x => ¬ x < 100) h5 (by decide)))) ?_
      refine r_nmI (fun v12 ev12 => ?_)
      refine r_dup_x1 (p := 71) f41_70 rfl rfl rfl ?_
      refine r_iconst (p := 72) f41_71 rfl (pinD rfl rfl) ?_
      refine r_iadd (p := 73) f41_72 rfl ?_
      refine r_pfI (f := 22) (p := 76) f41_73 rfl rfl rfl (by decide) (by decide) (Or.inl h7) rfl ?_
      refine r_aln0 (p := 77) f41_76 rfl ?_
      refine r_gfR (f := 9) (p := 80) f41_77 rfl rfl rfl (Or.inl h7) (Eq.trans (sk_f (by decide)) (sk_o (ne_oa (dj1 (fun x => x < 100) h7 (by decide)) (dj1 (fun x => ¬ x < 100) h5 (by decide))))) ?_
      refine r_nmR (fun v13 ev13 => ?_)
      refine r_iln1 (p := 81) f41_80 rfl ?_
      refine r_iln3 (p := 82) f41_81 rfl ?_
      refine le2_gd (fun h8 => ?_)
      refine r_invI (p := 85) f41_82 rfl rfl rfl (Or.inl h8) hd (Nat.le_of_ble_eq_true rfl) rfl rfl rfl (fun _ => rfl) (fun v3 m3 c3 => ?_)
      have hz3 := z_k c3 hz2
      refine le2_gd (fun h9 => ?_)
      refine le2_gd (fun h10 => ?_)
      refine r_iastore (p := 86) f41_85 rfl (dj1 (fun x => 1000 ≤ x ∧ x % 1000 = 101 ∧ Nat.testBit (eM 41) (bix x 0) = true) h9 (by decide)) h10 ?_
      refine r_iinc3 (p := 89) f41_86 rfl rfl ?_
      refine r_goto (p := 11) f41_89 (by decide) rfl ?_
      exact le2_refl _
  · exact r_ret f41_92
/-! 42 PathStore.swap ()V -/
def w42_0 : List UInt8 := [42, 180, 0, 19, 76, 42, 42, 180, 0, 23, 181, 0, 19, 42, 43, 181, 0, 23, 177]
abbrev u42_0 : List UInt8 := w42_0 ++ []
theorem s42_0 : (prog_1_method_25_code).data.toList.drop 0 = u42_0 := by decide +kernel
theorem Fm42 {pc len : Nat} {i : Instr} (h : decode (prog_1_method_25_code) pc = .ok (i, len)) (hl : len = ilen i len) : ft 42 pc = some (1, 0, 0, i, len) := ft_mk rfl h hl
theorem f42_0 : ft 42 0 = some (1, 0, 0, .aload_n 0, 1) := Fm42 (dk_42 (dk_at s42_0 0 rfl rfl)) rfl
theorem f42_1 : ft 42 1 = some (1, 0, 0, .getfield 19, 3) := Fm42 (dk_180 0 19 (dk_at s42_0 1 rfl rfl)) rfl
theorem f42_4 : ft 42 4 = some (1, 0, 0, .astore_n 1, 1) := Fm42 (dk_76 (dk_at s42_0 4 rfl rfl)) rfl
theorem f42_5 : ft 42 5 = some (1, 0, 0, .aload_n 0, 1) := Fm42 (dk_42 (dk_at s42_0 5 rfl rfl)) rfl
theorem f42_6 : ft 42 6 = some (1, 0, 0, .aload_n 0, 1) := Fm42 (dk_42 (dk_at s42_0 6 rfl rfl)) rfl
theorem f42_7 : ft 42 7 = some (1, 0, 0, .getfield 23, 3) := Fm42 (dk_180 0 23 (dk_at s42_0 7 rfl rfl)) rfl
theorem f42_10 : ft 42 10 = some (1, 0, 0, .putfield 19, 3) := Fm42 (dk_181 0 19 (dk_at s42_0 10 rfl rfl)) rfl
theorem f42_13 : ft 42 13 = some (1, 0, 0, .aload_n 0, 1) := Fm42 (dk_42 (dk_at s42_0 13 rfl rfl)) rfl
theorem f42_14 : ft 42 14 = some (1, 0, 0, .aload_n 1, 1) := Fm42 (dk_43 (dk_at s42_0 14 rfl rfl)) rfl
theorem f42_15 : ft 42 15 = some (1, 0, 0, .putfield 23, 3) := Fm42 (dk_181 0 23 (dk_at s42_0 15 rfl rfl)) rfl
theorem f42_18 : ft 42 18 = some (1, 0, 0, .return_, 1) := Fm42 (dk_177 (dk_at s42_0 18 rfl rfl)) rfl
theorem q42 {d : Nat} {m : Mem} {a0 : Int} (hz : TZ m) : le2 (gd (tg m a0 = 1) <| some (.inl none, (mst (mst m a0 2 (vl m a0 3)) a0 3 (vl m a0 2)))) (cl d 42 [pR a0] m) := by
  refine q_in (n := 2) (L := [pR a0, pU]) rfl rfl rfl ?_
  refine r_aln0 (p := 1) f42_0 rfl ?_
  refine le2_gd (fun h1 => ?_)
  refine r_gfR (f := 2) (p := 4) f42_1 rfl rfl rfl (Or.inl h1) rfl ?_
  refine r_asn1 (p := 5) f42_4 rfl rfl ?_
  refine r_aln0 (p := 6) f42_5 rfl ?_
  refine r_aln0 (p := 7) f42_6 rfl ?_
  refine r_gfR (f := 3) (p := 10) f42_7 rfl rfl rfl (Or.inl h1) rfl ?_
  refine r_pfR (f := 2) (p := 13) f42_10 rfl rfl rfl (by decide) (by decide) (Or.inl h1) rfl ?_
  refine r_aln0 (p := 14) f42_13 rfl ?_
  refine r_aln1 (p := 15) f42_14 rfl ?_
  refine r_pfR (f := 3) (p := 18) f42_15 rfl rfl rfl (by decide) (by decide) (Or.inl h1) rfl ?_
  exact r_ret f42_18
/-! 43 PathStore.index (I)V -/
def w43_2 : List UInt8 := [89, 45, 183, 1, 40, 83, 177]
abbrev u43_2 : List UInt8 := w43_2 ++ []
def w43_1 : List UInt8 := [154, 0, 16, 42, 28, 181, 0, 95, 187, 0, 160, 89, 183, 0, 163, 191, 42, 180, 0, 87, 27, 187, 0, 85]
abbrev u43_1 : List UInt8 := w43_1 ++ u43_2
def w43_0 : List UInt8 := [27, 7, 184, 0, 137, 184, 0, 141, 42, 182, 0, 184, 61, 42, 28, 182, 1, 4, 78, 45, 180, 1, 35]
abbrev u43_0 : List UInt8 := w43_0 ++ u43_1
theorem s43_0 : (prog_1_method_27_code).data.toList.drop 0 = u43_0 := by decide +kernel
theorem s43_1 : (prog_1_method_27_code).data.toList.drop 23 = u43_1 := dk_seg s43_0 23 rfl rfl
theorem s43_2 : (prog_1_method_27_code).data.toList.drop 47 = u43_2 := dk_seg s43_1 24 rfl rfl
theorem Fm43 {pc len : Nat} {i : Instr} (h : decode (prog_1_method_27_code) pc = .ok (i, len)) (hl : len = ilen i len) : ft 43 pc = some (1, 0, 0, i, len) := ft_mk rfl h hl
theorem f43_0 : ft 43 0 = some (1, 0, 0, .iload_n 1, 1) := Fm43 (dk_27 (dk_at s43_0 0 rfl rfl)) rfl
theorem f43_1 : ft 43 1 = some (1, 0, 0, .iconst 4, 1) := Fm43 (dk_7 (dk_at s43_0 1 rfl rfl)) rfl
theorem f43_2 : ft 43 2 = some (1, 0, 0, .invokestatic 137, 3) := Fm43 (dk_184 0 137 (dk_at s43_0 2 rfl rfl)) rfl
theorem f43_5 : ft 43 5 = some (1, 0, 0, .invokestatic 141, 3) := Fm43 (dk_184 0 141 (dk_at s43_0 5 rfl rfl)) rfl
theorem f43_8 : ft 43 8 = some (1, 0, 0, .aload_n 0, 1) := Fm43 (dk_42 (dk_at s43_0 8 rfl rfl)) rfl
theorem f43_9 : ft 43 9 = some (1, 0, 0, .invokevirtual 184, 3) := Fm43 (dk_182 0 184 (dk_at s43_0 9 rfl rfl)) rfl
theorem f43_12 : ft 43 12 = some (1, 0, 0, .istore_n 2, 1) := Fm43 (dk_61 (dk_at s43_0 12 rfl rfl)) rfl
theorem f43_13 : ft 43 13 = some (1, 0, 0, .aload_n 0, 1) := Fm43 (dk_42 (dk_at s43_0 13 rfl rfl)) rfl
theorem f43_14 : ft 43 14 = some (1, 0, 0, .iload_n 2, 1) := Fm43 (dk_28 (dk_at s43_0 14 rfl rfl)) rfl
theorem f43_15 : ft 43 15 = some (1, 0, 0, .invokevirtual 260, 3) := Fm43 (dk_182 1 4 (dk_at s43_0 15 rfl rfl)) rfl
theorem f43_18 : ft 43 18 = some (1, 0, 0, .astore_n 3, 1) := Fm43 (dk_78 (dk_at s43_0 18 rfl rfl)) rfl
theorem f43_19 : ft 43 19 = some (1, 0, 0, .aload_n 3, 1) := Fm43 (dk_45 (dk_at s43_0 19 rfl rfl)) rfl
theorem f43_20 : ft 43 20 = some (1, 0, 0, .getfield 291, 3) := Fm43 (dk_180 1 35 (dk_at s43_0 20 rfl rfl)) rfl
theorem f43_23 : ft 43 23 = some (1, 0, 0, .ifCond .ne 16, 3) := Fm43 (dk_154 0 16 (dk_at s43_1 0 rfl rfl)) rfl
theorem f43_26 : ft 43 26 = some (1, 0, 0, .aload_n 0, 1) := Fm43 (dk_42 (dk_at s43_1 3 rfl rfl)) rfl
theorem f43_27 : ft 43 27 = some (1, 0, 0, .iload_n 2, 1) := Fm43 (dk_28 (dk_at s43_1 4 rfl rfl)) rfl
theorem f43_28 : ft 43 28 = some (1, 0, 0, .putfield 95, 3) := Fm43 (dk_181 0 95 (dk_at s43_1 5 rfl rfl)) rfl
theorem f43_31 : ft 43 31 = some (1, 0, 0, .new 160, 3) := Fm43 (dk_187 0 160 (dk_at s43_1 8 rfl rfl)) rfl
theorem f43_39 : ft 43 39 = some (1, 0, 0, .aload_n 0, 1) := Fm43 (dk_42 (dk_at s43_1 16 rfl rfl)) rfl
theorem f43_40 : ft 43 40 = some (1, 0, 0, .getfield 87, 3) := Fm43 (dk_180 0 87 (dk_at s43_1 17 rfl rfl)) rfl
theorem f43_43 : ft 43 43 = some (1, 0, 0, .iload_n 1, 1) := Fm43 (dk_27 (dk_at s43_1 20 rfl rfl)) rfl
theorem f43_44 : ft 43 44 = some (1, 0, 0, .new 85, 3) := Fm43 (dk_187 0 85 (dk_at s43_1 21 rfl rfl)) rfl
theorem f43_47 : ft 43 47 = some (1, 0, 0, .dup, 1) := Fm43 (dk_89 (dk_at s43_2 0 rfl rfl)) rfl
theorem f43_48 : ft 43 48 = some (1, 0, 0, .aload_n 3, 1) := Fm43 (dk_45 (dk_at s43_2 1 rfl rfl)) rfl
theorem f43_49 : ft 43 49 = some (1, 0, 0, .invokespecial 296, 3) := Fm43 (dk_183 1 40 (dk_at s43_2 2 rfl rfl)) rfl
theorem f43_52 : ft 43 52 = some (1, 0, 0, .aastore, 1) := Fm43 (dk_83 (dk_at s43_2 5 rfl rfl)) rfl
theorem f43_53 : ft 43 53 = some (1, 0, 0, .return_, 1) := Fm43 (dk_177 (dk_at s43_2 6 rfl rfl)) rfl
theorem q43 {d : Nat} {m : Mem} {a0 a1 : Int} (hd : 0 < d) (hz : TZ m) : le2 (bI (cl (d - 1) 22 [pI a1, pI 4] m) fun v1 m1 => bV (cl (d - 1) 23 [pI v1] m1) fun m2 => gd (tg m2 a0 = 1) <| bI (cl (d - 1) 25 [pR a0] m2) fun v3 m3 => bR (cl (d - 1) 39 [pR a0, pI v3] m3) fun v4 m4 => gd (tg m4 v4 = 15) <| if (vl m4 v4 1) = 0 then (some (.inr 204, mal (mst m4 a0 19 v3) 204 6)) else nm (vl m4 a0 14) fun v7 => nw (nx m4) (mal m4 30 5) fun o5 m5 => bV (cl (d - 1) 343 [pR o5, pR v4] m5) fun m6 => gd (tg m6 v7 = 17116) <| gd ((0 : Int) ≤ a1 ∧ a1 < ln m6 v7) <| gd (aOk (tg m6 v7 % 1000) (tg m6 o5) = true) <| some (.inl none, (mst m6 v7 a1 o5))) (cl d 43 [pR a0, pI a1] m) := by
  refine q_in (n := 4) (L := [pR a0, pI a1, pU, pU]) rfl rfl rfl ?_
  refine r_iln1 (p := 1) f43_0 rfl ?_
  refine r_iconst (p := 2) f43_1 rfl (pinD rfl rfl) ?_
  refine r_istI (p := 5) f43_2 rfl rfl rfl hd (Nat.le_of_ble_eq_true rfl) rfl rfl rfl (fun _ => rfl) (fun v1 m1 c1 => ?_)
  have hz1 := z_k c1 hz
  refine r_istV (p := 8) f43_5 rfl rfl rfl hd (Nat.le_of_ble_eq_true rfl) rfl rfl rfl (fun _ => rfl) (fun m2 c2 => ?_)
  have hz2 := z_k c2 hz1
  refine r_aln0 (p := 9) f43_8 rfl ?_
  refine le2_gd (fun h1 => ?_)
  refine r_invI (p := 12) f43_9 rfl rfl rfl (Or.inl h1) hd (Nat.le_of_ble_eq_true rfl) rfl rfl rfl (fun _ => rfl) (fun v3 m3 c3 => ?_)
  have hz3 := z_k c3 hz2
  refine r_isn2 (p := 13) f43_12 rfl rfl ?_
  refine r_aln0 (p := 14) f43_13 rfl ?_
  refine r_iln2 (p := 15) f43_14 rfl ?_
  have h2 := k_t1 c3 hz2 h1 (by decide)
  refine r_invR (p := 18) f43_15 rfl rfl rfl (Or.inl h2) hd (Nat.le_of_ble_eq_true rfl) rfl rfl rfl (fun _ => rfl) (fun v4 m4 c4 => ?_)
  have hz4 := z_k c4 hz3
  refine r_asn3 (p := 19) f43_18 rfl rfl ?_
  refine r_aln3 (p := 20) f43_19 rfl ?_
  refine le2_gd (fun h3 => ?_)
  refine r_gfIZ (f := 1) (p := 23) f43_20 rfl rfl rfl (Or.inl h3) rfl ?_
  refine r_ifne (t := 39) (p := 26) f43_23 (by decide) rfl rfl ?_ ?_
  · refine r_aln0 (p := 27) f43_26 rfl ?_
    refine r_iln2 (p := 28) f43_27 rfl ?_
    have h9 := k_t1 c4 hz3 h2 (by decide)
    refine r_pfI (f := 19) (p := 31) f43_28 rfl rfl rfl (by decide) (by decide) (Or.inl h9) rfl ?_
    exact r_throw (e := 204) (f0 := 6) f43_31 rfl (by decide) (Nat.le_of_ble_eq_true rfl) rfl rfl
  · refine r_aln0 (p := 40) f43_39 rfl ?_
    have h4 := k_t1 c4 hz3 h2 (by decide)
    refine r_gfR (f := 14) (p := 43) f43_40 rfl rfl rfl (Or.inl h4) rfl ?_
    refine r_nmR (fun v7 ev7 => ?_)
    refine r_iln1 (p := 44) f43_43 rfl ?_
    refine r_new (t1 := 30) (f1 := 5) (p := 47) f43_44 rfl rfl rfl rfl rfl (fun o5 m5 h5 k5 => ?_)
    have hz5 := z_k k5 hz4
    refine r_dup (p := 48) f43_47 rfl rfl ?_
    refine r_aln3 (p := 49) f43_48 rfl ?_
    refine r_ispV (p := 52) f43_49 rfl rfl rfl (Or.inl h5) hd (Nat.le_of_ble_eq_true rfl) rfl rfl rfl (fun _ => rfl) (fun m6 c6 => ?_)
    have hz6 := z_k c6 hz5
    refine le2_gd (fun h6 => ?_)
    refine le2_gd (fun h7 => ?_)
    refine le2_gd (fun h8 => ?_)
    refine r_aastore (p := 53) f43_52 rfl (dj1 (fun x => 1000 ≤ x ∧ (110 < x % 1000 ∧ x % 1000 < 119) ∧ Nat.testBit (eM 43) (bix x 0) = true) h6 (by decide)) h7 h8 ?_
    exact r_ret f43_53
/-! 44 PathStore.find (II)I -/
def w44_9 : List UInt8 := [16, 10, 182, 1, 23, 132, 6, 1, 132, 9, 1, 167, 255, 143, 21, 6, 172]
abbrev u44_9 : List UInt8 := w44_9 ++ []
def w44_8 : List UInt8 := [167, 0, 31, 42, 180, 0, 19, 25, 5, 180, 1, 72, 21, 9, 46, 133, 182, 1, 19, 42, 180, 0, 19]
abbrev u44_8 : List UInt8 := w44_8 ++ u44_9
def w44_7 : List UInt8 := [180, 0, 71, 42, 25, 5, 180, 1, 46, 182, 1, 50, 42, 180, 0, 67, 3, 182, 1, 73, 154, 0, 6]
abbrev u44_7 : List UInt8 := w44_7 ++ u44_8
def w44_6 : List UInt8 := [180, 0, 169, 25, 5, 180, 1, 72, 21, 9, 46, 182, 0, 195, 42, 180, 0, 71, 182, 0, 218, 42]
abbrev u44_6 : List UInt8 := w44_6 ++ u44_7
def w44_5 : List UInt8 := [180, 1, 68, 21, 9, 47, 22, 7, 148, 154, 0, 95, 42, 180, 0, 60, 42, 180, 0, 60, 25, 4]
abbrev u44_5 : List UInt8 := w44_5 ++ u44_6
def w44_4 : List UInt8 := [55, 7, 25, 5, 22, 7, 182, 1, 65, 54, 9, 21, 9, 25, 5, 180, 1, 45, 162, 0, 109, 25, 5]
abbrev u44_4 : List UInt8 := w44_4 ++ u44_5
def w44_3 : List UInt8 := [25, 4, 182, 1, 61, 42, 180, 0, 19, 3, 181, 0, 191, 3, 54, 6, 42, 180, 0, 67, 3, 184, 1, 54]
abbrev u44_3 : List UInt8 := w44_3 ++ u44_4
def w44_2 : List UInt8 := [4, 167, 0, 4, 3, 184, 0, 148, 42, 29, 182, 0, 188, 42, 180, 0, 87, 27, 50, 58, 5, 42, 25, 5]
abbrev u44_2 : List UInt8 := w44_2 ++ u44_3
def w44_1 : List UInt8 := [184, 0, 141, 42, 182, 0, 184, 62, 42, 28, 182, 0, 211, 58, 4, 42, 180, 0, 87, 27, 50, 198, 0, 7]
abbrev u44_1 : List UInt8 := w44_1 ++ u44_2
def w44_0 : List UInt8 := [27, 7, 184, 0, 137, 153, 0, 18, 28, 4, 96, 16, 9, 184, 0, 137, 153, 0, 7, 4, 167, 0, 4, 3]
abbrev u44_0 : List UInt8 := w44_0 ++ u44_1
theorem s44_0 : (prog_1_method_30_code).data.toList.drop 0 = u44_0 := by decide +kernel
theorem s44_1 : (prog_1_method_30_code).data.toList.drop 24 = u44_1 := dk_seg s44_0 24 rfl rfl
theorem s44_2 : (prog_1_method_30_code).data.toList.drop 48 = u44_2 := dk_seg s44_1 24 rfl rfl
theorem s44_3 : (prog_1_method_30_code).data.toList.drop 72 = u44_3 := dk_seg s44_2 24 rfl rfl
theorem s44_4 : (prog_1_method_30_code).data.toList.drop 96 = u44_4 := dk_seg s44_3 24 rfl rfl
theorem s44_5 : (prog_1_method_30_code).data.toList.drop 119 = u44_5 := dk_seg s44_4 23 rfl rfl
theorem s44_6 : (prog_1_method_30_code).data.toList.drop 141 = u44_6 := dk_seg s44_5 22 rfl rfl
theorem s44_7 : (prog_1_method_30_code).data.toList.drop 163 = u44_7 := dk_seg s44_6 22 rfl rfl
theorem s44_8 : (prog_1_method_30_code).data.toList.drop 186 = u44_8 := dk_seg s44_7 23 rfl rfl
theorem s44_9 : (prog_1_method_30_code).data.toList.drop 209 = u44_9 := dk_seg s44_8 23 rfl rfl
theorem Fm44 {pc len : Nat} {i : Instr} (h : decode (prog_1_method_30_code) pc = .ok (i, len)) (hl : len = ilen i len) : ft 44 pc = some (1, 1, 0, i, len) := ft_mk rfl h hl
theorem f44_0 : ft 44 0 = some (1, 1, 0, .iload_n 1, 1) := Fm44 (dk_27 (dk_at s44_0 0 rfl rfl)) rfl
theorem f44_1 : ft 44 1 = some (1, 1, 0, .iconst 4, 1) := Fm44 (dk_7 (dk_at s44_0 1 rfl rfl)) rfl
theorem f44_2 : ft 44 2 = some (1, 1, 0, .invokestatic 137, 3) := Fm44 (dk_184 0 137 (dk_at s44_0 2 rfl rfl)) rfl
theorem f44_5 : ft 44 5 = some (1, 1, 0, .ifCond .eq 18, 3) := Fm44 (dk_153 0 18 (dk_at s44_0 5 rfl rfl)) rfl
theorem f44_8 : ft 44 8 = some (1, 1, 0, .iload_n 2, 1) := Fm44 (dk_28 (dk_at s44_0 8 rfl rfl)) rfl
theorem f44_9 : ft 44 9 = some (1, 1, 0, .iconst 1, 1) := Fm44 (dk_4 (dk_at s44_0 9 rfl rfl)) rfl
theorem f44_10 : ft 44 10 = some (1, 1, 0, .iadd, 1) := Fm44 (dk_96 (dk_at s44_0 10 rfl rfl)) rfl
theorem f44_11 : ft 44 11 = some (1, 1, 0, .bipush 9, 2) := Fm44 (dk_16 9 (dk_at s44_0 11 rfl rfl)) rfl
theorem f44_13 : ft 44 13 = some (1, 1, 0, .invokestatic 137, 3) := Fm44 (dk_184 0 137 (dk_at s44_0 13 rfl rfl)) rfl
theorem f44_16 : ft 44 16 = some (1, 1, 0, .ifCond .eq 7, 3) := Fm44 (dk_153 0 7 (dk_at s44_0 16 rfl rfl)) rfl
theorem f44_19 : ft 44 19 = some (1, 1, 0, .iconst 1, 1) := Fm44 (dk_4 (dk_at s44_0 19 rfl rfl)) rfl
theorem f44_20 : ft 44 20 = some (1, 1, 0, .goto 4, 3) := Fm44 (dk_167 0 4 (dk_at s44_0 20 rfl rfl)) rfl
theorem f44_23 : ft 44 23 = some (1, 1, 0, .iconst 0, 1) := Fm44 (dk_3 (dk_at s44_0 23 rfl rfl)) rfl
theorem f44_24 : ft 44 24 = some (1, 1, 0, .invokestatic 141, 3) := Fm44 (dk_184 0 141 (dk_at s44_1 0 rfl rfl)) rfl
theorem f44_27 : ft 44 27 = some (1, 1, 0, .aload_n 0, 1) := Fm44 (dk_42 (dk_at s44_1 3 rfl rfl)) rfl
theorem f44_28 : ft 44 28 = some (1, 1, 0, .invokevirtual 184, 3) := Fm44 (dk_182 0 184 (dk_at s44_1 4 rfl rfl)) rfl
theorem f44_31 : ft 44 31 = some (1, 1, 0, .istore_n 3, 1) := Fm44 (dk_62 (dk_at s44_1 7 rfl rfl)) rfl
theorem f44_32 : ft 44 32 = some (1, 1, 0, .aload_n 0, 1) := Fm44 (dk_42 (dk_at s44_1 8 rfl rfl)) rfl
theorem f44_33 : ft 44 33 = some (1, 1, 0, .iload_n 2, 1) := Fm44 (dk_28 (dk_at s44_1 9 rfl rfl)) rfl
theorem f44_34 : ft 44 34 = some (1, 1, 0, .invokevirtual 211, 3) := Fm44 (dk_182 0 211 (dk_at s44_1 10 rfl rfl)) rfl
theorem f44_37 : ft 44 37 = some (1, 1, 0, .astore 4, 2) := Fm44 (dk_58 4 (dk_at s44_1 13 rfl rfl)) rfl
theorem f44_39 : ft 44 39 = some (1, 1, 0, .aload_n 0, 1) := Fm44 (dk_42 (dk_at s44_1 15 rfl rfl)) rfl
theorem f44_40 : ft 44 40 = some (1, 1, 0, .getfield 87, 3) := Fm44 (dk_180 0 87 (dk_at s44_1 16 rfl rfl)) rfl
theorem f44_43 : ft 44 43 = some (1, 1, 0, .iload_n 1, 1) := Fm44 (dk_27 (dk_at s44_1 19 rfl rfl)) rfl
theorem f44_44 : ft 44 44 = some (1, 1, 0, .aaload, 1) := Fm44 (dk_50 (dk_at s44_1 20 rfl rfl)) rfl
theorem f44_45 : ft 44 45 = some (1, 1, 0, .ifnull 7, 3) := Fm44 (dk_198 0 7 (dk_at s44_1 21 rfl rfl)) rfl
theorem f44_48 : ft 44 48 = some (1, 1, 0, .iconst 1, 1) := Fm44 (dk_4 (dk_at s44_2 0 rfl rfl)) rfl
theorem f44_49 : ft 44 49 = some (1, 1, 0, .goto 4, 3) := Fm44 (dk_167 0 4 (dk_at s44_2 1 rfl rfl)) rfl
theorem f44_52 : ft 44 52 = some (1, 1, 0, .iconst 0, 1) := Fm44 (dk_3 (dk_at s44_2 4 rfl rfl)) rfl
theorem f44_53 : ft 44 53 = some (1, 1, 0, .invokestatic 148, 3) := Fm44 (dk_184 0 148 (dk_at s44_2 5 rfl rfl)) rfl
theorem f44_56 : ft 44 56 = some (1, 1, 0, .aload_n 0, 1) := Fm44 (dk_42 (dk_at s44_2 8 rfl rfl)) rfl
theorem f44_57 : ft 44 57 = some (1, 1, 0, .iload_n 3, 1) := Fm44 (dk_29 (dk_at s44_2 9 rfl rfl)) rfl
theorem f44_58 : ft 44 58 = some (1, 1, 0, .invokevirtual 188, 3) := Fm44 (dk_182 0 188 (dk_at s44_2 10 rfl rfl)) rfl
theorem f44_61 : ft 44 61 = some (1, 1, 0, .aload_n 0, 1) := Fm44 (dk_42 (dk_at s44_2 13 rfl rfl)) rfl
theorem f44_62 : ft 44 62 = some (1, 1, 0, .getfield 87, 3) := Fm44 (dk_180 0 87 (dk_at s44_2 14 rfl rfl)) rfl
theorem f44_65 : ft 44 65 = some (1, 1, 0, .iload_n 1, 1) := Fm44 (dk_27 (dk_at s44_2 17 rfl rfl)) rfl
theorem f44_66 : ft 44 66 = some (1, 1, 0, .aaload, 1) := Fm44 (dk_50 (dk_at s44_2 18 rfl rfl)) rfl
theorem f44_67 : ft 44 67 = some (1, 1, 0, .astore 5, 2) := Fm44 (dk_58 5 (dk_at s44_2 19 rfl rfl)) rfl
theorem f44_69 : ft 44 69 = some (1, 1, 0, .aload_n 0, 1) := Fm44 (dk_42 (dk_at s44_2 21 rfl rfl)) rfl
theorem f44_70 : ft 44 70 = some (1, 1, 0, .aload 5, 2) := Fm44 (dk_25 5 (dk_at s44_2 22 rfl rfl)) rfl
theorem f44_72 : ft 44 72 = some (1, 1, 0, .aload 4, 2) := Fm44 (dk_25 4 (dk_at s44_3 0 rfl rfl)) rfl
theorem f44_74 : ft 44 74 = some (1, 1, 0, .invokevirtual 317, 3) := Fm44 (dk_182 1 61 (dk_at s44_3 2 rfl rfl)) rfl
theorem f44_77 : ft 44 77 = some (1, 1, 0, .aload_n 0, 1) := Fm44 (dk_42 (dk_at s44_3 5 rfl rfl)) rfl
theorem f44_78 : ft 44 78 = some (1, 1, 0, .getfield 19, 3) := Fm44 (dk_180 0 19 (dk_at s44_3 6 rfl rfl)) rfl
theorem f44_81 : ft 44 81 = some (1, 1, 0, .iconst 0, 1) := Fm44 (dk_3 (dk_at s44_3 9 rfl rfl)) rfl
theorem f44_82 : ft 44 82 = some (1, 1, 0, .putfield 191, 3) := Fm44 (dk_181 0 191 (dk_at s44_3 10 rfl rfl)) rfl
theorem f44_85 : ft 44 85 = some (1, 1, 0, .iconst 0, 1) := Fm44 (dk_3 (dk_at s44_3 13 rfl rfl)) rfl
theorem f44_86 : ft 44 86 = some (1, 1, 0, .istore 6, 2) := Fm44 (dk_54 6 (dk_at s44_3 14 rfl rfl)) rfl
theorem f44_88 : ft 44 88 = some (1, 1, 0, .aload_n 0, 1) := Fm44 (dk_42 (dk_at s44_3 16 rfl rfl)) rfl
theorem f44_89 : ft 44 89 = some (1, 1, 0, .getfield 67, 3) := Fm44 (dk_180 0 67 (dk_at s44_3 17 rfl rfl)) rfl
theorem f44_92 : ft 44 92 = some (1, 1, 0, .iconst 0, 1) := Fm44 (dk_3 (dk_at s44_3 20 rfl rfl)) rfl
theorem f44_93 : ft 44 93 = some (1, 1, 0, .invokestatic 310, 3) := Fm44 (dk_184 1 54 (dk_at s44_3 21 rfl rfl)) rfl
theorem f44_96 : ft 44 96 = some (1, 1, 0, .lstore 7, 2) := Fm44 (dk_55 7 (dk_at s44_4 0 rfl rfl)) rfl
theorem f44_98 : ft 44 98 = some (1, 1, 0, .aload 5, 2) := Fm44 (dk_25 5 (dk_at s44_4 2 rfl rfl)) rfl
theorem f44_100 : ft 44 100 = some (1, 1, 0, .lload 7, 2) := Fm44 (dk_22 7 (dk_at s44_4 4 rfl rfl)) rfl
theorem f44_102 : ft 44 102 = some (1, 1, 0, .invokevirtual 321, 3) := Fm44 (dk_182 1 65 (dk_at s44_4 6 rfl rfl)) rfl
theorem f44_105 : ft 44 105 = some (1, 1, 0, .istore 9, 2) := Fm44 (dk_54 9 (dk_at s44_4 9 rfl rfl)) rfl
theorem f44_107 : ft 44 107 = some (1, 1, 0, .iload 9, 2) := Fm44 (dk_21 9 (dk_at s44_4 11 rfl rfl)) rfl
theorem f44_109 : ft 44 109 = some (1, 1, 0, .aload 5, 2) := Fm44 (dk_25 5 (dk_at s44_4 13 rfl rfl)) rfl
theorem f44_111 : ft 44 111 = some (1, 1, 0, .getfield 301, 3) := Fm44 (dk_180 1 45 (dk_at s44_4 15 rfl rfl)) rfl
theorem f44_114 : ft 44 114 = some (1, 1, 0, .if_icmp .ge 109, 3) := Fm44 (dk_162 0 109 (dk_at s44_4 18 rfl rfl)) rfl
theorem f44_117 : ft 44 117 = some (1, 1, 0, .aload 5, 2) := Fm44 (dk_25 5 (dk_at s44_4 21 rfl rfl)) rfl
theorem f44_119 : ft 44 119 = some (1, 1, 0, .getfield 324, 3) := Fm44 (dk_180 1 68 (dk_at s44_5 0 rfl rfl)) rfl
theorem f44_122 : ft 44 122 = some (1, 1, 0, .iload 9, 2) := Fm44 (dk_21 9 (dk_at s44_5 3 rfl rfl)) rfl
theorem f44_124 : ft 44 124 = some (1, 1, 0, .laload, 1) := Fm44 (dk_47 (dk_at s44_5 5 rfl rfl)) rfl
theorem f44_125 : ft 44 125 = some (1, 1, 0, .lload 7, 2) := Fm44 (dk_22 7 (dk_at s44_5 6 rfl rfl)) rfl
theorem f44_127 : ft 44 127 = some (1, 1, 0, .lcmp, 1) := Fm44 (dk_148 (dk_at s44_5 8 rfl rfl)) rfl
theorem f44_128 : ft 44 128 = some (1, 1, 0, .ifCond .ne 95, 3) := Fm44 (dk_154 0 95 (dk_at s44_5 9 rfl rfl)) rfl
theorem f44_131 : ft 44 131 = some (1, 1, 0, .aload_n 0, 1) := Fm44 (dk_42 (dk_at s44_5 12 rfl rfl)) rfl
theorem f44_132 : ft 44 132 = some (1, 1, 0, .getfield 60, 3) := Fm44 (dk_180 0 60 (dk_at s44_5 13 rfl rfl)) rfl
theorem f44_135 : ft 44 135 = some (1, 1, 0, .aload_n 0, 1) := Fm44 (dk_42 (dk_at s44_5 16 rfl rfl)) rfl
theorem f44_136 : ft 44 136 = some (1, 1, 0, .getfield 60, 3) := Fm44 (dk_180 0 60 (dk_at s44_5 17 rfl rfl)) rfl
theorem f44_139 : ft 44 139 = some (1, 1, 0, .aload 4, 2) := Fm44 (dk_25 4 (dk_at s44_5 20 rfl rfl)) rfl
theorem f44_141 : ft 44 141 = some (1, 1, 0, .getfield 169, 3) := Fm44 (dk_180 0 169 (dk_at s44_6 0 rfl rfl)) rfl
theorem f44_144 : ft 44 144 = some (1, 1, 0, .aload 5, 2) := Fm44 (dk_25 5 (dk_at s44_6 3 rfl rfl)) rfl
theorem f44_146 : ft 44 146 = some (1, 1, 0, .getfield 328, 3) := Fm44 (dk_180 1 72 (dk_at s44_6 5 rfl rfl)) rfl
theorem f44_149 : ft 44 149 = some (1, 1, 0, .iload 9, 2) := Fm44 (dk_21 9 (dk_at s44_6 8 rfl rfl)) rfl
theorem f44_151 : ft 44 151 = some (1, 1, 0, .iaload, 1) := Fm44 (dk_46 (dk_at s44_6 10 rfl rfl)) rfl
theorem f44_152 : ft 44 152 = some (1, 1, 0, .invokevirtual 195, 3) := Fm44 (dk_182 0 195 (dk_at s44_6 11 rfl rfl)) rfl
theorem f44_155 : ft 44 155 = some (1, 1, 0, .aload_n 0, 1) := Fm44 (dk_42 (dk_at s44_6 14 rfl rfl)) rfl
theorem f44_156 : ft 44 156 = some (1, 1, 0, .getfield 71, 3) := Fm44 (dk_180 0 71 (dk_at s44_6 15 rfl rfl)) rfl
theorem f44_159 : ft 44 159 = some (1, 1, 0, .invokevirtual 218, 3) := Fm44 (dk_182 0 218 (dk_at s44_6 18 rfl rfl)) rfl
theorem f44_162 : ft 44 162 = some (1, 1, 0, .aload_n 0, 1) := Fm44 (dk_42 (dk_at s44_6 21 rfl rfl)) rfl
theorem f44_163 : ft 44 163 = some (1, 1, 0, .getfield 71, 3) := Fm44 (dk_180 0 71 (dk_at s44_7 0 rfl rfl)) rfl
theorem f44_166 : ft 44 166 = some (1, 1, 0, .aload_n 0, 1) := Fm44 (dk_42 (dk_at s44_7 3 rfl rfl)) rfl
theorem f44_167 : ft 44 167 = some (1, 1, 0, .aload 5, 2) := Fm44 (dk_25 5 (dk_at s44_7 4 rfl rfl)) rfl
theorem f44_169 : ft 44 169 = some (1, 1, 0, .getfield 302, 3) := Fm44 (dk_180 1 46 (dk_at s44_7 6 rfl rfl)) rfl
theorem f44_172 : ft 44 172 = some (1, 1, 0, .invokevirtual 306, 3) := Fm44 (dk_182 1 50 (dk_at s44_7 9 rfl rfl)) rfl
theorem f44_175 : ft 44 175 = some (1, 1, 0, .aload_n 0, 1) := Fm44 (dk_42 (dk_at s44_7 12 rfl rfl)) rfl
theorem f44_176 : ft 44 176 = some (1, 1, 0, .getfield 67, 3) := Fm44 (dk_180 0 67 (dk_at s44_7 13 rfl rfl)) rfl
theorem f44_179 : ft 44 179 = some (1, 1, 0, .iconst 0, 1) := Fm44 (dk_3 (dk_at s44_7 16 rfl rfl)) rfl
theorem f44_180 : ft 44 180 = some (1, 1, 0, .invokevirtual 329, 3) := Fm44 (dk_182 1 73 (dk_at s44_7 17 rfl rfl)) rfl
theorem f44_183 : ft 44 183 = some (1, 1, 0, .ifCond .ne 6, 3) := Fm44 (dk_154 0 6 (dk_at s44_7 20 rfl rfl)) rfl
theorem f44_186 : ft 44 186 = some (1, 1, 0, .goto 31, 3) := Fm44 (dk_167 0 31 (dk_at s44_8 0 rfl rfl)) rfl
theorem f44_189 : ft 44 189 = some (1, 1, 0, .aload_n 0, 1) := Fm44 (dk_42 (dk_at s44_8 3 rfl rfl)) rfl
theorem f44_190 : ft 44 190 = some (1, 1, 0, .getfield 19, 3) := Fm44 (dk_180 0 19 (dk_at s44_8 4 rfl rfl)) rfl
theorem f44_193 : ft 44 193 = some (1, 1, 0, .aload 5, 2) := Fm44 (dk_25 5 (dk_at s44_8 7 rfl rfl)) rfl
theorem f44_195 : ft 44 195 = some (1, 1, 0, .getfield 328, 3) := Fm44 (dk_180 1 72 (dk_at s44_8 9 rfl rfl)) rfl
theorem f44_198 : ft 44 198 = some (1, 1, 0, .iload 9, 2) := Fm44 (dk_21 9 (dk_at s44_8 12 rfl rfl)) rfl
theorem f44_200 : ft 44 200 = some (1, 1, 0, .iaload, 1) := Fm44 (dk_46 (dk_at s44_8 14 rfl rfl)) rfl
theorem f44_201 : ft 44 201 = some (1, 1, 0, .i2l, 1) := Fm44 (dk_133 (dk_at s44_8 15 rfl rfl)) rfl
theorem f44_202 : ft 44 202 = some (1, 1, 0, .invokevirtual 275, 3) := Fm44 (dk_182 1 19 (dk_at s44_8 16 rfl rfl)) rfl
theorem f44_205 : ft 44 205 = some (1, 1, 0, .aload_n 0, 1) := Fm44 (dk_42 (dk_at s44_8 19 rfl rfl)) rfl
theorem f44_206 : ft 44 206 = some (1, 1, 0, .getfield 19, 3) := Fm44 (dk_180 0 19 (dk_at s44_8 20 rfl rfl)) rfl
theorem f44_209 : ft 44 209 = some (1, 1, 0, .bipush 10, 2) := Fm44 (dk_16 10 (dk_at s44_9 0 rfl rfl)) rfl
theorem f44_211 : ft 44 211 = some (1, 1, 0, .invokevirtual 279, 3) := Fm44 (dk_182 1 23 (dk_at s44_9 2 rfl rfl)) rfl
theorem f44_214 : ft 44 214 = some (1, 1, 0, .iinc 6 1, 3) := Fm44 (dk_132 6 1 (dk_at s44_9 5 rfl rfl)) rfl
theorem f44_217 : ft 44 217 = some (1, 1, 0, .iinc 9 1, 3) := Fm44 (dk_132 9 1 (dk_at s44_9 8 rfl rfl)) rfl
theorem f44_220 : ft 44 220 = some (1, 1, 0, .goto (-113), 3) := Fm44 (dk_167 255 143 (dk_at s44_9 11 rfl rfl)) rfl
theorem f44_223 : ft 44 223 = some (1, 1, 0, .iload 6, 2) := Fm44 (dk_21 6 (dk_at s44_9 14 rfl rfl)) rfl
theorem f44_225 : ft 44 225 = some (1, 1, 0, .ireturn, 1) := Fm44 (dk_172 (dk_at s44_9 16 rfl rfl)) rfl
theorem q44 {d : Nat} {m : Mem} {a0 a1 a2 : Int} (hd : 0 < d) (hz : TZ m) : le2 (bI (cl (d - 1) 22 [pI a1, pI 4] m) fun v1 m1 => if v1 = 0 then (rn d 44 24 [pR a0, pI a1, pI a2, pU, pU, pU, pU, pU, pU, pU] [pI 0] m1) else bI (cl (d - 1) 22 [pI (w32 (a2 + 1)), pI 9] m1) fun v2 m2 => if v2 = 0 then (rn d 44 24 [pR a0, pI a1, pI a2, pU, pU, pU, pU, pU, pU, pU] [pI 0] m2) else rn d 44 24 [pR a0, pI a1, pI a2, pU, pU, pU, pU, pU, pU, pU] [pI 1] m2) (cl d 44 [pR a0, pI a1, pI a2] m) := by
  refine q_in (n := 10) (L := [pR a0, pI a1, pI a2, pU, pU, pU, pU, pU, pU, pU]) rfl rfl rfl ?_
  refine r_iln1 (p := 1) f44_0 rfl ?_
  refine r_iconst (p := 2) f44_1 rfl (pinD rfl rfl) ?_
  refine r_istI (p := 5) f44_2 rfl rfl rfl hd (Nat.le_of_ble_eq_true rfl) rfl rfl rfl (fun _ => rfl) (fun v1 m1 c1 => ?_)
  have hz1 := z_k c1 hz
  refine r_ifeq (t := 23) (p := 8) f44_5 (by decide) rfl rfl ?_ ?_
  · refine r_iconst (p := 24) f44_23 rfl (pinD rfl rfl) ?_
    exact le2_refl _
  · refine r_iln2 (p := 9) f44_8 rfl ?_
    refine r_iconst (p := 10) f44_9 rfl (pinD rfl rfl) ?_
    refine r_iadd (p := 11) f44_10 rfl ?_
    refine r_bipush (p := 13) f44_11 rfl (pinD rfl rfl) ?_
    refine r_istI (p := 16) f44_13 rfl rfl rfl hd (Nat.le_of_ble_eq_true rfl) rfl rfl rfl (fun _ => rfl) (fun v2 m2 c2 => ?_)
    have hz2 := z_k c2 hz1
    refine r_ifeq (t := 23) (p := 19) f44_16 (by decide) rfl rfl ?_ ?_
    · refine r_iconst (p := 24) f44_23 rfl (pinD rfl rfl) ?_
      exact le2_refl _
    · refine r_iconst (p := 20) f44_19 rfl (pinD rfl rfl) ?_
      refine r_goto (p := 24) f44_20 (by decide) rfl ?_
      exact le2_refl _
theorem q44_24 {d : Nat} {m : Mem} {a0 a1 a2 s0 : Int} (hd : 0 < d) (hz : TZ m) : le2 (bV (cl (d - 1) 23 [pI s0] m) fun m1 => gd (tg m1 a0 = 1) <| bI (cl (d - 1) 25 [pR a0] m1) fun v2 m2 => bR (cl (d - 1) 31 [pR a0, pI a2] m2) fun v3 m3 => nm (vl m3 a0 14) fun v4 => gd (tg m3 v4 = 17116) <| gd ((0 : Int) ≤ a1 ∧ a1 < ln m3 v4) <| if (vl m3 v4 a1) = 0 then (rn d 44 53 [pR a0, pI a1, pI a2, pI v2, pR v3, pU, pU, pU, pU, pU] [pI 0] m3) else rn d 44 53 [pR a0, pI a1, pI a2, pI v2, pR v3, pU, pU, pU, pU, pU] [pI 1] m3) (rn d 44 24 [pR a0, pI a1, pI a2, pU, pU, pU, pU, pU, pU, pU] [pI s0] m) := by
  refine r_istV (p := 27) f44_24 rfl rfl rfl hd (Nat.le_of_ble_eq_true rfl) rfl rfl rfl (fun _ => rfl) (fun m1 c1 => ?_)
  have hz1 := z_k c1 hz
  refine r_aln0 (p := 28) f44_27 rfl ?_
  refine le2_gd (fun h1 => ?_)
  refine r_invI (p := 31) f44_28 rfl rfl rfl (Or.inl h1) hd (Nat.le_of_ble_eq_true rfl) rfl rfl rfl (fun _ => rfl) (fun v2 m2 c2 => ?_)
  have hz2 := z_k c2 hz1
  refine r_isn3 (p := 32) f44_31 rfl rfl ?_
  refine r_aln0 (p := 33) f44_32 rfl ?_
  refine r_iln2 (p := 34) f44_33 rfl ?_
  have h2 := k_t1 c2 hz1 h1 (by decide)
  refine r_invR (p := 37) f44_34 rfl rfl rfl (Or.inl h2) hd (Nat.le_of_ble_eq_true rfl) rfl rfl rfl (fun _ => rfl) (fun v3 m3 c3 => ?_)
  have hz3 := z_k c3 hz2
  refine r_asw4 (p := 39) f44_37 rfl rfl ?_
  refine r_aln0 (p := 40) f44_39 rfl ?_
  have h3 := k_t1 c3 hz2 h2 (by decide)
  refine r_gfR (f := 14) (p := 43) f44_40 rfl rfl rfl (Or.inl h3) rfl ?_
  refine r_nmR (fun v4 ev4 => ?_)
  refine r_iln1 (p := 44) f44_43 rfl ?_
  refine le2_gd (fun h4 => ?_)
  refine le2_gd (fun h5 => ?_)
  refine r_aaload (p := 45) f44_44 rfl (dj1 (fun x => 110 < x % 1000 ∧ x % 1000 < 119) h4 (by decide)) h5 rfl ?_
  refine r_ifnull (t := 52) (p := 48) f44_45 (by decide) rfl rfl ?_ ?_
  · refine r_iconst (p := 53) f44_52 rfl (pinD rfl rfl) ?_
    exact le2_refl _
  · refine r_iconst (p := 49) f44_48 rfl (pinD rfl rfl) ?_
    refine r_goto (p := 53) f44_49 (by decide) rfl ?_
    exact le2_refl _
theorem q44_53 {d : Nat} {m : Mem} {a0 a1 a2 a3 a4 s0 : Int} (hd : 0 < d) (hz : TZ m) : le2 (bV (cl (d - 1) 26 [pI s0] m) fun m1 => gd (tg m1 a0 = 1) <| bV (cl (d - 1) 27 [pR a0, pI a3] m1) fun m2 => nm (vl m2 a0 14) fun v6 => gd (tg m2 v6 = 17116) <| gd ((0 : Int) ≤ a1 ∧ a1 < ln m2 v6) <| nm (vl m2 v6 a1) fun v7 => bV (cl (d - 1) 45 [pR a0, pR v7, pR a4] m2) fun m3 => nm (vl m3 a0 2) fun v8 => gd (tg m3 v8 = 2) <| bL (cl (d - 1) 344 [pR (vl m3 a0 10), pI 0] (mst m3 v8 1 0)) fun v4 m4 => gd (tg m4 v7 = 30) <| bI (cl (d - 1) 348 [pR v7, pL v4] m4) fun v5 m5 => rn d 44 107 [pR a0, pI a1, pI a2, pI a3, pR a4, pR v7, pI 0, pL v4, pU, pI v5] [] m5) (rn d 44 53 [pR a0, pI a1, pI a2, pI a3, pR a4, pU, pU, pU, pU, pU] [pI s0] m) := by
  refine r_istV (p := 56) f44_53 rfl rfl rfl hd (Nat.le_of_ble_eq_true rfl) rfl rfl rfl (fun _ => rfl) (fun m1 c1 => ?_)
  have hz1 := z_k c1 hz
  refine r_aln0 (p := 57) f44_56 rfl ?_
  refine r_iln3 (p := 58) f44_57 rfl ?_
  refine le2_gd (fun h1 => ?_)
  refine r_invV (p := 61) f44_58 rfl rfl rfl (Or.inl h1) hd (Nat.le_of_ble_eq_true rfl) rfl rfl rfl (fun _ => rfl) (fun m2 c2 => ?_)
  have hz2 := z_k c2 hz1
  refine r_aln0 (p := 62) f44_61 rfl ?_
  have h2 := k_t1 c2 hz1 h1 (by decide)
  refine r_gfR (f := 14) (p := 65) f44_62 rfl rfl rfl (Or.inl h2) rfl ?_
  refine r_nmR (fun v6 ev6 => ?_)
  refine r_iln1 (p := 66) f44_65 rfl ?_
  refine le2_gd (fun h3 => ?_)
  refine le2_gd (fun h4 => ?_)
  refine r_aaload (p := 67) f44_66 rfl (dj1 (fun x => 110 < x % 1000 ∧ x % 1000 < 119) h3 (by decide)) h4 rfl ?_
  refine r_nmR (fun v7 ev7 => ?_)
  refine r_asw5 (p := 69) f44_67 rfl rfl ?_
  refine r_aln0 (p := 70) f44_69 rfl ?_
  refine r_alw5 (p := 72) f44_70 rfl ?_
  refine r_alw4 (p := 74) f44_72 rfl ?_
  refine r_invV (p := 77) f44_74 rfl rfl rfl (Or.inl h2) hd (Nat.le_of_ble_eq_true rfl) rfl rfl rfl (fun _ => rfl) (fun m3 c3 => ?_)
  have hz3 := z_k c3 hz2
  refine r_aln0 (p := 78) f44_77 rfl ?_
  have h5 := k_t1 c3 hz2 h2 (by decide)
  refine r_gfR (f := 2) (p := 81) f44_78 rfl rfl rfl (Or.inl h5) rfl ?_
  refine r_nmR (fun v8 ev8 => ?_)
  refine r_iconst (p := 82) f44_81 rfl (pinD rfl rfl) ?_
  refine le2_gd (fun h6 => ?_)
  refine r_pfI (f := 1) (p := 85) f44_82 rfl rfl rfl (by decide) (by decide) (Or.inl h6) rfl ?_
  refine r_iconst (p := 86) f44_85 rfl (pinD rfl rfl) ?_
  refine r_isw6 (p := 88) f44_86 rfl rfl ?_
  refine r_aln0 (p := 89) f44_88 rfl ?_
  refine r_gfR (f := 10) (p := 92) f44_89 rfl rfl rfl (Or.inl h5) (sk_f (by decide)) ?_
  refine r_iconst (p := 93) f44_92 rfl (pinD rfl rfl) ?_
  refine r_istL (p := 96) f44_93 rfl rfl rfl hd (Nat.le_of_ble_eq_true rfl) rfl rfl rfl (fun _ => rfl) (fun v4 m4 c4 => ?_)
  have hz4 := z_k c4 hz3
  refine r_lsw7 (p := 98) f44_96 rfl rfl ?_
  refine r_alw5 (p := 100) f44_98 rfl ?_
  refine r_llw7 (p := 102) f44_100 rfl ?_
  refine le2_gd (fun h7 => ?_)
  refine r_invI (p := 105) f44_102 rfl rfl rfl (Or.inl h7) hd (Nat.le_of_ble_eq_true rfl) rfl rfl rfl (fun _ => rfl) (fun v5 m5 c5 => ?_)
  have hz5 := z_k c5 hz4
  refine r_isw9 (p := 107) f44_105 rfl rfl ?_
  exact le2_refl _
theorem q44_107 {d : Nat} {m : Mem} {a0 a1 a2 a3 a4 a5 a6 a7 a9 : Int} (hd : 0 < d) (hz : TZ m) : le2 (gd (tg m a5 = 30) <| if a9 < (vl m a5 4) then (nm (vl m a5 2) fun v7 => gd (tg m v7 = 344102) <| gd ((0 : Int) ≤ a9 ∧ a9 < ln m v7) <| if (vl m v7 a9) = a7 then (gd (tg m a0 = 1) <| nm (vl m a0 9) fun v8 => gd (tg m a4 = 10) <| nm (vl m a5 3) fun v9 => gd (tg m v9 = 344101) <| gd ((0 : Int) ≤ a9 ∧ a9 < ln m v9) <| gd (tg m v8 = 9) <| bI (cl (d - 1) 165 [pR v8, pI (vl m a4 0), pI (vl m v9 a9)] m) fun v1 m1 => bV (cl (d - 1) 178 [pR v8, pI v1, pR (vl m1 a0 11)] m1) fun m2 => nm (vl m2 a0 11) fun v10 => bI (cl (d - 1) 46 [pR a0, pR (vl m2 a5 0)] m2) fun v3 m3 => gd (tg m3 v10 = 8) <| bI (cl (d - 1) 147 [pR v10, pI v3, pR (vl m3 a0 10), pI 0] m3) fun v4 m4 => if v4 = 0 then (rn d 44 107 [pR a0, pI a1, pI a2, pI a3, pR a4, pR a5, pI a6, pL a7, pU, pI (w32 (a9 + 1))] [] m4) else nm (vl m4 a0 2) fun v11 => nm (vl m4 a5 3) fun v12 => gd (tg m4 v12 = 344101) <| gd ((0 : Int) ≤ a9 ∧ a9 < ln m4 v12) <| gd (tg m4 v11 = 2) <| bV (cl (d - 1) 55 [pR v11, pL (vl m4 v12 a9)] m4) fun m5 => nm (vl m5 a0 2) fun v13 => gd (tg m5 v13 = 2) <| bV (cl (d - 1) 54 [pR v13, pI 10] m5) fun m6 => rn d 44 107 [pR a0, pI a1, pI a2, pI a3, pR a4, pR a5, pI (w32 (a6 + 1)), pL a7, pU, pI (w32 (a9 + 1))] [] m6) else some (.inl (some (pI a6)), m)) else some (.inl (some (pI a6)), m)) (rn d 44 107 [pR a0, pI a1, pI a2, pI a3, pR a4, pR a5, pI a6, pL a7, pU, pI a9] [] m) := by
  refine r_ilw9 (p := 109) f44_107 rfl ?_
  refine r_alw5 (p := 111) f44_109 rfl ?_
  refine le2_gd (fun h1 => ?_)
  refine r_gfI (f := 4) (p := 114) f44_111 rfl rfl rfl (Or.inl h1) rfl ?_
  refine r_icge (t := 223) (p := 117) f44_114 (by decide) rfl rfl ?_ ?_
  · refine r_alw5 (p := 119) f44_117 rfl ?_
    refine r_gfR (f := 2) (p := 122) f44_119 rfl rfl rfl (Or.inl h1) rfl ?_
    refine r_nmR (fun v7 ev7 => ?_)
    refine r_ilw9 (p := 124) f44_122 rfl ?_
    refine le2_gd (fun h2 => ?_)
    refine le2_gd (fun h3 => ?_)
    refine r_laload (p := 125) f44_124 rfl (dj1 (fun x => x % 1000 = 102) h2 (by decide)) h3 rfl ?_
    refine r_llw7 (p := 127) f44_125 rfl ?_
    refine r_lcne (p1 := 128) (t := 223) (p := 131) f44_127 rfl f44_128 (by decide) rfl rfl ?_ ?_
    · refine r_aln0 (p := 132) f44_131 rfl ?_
      refine le2_gd (fun h4 => ?_)
      refine r_gfR (f := 9) (p := 135) f44_132 rfl rfl rfl (Or.inl h4) rfl ?_
      refine r_nmR (fun v8 ev8 => ?_)
      refine r_aln0 (p := 136) f44_135 rfl ?_
      refine r_gfR (f := 9) (p := 139) f44_136 rfl rfl rfl (Or.inl h4) ev8.symm ?_
      refine r_alw4 (p := 141) f44_139 rfl ?_
      refine le2_gd (fun h5 => ?_)
      refine r_gfI (f := 0) (p := 144) f44_141 rfl rfl rfl (Or.inl h5) rfl ?_
      refine r_alw5 (p := 146) f44_144 rfl ?_
      refine r_gfR (f := 3) (p := 149) f44_146 rfl rfl rfl (Or.inl h1) rfl ?_
      refine r_nmR (fun v9 ev9 => ?_)
      refine r_ilw9 (p := 151) f44_149 rfl ?_
      refine le2_gd (fun h6 => ?_)
      refine le2_gd (fun h7 => ?_)
      refine r_iaload (p := 152) f44_151 rfl (dj1 (fun x => x % 1000 = 101) h6 (by decide)) h7 rfl ?_
      refine le2_gd (fun h8 => ?_)
      refine r_invI (p := 155) f44_152 rfl rfl rfl (Or.inl h8) hd (Nat.le_of_ble_eq_true rfl) rfl rfl rfl (fun _ => rfl) (fun v1 m1 c1 => ?_)
      have hz1 := z_k c1 hz
      refine r_aln0 (p := 156) f44_155 rfl ?_
      have h9 := k_t1 c1 hz h4 (by decide)
      refine r_gfR (f := 11) (p := 159) f44_156 rfl rfl rfl (Or.inl h9) rfl ?_
      have h10 := k_t1 c1 hz h8 (by decide)
      refine r_invV (p := 162) f44_159 rfl rfl rfl (Or.inl h10) hd (Nat.le_of_ble_eq_true rfl) rfl rfl rfl (fun _ => rfl) (fun m2 c2 => ?_)
      have hz2 := z_k c2 hz1
      refine r_aln0 (p := 163) f44_162 rfl ?_
      have h11 := k_t1 c2 hz1 h9 (by decide)
      refine r_gfR (f := 11) (p := 166) f44_163 rfl rfl rfl (Or.inl h11) rfl ?_
      refine r_nmR (fun v10 ev10 => ?_)
      refine r_aln0 (p := 167) f44_166 rfl ?_
      refine r_alw5 (p := 169) f44_167 rfl ?_
      have h12 := k_t1 c1 hz h1 (by decide)
      have h13 := k_t1 c2 hz1 h12 (by decide)
      refine r_gfR (f := 0) (p := 172) f44_169 rfl rfl rfl (Or.inl h13) rfl ?_
      refine r_invI (p := 175) f44_172 rfl rfl rfl (Or.inl h11) hd (Nat.le_of_ble_eq_true rfl) rfl rfl rfl (fun _ => rfl) (fun v3 m3 c3 => ?_)
      have hz3 := z_k c3 hz2
      refine r_aln0 (p := 176) f44_175 rfl ?_
      have h14 := k_t1 c3 hz2 h11 (by decide)
      refine r_gfR (f := 10) (p := 179) f44_176 rfl rfl rfl (Or.inl h14) rfl ?_
      refine r_iconst (p := 180) f44_179 rfl (pinD rfl rfl) ?_
      refine le2_gd (fun h15 => ?_)
      refine r_invI (p := 183) f44_180 rfl rfl rfl (Or.inl h15) hd (Nat.le_of_ble_eq_true rfl) rfl rfl rfl (fun _ => rfl) (fun v4 m4 c4 => ?_)
      have hz4 := z_k c4 hz3
      refine r_ifne (t := 189) (p := 186) f44_183 (by decide) rfl rfl ?_ ?_
      · refine r_goto (p := 217) f44_186 (by decide) rfl ?_
        refine r_iinc9 (p := 220) f44_217 rfl rfl ?_
        refine r_goto (p := 107) f44_220 (by decide) rfl ?_
        exact le2_refl _
      · refine r_aln0 (p := 190) f44_189 rfl ?_
        have h16 := k_t1 c4 hz3 h14 (by decide)
        refine r_gfR (f := 2) (p := 193) f44_190 rfl rfl rfl (Or.inl h16) rfl ?_
        refine r_nmR (fun v11 ev11 => ?_)
        refine r_alw5 (p := 195) f44_193 rfl ?_
        have h17 := k_t1 c3 hz2 h13 (by decide)
        have h18 := k_t1 c4 hz3 h17 (by decide)
        refine r_gfR (f := 3) (p := 198) f44_195 rfl rfl rfl (Or.inl h18) rfl ?_
        refine r_nmR (fun v12 ev12 => ?_)
        refine r_ilw9 (p := 200) f44_198 rfl ?_
        refine le2_gd (fun h19 => ?_)
        refine le2_gd (fun h20 => ?_)
        refine r_iaload (p := 201) f44_200 rfl (dj1 (fun x => x % 1000 = 101) h19 (by decide)) h20 rfl ?_
        refine r_i2l (p := 202) f44_201 rfl ?_
        refine le2_gd (fun h21 => ?_)
        refine r_invV (p := 205) f44_202 rfl rfl rfl (Or.inl h21) hd (Nat.le_of_ble_eq_true rfl) rfl rfl rfl (fun _ => rfl) (fun m5 c5 => ?_)
        have hz5 := z_k c5 hz4
        refine r_aln0 (p := 206) f44_205 rfl ?_
        have h22 := k_t1 c5 hz4 h16 (by decide)
        refine r_gfR (f := 2) (p := 209) f44_206 rfl rfl rfl (Or.inl h22) rfl ?_
        refine r_nmR (fun v13 ev13 => ?_)
        refine r_bipush (p := 211) f44_209 rfl (pinD rfl rfl) ?_
        refine le2_gd (fun h23 => ?_)
        refine r_invV (p := 214) f44_211 rfl rfl rfl (Or.inl h23) hd (Nat.le_of_ble_eq_true rfl) rfl rfl rfl (fun _ => rfl) (fun m6 c6 => ?_)
        have hz6 := z_k c6 hz5
        refine r_iinc6 (p := 217) f44_214 rfl rfl ?_
        refine r_iinc9 (p := 220) f44_217 rfl rfl ?_
        refine r_goto (p := 107) f44_220 (by decide) rfl ?_
        exact le2_refl _
    · refine r_ilw6 (p := 225) f44_223 rfl ?_
      exact r_iret1 f44_225
  · refine r_ilw6 (p := 225) f44_223 rfl ?_
    exact r_iret1 f44_225
/-! 45 PathStore.build (LPathStore$Table;LPathStore$Version;)V -/
def w45_4 : List UInt8 := [182, 1, 57, 132, 3, 1, 167, 255, 194, 177]
abbrev u45_4 : List UInt8 := w45_4 ++ []
def w45_3 : List UInt8 := [54, 4, 21, 4, 155, 0, 22, 43, 42, 180, 0, 71, 21, 4, 184, 1, 54, 42, 180, 0, 98, 29, 46]
abbrev u45_3 : List UInt8 := w45_3 ++ u45_4
def w45_2 : List UInt8 := [180, 0, 60, 42, 180, 0, 102, 29, 46, 42, 180, 0, 71, 182, 0, 218, 42, 43, 180, 1, 46, 182, 1, 50]
abbrev u45_2 : List UInt8 := w45_2 ++ u45_3
def w45_1 : List UInt8 := [181, 1, 45, 42, 44, 180, 0, 169, 182, 1, 9, 3, 62, 29, 42, 180, 0, 242, 162, 0, 60, 42]
abbrev u45_1 : List UInt8 := w45_1 ++ u45_2
def w45_0 : List UInt8 := [43, 180, 1, 43, 44, 180, 0, 181, 160, 0, 4, 177, 43, 44, 180, 0, 181, 181, 1, 43, 43, 3]
abbrev u45_0 : List UInt8 := w45_0 ++ u45_1
theorem s45_0 : (prog_1_method_29_code).data.toList.drop 0 = u45_0 := by decide +kernel
theorem s45_1 : (prog_1_method_29_code).data.toList.drop 22 = u45_1 := dk_seg s45_0 22 rfl rfl
theorem s45_2 : (prog_1_method_29_code).data.toList.drop 44 = u45_2 := dk_seg s45_1 22 rfl rfl
theorem s45_3 : (prog_1_method_29_code).data.toList.drop 68 = u45_3 := dk_seg s45_2 24 rfl rfl
theorem s45_4 : (prog_1_method_29_code).data.toList.drop 91 = u45_4 := dk_seg s45_3 23 rfl rfl
theorem Fm45 {pc len : Nat} {i : Instr} (h : decode (prog_1_method_29_code) pc = .ok (i, len)) (hl : len = ilen i len) : ft 45 pc = some (1, 0, 0, i, len) := ft_mk rfl h hl
theorem f45_0 : ft 45 0 = some (1, 0, 0, .aload_n 1, 1) := Fm45 (dk_43 (dk_at s45_0 0 rfl rfl)) rfl
theorem f45_1 : ft 45 1 = some (1, 0, 0, .getfield 299, 3) := Fm45 (dk_180 1 43 (dk_at s45_0 1 rfl rfl)) rfl
theorem f45_4 : ft 45 4 = some (1, 0, 0, .aload_n 2, 1) := Fm45 (dk_44 (dk_at s45_0 4 rfl rfl)) rfl
theorem f45_5 : ft 45 5 = some (1, 0, 0, .getfield 181, 3) := Fm45 (dk_180 0 181 (dk_at s45_0 5 rfl rfl)) rfl
theorem f45_8 : ft 45 8 = some (1, 0, 0, .if_icmp .ne 4, 3) := Fm45 (dk_160 0 4 (dk_at s45_0 8 rfl rfl)) rfl
theorem f45_11 : ft 45 11 = some (1, 0, 0, .return_, 1) := Fm45 (dk_177 (dk_at s45_0 11 rfl rfl)) rfl
theorem f45_12 : ft 45 12 = some (1, 0, 0, .aload_n 1, 1) := Fm45 (dk_43 (dk_at s45_0 12 rfl rfl)) rfl
theorem f45_13 : ft 45 13 = some (1, 0, 0, .aload_n 2, 1) := Fm45 (dk_44 (dk_at s45_0 13 rfl rfl)) rfl
theorem f45_14 : ft 45 14 = some (1, 0, 0, .getfield 181, 3) := Fm45 (dk_180 0 181 (dk_at s45_0 14 rfl rfl)) rfl
theorem f45_17 : ft 45 17 = some (1, 0, 0, .putfield 299, 3) := Fm45 (dk_181 1 43 (dk_at s45_0 17 rfl rfl)) rfl
theorem f45_20 : ft 45 20 = some (1, 0, 0, .aload_n 1, 1) := Fm45 (dk_43 (dk_at s45_0 20 rfl rfl)) rfl
theorem f45_21 : ft 45 21 = some (1, 0, 0, .iconst 0, 1) := Fm45 (dk_3 (dk_at s45_0 21 rfl rfl)) rfl
theorem f45_22 : ft 45 22 = some (1, 0, 0, .putfield 301, 3) := Fm45 (dk_181 1 45 (dk_at s45_1 0 rfl rfl)) rfl
theorem f45_25 : ft 45 25 = some (1, 0, 0, .aload_n 0, 1) := Fm45 (dk_42 (dk_at s45_1 3 rfl rfl)) rfl
theorem f45_26 : ft 45 26 = some (1, 0, 0, .aload_n 2, 1) := Fm45 (dk_44 (dk_at s45_1 4 rfl rfl)) rfl
theorem f45_27 : ft 45 27 = some (1, 0, 0, .getfield 169, 3) := Fm45 (dk_180 0 169 (dk_at s45_1 5 rfl rfl)) rfl
theorem f45_30 : ft 45 30 = some (1, 0, 0, .invokevirtual 265, 3) := Fm45 (dk_182 1 9 (dk_at s45_1 8 rfl rfl)) rfl
theorem f45_33 : ft 45 33 = some (1, 0, 0, .iconst 0, 1) := Fm45 (dk_3 (dk_at s45_1 11 rfl rfl)) rfl
theorem f45_34 : ft 45 34 = some (1, 0, 0, .istore_n 3, 1) := Fm45 (dk_62 (dk_at s45_1 12 rfl rfl)) rfl
theorem f45_35 : ft 45 35 = some (1, 0, 0, .iload_n 3, 1) := Fm45 (dk_29 (dk_at s45_1 13 rfl rfl)) rfl
theorem f45_36 : ft 45 36 = some (1, 0, 0, .aload_n 0, 1) := Fm45 (dk_42 (dk_at s45_1 14 rfl rfl)) rfl
theorem f45_37 : ft 45 37 = some (1, 0, 0, .getfield 242, 3) := Fm45 (dk_180 0 242 (dk_at s45_1 15 rfl rfl)) rfl
theorem f45_40 : ft 45 40 = some (1, 0, 0, .if_icmp .ge 60, 3) := Fm45 (dk_162 0 60 (dk_at s45_1 18 rfl rfl)) rfl
theorem f45_43 : ft 45 43 = some (1, 0, 0, .aload_n 0, 1) := Fm45 (dk_42 (dk_at s45_1 21 rfl rfl)) rfl
theorem f45_44 : ft 45 44 = some (1, 0, 0, .getfield 60, 3) := Fm45 (dk_180 0 60 (dk_at s45_2 0 rfl rfl)) rfl
theorem f45_47 : ft 45 47 = some (1, 0, 0, .aload_n 0, 1) := Fm45 (dk_42 (dk_at s45_2 3 rfl rfl)) rfl
theorem f45_48 : ft 45 48 = some (1, 0, 0, .getfield 102, 3) := Fm45 (dk_180 0 102 (dk_at s45_2 4 rfl rfl)) rfl
theorem f45_51 : ft 45 51 = some (1, 0, 0, .iload_n 3, 1) := Fm45 (dk_29 (dk_at s45_2 7 rfl rfl)) rfl
theorem f45_52 : ft 45 52 = some (1, 0, 0, .iaload, 1) := Fm45 (dk_46 (dk_at s45_2 8 rfl rfl)) rfl
theorem f45_53 : ft 45 53 = some (1, 0, 0, .aload_n 0, 1) := Fm45 (dk_42 (dk_at s45_2 9 rfl rfl)) rfl
theorem f45_54 : ft 45 54 = some (1, 0, 0, .getfield 71, 3) := Fm45 (dk_180 0 71 (dk_at s45_2 10 rfl rfl)) rfl
theorem f45_57 : ft 45 57 = some (1, 0, 0, .invokevirtual 218, 3) := Fm45 (dk_182 0 218 (dk_at s45_2 13 rfl rfl)) rfl
theorem f45_60 : ft 45 60 = some (1, 0, 0, .aload_n 0, 1) := Fm45 (dk_42 (dk_at s45_2 16 rfl rfl)) rfl
theorem f45_61 : ft 45 61 = some (1, 0, 0, .aload_n 1, 1) := Fm45 (dk_43 (dk_at s45_2 17 rfl rfl)) rfl
theorem f45_62 : ft 45 62 = some (1, 0, 0, .getfield 302, 3) := Fm45 (dk_180 1 46 (dk_at s45_2 18 rfl rfl)) rfl
theorem f45_65 : ft 45 65 = some (1, 0, 0, .invokevirtual 306, 3) := Fm45 (dk_182 1 50 (dk_at s45_2 21 rfl rfl)) rfl
theorem f45_68 : ft 45 68 = some (1, 0, 0, .istore 4, 2) := Fm45 (dk_54 4 (dk_at s45_3 0 rfl rfl)) rfl
theorem f45_70 : ft 45 70 = some (1, 0, 0, .iload 4, 2) := Fm45 (dk_21 4 (dk_at s45_3 2 rfl rfl)) rfl
theorem f45_72 : ft 45 72 = some (1, 0, 0, .ifCond .lt 22, 3) := Fm45 (dk_155 0 22 (dk_at s45_3 4 rfl rfl)) rfl
theorem f45_75 : ft 45 75 = some (1, 0, 0, .aload_n 1, 1) := Fm45 (dk_43 (dk_at s45_3 7 rfl rfl)) rfl
theorem f45_76 : ft 45 76 = some (1, 0, 0, .aload_n 0, 1) := Fm45 (dk_42 (dk_at s45_3 8 rfl rfl)) rfl
theorem f45_77 : ft 45 77 = some (1, 0, 0, .getfield 71, 3) := Fm45 (dk_180 0 71 (dk_at s45_3 9 rfl rfl)) rfl
theorem f45_80 : ft 45 80 = some (1, 0, 0, .iload 4, 2) := Fm45 (dk_21 4 (dk_at s45_3 12 rfl rfl)) rfl
theorem f45_82 : ft 45 82 = some (1, 0, 0, .invokestatic 310, 3) := Fm45 (dk_184 1 54 (dk_at s45_3 14 rfl rfl)) rfl
theorem f45_85 : ft 45 85 = some (1, 0, 0, .aload_n 0, 1) := Fm45 (dk_42 (dk_at s45_3 17 rfl rfl)) rfl
theorem f45_86 : ft 45 86 = some (1, 0, 0, .getfield 98, 3) := Fm45 (dk_180 0 98 (dk_at s45_3 18 rfl rfl)) rfl
theorem f45_89 : ft 45 89 = some (1, 0, 0, .iload_n 3, 1) := Fm45 (dk_29 (dk_at s45_3 21 rfl rfl)) rfl
theorem f45_90 : ft 45 90 = some (1, 0, 0, .iaload, 1) := Fm45 (dk_46 (dk_at s45_3 22 rfl rfl)) rfl
theorem f45_91 : ft 45 91 = some (1, 0, 0, .invokevirtual 313, 3) := Fm45 (dk_182 1 57 (dk_at s45_4 0 rfl rfl)) rfl
theorem f45_94 : ft 45 94 = some (1, 0, 0, .iinc 3 1, 3) := Fm45 (dk_132 3 1 (dk_at s45_4 3 rfl rfl)) rfl
theorem f45_97 : ft 45 97 = some (1, 0, 0, .goto (-62), 3) := Fm45 (dk_167 255 194 (dk_at s45_4 6 rfl rfl)) rfl
theorem f45_100 : ft 45 100 = some (1, 0, 0, .return_, 1) := Fm45 (dk_177 (dk_at s45_4 9 rfl rfl)) rfl
theorem q45 {d : Nat} {m : Mem} {a0 a1 a2 : Int} (hd : 0 < d) (hz : TZ m) : le2 (gd (tg m a1 = 30) <| gd (tg m a2 = 10) <| nm (vl m a2 2) fun v2 => if (vl m a1 1) = v2 then (some (.inl none, m)) else gd (tg m a0 = 1) <| bV (cl (d - 1) 40 [pR a0, pI (vl m a2 0)] (mst (mst m a1 1 v2) a1 4 0)) fun m1 => rn d 45 35 [pR a0, pR a1, pR a2, pI 0, pU] [] m1) (cl d 45 [pR a0, pR a1, pR a2] m) := by
  refine q_in (n := 5) (L := [pR a0, pR a1, pR a2, pU, pU]) rfl rfl rfl ?_
  refine r_aln1 (p := 1) f45_0 rfl ?_
  refine le2_gd (fun h1 => ?_)
  refine r_gfI (f := 1) (p := 4) f45_1 rfl rfl rfl (Or.inl h1) rfl ?_
  refine r_aln2 (p := 5) f45_4 rfl ?_
  refine le2_gd (fun h2 => ?_)
  refine r_gfI (f := 2) (p := 8) f45_5 rfl rfl rfl (Or.inl h2) rfl ?_
  refine r_nmI (fun v2 ev2 => ?_)
  refine r_icne (t := 12) (p := 11) f45_8 (by decide) rfl rfl ?_ ?_
  · exact r_ret f45_11
  · refine r_aln1 (p := 13) f45_12 rfl ?_
    refine r_aln2 (p := 14) f45_13 rfl ?_
    refine r_gfI (f := 2) (p := 17) f45_14 rfl rfl rfl (Or.inl h2) ev2.symm ?_
    refine r_pfI (f := 1) (p := 20) f45_17 rfl rfl rfl (by decide) (by decide) (Or.inl h1) rfl ?_
    refine r_aln1 (p := 21) f45_20 rfl ?_
    refine r_iconst (p := 22) f45_21 rfl (pinD rfl rfl) ?_
    refine r_pfI (f := 4) (p := 25) f45_22 rfl rfl rfl (by decide) (by decide) (Or.inl h1) rfl ?_
    refine r_aln0 (p := 26) f45_25 rfl ?_
    refine r_aln2 (p := 27) f45_26 rfl ?_
    refine r_gfI (f := 0) (p := 30) f45_27 rfl rfl rfl (Or.inl h2) (Eq.trans (sk_f (by decide)) (sk_f (by decide))) ?_
    refine le2_gd (fun h3 => ?_)
    refine r_invV (p := 33) f45_30 rfl rfl rfl (Or.inl h3) hd (Nat.le_of_ble_eq_true rfl) rfl rfl rfl (fun _ => rfl) (fun m1 c1 => ?_)
    have hz1 := z_k c1 hz
    refine r_iconst (p := 34) f45_33 rfl (pinD rfl rfl) ?_
    refine r_isn3 (p := 35) f45_34 rfl rfl ?_
    exact le2_refl _
theorem q45_35 {d : Nat} {m : Mem} {a0 a1 a2 a3 : Int} {z4 : PV} (hd : 0 < d) (hz : TZ m) (hcz4 : cat z4 = 1) : le2 (gd (tg m a0 = 1) <| if a3 < (vl m a0 22) then (nm (vl m a0 9) fun v5 => nm (vl m a0 21) fun v6 => gd (tg m v6 = 17101) <| gd ((0 : Int) ≤ a3 ∧ a3 < ln m v6) <| gd (tg m v5 = 9) <| bV (cl (d - 1) 178 [pR v5, pI (vl m v6 a3), pR (vl m a0 11)] m) fun m1 => gd (tg m1 a1 = 30) <| bI (cl (d - 1) 46 [pR a0, pR (vl m1 a1 0)] m1) fun v2 m2 => if v2 < 0 then (rn d 45 35 [pR a0, pR a1, pR a2, pI (w32 (a3 + 1)), pI v2] [] m2) else bL (cl (d - 1) 344 [pR (vl m2 a0 11), pI v2] m2) fun v3 m3 => nm (vl m3 a0 20) fun v7 => gd (tg m3 v7 = 17101) <| gd ((0 : Int) ≤ a3 ∧ a3 < ln m3 v7) <| bV (cl (d - 1) 347 [pR a1, pL v3, pI (vl m3 v7 a3)] m3) fun m4 => rn d 45 35 [pR a0, pR a1, pR a2, pI (w32 (a3 + 1)), pI v2] [] m4) else some (.inl none, m)) (rn d 45 35 [pR a0, pR a1, pR a2, pI a3, z4] [] m) := by
  refine r_iln3 (p := 36) f45_35 rfl ?_
  refine r_aln0 (p := 37) f45_36 rfl ?_
  refine le2_gd (fun h1 => ?_)
  refine r_gfI (f := 22) (p := 40) f45_37 rfl rfl rfl (Or.inl h1) rfl ?_
  refine r_icge (t := 100) (p := 43) f45_40 (by decide) rfl rfl ?_ ?_
  · refine r_aln0 (p := 44) f45_43 rfl ?_
    refine r_gfR (f := 9) (p := 47) f45_44 rfl rfl rfl (Or.inl h1) rfl ?_
    refine r_nmR (fun v5 ev5 => ?_)
    refine r_aln0 (p := 48) f45_47 rfl ?_
    refine r_gfR (f := 21) (p := 51) f45_48 rfl rfl rfl (Or.inl h1) rfl ?_
    refine r_nmR (fun v6 ev6 => ?_)
    refine r_iln3 (p := 52) f45_51 rfl ?_
    refine le2_gd (fun h2 => ?_)
    refine le2_gd (fun h3 => ?_)
    refine r_iaload (p := 53) f45_52 rfl (dj1 (fun x => x % 1000 = 101) h2 (by decide)) h3 rfl ?_
    refine r_aln0 (p := 54) f45_53 rfl ?_
    refine r_gfR (f := 11) (p := 57) f45_54 rfl rfl rfl (Or.inl h1) rfl ?_
    refine le2_gd (fun h4 => ?_)
    refine r_invV (p := 60) f45_57 rfl rfl rfl (Or.inl h4) hd (Nat.le_of_ble_eq_true rfl) rfl rfl rfl (fun _ => rfl) (fun m1 c1 => ?_)
    have hz1 := z_k c1 hz
    refine r_aln0 (p := 61) f45_60 rfl ?_
    refine r_aln1 (p := 62) f45_61 rfl ?_
    refine le2_gd (fun h5 => ?_)
    refine r_gfR (f := 0) (p := 65) f45_62 rfl rfl rfl (Or.inl h5) rfl ?_
    have h6 := k_t1 c1 hz h1 (by decide)
    refine r_invI (p := 68) f45_65 rfl rfl rfl (Or.inl h6) hd (Nat.le_of_ble_eq_true rfl) rfl rfl rfl (fun _ => rfl) (fun v2 m2 c2 => ?_)
    have hz2 := z_k c2 hz1
    refine r_isw4 (p := 70) f45_68 rfl rfl ?_
    refine r_ilw4 (p := 72) f45_70 rfl ?_
    refine r_iflt (t := 94) (p := 75) f45_72 (by decide) rfl rfl ?_ ?_
    · refine r_iinc3 (p := 97) f45_94 rfl rfl ?_
      refine r_goto (p := 35) f45_97 (by decide) rfl ?_
      exact le2_refl _
    · refine r_aln1 (p := 76) f45_75 rfl ?_
      refine r_aln0 (p := 77) f45_76 rfl ?_
      have h7 := k_t1 c2 hz1 h6 (by decide)
      refine r_gfR (f := 11) (p := 80) f45_77 rfl rfl rfl (Or.inl h7) rfl ?_
      refine r_ilw4 (p := 82) f45_80 rfl ?_
      refine r_istL (p := 85) f45_82 rfl rfl rfl hd (Nat.le_of_ble_eq_true rfl) rfl rfl rfl (fun _ => rfl) (fun v3 m3 c3 => ?_)
      have hz3 := z_k c3 hz2
      refine r_aln0 (p := 86) f45_85 rfl ?_
      have h8 := k_t1 c3 hz2 h7 (by decide)
      refine r_gfR (f := 20) (p := 89) f45_86 rfl rfl rfl (Or.inl h8) rfl ?_
      refine r_nmR (fun v7 ev7 => ?_)
      refine r_iln3 (p := 90) f45_89 rfl ?_
      refine le2_gd (fun h9 => ?_)
      refine le2_gd (fun h10 => ?_)
      refine r_iaload (p := 91) f45_90 rfl (dj1 (fun x => x % 1000 = 101) h9 (by decide)) h10 rfl ?_
      have h11 := k_t1 c2 hz1 h5 (by decide)
      have h12 := k_t1 c3 hz2 h11 (by decide)
      refine r_invV (p := 94) f45_91 rfl rfl rfl (Or.inl h12) hd (Nat.le_of_ble_eq_true rfl) rfl rfl rfl (fun _ => rfl) (fun m4 c4 => ?_)
      have hz4 := z_k c4 hz3
      refine r_iinc3 (p := 97) f45_94 rfl rfl ?_
      refine r_goto (p := 35) f45_97 (by decide) rfl ?_
      exact le2_refl _
  · exact r_ret f45_100
/-! 46 PathStore.node (LPathStore$Query;)I -/
def w46_2 : List UInt8 := [100, 46, 167, 0, 4, 2, 172]
abbrev u46_2 : List UInt8 := w46_2 ++ []
def w46_1 : List UInt8 := [43, 3, 182, 1, 15, 4, 160, 0, 23, 42, 180, 0, 46, 180, 1, 25, 42, 180, 0, 46, 180, 1, 18, 4]
abbrev u46_1 : List UInt8 := w46_1 ++ u46_2
def w46_0 : List UInt8 := [42, 180, 0, 46, 3, 181, 1, 8, 42, 180, 0, 46, 42, 180, 0, 71, 3, 182, 1, 12, 42, 180, 0, 46]
abbrev u46_0 : List UInt8 := w46_0 ++ u46_1
theorem s46_0 : (prog_1_method_28_code).data.toList.drop 0 = u46_0 := by decide +kernel
theorem s46_1 : (prog_1_method_28_code).data.toList.drop 24 = u46_1 := dk_seg s46_0 24 rfl rfl
theorem s46_2 : (prog_1_method_28_code).data.toList.drop 48 = u46_2 := dk_seg s46_1 24 rfl rfl
theorem Fm46 {pc len : Nat} {i : Instr} (h : decode (prog_1_method_28_code) pc = .ok (i, len)) (hl : len = ilen i len) : ft 46 pc = some (1, 1, 0, i, len) := ft_mk rfl h hl
theorem f46_0 : ft 46 0 = some (1, 1, 0, .aload_n 0, 1) := Fm46 (dk_42 (dk_at s46_0 0 rfl rfl)) rfl
theorem f46_1 : ft 46 1 = some (1, 1, 0, .getfield 46, 3) := Fm46 (dk_180 0 46 (dk_at s46_0 1 rfl rfl)) rfl
theorem f46_4 : ft 46 4 = some (1, 1, 0, .iconst 0, 1) := Fm46 (dk_3 (dk_at s46_0 4 rfl rfl)) rfl
theorem f46_5 : ft 46 5 = some (1, 1, 0, .putfield 264, 3) := Fm46 (dk_181 1 8 (dk_at s46_0 5 rfl rfl)) rfl
theorem f46_8 : ft 46 8 = some (1, 1, 0, .aload_n 0, 1) := Fm46 (dk_42 (dk_at s46_0 8 rfl rfl)) rfl
theorem f46_9 : ft 46 9 = some (1, 1, 0, .getfield 46, 3) := Fm46 (dk_180 0 46 (dk_at s46_0 9 rfl rfl)) rfl
theorem f46_12 : ft 46 12 = some (1, 1, 0, .aload_n 0, 1) := Fm46 (dk_42 (dk_at s46_0 12 rfl rfl)) rfl
theorem f46_13 : ft 46 13 = some (1, 1, 0, .getfield 71, 3) := Fm46 (dk_180 0 71 (dk_at s46_0 13 rfl rfl)) rfl
theorem f46_16 : ft 46 16 = some (1, 1, 0, .iconst 0, 1) := Fm46 (dk_3 (dk_at s46_0 16 rfl rfl)) rfl
theorem f46_17 : ft 46 17 = some (1, 1, 0, .invokevirtual 268, 3) := Fm46 (dk_182 1 12 (dk_at s46_0 17 rfl rfl)) rfl
theorem f46_20 : ft 46 20 = some (1, 1, 0, .aload_n 0, 1) := Fm46 (dk_42 (dk_at s46_0 20 rfl rfl)) rfl
theorem f46_21 : ft 46 21 = some (1, 1, 0, .getfield 46, 3) := Fm46 (dk_180 0 46 (dk_at s46_0 21 rfl rfl)) rfl
theorem f46_24 : ft 46 24 = some (1, 1, 0, .aload_n 1, 1) := Fm46 (dk_43 (dk_at s46_1 0 rfl rfl)) rfl
theorem f46_25 : ft 46 25 = some (1, 1, 0, .iconst 0, 1) := Fm46 (dk_3 (dk_at s46_1 1 rfl rfl)) rfl
theorem f46_26 : ft 46 26 = some (1, 1, 0, .invokevirtual 271, 3) := Fm46 (dk_182 1 15 (dk_at s46_1 2 rfl rfl)) rfl
theorem f46_29 : ft 46 29 = some (1, 1, 0, .iconst 1, 1) := Fm46 (dk_4 (dk_at s46_1 5 rfl rfl)) rfl
theorem f46_30 : ft 46 30 = some (1, 1, 0, .if_icmp .ne 23, 3) := Fm46 (dk_160 0 23 (dk_at s46_1 6 rfl rfl)) rfl
theorem f46_33 : ft 46 33 = some (1, 1, 0, .aload_n 0, 1) := Fm46 (dk_42 (dk_at s46_1 9 rfl rfl)) rfl
theorem f46_34 : ft 46 34 = some (1, 1, 0, .getfield 46, 3) := Fm46 (dk_180 0 46 (dk_at s46_1 10 rfl rfl)) rfl
theorem f46_37 : ft 46 37 = some (1, 1, 0, .getfield 281, 3) := Fm46 (dk_180 1 25 (dk_at s46_1 13 rfl rfl)) rfl
theorem f46_40 : ft 46 40 = some (1, 1, 0, .aload_n 0, 1) := Fm46 (dk_42 (dk_at s46_1 16 rfl rfl)) rfl
theorem f46_41 : ft 46 41 = some (1, 1, 0, .getfield 46, 3) := Fm46 (dk_180 0 46 (dk_at s46_1 17 rfl rfl)) rfl
theorem f46_44 : ft 46 44 = some (1, 1, 0, .getfield 274, 3) := Fm46 (dk_180 1 18 (dk_at s46_1 20 rfl rfl)) rfl
theorem f46_47 : ft 46 47 = some (1, 1, 0, .iconst 1, 1) := Fm46 (dk_4 (dk_at s46_1 23 rfl rfl)) rfl
theorem f46_48 : ft 46 48 = some (1, 1, 0, .isub, 1) := Fm46 (dk_100 (dk_at s46_2 0 rfl rfl)) rfl
theorem f46_49 : ft 46 49 = some (1, 1, 0, .iaload, 1) := Fm46 (dk_46 (dk_at s46_2 1 rfl rfl)) rfl
theorem f46_50 : ft 46 50 = some (1, 1, 0, .goto 4, 3) := Fm46 (dk_167 0 4 (dk_at s46_2 2 rfl rfl)) rfl
theorem f46_53 : ft 46 53 = some (1, 1, 0, .iconst (-1), 1) := Fm46 (dk_2 (dk_at s46_2 5 rfl rfl)) rfl
theorem f46_54 : ft 46 54 = some (1, 1, 0, .ireturn, 1) := Fm46 (dk_172 (dk_at s46_2 6 rfl rfl)) rfl
theorem q46 {d : Nat} {m : Mem} {a0 a1 : Int} (hd : 0 < d) (hz : TZ m) : le2 (gd (tg m a0 = 1) <| nm (vl m a0 7) fun v3 => gd (tg m v3 = 6) <| bV (cl (d - 1) 104 [pR v3, pR (vl m a0 11), pI 0] (mst m v3 4 0)) fun m1 => nm (vl m1 a0 7) fun v4 => gd (tg m1 v4 = 6) <| bI (cl (d - 1) 105 [pR v4, pR a1, pI 0] m1) fun v2 m2 => if v2 = 1 then (nm (vl m2 a0 7) fun v5 => gd (tg m2 v5 = 6) <| nm (vl m2 v5 2) fun v6 => nm (w32 ((vl m2 v5 3) - 1)) fun v7 => gd (tg m2 v6 = 104101 ∨ tg m2 v6 = 107101) <| gd ((0 : Int) ≤ v7 ∧ v7 < ln m2 v6) <| some (.inl (some (pI (vl m2 v6 v7))), m2)) else some (.inl (some (pI (-1))), m2)) (cl d 46 [pR a0, pR a1] m) := by
  refine q_in (n := 2) (L := [pR a0, pR a1]) rfl rfl rfl ?_
  refine r_aln0 (p := 1) f46_0 rfl ?_
  refine le2_gd (fun h1 => ?_)
  refine r_gfR (f := 7) (p := 4) f46_1 rfl rfl rfl (Or.inl h1) rfl ?_
  refine r_nmR (fun v3 ev3 => ?_)
  refine r_iconst (p := 5) f46_4 rfl (pinD rfl rfl) ?_
  refine le2_gd (fun h2 => ?_)
  refine r_pfI (f := 4) (p := 8) f46_5 rfl rfl rfl (by decide) (by decide) (Or.inl h2) rfl ?_
  refine r_aln0 (p := 9) f46_8 rfl ?_
  refine r_gfR (f := 7) (p := 12) f46_9 rfl rfl rfl (Or.inl h1) (Eq.trans (sk_f (by decide)) ev3.symm) ?_
  refine r_aln0 (p := 13) f46_12 rfl ?_
  refine r_gfR (f := 11) (p := 16) f46_13 rfl rfl rfl (Or.inl h1) (sk_f (by decide)) ?_
  refine r_iconst (p := 17) f46_16 rfl (pinD rfl rfl) ?_
  refine r_invV (p := 20) f46_17 rfl rfl rfl (Or.inl h2) hd (Nat.le_of_ble_eq_true rfl) rfl rfl rfl (fun _ => rfl) (fun m1 c1 => ?_)
  have hz1 := z_k c1 hz
  refine r_aln0 (p := 21) f46_20 rfl ?_
  have h3 := k_t1 c1 hz h1 (by decide)
  refine r_gfR (f := 7) (p := 24) f46_21 rfl rfl rfl (Or.inl h3) rfl ?_
  refine r_nmR (fun v4 ev4 => ?_)
  refine r_aln1 (p := 25) f46_24 rfl ?_
  refine r_iconst (p := 26) f46_25 rfl (pinD rfl rfl) ?_
  refine le2_gd (fun h4 => ?_)
  refine r_invI (p := 29) f46_26 rfl rfl rfl (Or.inl h4) hd (Nat.le_of_ble_eq_true rfl) rfl rfl rfl (fun _ => rfl) (fun v2 m2 c2 => ?_)
  have hz2 := z_k c2 hz1
  refine r_iconst (p := 30) f46_29 rfl (pinD rfl rfl) ?_
  refine r_icne (t := 53) (p := 33) f46_30 (by decide) rfl rfl ?_ ?_
  · refine r_aln0 (p := 34) f46_33 rfl ?_
    have h5 := k_t1 c2 hz1 h3 (by decide)
    refine r_gfR (f := 7) (p := 37) f46_34 rfl rfl rfl (Or.inl h5) rfl ?_
    refine r_nmR (fun v5 ev5 => ?_)
    refine le2_gd (fun h6 => ?_)
    refine r_gfR (f := 2) (p := 40) f46_37 rfl rfl rfl (Or.inl h6) rfl ?_
    refine r_nmR (fun v6 ev6 => ?_)
    refine r_aln0 (p := 41) f46_40 rfl ?_
    refine r_gfR (f := 7) (p := 44) f46_41 rfl rfl rfl (Or.inl h5) ev5.symm ?_
    refine r_gfI (f := 3) (p := 47) f46_44 rfl rfl rfl (Or.inl h6) rfl ?_
    refine r_iconst (p := 48) f46_47 rfl (pinD rfl rfl) ?_
    refine r_isub (p := 49) f46_48 rfl ?_
    refine r_nmI (fun v7 ev7 => ?_)
    refine le2_gd (fun h7 => ?_)
    refine le2_gd (fun h8 => ?_)
    refine r_iaload (p := 50) f46_49 rfl (dj2 (fun x => x % 1000 = 101) h7 (by decide) (by decide)) h8 rfl ?_
    refine r_goto (p := 54) f46_50 (by decide) rfl ?_
    exact r_iret1 f46_54
  · refine r_iconst (p := 54) f46_53 rfl (pinD rfl rfl) ?_
    exact r_iret1 f46_54
/-! 47 PathStore.cut (I)V -/
def w47_1 : List UInt8 := [27, 181, 0, 91, 177]
abbrev u47_1 : List UInt8 := w47_1 ++ []
def w47_0 : List UInt8 := [27, 7, 184, 0, 137, 184, 0, 141, 42, 180, 0, 144, 154, 0, 7, 4, 167, 0, 4, 3, 184, 0, 148, 42]
abbrev u47_0 : List UInt8 := w47_0 ++ u47_1
theorem s47_0 : (prog_1_method_31_code).data.toList.drop 0 = u47_0 := by decide +kernel
theorem s47_1 : (prog_1_method_31_code).data.toList.drop 24 = u47_1 := dk_seg s47_0 24 rfl rfl
theorem Fm47 {pc len : Nat} {i : Instr} (h : decode (prog_1_method_31_code) pc = .ok (i, len)) (hl : len = ilen i len) : ft 47 pc = some (1, 0, 0, i, len) := ft_mk rfl h hl
theorem f47_0 : ft 47 0 = some (1, 0, 0, .iload_n 1, 1) := Fm47 (dk_27 (dk_at s47_0 0 rfl rfl)) rfl
theorem f47_1 : ft 47 1 = some (1, 0, 0, .iconst 4, 1) := Fm47 (dk_7 (dk_at s47_0 1 rfl rfl)) rfl
theorem f47_2 : ft 47 2 = some (1, 0, 0, .invokestatic 137, 3) := Fm47 (dk_184 0 137 (dk_at s47_0 2 rfl rfl)) rfl
theorem f47_5 : ft 47 5 = some (1, 0, 0, .invokestatic 141, 3) := Fm47 (dk_184 0 141 (dk_at s47_0 5 rfl rfl)) rfl
theorem f47_8 : ft 47 8 = some (1, 0, 0, .aload_n 0, 1) := Fm47 (dk_42 (dk_at s47_0 8 rfl rfl)) rfl
theorem f47_9 : ft 47 9 = some (1, 0, 0, .getfield 144, 3) := Fm47 (dk_180 0 144 (dk_at s47_0 9 rfl rfl)) rfl
theorem f47_12 : ft 47 12 = some (1, 0, 0, .ifCond .ne 7, 3) := Fm47 (dk_154 0 7 (dk_at s47_0 12 rfl rfl)) rfl
theorem f47_15 : ft 47 15 = some (1, 0, 0, .iconst 1, 1) := Fm47 (dk_4 (dk_at s47_0 15 rfl rfl)) rfl
theorem f47_16 : ft 47 16 = some (1, 0, 0, .goto 4, 3) := Fm47 (dk_167 0 4 (dk_at s47_0 16 rfl rfl)) rfl
theorem f47_19 : ft 47 19 = some (1, 0, 0, .iconst 0, 1) := Fm47 (dk_3 (dk_at s47_0 19 rfl rfl)) rfl
theorem f47_20 : ft 47 20 = some (1, 0, 0, .invokestatic 148, 3) := Fm47 (dk_184 0 148 (dk_at s47_0 20 rfl rfl)) rfl
theorem f47_23 : ft 47 23 = some (1, 0, 0, .aload_n 0, 1) := Fm47 (dk_42 (dk_at s47_0 23 rfl rfl)) rfl
theorem f47_24 : ft 47 24 = some (1, 0, 0, .iload_n 1, 1) := Fm47 (dk_27 (dk_at s47_1 0 rfl rfl)) rfl
theorem f47_25 : ft 47 25 = some (1, 0, 0, .putfield 91, 3) := Fm47 (dk_181 0 91 (dk_at s47_1 1 rfl rfl)) rfl
theorem f47_28 : ft 47 28 = some (1, 0, 0, .return_, 1) := Fm47 (dk_177 (dk_at s47_1 4 rfl rfl)) rfl
theorem q47 {d : Nat} {m : Mem} {a0 a1 : Int} (hd : 0 < d) (hz : TZ m) : le2 (bI (cl (d - 1) 22 [pI a1, pI 4] m) fun v1 m1 => bV (cl (d - 1) 23 [pI v1] m1) fun m2 => gd (tg m2 a0 = 1) <| if (vl m2 a0 17) = 0 then (bV (cl (d - 1) 26 [pI 1] m2) fun m4 => some (.inl none, (mst m4 a0 18 a1))) else bV (cl (d - 1) 26 [pI 0] m2) fun m3 => some (.inl none, (mst m3 a0 18 a1))) (cl d 47 [pR a0, pI a1] m) := by
  refine q_in (n := 2) (L := [pR a0, pI a1]) rfl rfl rfl ?_
  refine r_iln1 (p := 1) f47_0 rfl ?_
  refine r_iconst (p := 2) f47_1 rfl (pinD rfl rfl) ?_
  refine r_istI (p := 5) f47_2 rfl rfl rfl hd (Nat.le_of_ble_eq_true rfl) rfl rfl rfl (fun _ => rfl) (fun v1 m1 c1 => ?_)
  have hz1 := z_k c1 hz
  refine r_istV (p := 8) f47_5 rfl rfl rfl hd (Nat.le_of_ble_eq_true rfl) rfl rfl rfl (fun _ => rfl) (fun m2 c2 => ?_)
  have hz2 := z_k c2 hz1
  refine r_aln0 (p := 9) f47_8 rfl ?_
  refine le2_gd (fun h1 => ?_)
  refine r_gfIZ (f := 17) (p := 12) f47_9 rfl rfl rfl (Or.inl h1) rfl ?_
  refine r_ifne (t := 19) (p := 15) f47_12 (by decide) rfl rfl ?_ ?_
  · refine r_iconst (p := 16) f47_15 rfl (pinD rfl rfl) ?_
    refine r_goto (p := 20) f47_16 (by decide) rfl ?_
    refine r_istV (p := 23) f47_20 rfl rfl rfl hd (Nat.le_of_ble_eq_true rfl) rfl rfl rfl (fun _ => rfl) (fun m4 c4 => ?_)
    have hz4 := z_k c4 hz2
    refine r_aln0 (p := 24) f47_23 rfl ?_
    refine r_iln1 (p := 25) f47_24 rfl ?_
    have h3 := k_t1 c4 hz2 h1 (by decide)
    refine r_pfI (f := 18) (p := 28) f47_25 rfl rfl rfl (by decide) (by decide) (Or.inl h3) rfl ?_
    exact r_ret f47_28
  · refine r_iconst (p := 20) f47_19 rfl (pinD rfl rfl) ?_
    refine r_istV (p := 23) f47_20 rfl rfl rfl hd (Nat.le_of_ble_eq_true rfl) rfl rfl rfl (fun _ => rfl) (fun m3 c3 => ?_)
    have hz3 := z_k c3 hz2
    refine r_aln0 (p := 24) f47_23 rfl ?_
    refine r_iln1 (p := 25) f47_24 rfl ?_
    have h2 := k_t1 c3 hz2 h1 (by decide)
    refine r_pfI (f := 18) (p := 28) f47_25 rfl rfl rfl (by decide) (by decide) (Or.inl h2) rfl ?_
    exact r_ret f47_28
/-! 48 PathStore.word (I)J -/
def w48_3 : List UInt8 := [173]
abbrev u48_3 : List UInt8 := w48_3 ++ []
def w48_2 : List UInt8 := [180, 1, 86, 21, 4, 51, 133, 20, 1, 89, 127, 167, 0, 4, 9, 129, 65, 132, 4, 1, 167, 255, 207, 32]
abbrev u48_2 : List UInt8 := w48_2 ++ u48_3
def w48_1 : List UInt8 := [96, 162, 0, 46, 32, 16, 8, 121, 21, 4, 42, 180, 0, 19, 180, 0, 191, 162, 0, 21, 42, 180, 0, 19]
abbrev u48_1 : List UInt8 := w48_1 ++ u48_2
def w48_0 : List UInt8 := [27, 42, 180, 0, 19, 180, 0, 191, 184, 0, 137, 184, 0, 130, 9, 65, 27, 54, 4, 21, 4, 27, 16, 8]
abbrev u48_0 : List UInt8 := w48_0 ++ u48_1
theorem s48_0 : (prog_1_method_33_code).data.toList.drop 0 = u48_0 := by decide +kernel
theorem s48_1 : (prog_1_method_33_code).data.toList.drop 24 = u48_1 := dk_seg s48_0 24 rfl rfl
theorem s48_2 : (prog_1_method_33_code).data.toList.drop 48 = u48_2 := dk_seg s48_1 24 rfl rfl
theorem s48_3 : (prog_1_method_33_code).data.toList.drop 72 = u48_3 := dk_seg s48_2 24 rfl rfl
theorem Fm48 {pc len : Nat} {i : Instr} (h : decode (prog_1_method_33_code) pc = .ok (i, len)) (hl : len = ilen i len) : ft 48 pc = some (1, 2, 0, i, len) := ft_mk rfl h hl
theorem f48_0 : ft 48 0 = some (1, 2, 0, .iload_n 1, 1) := Fm48 (dk_27 (dk_at s48_0 0 rfl rfl)) rfl
theorem f48_1 : ft 48 1 = some (1, 2, 0, .aload_n 0, 1) := Fm48 (dk_42 (dk_at s48_0 1 rfl rfl)) rfl
theorem f48_2 : ft 48 2 = some (1, 2, 0, .getfield 19, 3) := Fm48 (dk_180 0 19 (dk_at s48_0 2 rfl rfl)) rfl
theorem f48_5 : ft 48 5 = some (1, 2, 0, .getfield 191, 3) := Fm48 (dk_180 0 191 (dk_at s48_0 5 rfl rfl)) rfl
theorem f48_8 : ft 48 8 = some (1, 2, 0, .invokestatic 137, 3) := Fm48 (dk_184 0 137 (dk_at s48_0 8 rfl rfl)) rfl
theorem f48_11 : ft 48 11 = some (1, 2, 0, .invokestatic 130, 3) := Fm48 (dk_184 0 130 (dk_at s48_0 11 rfl rfl)) rfl
theorem f48_14 : ft 48 14 = some (1, 2, 0, .lconst 0, 1) := Fm48 (dk_9 (dk_at s48_0 14 rfl rfl)) rfl
theorem f48_15 : ft 48 15 = some (1, 2, 0, .lstore_n 2, 1) := Fm48 (dk_65 (dk_at s48_0 15 rfl rfl)) rfl
theorem f48_16 : ft 48 16 = some (1, 2, 0, .iload_n 1, 1) := Fm48 (dk_27 (dk_at s48_0 16 rfl rfl)) rfl
theorem f48_17 : ft 48 17 = some (1, 2, 0, .istore 4, 2) := Fm48 (dk_54 4 (dk_at s48_0 17 rfl rfl)) rfl
theorem f48_19 : ft 48 19 = some (1, 2, 0, .iload 4, 2) := Fm48 (dk_21 4 (dk_at s48_0 19 rfl rfl)) rfl
theorem f48_21 : ft 48 21 = some (1, 2, 0, .iload_n 1, 1) := Fm48 (dk_27 (dk_at s48_0 21 rfl rfl)) rfl
theorem f48_22 : ft 48 22 = some (1, 2, 0, .bipush 8, 2) := Fm48 (dk_16 8 (dk_at s48_0 22 rfl rfl)) rfl
theorem f48_24 : ft 48 24 = some (1, 2, 0, .iadd, 1) := Fm48 (dk_96 (dk_at s48_1 0 rfl rfl)) rfl
theorem f48_25 : ft 48 25 = some (1, 2, 0, .if_icmp .ge 46, 3) := Fm48 (dk_162 0 46 (dk_at s48_1 1 rfl rfl)) rfl
theorem f48_28 : ft 48 28 = some (1, 2, 0, .lload_n 2, 1) := Fm48 (dk_32 (dk_at s48_1 4 rfl rfl)) rfl
theorem f48_29 : ft 48 29 = some (1, 2, 0, .bipush 8, 2) := Fm48 (dk_16 8 (dk_at s48_1 5 rfl rfl)) rfl
theorem f48_31 : ft 48 31 = some (1, 2, 0, .lshl, 1) := Fm48 (dk_121 (dk_at s48_1 7 rfl rfl)) rfl
theorem f48_32 : ft 48 32 = some (1, 2, 0, .iload 4, 2) := Fm48 (dk_21 4 (dk_at s48_1 8 rfl rfl)) rfl
theorem f48_34 : ft 48 34 = some (1, 2, 0, .aload_n 0, 1) := Fm48 (dk_42 (dk_at s48_1 10 rfl rfl)) rfl
theorem f48_35 : ft 48 35 = some (1, 2, 0, .getfield 19, 3) := Fm48 (dk_180 0 19 (dk_at s48_1 11 rfl rfl)) rfl
theorem f48_38 : ft 48 38 = some (1, 2, 0, .getfield 191, 3) := Fm48 (dk_180 0 191 (dk_at s48_1 14 rfl rfl)) rfl
theorem f48_41 : ft 48 41 = some (1, 2, 0, .if_icmp .ge 21, 3) := Fm48 (dk_162 0 21 (dk_at s48_1 17 rfl rfl)) rfl
theorem f48_44 : ft 48 44 = some (1, 2, 0, .aload_n 0, 1) := Fm48 (dk_42 (dk_at s48_1 20 rfl rfl)) rfl
theorem f48_45 : ft 48 45 = some (1, 2, 0, .getfield 19, 3) := Fm48 (dk_180 0 19 (dk_at s48_1 21 rfl rfl)) rfl
theorem f48_48 : ft 48 48 = some (1, 2, 0, .getfield 342, 3) := Fm48 (dk_180 1 86 (dk_at s48_2 0 rfl rfl)) rfl
theorem f48_51 : ft 48 51 = some (1, 2, 0, .iload 4, 2) := Fm48 (dk_21 4 (dk_at s48_2 3 rfl rfl)) rfl
theorem f48_53 : ft 48 53 = some (1, 2, 0, .baload, 1) := Fm48 (dk_51 (dk_at s48_2 5 rfl rfl)) rfl
theorem f48_54 : ft 48 54 = some (1, 2, 0, .i2l, 1) := Fm48 (dk_133 (dk_at s48_2 6 rfl rfl)) rfl
theorem f48_55 : ft 48 55 = some (1, 2, 0, .ldc2_w 345, 3) := Fm48 (dk_20 1 89 (dk_at s48_2 7 rfl rfl)) rfl
theorem f48_58 : ft 48 58 = some (1, 2, 0, .land, 1) := Fm48 (dk_127 (dk_at s48_2 10 rfl rfl)) rfl
theorem f48_59 : ft 48 59 = some (1, 2, 0, .goto 4, 3) := Fm48 (dk_167 0 4 (dk_at s48_2 11 rfl rfl)) rfl
theorem f48_62 : ft 48 62 = some (1, 2, 0, .lconst 0, 1) := Fm48 (dk_9 (dk_at s48_2 14 rfl rfl)) rfl
theorem f48_63 : ft 48 63 = some (1, 2, 0, .lor, 1) := Fm48 (dk_129 (dk_at s48_2 15 rfl rfl)) rfl
theorem f48_64 : ft 48 64 = some (1, 2, 0, .lstore_n 2, 1) := Fm48 (dk_65 (dk_at s48_2 16 rfl rfl)) rfl
theorem f48_65 : ft 48 65 = some (1, 2, 0, .iinc 4 1, 3) := Fm48 (dk_132 4 1 (dk_at s48_2 17 rfl rfl)) rfl
theorem f48_68 : ft 48 68 = some (1, 2, 0, .goto (-49), 3) := Fm48 (dk_167 255 207 (dk_at s48_2 20 rfl rfl)) rfl
theorem f48_71 : ft 48 71 = some (1, 2, 0, .lload_n 2, 1) := Fm48 (dk_32 (dk_at s48_2 23 rfl rfl)) rfl
theorem f48_72 : ft 48 72 = some (1, 2, 0, .lreturn, 1) := Fm48 (dk_173 (dk_at s48_3 0 rfl rfl)) rfl
theorem q48 {d : Nat} {m : Mem} {a0 a1 : Int} (hd : 0 < d) (hz : TZ m) : le2 (gd (tg m a0 = 1) <| nm (vl m a0 2) fun v3 => gd (tg m v3 = 2) <| bI (cl (d - 1) 22 [pI a1, pI (vl m v3 1)] m) fun v1 m1 => bV (cl (d - 1) 19 [pI v1] m1) fun m2 => rn d 48 19 [pR a0, pI a1, pL 0, pU, pI a1] [] m2) (cl d 48 [pR a0, pI a1] m) := by
  refine q_in (n := 5) (L := [pR a0, pI a1, pU, pU, pU]) rfl rfl rfl ?_
  refine r_iln1 (p := 1) f48_0 rfl ?_
  refine r_aln0 (p := 2) f48_1 rfl ?_
  refine le2_gd (fun h1 => ?_)
  refine r_gfR (f := 2) (p := 5) f48_2 rfl rfl rfl (Or.inl h1) rfl ?_
  refine r_nmR (fun v3 ev3 => ?_)
  refine le2_gd (fun h2 => ?_)
  refine r_gfI (f := 1) (p := 8) f48_5 rfl rfl rfl (Or.inl h2) rfl ?_
  refine r_istI (p := 11) f48_8 rfl rfl rfl hd (Nat.le_of_ble_eq_true rfl) rfl rfl rfl (fun _ => rfl) (fun v1 m1 c1 => ?_)
  have hz1 := z_k c1 hz
  refine r_istV (p := 14) f48_11 rfl rfl rfl hd (Nat.le_of_ble_eq_true rfl) rfl rfl rfl (fun _ => rfl) (fun m2 c2 => ?_)
  have hz2 := z_k c2 hz1
  refine r_lconst0 (p := 15) f48_14 rfl ?_
  refine r_lsn2 (p := 16) f48_15 rfl rfl ?_
  refine r_iln1 (p := 17) f48_16 rfl ?_
  refine r_isw4 (p := 19) f48_17 rfl rfl ?_
  exact le2_refl _
theorem q48_19 {d : Nat} {m : Mem} {a0 a1 a2 a4 : Int} (hz : TZ m) : le2 (if a4 < (w32 (a1 + 8)) then (nm (qShl a2 8) fun v1 => gd (tg m a0 = 1) <| nm (vl m a0 2) fun v2 => gd (tg m v2 = 2) <| if a4 < (vl m v2 1) then (nm (vl m v2 0) fun v3 => gd (tg m v3 = 52103) <| gd ((0 : Int) ≤ a4 ∧ a4 < ln m v3) <| rn d 48 19 [pR a0, pI a1, pL (qOr v1 (qAnd (vl m v3 a4) 255)), pU, pI (w32 (a4 + 1))] [] m) else rn d 48 19 [pR a0, pI a1, pL (qOr v1 0), pU, pI (w32 (a4 + 1))] [] m) else some (.inl (some (pL a2)), m)) (rn d 48 19 [pR a0, pI a1, pL a2, pU, pI a4] [] m) := by
  refine r_ilw4 (p := 21) f48_19 rfl ?_
  refine r_iln1 (p := 22) f48_21 rfl ?_
  refine r_bipush (p := 24) f48_22 rfl (pinD rfl rfl) ?_
  refine r_iadd (p := 25) f48_24 rfl ?_
  refine r_icge (t := 71) (p := 28) f48_25 (by decide) rfl rfl ?_ ?_
  · refine r_lln2 (p := 29) f48_28 rfl ?_
    refine r_bipush (p := 31) f48_29 rfl (pinD rfl rfl) ?_
    refine r_lshl (p := 32) f48_31 rfl ?_
    refine r_nmJ (fun v1 ev1 => ?_)
    refine r_ilw4 (p := 34) f48_32 rfl ?_
    refine r_aln0 (p := 35) f48_34 rfl ?_
    refine le2_gd (fun h1 => ?_)
    refine r_gfR (f := 2) (p := 38) f48_35 rfl rfl rfl (Or.inl h1) rfl ?_
    refine r_nmR (fun v2 ev2 => ?_)
    refine le2_gd (fun h2 => ?_)
    refine r_gfI (f := 1) (p := 41) f48_38 rfl rfl rfl (Or.inl h2) rfl ?_
    refine r_icge (t := 62) (p := 44) f48_41 (by decide) rfl rfl ?_ ?_
    · refine r_aln0 (p := 45) f48_44 rfl ?_
      refine r_gfR (f := 2) (p := 48) f48_45 rfl rfl rfl (Or.inl h1) ev2.symm ?_
      refine r_gfR (f := 0) (p := 51) f48_48 rfl rfl rfl (Or.inl h2) rfl ?_
      refine r_nmR (fun v3 ev3 => ?_)
      refine r_ilw4 (p := 53) f48_51 rfl ?_
      refine le2_gd (fun h3 => ?_)
      refine le2_gd (fun h4 => ?_)
      refine r_baload (p := 54) f48_53 rfl (dj1 (fun x => x % 1000 = 103 ∨ x % 1000 = 105) h3 (by decide)) h4 rfl ?_
      refine r_i2l (p := 55) f48_54 rfl ?_
      refine r_ldc2 (p := 58) f48_55 rfl rfl (pinD rfl rfl) ?_
      refine r_land (p := 59) f48_58 rfl ?_
      refine r_goto (p := 63) f48_59 (by decide) rfl ?_
      refine r_lor (p := 64) f48_63 rfl ?_
      refine r_lsn2 (p := 65) f48_64 rfl rfl ?_
      refine r_iinc4 (p := 68) f48_65 rfl rfl ?_
      refine r_goto (p := 19) f48_68 (by decide) rfl ?_
      exact le2_refl _
    · refine r_lconst0 (p := 63) f48_62 rfl ?_
      refine r_lor (p := 64) f48_63 rfl ?_
      refine r_lsn2 (p := 65) f48_64 rfl rfl ?_
      refine r_iinc4 (p := 68) f48_65 rfl rfl ?_
      refine r_goto (p := 19) f48_68 (by decide) rfl ?_
      exact le2_refl _
  · refine r_lln2 (p := 72) f48_71 rfl ?_
    exact r_lret f48_72
/-! 49 PathStore.count (I)I -/
def w49_2 : List UInt8 := [42, 180, 0, 127, 172, 42, 180, 0, 19, 180, 0, 191, 172, 42, 180, 0, 95, 172, 42, 182, 1, 94, 172]
abbrev u49_2 : List UInt8 := w49_2 ++ []
def w49_1 : List UInt8 := [170, 0, 0, 0, 0, 0, 45, 0, 0, 0, 0, 0, 0, 0, 2, 0, 0, 0, 27, 0, 0, 0, 32, 0, 0, 0, 40]
abbrev u49_1 : List UInt8 := w49_1 ++ u49_2
def w49_0 : List UInt8 := [27, 7, 184, 0, 137, 184, 0, 141, 27]
abbrev u49_0 : List UInt8 := w49_0 ++ u49_1
theorem s49_0 : (prog_1_method_35_code).data.toList.drop 0 = u49_0 := by decide +kernel
theorem s49_1 : (prog_1_method_35_code).data.toList.drop 9 = u49_1 := dk_seg s49_0 9 rfl rfl
theorem s49_2 : (prog_1_method_35_code).data.toList.drop 36 = u49_2 := dk_seg s49_1 27 rfl rfl
theorem Fm49 {pc len : Nat} {i : Instr} (h : decode (prog_1_method_35_code) pc = .ok (i, len)) (hl : len = ilen i len) : ft 49 pc = some (1, 1, 0, i, len) := ft_mk rfl h hl
theorem f49_0 : ft 49 0 = some (1, 1, 0, .iload_n 1, 1) := Fm49 (dk_27 (dk_at s49_0 0 rfl rfl)) rfl
theorem f49_1 : ft 49 1 = some (1, 1, 0, .iconst 4, 1) := Fm49 (dk_7 (dk_at s49_0 1 rfl rfl)) rfl
theorem f49_2 : ft 49 2 = some (1, 1, 0, .invokestatic 137, 3) := Fm49 (dk_184 0 137 (dk_at s49_0 2 rfl rfl)) rfl
theorem f49_5 : ft 49 5 = some (1, 1, 0, .invokestatic 141, 3) := Fm49 (dk_184 0 141 (dk_at s49_0 5 rfl rfl)) rfl
theorem f49_8 : ft 49 8 = some (1, 1, 0, .iload_n 1, 1) := Fm49 (dk_27 (dk_at s49_0 8 rfl rfl)) rfl
theorem f49_9 : ft 49 9 = some (1, 1, 0, .tableswitch 45 0 2 #[27, 32, 40], 27) := Fm49 (by decide +kernel) rfl
theorem f49_36 : ft 49 36 = some (1, 1, 0, .aload_n 0, 1) := Fm49 (dk_42 (dk_at s49_2 0 rfl rfl)) rfl
theorem f49_37 : ft 49 37 = some (1, 1, 0, .getfield 127, 3) := Fm49 (dk_180 0 127 (dk_at s49_2 1 rfl rfl)) rfl
theorem f49_40 : ft 49 40 = some (1, 1, 0, .ireturn, 1) := Fm49 (dk_172 (dk_at s49_2 4 rfl rfl)) rfl
theorem f49_41 : ft 49 41 = some (1, 1, 0, .aload_n 0, 1) := Fm49 (dk_42 (dk_at s49_2 5 rfl rfl)) rfl
theorem f49_42 : ft 49 42 = some (1, 1, 0, .getfield 19, 3) := Fm49 (dk_180 0 19 (dk_at s49_2 6 rfl rfl)) rfl
theorem f49_45 : ft 49 45 = some (1, 1, 0, .getfield 191, 3) := Fm49 (dk_180 0 191 (dk_at s49_2 9 rfl rfl)) rfl
theorem f49_48 : ft 49 48 = some (1, 1, 0, .ireturn, 1) := Fm49 (dk_172 (dk_at s49_2 12 rfl rfl)) rfl
theorem f49_49 : ft 49 49 = some (1, 1, 0, .aload_n 0, 1) := Fm49 (dk_42 (dk_at s49_2 13 rfl rfl)) rfl
theorem f49_50 : ft 49 50 = some (1, 1, 0, .getfield 95, 3) := Fm49 (dk_180 0 95 (dk_at s49_2 14 rfl rfl)) rfl
theorem f49_53 : ft 49 53 = some (1, 1, 0, .ireturn, 1) := Fm49 (dk_172 (dk_at s49_2 17 rfl rfl)) rfl
theorem f49_54 : ft 49 54 = some (1, 1, 0, .aload_n 0, 1) := Fm49 (dk_42 (dk_at s49_2 18 rfl rfl)) rfl
theorem f49_55 : ft 49 55 = some (1, 1, 0, .invokevirtual 350, 3) := Fm49 (dk_182 1 94 (dk_at s49_2 19 rfl rfl)) rfl
theorem f49_58 : ft 49 58 = some (1, 1, 0, .ireturn, 1) := Fm49 (dk_172 (dk_at s49_2 22 rfl rfl)) rfl
theorem q49 {d : Nat} {m : Mem} {a0 a1 : Int} (hd : 0 < d) (hz : TZ m) : le2 (bI (cl (d - 1) 22 [pI a1, pI 4] m) fun v1 m1 => bV (cl (d - 1) 23 [pI v1] m1) fun m2 => if a1 = 0 then (gd (tg m2 a0 = 1) <| some (.inl (some (pI (vl m2 a0 1))), m2)) else if a1 = 1 then (gd (tg m2 a0 = 1) <| nm (vl m2 a0 2) fun v4 => gd (tg m2 v4 = 2) <| some (.inl (some (pI (vl m2 v4 1))), m2)) else if a1 = 2 then (gd (tg m2 a0 = 1) <| some (.inl (some (pI (vl m2 a0 19))), m2)) else gd (tg m2 a0 = 1) <| bI (cl (d - 1) 50 [pR a0] m2) fun v3 m3 => some (.inl (some (pI v3)), m3)) (cl d 49 [pR a0, pI a1] m) := by
  refine q_in (n := 2) (L := [pR a0, pI a1]) rfl rfl rfl ?_
  refine r_iln1 (p := 1) f49_0 rfl ?_
  refine r_iconst (p := 2) f49_1 rfl (pinD rfl rfl) ?_
  refine r_istI (p := 5) f49_2 rfl rfl rfl hd (Nat.le_of_ble_eq_true rfl) rfl rfl rfl (fun _ => rfl) (fun v1 m1 c1 => ?_)
  have hz1 := z_k c1 hz
  refine r_istV (p := 8) f49_5 rfl rfl rfl hd (Nat.le_of_ble_eq_true rfl) rfl rfl rfl (fun _ => rfl) (fun m2 c2 => ?_)
  have hz2 := z_k c2 hz1
  refine r_iln1 (p := 9) f49_8 rfl ?_
  refine le2_ite (fun h7 => ?_) (fun h7 => ?_)
  · refine r_tsI (off := 27) (t := 36) f49_9 h7 rfl rfl (by decide) rfl ?_
    refine r_aln0 (p := 37) f49_36 rfl ?_
    refine le2_gd (fun h8 => ?_)
    refine r_gfI (f := 1) (p := 40) f49_37 rfl rfl rfl (Or.inl h8) rfl ?_
    exact r_iret1 f49_40
  · refine le2_ite (fun h4 => ?_) (fun h4 => ?_)
    · refine r_tsI (off := 32) (t := 41) f49_9 h4 rfl rfl (by decide) rfl ?_
      refine r_aln0 (p := 42) f49_41 rfl ?_
      refine le2_gd (fun h5 => ?_)
      refine r_gfR (f := 2) (p := 45) f49_42 rfl rfl rfl (Or.inl h5) rfl ?_
      refine r_nmR (fun v4 ev4 => ?_)
      refine le2_gd (fun h6 => ?_)
      refine r_gfI (f := 1) (p := 48) f49_45 rfl rfl rfl (Or.inl h6) rfl ?_
      exact r_iret1 f49_48
    · refine le2_ite (fun h2 => ?_) (fun h2 => ?_)
      · refine r_tsI (off := 40) (t := 49) f49_9 h2 rfl rfl (by decide) rfl ?_
        refine r_aln0 (p := 50) f49_49 rfl ?_
        refine le2_gd (fun h3 => ?_)
        refine r_gfI (f := 19) (p := 53) f49_50 rfl rfl rfl (Or.inl h3) rfl ?_
        exact r_iret1 f49_53
      · refine r_tsO (t := 54) f49_9 (by omega) (by decide) rfl ?_
        refine r_aln0 (p := 55) f49_54 rfl ?_
        refine le2_gd (fun h1 => ?_)
        refine r_invI (p := 58) f49_55 rfl rfl rfl (Or.inl h1) hd (Nat.le_of_ble_eq_true rfl) rfl rfl rfl (fun _ => rfl) (fun v3 m3 c3 => ?_)
        have hz3 := z_k c3 hz2
        exact r_iret1 f49_58
/-! 50 PathStore.wrong ()I -/
def w50_5 : List UInt8 := [159, 0, 6, 132, 1, 1, 132, 2, 1, 167, 255, 156, 27, 172]
abbrev u50_5 : List UInt8 := w50_5 ++ []
def w50_4 : List UInt8 := [17, 39, 16, 182, 1, 91, 96, 60, 42, 45, 180, 0, 169, 182, 1, 9, 42, 180, 0, 242, 45, 180, 0, 175]
abbrev u50_4 : List UInt8 := w50_4 ++ u50_5
def w50_3 : List UInt8 := [180, 0, 60, 182, 0, 105, 45, 180, 0, 169, 153, 0, 21, 27, 42, 180, 0, 60, 45, 180, 0, 169, 3]
abbrev u50_3 : List UInt8 := w50_3 ++ u50_4
def w50_2 : List UInt8 := [167, 0, 75, 28, 156, 0, 10, 42, 180, 0, 77, 167, 0, 9, 42, 180, 0, 81, 28, 50, 78, 42]
abbrev u50_2 : List UInt8 := w50_2 ++ u50_3
def w50_1 : List UInt8 := [28, 16, 8, 162, 0, 100, 28, 155, 0, 18, 42, 180, 0, 81, 28, 50, 180, 0, 151, 154, 0, 6]
abbrev u50_1 : List UInt8 := w50_1 ++ u50_2
def w50_0 : List UInt8 := [42, 180, 0, 60, 42, 180, 0, 112, 4, 126, 182, 1, 77, 153, 0, 7, 3, 167, 0, 4, 4, 60, 2, 61]
abbrev u50_0 : List UInt8 := w50_0 ++ u50_1
theorem s50_0 : (prog_1_method_34_code).data.toList.drop 0 = u50_0 := by decide +kernel
theorem s50_1 : (prog_1_method_34_code).data.toList.drop 24 = u50_1 := dk_seg s50_0 24 rfl rfl
theorem s50_2 : (prog_1_method_34_code).data.toList.drop 46 = u50_2 := dk_seg s50_1 22 rfl rfl
theorem s50_3 : (prog_1_method_34_code).data.toList.drop 68 = u50_3 := dk_seg s50_2 22 rfl rfl
theorem s50_4 : (prog_1_method_34_code).data.toList.drop 91 = u50_4 := dk_seg s50_3 23 rfl rfl
theorem s50_5 : (prog_1_method_34_code).data.toList.drop 115 = u50_5 := dk_seg s50_4 24 rfl rfl
theorem Fm50 {pc len : Nat} {i : Instr} (h : decode (prog_1_method_34_code) pc = .ok (i, len)) (hl : len = ilen i len) : ft 50 pc = some (1, 1, 0, i, len) := ft_mk rfl h hl
theorem f50_0 : ft 50 0 = some (1, 1, 0, .aload_n 0, 1) := Fm50 (dk_42 (dk_at s50_0 0 rfl rfl)) rfl
theorem f50_1 : ft 50 1 = some (1, 1, 0, .getfield 60, 3) := Fm50 (dk_180 0 60 (dk_at s50_0 1 rfl rfl)) rfl
theorem f50_4 : ft 50 4 = some (1, 1, 0, .aload_n 0, 1) := Fm50 (dk_42 (dk_at s50_0 4 rfl rfl)) rfl
theorem f50_5 : ft 50 5 = some (1, 1, 0, .getfield 112, 3) := Fm50 (dk_180 0 112 (dk_at s50_0 5 rfl rfl)) rfl
theorem f50_8 : ft 50 8 = some (1, 1, 0, .iconst 1, 1) := Fm50 (dk_4 (dk_at s50_0 8 rfl rfl)) rfl
theorem f50_9 : ft 50 9 = some (1, 1, 0, .iand, 1) := Fm50 (dk_126 (dk_at s50_0 9 rfl rfl)) rfl
theorem f50_10 : ft 50 10 = some (1, 1, 0, .invokevirtual 333, 3) := Fm50 (dk_182 1 77 (dk_at s50_0 10 rfl rfl)) rfl
theorem f50_13 : ft 50 13 = some (1, 1, 0, .ifCond .eq 7, 3) := Fm50 (dk_153 0 7 (dk_at s50_0 13 rfl rfl)) rfl
theorem f50_16 : ft 50 16 = some (1, 1, 0, .iconst 0, 1) := Fm50 (dk_3 (dk_at s50_0 16 rfl rfl)) rfl
theorem f50_17 : ft 50 17 = some (1, 1, 0, .goto 4, 3) := Fm50 (dk_167 0 4 (dk_at s50_0 17 rfl rfl)) rfl
theorem f50_20 : ft 50 20 = some (1, 1, 0, .iconst 1, 1) := Fm50 (dk_4 (dk_at s50_0 20 rfl rfl)) rfl
theorem f50_21 : ft 50 21 = some (1, 1, 0, .istore_n 1, 1) := Fm50 (dk_60 (dk_at s50_0 21 rfl rfl)) rfl
theorem f50_22 : ft 50 22 = some (1, 1, 0, .iconst (-1), 1) := Fm50 (dk_2 (dk_at s50_0 22 rfl rfl)) rfl
theorem f50_23 : ft 50 23 = some (1, 1, 0, .istore_n 2, 1) := Fm50 (dk_61 (dk_at s50_0 23 rfl rfl)) rfl
theorem f50_24 : ft 50 24 = some (1, 1, 0, .iload_n 2, 1) := Fm50 (dk_28 (dk_at s50_1 0 rfl rfl)) rfl
theorem f50_25 : ft 50 25 = some (1, 1, 0, .bipush 8, 2) := Fm50 (dk_16 8 (dk_at s50_1 1 rfl rfl)) rfl
theorem f50_27 : ft 50 27 = some (1, 1, 0, .if_icmp .ge 100, 3) := Fm50 (dk_162 0 100 (dk_at s50_1 3 rfl rfl)) rfl
theorem f50_30 : ft 50 30 = some (1, 1, 0, .iload_n 2, 1) := Fm50 (dk_28 (dk_at s50_1 6 rfl rfl)) rfl
theorem f50_31 : ft 50 31 = some (1, 1, 0, .ifCond .lt 18, 3) := Fm50 (dk_155 0 18 (dk_at s50_1 7 rfl rfl)) rfl
theorem f50_34 : ft 50 34 = some (1, 1, 0, .aload_n 0, 1) := Fm50 (dk_42 (dk_at s50_1 10 rfl rfl)) rfl
theorem f50_35 : ft 50 35 = some (1, 1, 0, .getfield 81, 3) := Fm50 (dk_180 0 81 (dk_at s50_1 11 rfl rfl)) rfl
theorem f50_38 : ft 50 38 = some (1, 1, 0, .iload_n 2, 1) := Fm50 (dk_28 (dk_at s50_1 14 rfl rfl)) rfl
theorem f50_39 : ft 50 39 = some (1, 1, 0, .aaload, 1) := Fm50 (dk_50 (dk_at s50_1 15 rfl rfl)) rfl
theorem f50_40 : ft 50 40 = some (1, 1, 0, .getfield 151, 3) := Fm50 (dk_180 0 151 (dk_at s50_1 16 rfl rfl)) rfl
theorem f50_43 : ft 50 43 = some (1, 1, 0, .ifCond .ne 6, 3) := Fm50 (dk_154 0 6 (dk_at s50_1 19 rfl rfl)) rfl
theorem f50_46 : ft 50 46 = some (1, 1, 0, .goto 75, 3) := Fm50 (dk_167 0 75 (dk_at s50_2 0 rfl rfl)) rfl
theorem f50_49 : ft 50 49 = some (1, 1, 0, .iload_n 2, 1) := Fm50 (dk_28 (dk_at s50_2 3 rfl rfl)) rfl
theorem f50_50 : ft 50 50 = some (1, 1, 0, .ifCond .ge 10, 3) := Fm50 (dk_156 0 10 (dk_at s50_2 4 rfl rfl)) rfl
theorem f50_53 : ft 50 53 = some (1, 1, 0, .aload_n 0, 1) := Fm50 (dk_42 (dk_at s50_2 7 rfl rfl)) rfl
theorem f50_54 : ft 50 54 = some (1, 1, 0, .getfield 77, 3) := Fm50 (dk_180 0 77 (dk_at s50_2 8 rfl rfl)) rfl
theorem f50_57 : ft 50 57 = some (1, 1, 0, .goto 9, 3) := Fm50 (dk_167 0 9 (dk_at s50_2 11 rfl rfl)) rfl
theorem f50_60 : ft 50 60 = some (1, 1, 0, .aload_n 0, 1) := Fm50 (dk_42 (dk_at s50_2 14 rfl rfl)) rfl
theorem f50_61 : ft 50 61 = some (1, 1, 0, .getfield 81, 3) := Fm50 (dk_180 0 81 (dk_at s50_2 15 rfl rfl)) rfl
theorem f50_64 : ft 50 64 = some (1, 1, 0, .iload_n 2, 1) := Fm50 (dk_28 (dk_at s50_2 18 rfl rfl)) rfl
theorem f50_65 : ft 50 65 = some (1, 1, 0, .aaload, 1) := Fm50 (dk_50 (dk_at s50_2 19 rfl rfl)) rfl
theorem f50_66 : ft 50 66 = some (1, 1, 0, .astore_n 3, 1) := Fm50 (dk_78 (dk_at s50_2 20 rfl rfl)) rfl
theorem f50_67 : ft 50 67 = some (1, 1, 0, .aload_n 0, 1) := Fm50 (dk_42 (dk_at s50_2 21 rfl rfl)) rfl
theorem f50_68 : ft 50 68 = some (1, 1, 0, .getfield 60, 3) := Fm50 (dk_180 0 60 (dk_at s50_3 0 rfl rfl)) rfl
theorem f50_71 : ft 50 71 = some (1, 1, 0, .invokevirtual 105, 3) := Fm50 (dk_182 0 105 (dk_at s50_3 3 rfl rfl)) rfl
theorem f50_74 : ft 50 74 = some (1, 1, 0, .aload_n 3, 1) := Fm50 (dk_45 (dk_at s50_3 6 rfl rfl)) rfl
theorem f50_75 : ft 50 75 = some (1, 1, 0, .getfield 169, 3) := Fm50 (dk_180 0 169 (dk_at s50_3 7 rfl rfl)) rfl
theorem f50_78 : ft 50 78 = some (1, 1, 0, .ifCond .eq 21, 3) := Fm50 (dk_153 0 21 (dk_at s50_3 10 rfl rfl)) rfl
theorem f50_81 : ft 50 81 = some (1, 1, 0, .iload_n 1, 1) := Fm50 (dk_27 (dk_at s50_3 13 rfl rfl)) rfl
theorem f50_82 : ft 50 82 = some (1, 1, 0, .aload_n 0, 1) := Fm50 (dk_42 (dk_at s50_3 14 rfl rfl)) rfl
theorem f50_83 : ft 50 83 = some (1, 1, 0, .getfield 60, 3) := Fm50 (dk_180 0 60 (dk_at s50_3 15 rfl rfl)) rfl
theorem f50_86 : ft 50 86 = some (1, 1, 0, .aload_n 3, 1) := Fm50 (dk_45 (dk_at s50_3 18 rfl rfl)) rfl
theorem f50_87 : ft 50 87 = some (1, 1, 0, .getfield 169, 3) := Fm50 (dk_180 0 169 (dk_at s50_3 19 rfl rfl)) rfl
theorem f50_90 : ft 50 90 = some (1, 1, 0, .iconst 0, 1) := Fm50 (dk_3 (dk_at s50_3 22 rfl rfl)) rfl
theorem f50_91 : ft 50 91 = some (1, 1, 0, .sipush 10000, 3) := Fm50 (dk_17 39 16 (dk_at s50_4 0 rfl rfl)) rfl
theorem f50_94 : ft 50 94 = some (1, 1, 0, .invokevirtual 347, 3) := Fm50 (dk_182 1 91 (dk_at s50_4 3 rfl rfl)) rfl
theorem f50_97 : ft 50 97 = some (1, 1, 0, .iadd, 1) := Fm50 (dk_96 (dk_at s50_4 6 rfl rfl)) rfl
theorem f50_98 : ft 50 98 = some (1, 1, 0, .istore_n 1, 1) := Fm50 (dk_60 (dk_at s50_4 7 rfl rfl)) rfl
theorem f50_99 : ft 50 99 = some (1, 1, 0, .aload_n 0, 1) := Fm50 (dk_42 (dk_at s50_4 8 rfl rfl)) rfl
theorem f50_100 : ft 50 100 = some (1, 1, 0, .aload_n 3, 1) := Fm50 (dk_45 (dk_at s50_4 9 rfl rfl)) rfl
theorem f50_101 : ft 50 101 = some (1, 1, 0, .getfield 169, 3) := Fm50 (dk_180 0 169 (dk_at s50_4 10 rfl rfl)) rfl
theorem f50_104 : ft 50 104 = some (1, 1, 0, .invokevirtual 265, 3) := Fm50 (dk_182 1 9 (dk_at s50_4 13 rfl rfl)) rfl
theorem f50_107 : ft 50 107 = some (1, 1, 0, .aload_n 0, 1) := Fm50 (dk_42 (dk_at s50_4 16 rfl rfl)) rfl
theorem f50_108 : ft 50 108 = some (1, 1, 0, .getfield 242, 3) := Fm50 (dk_180 0 242 (dk_at s50_4 17 rfl rfl)) rfl
theorem f50_111 : ft 50 111 = some (1, 1, 0, .aload_n 3, 1) := Fm50 (dk_45 (dk_at s50_4 20 rfl rfl)) rfl
theorem f50_112 : ft 50 112 = some (1, 1, 0, .getfield 175, 3) := Fm50 (dk_180 0 175 (dk_at s50_4 21 rfl rfl)) rfl
theorem f50_115 : ft 50 115 = some (1, 1, 0, .if_icmp .eq 6, 3) := Fm50 (dk_159 0 6 (dk_at s50_5 0 rfl rfl)) rfl
theorem f50_118 : ft 50 118 = some (1, 1, 0, .iinc 1 1, 3) := Fm50 (dk_132 1 1 (dk_at s50_5 3 rfl rfl)) rfl
theorem f50_121 : ft 50 121 = some (1, 1, 0, .iinc 2 1, 3) := Fm50 (dk_132 2 1 (dk_at s50_5 6 rfl rfl)) rfl
theorem f50_124 : ft 50 124 = some (1, 1, 0, .goto (-100), 3) := Fm50 (dk_167 255 156 (dk_at s50_5 9 rfl rfl)) rfl
theorem f50_127 : ft 50 127 = some (1, 1, 0, .iload_n 1, 1) := Fm50 (dk_27 (dk_at s50_5 12 rfl rfl)) rfl
theorem f50_128 : ft 50 128 = some (1, 1, 0, .ireturn, 1) := Fm50 (dk_172 (dk_at s50_5 13 rfl rfl)) rfl
theorem q50 {d : Nat} {m : Mem} {a0 : Int} (hd : 0 < d) (hz : TZ m) : le2 (gd (tg m a0 = 1) <| nm (vl m a0 9) fun v2 => gd (tg m v2 = 9) <| bI (cl (d - 1) 159 [pR v2, pI (pAnd (vl m a0 15) 1)] m) fun v1 m1 => if v1 = 0 then (rn d 50 24 [pR a0, pI 1, pI (-1), pU] [] m1) else rn d 50 24 [pR a0, pI 0, pI (-1), pU] [] m1) (cl d 50 [pR a0] m) := by
  refine q_in (n := 4) (L := [pR a0, pU, pU, pU]) rfl rfl rfl ?_
  refine r_aln0 (p := 1) f50_0 rfl ?_
  refine le2_gd (fun h1 => ?_)
  refine r_gfR (f := 9) (p := 4) f50_1 rfl rfl rfl (Or.inl h1) rfl ?_
  refine r_nmR (fun v2 ev2 => ?_)
  refine r_aln0 (p := 5) f50_4 rfl ?_
  refine r_gfI (f := 15) (p := 8) f50_5 rfl rfl rfl (Or.inl h1) rfl ?_
  refine r_iconst (p := 9) f50_8 rfl (pinD rfl rfl) ?_
  refine r_iand (p := 10) f50_9 rfl ?_
  refine le2_gd (fun h2 => ?_)
  refine r_invI (p := 13) f50_10 rfl rfl rfl (Or.inl h2) hd (Nat.le_of_ble_eq_true rfl) rfl rfl rfl (fun _ => rfl) (fun v1 m1 c1 => ?_)
  have hz1 := z_k c1 hz
  refine r_ifeq (t := 20) (p := 16) f50_13 (by decide) rfl rfl ?_ ?_
  · refine r_iconst (p := 21) f50_20 rfl (pinD rfl rfl) ?_
    refine r_isn1 (p := 22) f50_21 rfl rfl ?_
    refine r_iconst (p := 23) f50_22 rfl (pinD rfl rfl) ?_
    refine r_isn2 (p := 24) f50_23 rfl rfl ?_
    exact le2_refl _
  · refine r_iconst (p := 17) f50_16 rfl (pinD rfl rfl) ?_
    refine r_goto (p := 21) f50_17 (by decide) rfl ?_
    refine r_isn1 (p := 22) f50_21 rfl rfl ?_
    refine r_iconst (p := 23) f50_22 rfl (pinD rfl rfl) ?_
    refine r_isn2 (p := 24) f50_23 rfl rfl ?_
    exact le2_refl _
theorem q50_24 {d : Nat} {m : Mem} {a0 a1 a2 : Int} {z3 : PV} (hz : TZ m) (hcz3 : cat z3 = 1) : le2 (if a2 < 8 then (if a2 < 0 then (if a2 < 0 then (gd (tg m a0 = 1) <| rn d 50 66 [pR a0, pI a1, pI a2, z3] [pR (vl m a0 12)] m) else gd (tg m a0 = 1) <| nm (vl m a0 13) fun v1 => gd (tg m v1 = 17115) <| gd ((0 : Int) ≤ a2 ∧ a2 < ln m v1) <| rn d 50 66 [pR a0, pI a1, pI a2, z3] [pR (vl m v1 a2)] m) else gd (tg m a0 = 1) <| nm (vl m a0 13) fun v2 => gd (tg m v2 = 17115) <| gd ((0 : Int) ≤ a2 ∧ a2 < ln m v2) <| nm (vl m v2 a2) fun v3 => gd (tg m v3 = 10) <| if (vl m v3 3) = 0 then (rn d 50 24 [pR a0, pI a1, pI (w32 (a2 + 1)), z3] [] m) else if a2 < 0 then (rn d 50 66 [pR a0, pI a1, pI a2, z3] [pR (vl m a0 12)] m) else rn d 50 66 [pR a0, pI a1, pI a2, z3] [pR v3] m) else some (.inl (some (pI a1)), m)) (rn d 50 24 [pR a0, pI a1, pI a2, z3] [] m) := by
  refine r_iln2 (p := 25) f50_24 rfl ?_
  refine r_bipush (p := 27) f50_25 rfl (pinD rfl rfl) ?_
  refine r_icge (t := 127) (p := 30) f50_27 (by decide) rfl rfl ?_ ?_
  · refine r_iln2 (p := 31) f50_30 rfl ?_
    refine r_iflt (t := 49) (p := 34) f50_31 (by decide) rfl rfl ?_ ?_
    · refine r_iln2 (p := 50) f50_49 rfl ?_
      refine r_ifge (t := 60) (p := 53) f50_50 (by decide) rfl rfl ?_ ?_
      · refine r_aln0 (p := 54) f50_53 rfl ?_
        refine le2_gd (fun h4 => ?_)
        refine r_gfR (f := 12) (p := 57) f50_54 rfl rfl rfl (Or.inl h4) rfl ?_
        refine r_goto (p := 66) f50_57 (by decide) rfl ?_
        exact le2_refl _
      · refine r_aln0 (p := 61) f50_60 rfl ?_
        refine le2_gd (fun h1 => ?_)
        refine r_gfR (f := 13) (p := 64) f50_61 rfl rfl rfl (Or.inl h1) rfl ?_
        refine r_nmR (fun v1 ev1 => ?_)
        refine r_iln2 (p := 65) f50_64 rfl ?_
        refine le2_gd (fun h2 => ?_)
        refine le2_gd (fun h3 => ?_)
        refine r_aaload (p := 66) f50_65 rfl (dj1 (fun x => 110 < x % 1000 ∧ x % 1000 < 119) h2 (by decide)) h3 rfl ?_
        exact le2_refl _
    · refine r_aln0 (p := 35) f50_34 rfl ?_
      refine le2_gd (fun h5 => ?_)
      refine r_gfR (f := 13) (p := 38) f50_35 rfl rfl rfl (Or.inl h5) rfl ?_
      refine r_nmR (fun v2 ev2 => ?_)
      refine r_iln2 (p := 39) f50_38 rfl ?_
      refine le2_gd (fun h6 => ?_)
      refine le2_gd (fun h7 => ?_)
      refine r_aaload (p := 40) f50_39 rfl (dj1 (fun x => 110 < x % 1000 ∧ x % 1000 < 119) h6 (by decide)) h7 rfl ?_
      refine r_nmR (fun v3 ev3 => ?_)
      refine le2_gd (fun h8 => ?_)
      refine r_gfIZ (f := 3) (p := 43) f50_40 rfl rfl rfl (Or.inl h8) rfl ?_
      refine r_ifne (t := 49) (p := 46) f50_43 (by decide) rfl rfl ?_ ?_
      · refine r_goto (p := 121) f50_46 (by decide) rfl ?_
        refine r_iinc2 (p := 124) f50_121 rfl rfl ?_
        refine r_goto (p := 24) f50_124 (by decide) rfl ?_
        exact le2_refl _
      · refine r_iln2 (p := 50) f50_49 rfl ?_
        refine r_ifge (t := 60) (p := 53) f50_50 (by decide) rfl rfl ?_ ?_
        · refine r_aln0 (p := 54) f50_53 rfl ?_
          refine r_gfR (f := 12) (p := 57) f50_54 rfl rfl rfl (Or.inl h5) rfl ?_
          refine r_goto (p := 66) f50_57 (by decide) rfl ?_
          exact le2_refl _
        · refine r_aln0 (p := 61) f50_60 rfl ?_
          refine r_gfR (f := 13) (p := 64) f50_61 rfl rfl rfl (Or.inl h5) ev2.symm ?_
          refine r_iln2 (p := 65) f50_64 rfl ?_
          refine r_aaload (p := 66) f50_65 rfl (dj1 (fun x => 110 < x % 1000 ∧ x % 1000 < 119) h6 (by decide)) h7 ev3.symm ?_
          exact le2_refl _
  · refine r_iln1 (p := 128) f50_127 rfl ?_
    exact r_iret1 f50_128
theorem q50_66 {d : Nat} {m : Mem} {a0 a1 a2 s0 : Int} {z3 : PV} (hd : 0 < d) (hz : TZ m) (hcz3 : cat z3 = 1) : le2 (gd (tg m a0 = 1) <| nm (vl m a0 9) fun v3 => gd (tg m v3 = 9) <| bV (cl (d - 1) 153 [pR v3] m) fun m1 => gd (tg m1 s0 = 10) <| nm (vl m1 s0 0) fun v4 => if v4 = 0 then (rn d 50 99 [pR a0, pI a1, pI a2, pR s0] [] m1) else nm (vl m1 a0 9) fun v5 => gd (tg m1 v5 = 9) <| bI (cl (d - 1) 183 [pR v5, pI v4, pI 0, pI 10000] m1) fun v2 m2 => rn d 50 99 [pR a0, pI (w32 (a1 + v2)), pI a2, pR s0] [] m2) (rn d 50 66 [pR a0, pI a1, pI a2, z3] [pR s0] m) := by
  refine r_asn3 (p := 67) f50_66 rfl rfl ?_
  refine r_aln0 (p := 68) f50_67 rfl ?_
  refine le2_gd (fun h1 => ?_)
  refine r_gfR (f := 9) (p := 71) f50_68 rfl rfl rfl (Or.inl h1) rfl ?_
  refine r_nmR (fun v3 ev3 => ?_)
  refine le2_gd (fun h2 => ?_)
  refine r_invV (p := 74) f50_71 rfl rfl rfl (Or.inl h2) hd (Nat.le_of_ble_eq_true rfl) rfl rfl rfl (fun _ => rfl) (fun m1 c1 => ?_)
  have hz1 := z_k c1 hz
  refine r_aln3 (p := 75) f50_74 rfl ?_
  refine le2_gd (fun h3 => ?_)
  refine r_gfI (f := 0) (p := 78) f50_75 rfl rfl rfl (Or.inl h3) rfl ?_
  refine r_nmI (fun v4 ev4 => ?_)
  refine r_ifeq (t := 99) (p := 81) f50_78 (by decide) rfl rfl ?_ ?_
  · exact le2_refl _
  · refine r_iln1 (p := 82) f50_81 rfl ?_
    refine r_aln0 (p := 83) f50_82 rfl ?_
    have h4 := k_t1 c1 hz h1 (by decide)
    refine r_gfR (f := 9) (p := 86) f50_83 rfl rfl rfl (Or.inl h4) rfl ?_
    refine r_nmR (fun v5 ev5 => ?_)
    refine r_aln3 (p := 87) f50_86 rfl ?_
    refine r_gfI (f := 0) (p := 90) f50_87 rfl rfl rfl (Or.inl h3) ev4.symm ?_
    refine r_iconst (p := 91) f50_90 rfl (pinD rfl rfl) ?_
    refine r_sipush (p := 94) f50_91 rfl (pinD rfl rfl) ?_
    refine le2_gd (fun h5 => ?_)
    refine r_invI (p := 97) f50_94 rfl rfl rfl (Or.inl h5) hd (Nat.le_of_ble_eq_true rfl) rfl rfl rfl (fun _ => rfl) (fun v2 m2 c2 => ?_)
    have hz2 := z_k c2 hz1
    refine r_iadd (p := 98) f50_97 rfl ?_
    refine r_isn1 (p := 99) f50_98 rfl rfl ?_
    exact le2_refl _
theorem q50_99 {d : Nat} {m : Mem} {a0 a1 a2 a3 : Int} (hd : 0 < d) (hz : TZ m) : le2 (gd (tg m a3 = 10) <| gd (tg m a0 = 1) <| bV (cl (d - 1) 40 [pR a0, pI (vl m a3 0)] m) fun m1 => if (vl m1 a0 22) = (vl m1 a3 1) then (rn d 50 24 [pR a0, pI a1, pI (w32 (a2 + 1)), pR a3] [] m1) else rn d 50 24 [pR a0, pI (w32 (a1 + 1)), pI (w32 (a2 + 1)), pR a3] [] m1) (rn d 50 99 [pR a0, pI a1, pI a2, pR a3] [] m) := by
  refine r_aln0 (p := 100) f50_99 rfl ?_
  refine r_aln3 (p := 101) f50_100 rfl ?_
  refine le2_gd (fun h1 => ?_)
  refine r_gfI (f := 0) (p := 104) f50_101 rfl rfl rfl (Or.inl h1) rfl ?_
  refine le2_gd (fun h2 => ?_)
  refine r_invV (p := 107) f50_104 rfl rfl rfl (Or.inl h2) hd (Nat.le_of_ble_eq_true rfl) rfl rfl rfl (fun _ => rfl) (fun m1 c1 => ?_)
  have hz1 := z_k c1 hz
  refine r_aln0 (p := 108) f50_107 rfl ?_
  have h3 := k_t1 c1 hz h2 (by decide)
  refine r_gfI (f := 22) (p := 111) f50_108 rfl rfl rfl (Or.inl h3) rfl ?_
  refine r_aln3 (p := 112) f50_111 rfl ?_
  have h4 := k_t1 c1 hz h1 (by decide)
  refine r_gfI (f := 1) (p := 115) f50_112 rfl rfl rfl (Or.inl h4) rfl ?_
  refine r_iceq (t := 121) (p := 118) f50_115 (by decide) rfl rfl ?_ ?_
  · refine r_iinc2 (p := 124) f50_121 rfl rfl ?_
    refine r_goto (p := 24) f50_124 (by decide) rfl ?_
    exact le2_refl _
  · refine r_iinc1 (p := 121) f50_118 rfl rfl ?_
    refine r_iinc2 (p := 124) f50_121 rfl rfl ?_
    refine r_goto (p := 24) f50_124 (by decide) rfl ?_
    exact le2_refl _
