/-! what methods do, written by wip/D-67560w/tools/gen_parts.py -/
set_option maxRecDepth 100000
set_option maxHeartbeats 4000000
/-! 242 PathStoreModel.query (I)I -/
def w242_12 : List UInt8 := [3, 181, 0, 136, 21, 5, 172]
abbrev u242_12 : List UInt8 := w242_12 ++ []
def w242_11 : List UInt8 := [167, 0, 4, 3, 7, 182, 0, 142, 154, 0, 5, 3, 172, 132, 6, 1, 167, 255, 79, 42, 182, 2, 35, 42]
abbrev u242_11 : List UInt8 := w242_11 ++ u242_12
def w242_10 : List UInt8 := [42, 16, 10, 182, 1, 3, 132, 5, 1, 132, 8, 1, 167, 255, 185, 42, 42, 180, 0, 255, 154, 0, 7, 4]
abbrev u242_10 : List UInt8 := w242_10 ++ u242_11
def w242_9 : List UInt8 := [182, 2, 26, 42, 16, 32, 182, 1, 3, 42, 42, 180, 0, 102, 42, 180, 0, 130, 21, 8, 46, 182, 1, 23]
abbrev u242_9 : List UInt8 := w242_9 ++ u242_10
def w242_8 : List UInt8 := [180, 2, 32, 21, 6, 46, 133, 182, 1, 17, 42, 16, 32, 182, 1, 3, 42, 42, 180, 0, 130, 21, 8, 46]
abbrev u242_8 : List UInt8 := w242_8 ++ u242_9
def w242_7 : List UInt8 := [182, 0, 142, 154, 0, 5, 3, 172, 21, 7, 54, 8, 21, 8, 42, 180, 1, 246, 162, 0, 68, 42, 45]
abbrev u242_7 : List UInt8 := w242_7 ++ u242_8
def w242_6 : List UInt8 := [42, 180, 1, 249, 182, 2, 10, 54, 7, 42, 42, 180, 1, 240, 154, 0, 7, 4, 167, 0, 4, 3, 7]
abbrev u242_6 : List UInt8 := w242_6 ++ u242_7
def w242_5 : List UInt8 := [180, 1, 68, 21, 6, 46, 42, 180, 0, 102, 182, 1, 42, 181, 1, 249, 42, 3, 181, 1, 246, 42, 21, 4]
abbrev u242_5 : List UInt8 := w242_5 ++ u242_6
def w242_4 : List UInt8 := [3, 54, 6, 21, 6, 45, 180, 1, 51, 162, 0, 174, 42, 42, 45, 180, 1, 69, 21, 6, 50, 45]
abbrev u242_4 : List UInt8 := w242_4 ++ u242_5
def w242_3 : List UInt8 := [42, 6, 181, 0, 136, 3, 172, 42, 182, 1, 46, 42, 3, 181, 1, 237, 42, 3, 181, 1, 240, 3, 54, 5]
abbrev u242_3 : List UInt8 := w242_3 ++ u242_4
def w242_2 : List UInt8 := [42, 42, 180, 0, 66, 28, 182, 2, 28, 54, 4, 21, 4, 156, 0, 18, 42, 42, 180, 0, 164, 181, 0, 74]
abbrev u242_2 : List UInt8 := w242_2 ++ u242_3
def w242_1 : List UInt8 := [3, 172, 42, 182, 1, 40, 61, 42, 27, 182, 1, 64, 78, 45, 199, 0, 5, 3, 172, 42, 2, 181, 0, 74]
abbrev u242_1 : List UInt8 := w242_1 ++ u242_2
def w242_0 : List UInt8 := [42, 27, 2, 161, 0, 13, 27, 16, 7, 163, 0, 7, 4, 167, 0, 4, 3, 4, 182, 0, 142, 154, 0, 5]
abbrev u242_0 : List UInt8 := w242_0 ++ u242_1
theorem s242_0 : (prog_32_method_90_code).data.toList.drop 0 = u242_0 := by decide +kernel
theorem s242_1 : (prog_32_method_90_code).data.toList.drop 24 = u242_1 := dk_seg s242_0 24 rfl rfl
theorem s242_2 : (prog_32_method_90_code).data.toList.drop 48 = u242_2 := dk_seg s242_1 24 rfl rfl
theorem s242_3 : (prog_32_method_90_code).data.toList.drop 72 = u242_3 := dk_seg s242_2 24 rfl rfl
theorem s242_4 : (prog_32_method_90_code).data.toList.drop 96 = u242_4 := dk_seg s242_3 24 rfl rfl
theorem s242_5 : (prog_32_method_90_code).data.toList.drop 118 = u242_5 := dk_seg s242_4 22 rfl rfl
theorem s242_6 : (prog_32_method_90_code).data.toList.drop 142 = u242_6 := dk_seg s242_5 24 rfl rfl
theorem s242_7 : (prog_32_method_90_code).data.toList.drop 165 = u242_7 := dk_seg s242_6 23 rfl rfl
theorem s242_8 : (prog_32_method_90_code).data.toList.drop 188 = u242_8 := dk_seg s242_7 23 rfl rfl
theorem s242_9 : (prog_32_method_90_code).data.toList.drop 212 = u242_9 := dk_seg s242_8 24 rfl rfl
theorem s242_10 : (prog_32_method_90_code).data.toList.drop 236 = u242_10 := dk_seg s242_9 24 rfl rfl
theorem s242_11 : (prog_32_method_90_code).data.toList.drop 260 = u242_11 := dk_seg s242_10 24 rfl rfl
theorem s242_12 : (prog_32_method_90_code).data.toList.drop 284 = u242_12 := dk_seg s242_11 24 rfl rfl
theorem Fm242 {pc len : Nat} {i : Instr} (h : decode (prog_32_method_90_code) pc = .ok (i, len)) (hl : len = ilen i len) : ft 242 pc = some (11, 1, 0, i, len) := ft_mk rfl h hl
theorem f242_0 : ft 242 0 = some (11, 1, 0, .aload_n 0, 1) := Fm242 (dk_42 (dk_at s242_0 0 rfl rfl)) rfl
theorem f242_1 : ft 242 1 = some (11, 1, 0, .iload_n 1, 1) := Fm242 (dk_27 (dk_at s242_0 1 rfl rfl)) rfl
theorem f242_2 : ft 242 2 = some (11, 1, 0, .iconst (-1), 1) := Fm242 (dk_2 (dk_at s242_0 2 rfl rfl)) rfl
theorem f242_3 : ft 242 3 = some (11, 1, 0, .if_icmp .lt 13, 3) := Fm242 (dk_161 0 13 (dk_at s242_0 3 rfl rfl)) rfl
theorem f242_6 : ft 242 6 = some (11, 1, 0, .iload_n 1, 1) := Fm242 (dk_27 (dk_at s242_0 6 rfl rfl)) rfl
theorem f242_7 : ft 242 7 = some (11, 1, 0, .bipush 7, 2) := Fm242 (dk_16 7 (dk_at s242_0 7 rfl rfl)) rfl
theorem f242_9 : ft 242 9 = some (11, 1, 0, .if_icmp .gt 7, 3) := Fm242 (dk_163 0 7 (dk_at s242_0 9 rfl rfl)) rfl
theorem f242_12 : ft 242 12 = some (11, 1, 0, .iconst 1, 1) := Fm242 (dk_4 (dk_at s242_0 12 rfl rfl)) rfl
theorem f242_13 : ft 242 13 = some (11, 1, 0, .goto 4, 3) := Fm242 (dk_167 0 4 (dk_at s242_0 13 rfl rfl)) rfl
theorem f242_16 : ft 242 16 = some (11, 1, 0, .iconst 0, 1) := Fm242 (dk_3 (dk_at s242_0 16 rfl rfl)) rfl
theorem f242_17 : ft 242 17 = some (11, 1, 0, .iconst 1, 1) := Fm242 (dk_4 (dk_at s242_0 17 rfl rfl)) rfl
theorem f242_18 : ft 242 18 = some (11, 1, 0, .invokevirtual 142, 3) := Fm242 (dk_182 0 142 (dk_at s242_0 18 rfl rfl)) rfl
theorem f242_21 : ft 242 21 = some (11, 1, 0, .ifCond .ne 5, 3) := Fm242 (dk_154 0 5 (dk_at s242_0 21 rfl rfl)) rfl
theorem f242_24 : ft 242 24 = some (11, 1, 0, .iconst 0, 1) := Fm242 (dk_3 (dk_at s242_1 0 rfl rfl)) rfl
theorem f242_25 : ft 242 25 = some (11, 1, 0, .ireturn, 1) := Fm242 (dk_172 (dk_at s242_1 1 rfl rfl)) rfl
theorem f242_26 : ft 242 26 = some (11, 1, 0, .aload_n 0, 1) := Fm242 (dk_42 (dk_at s242_1 2 rfl rfl)) rfl
theorem f242_27 : ft 242 27 = some (11, 1, 0, .invokevirtual 296, 3) := Fm242 (dk_182 1 40 (dk_at s242_1 3 rfl rfl)) rfl
theorem f242_30 : ft 242 30 = some (11, 1, 0, .istore_n 2, 1) := Fm242 (dk_61 (dk_at s242_1 6 rfl rfl)) rfl
theorem f242_31 : ft 242 31 = some (11, 1, 0, .aload_n 0, 1) := Fm242 (dk_42 (dk_at s242_1 7 rfl rfl)) rfl
theorem f242_32 : ft 242 32 = some (11, 1, 0, .iload_n 1, 1) := Fm242 (dk_27 (dk_at s242_1 8 rfl rfl)) rfl
theorem f242_33 : ft 242 33 = some (11, 1, 0, .invokevirtual 320, 3) := Fm242 (dk_182 1 64 (dk_at s242_1 9 rfl rfl)) rfl
theorem f242_36 : ft 242 36 = some (11, 1, 0, .astore_n 3, 1) := Fm242 (dk_78 (dk_at s242_1 12 rfl rfl)) rfl
theorem f242_37 : ft 242 37 = some (11, 1, 0, .aload_n 3, 1) := Fm242 (dk_45 (dk_at s242_1 13 rfl rfl)) rfl
theorem f242_38 : ft 242 38 = some (11, 1, 0, .ifnonnull 5, 3) := Fm242 (dk_199 0 5 (dk_at s242_1 14 rfl rfl)) rfl
theorem f242_41 : ft 242 41 = some (11, 1, 0, .iconst 0, 1) := Fm242 (dk_3 (dk_at s242_1 17 rfl rfl)) rfl
theorem f242_42 : ft 242 42 = some (11, 1, 0, .ireturn, 1) := Fm242 (dk_172 (dk_at s242_1 18 rfl rfl)) rfl
theorem f242_43 : ft 242 43 = some (11, 1, 0, .aload_n 0, 1) := Fm242 (dk_42 (dk_at s242_1 19 rfl rfl)) rfl
theorem f242_44 : ft 242 44 = some (11, 1, 0, .iconst (-1), 1) := Fm242 (dk_2 (dk_at s242_1 20 rfl rfl)) rfl
theorem f242_45 : ft 242 45 = some (11, 1, 0, .putfield 74, 3) := Fm242 (dk_181 0 74 (dk_at s242_1 21 rfl rfl)) rfl
theorem f242_48 : ft 242 48 = some (11, 1, 0, .aload_n 0, 1) := Fm242 (dk_42 (dk_at s242_2 0 rfl rfl)) rfl
theorem f242_49 : ft 242 49 = some (11, 1, 0, .aload_n 0, 1) := Fm242 (dk_42 (dk_at s242_2 1 rfl rfl)) rfl
theorem f242_50 : ft 242 50 = some (11, 1, 0, .getfield 66, 3) := Fm242 (dk_180 0 66 (dk_at s242_2 2 rfl rfl)) rfl
theorem f242_53 : ft 242 53 = some (11, 1, 0, .iload_n 2, 1) := Fm242 (dk_28 (dk_at s242_2 5 rfl rfl)) rfl
theorem f242_54 : ft 242 54 = some (11, 1, 0, .invokevirtual 540, 3) := Fm242 (dk_182 2 28 (dk_at s242_2 6 rfl rfl)) rfl
theorem f242_57 : ft 242 57 = some (11, 1, 0, .istore 4, 2) := Fm242 (dk_54 4 (dk_at s242_2 9 rfl rfl)) rfl
theorem f242_59 : ft 242 59 = some (11, 1, 0, .iload 4, 2) := Fm242 (dk_21 4 (dk_at s242_2 11 rfl rfl)) rfl
theorem f242_61 : ft 242 61 = some (11, 1, 0, .ifCond .ge 18, 3) := Fm242 (dk_156 0 18 (dk_at s242_2 13 rfl rfl)) rfl
theorem f242_64 : ft 242 64 = some (11, 1, 0, .aload_n 0, 1) := Fm242 (dk_42 (dk_at s242_2 16 rfl rfl)) rfl
theorem f242_65 : ft 242 65 = some (11, 1, 0, .aload_n 0, 1) := Fm242 (dk_42 (dk_at s242_2 17 rfl rfl)) rfl
theorem f242_66 : ft 242 66 = some (11, 1, 0, .getfield 164, 3) := Fm242 (dk_180 0 164 (dk_at s242_2 18 rfl rfl)) rfl
theorem f242_69 : ft 242 69 = some (11, 1, 0, .putfield 74, 3) := Fm242 (dk_181 0 74 (dk_at s242_2 21 rfl rfl)) rfl
theorem f242_72 : ft 242 72 = some (11, 1, 0, .aload_n 0, 1) := Fm242 (dk_42 (dk_at s242_3 0 rfl rfl)) rfl
theorem f242_73 : ft 242 73 = some (11, 1, 0, .iconst 3, 1) := Fm242 (dk_6 (dk_at s242_3 1 rfl rfl)) rfl
theorem f242_74 : ft 242 74 = some (11, 1, 0, .putfield 136, 3) := Fm242 (dk_181 0 136 (dk_at s242_3 2 rfl rfl)) rfl
theorem f242_77 : ft 242 77 = some (11, 1, 0, .iconst 0, 1) := Fm242 (dk_3 (dk_at s242_3 5 rfl rfl)) rfl
theorem f242_78 : ft 242 78 = some (11, 1, 0, .ireturn, 1) := Fm242 (dk_172 (dk_at s242_3 6 rfl rfl)) rfl
theorem f242_79 : ft 242 79 = some (11, 1, 0, .aload_n 0, 1) := Fm242 (dk_42 (dk_at s242_3 7 rfl rfl)) rfl
theorem f242_80 : ft 242 80 = some (11, 1, 0, .invokevirtual 302, 3) := Fm242 (dk_182 1 46 (dk_at s242_3 8 rfl rfl)) rfl
theorem f242_83 : ft 242 83 = some (11, 1, 0, .aload_n 0, 1) := Fm242 (dk_42 (dk_at s242_3 11 rfl rfl)) rfl
theorem f242_84 : ft 242 84 = some (11, 1, 0, .iconst 0, 1) := Fm242 (dk_3 (dk_at s242_3 12 rfl rfl)) rfl
theorem f242_85 : ft 242 85 = some (11, 1, 0, .putfield 493, 3) := Fm242 (dk_181 1 237 (dk_at s242_3 13 rfl rfl)) rfl
theorem f242_88 : ft 242 88 = some (11, 1, 0, .aload_n 0, 1) := Fm242 (dk_42 (dk_at s242_3 16 rfl rfl)) rfl
theorem f242_89 : ft 242 89 = some (11, 1, 0, .iconst 0, 1) := Fm242 (dk_3 (dk_at s242_3 17 rfl rfl)) rfl
theorem f242_90 : ft 242 90 = some (11, 1, 0, .putfield 496, 3) := Fm242 (dk_181 1 240 (dk_at s242_3 18 rfl rfl)) rfl
theorem f242_93 : ft 242 93 = some (11, 1, 0, .iconst 0, 1) := Fm242 (dk_3 (dk_at s242_3 21 rfl rfl)) rfl
theorem f242_94 : ft 242 94 = some (11, 1, 0, .istore 5, 2) := Fm242 (dk_54 5 (dk_at s242_3 22 rfl rfl)) rfl
theorem f242_96 : ft 242 96 = some (11, 1, 0, .iconst 0, 1) := Fm242 (dk_3 (dk_at s242_4 0 rfl rfl)) rfl
theorem f242_97 : ft 242 97 = some (11, 1, 0, .istore 6, 2) := Fm242 (dk_54 6 (dk_at s242_4 1 rfl rfl)) rfl
theorem f242_99 : ft 242 99 = some (11, 1, 0, .iload 6, 2) := Fm242 (dk_21 6 (dk_at s242_4 3 rfl rfl)) rfl
theorem f242_101 : ft 242 101 = some (11, 1, 0, .aload_n 3, 1) := Fm242 (dk_45 (dk_at s242_4 5 rfl rfl)) rfl
theorem f242_102 : ft 242 102 = some (11, 1, 0, .getfield 307, 3) := Fm242 (dk_180 1 51 (dk_at s242_4 6 rfl rfl)) rfl
theorem f242_105 : ft 242 105 = some (11, 1, 0, .if_icmp .ge 174, 3) := Fm242 (dk_162 0 174 (dk_at s242_4 9 rfl rfl)) rfl
theorem f242_108 : ft 242 108 = some (11, 1, 0, .aload_n 0, 1) := Fm242 (dk_42 (dk_at s242_4 12 rfl rfl)) rfl
theorem f242_109 : ft 242 109 = some (11, 1, 0, .aload_n 0, 1) := Fm242 (dk_42 (dk_at s242_4 13 rfl rfl)) rfl
theorem f242_110 : ft 242 110 = some (11, 1, 0, .aload_n 3, 1) := Fm242 (dk_45 (dk_at s242_4 14 rfl rfl)) rfl
theorem f242_111 : ft 242 111 = some (11, 1, 0, .getfield 325, 3) := Fm242 (dk_180 1 69 (dk_at s242_4 15 rfl rfl)) rfl
theorem f242_114 : ft 242 114 = some (11, 1, 0, .iload 6, 2) := Fm242 (dk_21 6 (dk_at s242_4 18 rfl rfl)) rfl
theorem f242_116 : ft 242 116 = some (11, 1, 0, .aaload, 1) := Fm242 (dk_50 (dk_at s242_4 20 rfl rfl)) rfl
theorem f242_117 : ft 242 117 = some (11, 1, 0, .aload_n 3, 1) := Fm242 (dk_45 (dk_at s242_4 21 rfl rfl)) rfl
theorem f242_118 : ft 242 118 = some (11, 1, 0, .getfield 324, 3) := Fm242 (dk_180 1 68 (dk_at s242_5 0 rfl rfl)) rfl
theorem f242_121 : ft 242 121 = some (11, 1, 0, .iload 6, 2) := Fm242 (dk_21 6 (dk_at s242_5 3 rfl rfl)) rfl
theorem f242_123 : ft 242 123 = some (11, 1, 0, .iaload, 1) := Fm242 (dk_46 (dk_at s242_5 5 rfl rfl)) rfl
theorem f242_124 : ft 242 124 = some (11, 1, 0, .aload_n 0, 1) := Fm242 (dk_42 (dk_at s242_5 6 rfl rfl)) rfl
theorem f242_125 : ft 242 125 = some (11, 1, 0, .getfield 102, 3) := Fm242 (dk_180 0 102 (dk_at s242_5 7 rfl rfl)) rfl
theorem f242_128 : ft 242 128 = some (11, 1, 0, .invokevirtual 298, 3) := Fm242 (dk_182 1 42 (dk_at s242_5 10 rfl rfl)) rfl
theorem f242_131 : ft 242 131 = some (11, 1, 0, .putfield 505, 3) := Fm242 (dk_181 1 249 (dk_at s242_5 13 rfl rfl)) rfl
theorem f242_134 : ft 242 134 = some (11, 1, 0, .aload_n 0, 1) := Fm242 (dk_42 (dk_at s242_5 16 rfl rfl)) rfl
theorem f242_135 : ft 242 135 = some (11, 1, 0, .iconst 0, 1) := Fm242 (dk_3 (dk_at s242_5 17 rfl rfl)) rfl
theorem f242_136 : ft 242 136 = some (11, 1, 0, .putfield 502, 3) := Fm242 (dk_181 1 246 (dk_at s242_5 18 rfl rfl)) rfl
theorem f242_139 : ft 242 139 = some (11, 1, 0, .aload_n 0, 1) := Fm242 (dk_42 (dk_at s242_5 21 rfl rfl)) rfl
theorem f242_140 : ft 242 140 = some (11, 1, 0, .iload 4, 2) := Fm242 (dk_21 4 (dk_at s242_5 22 rfl rfl)) rfl
theorem f242_142 : ft 242 142 = some (11, 1, 0, .aload_n 0, 1) := Fm242 (dk_42 (dk_at s242_6 0 rfl rfl)) rfl
theorem f242_143 : ft 242 143 = some (11, 1, 0, .getfield 505, 3) := Fm242 (dk_180 1 249 (dk_at s242_6 1 rfl rfl)) rfl
theorem f242_146 : ft 242 146 = some (11, 1, 0, .invokevirtual 522, 3) := Fm242 (dk_182 2 10 (dk_at s242_6 4 rfl rfl)) rfl
theorem f242_149 : ft 242 149 = some (11, 1, 0, .istore 7, 2) := Fm242 (dk_54 7 (dk_at s242_6 7 rfl rfl)) rfl
theorem f242_151 : ft 242 151 = some (11, 1, 0, .aload_n 0, 1) := Fm242 (dk_42 (dk_at s242_6 9 rfl rfl)) rfl
theorem f242_152 : ft 242 152 = some (11, 1, 0, .aload_n 0, 1) := Fm242 (dk_42 (dk_at s242_6 10 rfl rfl)) rfl
theorem f242_153 : ft 242 153 = some (11, 1, 0, .getfield 496, 3) := Fm242 (dk_180 1 240 (dk_at s242_6 11 rfl rfl)) rfl
theorem f242_156 : ft 242 156 = some (11, 1, 0, .ifCond .ne 7, 3) := Fm242 (dk_154 0 7 (dk_at s242_6 14 rfl rfl)) rfl
theorem f242_159 : ft 242 159 = some (11, 1, 0, .iconst 1, 1) := Fm242 (dk_4 (dk_at s242_6 17 rfl rfl)) rfl
theorem f242_160 : ft 242 160 = some (11, 1, 0, .goto 4, 3) := Fm242 (dk_167 0 4 (dk_at s242_6 18 rfl rfl)) rfl
theorem f242_163 : ft 242 163 = some (11, 1, 0, .iconst 0, 1) := Fm242 (dk_3 (dk_at s242_6 21 rfl rfl)) rfl
theorem f242_164 : ft 242 164 = some (11, 1, 0, .iconst 4, 1) := Fm242 (dk_7 (dk_at s242_6 22 rfl rfl)) rfl
theorem f242_165 : ft 242 165 = some (11, 1, 0, .invokevirtual 142, 3) := Fm242 (dk_182 0 142 (dk_at s242_7 0 rfl rfl)) rfl
theorem f242_168 : ft 242 168 = some (11, 1, 0, .ifCond .ne 5, 3) := Fm242 (dk_154 0 5 (dk_at s242_7 3 rfl rfl)) rfl
theorem f242_171 : ft 242 171 = some (11, 1, 0, .iconst 0, 1) := Fm242 (dk_3 (dk_at s242_7 6 rfl rfl)) rfl
theorem f242_172 : ft 242 172 = some (11, 1, 0, .ireturn, 1) := Fm242 (dk_172 (dk_at s242_7 7 rfl rfl)) rfl
theorem f242_173 : ft 242 173 = some (11, 1, 0, .iload 7, 2) := Fm242 (dk_21 7 (dk_at s242_7 8 rfl rfl)) rfl
theorem f242_175 : ft 242 175 = some (11, 1, 0, .istore 8, 2) := Fm242 (dk_54 8 (dk_at s242_7 10 rfl rfl)) rfl
theorem f242_177 : ft 242 177 = some (11, 1, 0, .iload 8, 2) := Fm242 (dk_21 8 (dk_at s242_7 12 rfl rfl)) rfl
theorem f242_179 : ft 242 179 = some (11, 1, 0, .aload_n 0, 1) := Fm242 (dk_42 (dk_at s242_7 14 rfl rfl)) rfl
theorem f242_180 : ft 242 180 = some (11, 1, 0, .getfield 502, 3) := Fm242 (dk_180 1 246 (dk_at s242_7 15 rfl rfl)) rfl
theorem f242_183 : ft 242 183 = some (11, 1, 0, .if_icmp .ge 68, 3) := Fm242 (dk_162 0 68 (dk_at s242_7 18 rfl rfl)) rfl
theorem f242_186 : ft 242 186 = some (11, 1, 0, .aload_n 0, 1) := Fm242 (dk_42 (dk_at s242_7 21 rfl rfl)) rfl
theorem f242_187 : ft 242 187 = some (11, 1, 0, .aload_n 3, 1) := Fm242 (dk_45 (dk_at s242_7 22 rfl rfl)) rfl
theorem f242_188 : ft 242 188 = some (11, 1, 0, .getfield 544, 3) := Fm242 (dk_180 2 32 (dk_at s242_8 0 rfl rfl)) rfl
theorem f242_191 : ft 242 191 = some (11, 1, 0, .iload 6, 2) := Fm242 (dk_21 6 (dk_at s242_8 3 rfl rfl)) rfl
theorem f242_193 : ft 242 193 = some (11, 1, 0, .iaload, 1) := Fm242 (dk_46 (dk_at s242_8 5 rfl rfl)) rfl
theorem f242_194 : ft 242 194 = some (11, 1, 0, .i2l, 1) := Fm242 (dk_133 (dk_at s242_8 6 rfl rfl)) rfl
theorem f242_195 : ft 242 195 = some (11, 1, 0, .invokevirtual 273, 3) := Fm242 (dk_182 1 17 (dk_at s242_8 7 rfl rfl)) rfl
theorem f242_198 : ft 242 198 = some (11, 1, 0, .aload_n 0, 1) := Fm242 (dk_42 (dk_at s242_8 10 rfl rfl)) rfl
theorem f242_199 : ft 242 199 = some (11, 1, 0, .bipush 32, 2) := Fm242 (dk_16 32 (dk_at s242_8 11 rfl rfl)) rfl
theorem f242_201 : ft 242 201 = some (11, 1, 0, .invokevirtual 259, 3) := Fm242 (dk_182 1 3 (dk_at s242_8 13 rfl rfl)) rfl
theorem f242_204 : ft 242 204 = some (11, 1, 0, .aload_n 0, 1) := Fm242 (dk_42 (dk_at s242_8 16 rfl rfl)) rfl
theorem f242_205 : ft 242 205 = some (11, 1, 0, .aload_n 0, 1) := Fm242 (dk_42 (dk_at s242_8 17 rfl rfl)) rfl
theorem f242_206 : ft 242 206 = some (11, 1, 0, .getfield 130, 3) := Fm242 (dk_180 0 130 (dk_at s242_8 18 rfl rfl)) rfl
theorem f242_209 : ft 242 209 = some (11, 1, 0, .iload 8, 2) := Fm242 (dk_21 8 (dk_at s242_8 21 rfl rfl)) rfl
theorem f242_211 : ft 242 211 = some (11, 1, 0, .iaload, 1) := Fm242 (dk_46 (dk_at s242_8 23 rfl rfl)) rfl
theorem f242_212 : ft 242 212 = some (11, 1, 0, .invokevirtual 538, 3) := Fm242 (dk_182 2 26 (dk_at s242_9 0 rfl rfl)) rfl
theorem f242_215 : ft 242 215 = some (11, 1, 0, .aload_n 0, 1) := Fm242 (dk_42 (dk_at s242_9 3 rfl rfl)) rfl
theorem f242_216 : ft 242 216 = some (11, 1, 0, .bipush 32, 2) := Fm242 (dk_16 32 (dk_at s242_9 4 rfl rfl)) rfl
theorem f242_218 : ft 242 218 = some (11, 1, 0, .invokevirtual 259, 3) := Fm242 (dk_182 1 3 (dk_at s242_9 6 rfl rfl)) rfl
theorem f242_221 : ft 242 221 = some (11, 1, 0, .aload_n 0, 1) := Fm242 (dk_42 (dk_at s242_9 9 rfl rfl)) rfl
theorem f242_222 : ft 242 222 = some (11, 1, 0, .aload_n 0, 1) := Fm242 (dk_42 (dk_at s242_9 10 rfl rfl)) rfl
theorem f242_223 : ft 242 223 = some (11, 1, 0, .getfield 102, 3) := Fm242 (dk_180 0 102 (dk_at s242_9 11 rfl rfl)) rfl
theorem f242_226 : ft 242 226 = some (11, 1, 0, .aload_n 0, 1) := Fm242 (dk_42 (dk_at s242_9 14 rfl rfl)) rfl
theorem f242_227 : ft 242 227 = some (11, 1, 0, .getfield 130, 3) := Fm242 (dk_180 0 130 (dk_at s242_9 15 rfl rfl)) rfl
theorem f242_230 : ft 242 230 = some (11, 1, 0, .iload 8, 2) := Fm242 (dk_21 8 (dk_at s242_9 18 rfl rfl)) rfl
theorem f242_232 : ft 242 232 = some (11, 1, 0, .iaload, 1) := Fm242 (dk_46 (dk_at s242_9 20 rfl rfl)) rfl
theorem f242_233 : ft 242 233 = some (11, 1, 0, .invokevirtual 279, 3) := Fm242 (dk_182 1 23 (dk_at s242_9 21 rfl rfl)) rfl
theorem f242_236 : ft 242 236 = some (11, 1, 0, .aload_n 0, 1) := Fm242 (dk_42 (dk_at s242_10 0 rfl rfl)) rfl
theorem f242_237 : ft 242 237 = some (11, 1, 0, .bipush 10, 2) := Fm242 (dk_16 10 (dk_at s242_10 1 rfl rfl)) rfl
theorem f242_239 : ft 242 239 = some (11, 1, 0, .invokevirtual 259, 3) := Fm242 (dk_182 1 3 (dk_at s242_10 3 rfl rfl)) rfl
theorem f242_242 : ft 242 242 = some (11, 1, 0, .iinc 5 1, 3) := Fm242 (dk_132 5 1 (dk_at s242_10 6 rfl rfl)) rfl
theorem f242_245 : ft 242 245 = some (11, 1, 0, .iinc 8 1, 3) := Fm242 (dk_132 8 1 (dk_at s242_10 9 rfl rfl)) rfl
theorem f242_248 : ft 242 248 = some (11, 1, 0, .goto (-71), 3) := Fm242 (dk_167 255 185 (dk_at s242_10 12 rfl rfl)) rfl
theorem f242_251 : ft 242 251 = some (11, 1, 0, .aload_n 0, 1) := Fm242 (dk_42 (dk_at s242_10 15 rfl rfl)) rfl
theorem f242_252 : ft 242 252 = some (11, 1, 0, .aload_n 0, 1) := Fm242 (dk_42 (dk_at s242_10 16 rfl rfl)) rfl
theorem f242_253 : ft 242 253 = some (11, 1, 0, .getfield 255, 3) := Fm242 (dk_180 0 255 (dk_at s242_10 17 rfl rfl)) rfl
theorem f242_256 : ft 242 256 = some (11, 1, 0, .ifCond .ne 7, 3) := Fm242 (dk_154 0 7 (dk_at s242_10 20 rfl rfl)) rfl
theorem f242_259 : ft 242 259 = some (11, 1, 0, .iconst 1, 1) := Fm242 (dk_4 (dk_at s242_10 23 rfl rfl)) rfl
theorem f242_260 : ft 242 260 = some (11, 1, 0, .goto 4, 3) := Fm242 (dk_167 0 4 (dk_at s242_11 0 rfl rfl)) rfl
theorem f242_263 : ft 242 263 = some (11, 1, 0, .iconst 0, 1) := Fm242 (dk_3 (dk_at s242_11 3 rfl rfl)) rfl
theorem f242_264 : ft 242 264 = some (11, 1, 0, .iconst 4, 1) := Fm242 (dk_7 (dk_at s242_11 4 rfl rfl)) rfl
theorem f242_265 : ft 242 265 = some (11, 1, 0, .invokevirtual 142, 3) := Fm242 (dk_182 0 142 (dk_at s242_11 5 rfl rfl)) rfl
theorem f242_268 : ft 242 268 = some (11, 1, 0, .ifCond .ne 5, 3) := Fm242 (dk_154 0 5 (dk_at s242_11 8 rfl rfl)) rfl
theorem f242_271 : ft 242 271 = some (11, 1, 0, .iconst 0, 1) := Fm242 (dk_3 (dk_at s242_11 11 rfl rfl)) rfl
theorem f242_272 : ft 242 272 = some (11, 1, 0, .ireturn, 1) := Fm242 (dk_172 (dk_at s242_11 12 rfl rfl)) rfl
theorem f242_273 : ft 242 273 = some (11, 1, 0, .iinc 6 1, 3) := Fm242 (dk_132 6 1 (dk_at s242_11 13 rfl rfl)) rfl
theorem f242_276 : ft 242 276 = some (11, 1, 0, .goto (-177), 3) := Fm242 (dk_167 255 79 (dk_at s242_11 16 rfl rfl)) rfl
theorem f242_279 : ft 242 279 = some (11, 1, 0, .aload_n 0, 1) := Fm242 (dk_42 (dk_at s242_11 19 rfl rfl)) rfl
theorem f242_280 : ft 242 280 = some (11, 1, 0, .invokevirtual 547, 3) := Fm242 (dk_182 2 35 (dk_at s242_11 20 rfl rfl)) rfl
theorem f242_283 : ft 242 283 = some (11, 1, 0, .aload_n 0, 1) := Fm242 (dk_42 (dk_at s242_11 23 rfl rfl)) rfl
theorem f242_284 : ft 242 284 = some (11, 1, 0, .iconst 0, 1) := Fm242 (dk_3 (dk_at s242_12 0 rfl rfl)) rfl
theorem f242_285 : ft 242 285 = some (11, 1, 0, .putfield 136, 3) := Fm242 (dk_181 0 136 (dk_at s242_12 1 rfl rfl)) rfl
theorem f242_288 : ft 242 288 = some (11, 1, 0, .iload 5, 2) := Fm242 (dk_21 5 (dk_at s242_12 4 rfl rfl)) rfl
theorem f242_290 : ft 242 290 = some (11, 1, 0, .ireturn, 1) := Fm242 (dk_172 (dk_at s242_12 6 rfl rfl)) rfl
theorem q242 {d : Nat} {m : Mem} {a0 a1 : Int} (hz : TZ m) : le2 (if a1 < (-1) then (rn d 242 17 [pR a0, pI a1, pU, pU, pU, pU, pU, pU, pU] [pI 0, pR a0] m) else if 7 < a1 then (rn d 242 17 [pR a0, pI a1, pU, pU, pU, pU, pU, pU, pU] [pI 0, pR a0] m) else rn d 242 17 [pR a0, pI a1, pU, pU, pU, pU, pU, pU, pU] [pI 1, pR a0] m) (cl d 242 [pR a0, pI a1] m) := by
  refine q_in (n := 9) (L := [pR a0, pI a1, pU, pU, pU, pU, pU, pU, pU]) rfl rfl rfl ?_
  refine r_aln0 (p := 1) f242_0 rfl ?_
  refine r_iln1 (p := 2) f242_1 rfl ?_
  refine r_iconst (p := 3) f242_2 rfl (pinD rfl rfl) ?_
  refine r_iclt (t := 16) (p := 6) f242_3 (by decide) rfl rfl ?_ ?_
  · refine r_iconst (p := 17) f242_16 rfl (pinD rfl rfl) ?_
    exact le2_refl _
  · refine r_iln1 (p := 7) f242_6 rfl ?_
    refine r_bipush (p := 9) f242_7 rfl (pinD rfl rfl) ?_
    refine r_icgt (t := 16) (p := 12) f242_9 (by decide) rfl rfl ?_ ?_
    · refine r_iconst (p := 17) f242_16 rfl (pinD rfl rfl) ?_
      exact le2_refl _
    · refine r_iconst (p := 13) f242_12 rfl (pinD rfl rfl) ?_
      refine r_goto (p := 17) f242_13 (by decide) rfl ?_
      exact le2_refl _
theorem q242_17 {d : Nat} {m : Mem} {a0 a1 s1 s0 : Int} (hd : 0 < d) (hz : TZ m) : le2 (gd (tg m s0 = 11) <| bI (cl (d - 1) 188 [pR s0, pI s1, pI 1] m) fun v1 m1 => if v1 = 0 then (some (.inl (some (pI 0)), m1)) else gd (tg m1 a0 = 11) <| bI (cl (d - 1) 195 [pR a0] m1) fun v2 m2 => bR (cl (d - 1) 219 [pR a0, pI a1] m2) fun v3 m3 => if v3 = 0 then (some (.inl (some (pI 0)), m3)) else bI (cl (d - 1) 243 [pR a0, pR (vl m3 a0 0), pI v2] (mst m3 a0 5 (-1))) fun v4 m4 => if v4 < 0 then (some (.inl (some (pI 0)), (mst (mst m4 a0 5 (vl m4 a0 14)) a0 4 3))) else bV (cl (d - 1) 209 [pR a0] m4) fun m5 => rn d 242 99 [pR a0, pI a1, pI v2, pR v3, pI v4, pI 0, pI 0, pU, pU] [] (mst (mst m5 a0 34 0) a0 35 0)) (rn d 242 17 [pR a0, pI a1, pU, pU, pU, pU, pU, pU, pU] [pI s1, pR s0] m) := by
  refine r_iconst (p := 18) f242_17 rfl (pinD rfl rfl) ?_
  refine le2_gd (fun h1 => ?_)
  refine r_invI (p := 21) f242_18 rfl rfl rfl (Or.inl h1) hd (Nat.le_of_ble_eq_true rfl) rfl rfl rfl (fun _ => rfl) (fun v1 m1 c1 => ?_)
  have hz1 := z_k c1 hz
  refine r_ifne (t := 26) (p := 24) f242_21 (by decide) rfl rfl ?_ ?_
  · refine r_iconst (p := 25) f242_24 rfl (pinD rfl rfl) ?_
    exact r_iret1 f242_25
  · refine r_aln0 (p := 27) f242_26 rfl ?_
    refine le2_gd (fun h2 => ?_)
    refine r_invI (p := 30) f242_27 rfl rfl rfl (Or.inl h2) hd (Nat.le_of_ble_eq_true rfl) rfl rfl rfl (fun _ => rfl) (fun v2 m2 c2 => ?_)
    have hz2 := z_k c2 hz1
    refine r_isn2 (p := 31) f242_30 rfl rfl ?_
    refine r_aln0 (p := 32) f242_31 rfl ?_
    refine r_iln1 (p := 33) f242_32 rfl ?_
    have h3 := k_t1 c2 hz1 h2 (by decide)
    refine r_invR (p := 36) f242_33 rfl rfl rfl (Or.inl h3) hd (Nat.le_of_ble_eq_true rfl) rfl rfl rfl (fun _ => rfl) (fun v3 m3 c3 => ?_)
    have hz3 := z_k c3 hz2
    refine r_asn3 (p := 37) f242_36 rfl rfl ?_
    refine r_aln3 (p := 38) f242_37 rfl ?_
    refine r_ifnonnull (t := 43) (p := 41) f242_38 (by decide) rfl rfl ?_ ?_
    · refine r_iconst (p := 42) f242_41 rfl (pinD rfl rfl) ?_
      exact r_iret1 f242_42
    · refine r_aln0 (p := 44) f242_43 rfl ?_
      refine r_iconst (p := 45) f242_44 rfl (pinD rfl rfl) ?_
      have h4 := k_t1 c3 hz2 h3 (by decide)
      refine r_pfI (f := 5) (p := 48) f242_45 rfl rfl rfl (by decide) (by decide) (Or.inl h4) rfl ?_
      refine r_aln0 (p := 49) f242_48 rfl ?_
      refine r_aln0 (p := 50) f242_49 rfl ?_
      refine r_gfR (f := 0) (p := 53) f242_50 rfl rfl rfl (Or.inl h4) (sk_f (by decide)) ?_
      refine r_iln2 (p := 54) f242_53 rfl ?_
      refine r_invI (p := 57) f242_54 rfl rfl rfl (Or.inl h4) hd (Nat.le_of_ble_eq_true rfl) rfl rfl rfl (fun _ => rfl) (fun v4 m4 c4 => ?_)
      have hz4 := z_k c4 hz3
      refine r_isw4 (p := 59) f242_57 rfl rfl ?_
      refine r_ilw4 (p := 61) f242_59 rfl ?_
      refine r_ifge (t := 79) (p := 64) f242_61 (by decide) rfl rfl ?_ ?_
      · refine r_aln0 (p := 65) f242_64 rfl ?_
        refine r_aln0 (p := 66) f242_65 rfl ?_
        have h7 := k_t1 c4 hz3 h4 (by decide)
        refine r_gfI (f := 14) (p := 69) f242_66 rfl rfl rfl (Or.inl h7) rfl ?_
        refine r_pfI (f := 5) (p := 72) f242_69 rfl rfl rfl (by decide) (by decide) (Or.inl h7) rfl ?_
        refine r_aln0 (p := 73) f242_72 rfl ?_
        refine r_iconst (p := 74) f242_73 rfl (pinD rfl rfl) ?_
        refine r_pfI (f := 4) (p := 77) f242_74 rfl rfl rfl (by decide) (by decide) (Or.inl h7) rfl ?_
        refine r_iconst (p := 78) f242_77 rfl (pinD rfl rfl) ?_
        exact r_iret1 f242_78
      · refine r_aln0 (p := 80) f242_79 rfl ?_
        have h5 := k_t1 c4 hz3 h4 (by decide)
        refine r_invV (p := 83) f242_80 rfl rfl rfl (Or.inl h5) hd (Nat.le_of_ble_eq_true rfl) rfl rfl rfl (fun _ => rfl) (fun m5 c5 => ?_)
        have hz5 := z_k c5 hz4
        refine r_aln0 (p := 84) f242_83 rfl ?_
        refine r_iconst (p := 85) f242_84 rfl (pinD rfl rfl) ?_
        have h6 := k_t1 c5 hz4 h5 (by decide)
        refine r_pfI (f := 34) (p := 88) f242_85 rfl rfl rfl (by decide) (by decide) (Or.inl h6) rfl ?_
        refine r_aln0 (p := 89) f242_88 rfl ?_
        refine r_iconst (p := 90) f242_89 rfl (pinD rfl rfl) ?_
        refine r_pfZ (f := 35) (p := 93) f242_90 rfl rfl rfl (by decide) (by decide) (Or.inl h6) rfl (by decide) ?_
        refine r_iconst (p := 94) f242_93 rfl (pinD rfl rfl) ?_
        refine r_isw5 (p := 96) f242_94 rfl rfl ?_
        refine r_iconst (p := 97) f242_96 rfl (pinD rfl rfl) ?_
        refine r_isw6 (p := 99) f242_97 rfl rfl ?_
        exact le2_refl _
theorem q242_99 {d : Nat} {m : Mem} {a0 a1 a2 a3 a4 a5 a6 : Int} {z7 z8 : PV} (hd : 0 < d) (hz : TZ m) (hcz7 : cat z7 = 1) (hcz8 : cat z8 = 1) : le2 (gd (tg m a3 = 12) <| if a6 < (vl m a3 3) then (nm (vl m a3 2) fun v6 => gd (tg m v6 = 278118) <| gd ((0 : Int) ≤ a6 ∧ a6 < ln m v6) <| nm (vl m a3 1) fun v7 => gd (tg m v7 = 278101) <| gd ((0 : Int) ≤ a6 ∧ a6 < ln m v7) <| gd (tg m a0 = 11) <| bI (cl (d - 1) 196 [pR a0, pR (vl m v6 a6), pI (vl m v7 a6), pR (vl m a0 18)] m) fun v2 m2 => bI (cl (d - 1) 262 [pR a0, pI a4, pI v2] (mst (mst m2 a0 36 v2) a0 33 0)) fun v3 m3 => if (vl m3 a0 35) = 0 then (bI (cl (d - 1) 188 [pR a0, pI 1, pI 4] m3) fun v5 m5 => if v5 = 0 then (some (.inl (some (pI 0)), m5)) else rn d 242 177 [pR a0, pI a1, pI a2, pR a3, pI a4, pI a5, pI a6, pI v3, pI v3] [] m5) else bI (cl (d - 1) 188 [pR a0, pI 0, pI 4] m3) fun v4 m4 => if v4 = 0 then (some (.inl (some (pI 0)), m4)) else rn d 242 177 [pR a0, pI a1, pI a2, pR a3, pI a4, pI a5, pI a6, pI v3, pI v3] [] m4) else gd (tg m a0 = 11) <| bV (cl (d - 1) 274 [pR a0] m) fun m1 => some (.inl (some (pI a5)), (mst m1 a0 4 0))) (rn d 242 99 [pR a0, pI a1, pI a2, pR a3, pI a4, pI a5, pI a6, z7, z8] [] m) := by
  refine r_ilw6 (p := 101) f242_99 rfl ?_
  refine r_aln3 (p := 102) f242_101 rfl ?_
  refine le2_gd (fun h1 => ?_)
  refine r_gfI (f := 3) (p := 105) f242_102 rfl rfl rfl (Or.inl h1) rfl ?_
  refine r_icge (t := 279) (p := 108) f242_105 (by decide) rfl rfl ?_ ?_
  · refine r_aln0 (p := 109) f242_108 rfl ?_
    refine r_aln0 (p := 110) f242_109 rfl ?_
    refine r_aln3 (p := 111) f242_110 rfl ?_
    refine r_gfR (f := 2) (p := 114) f242_111 rfl rfl rfl (Or.inl h1) rfl ?_
    refine r_nmR (fun v6 ev6 => ?_)
    refine r_ilw6 (p := 116) f242_114 rfl ?_
    refine le2_gd (fun h4 => ?_)
    refine le2_gd (fun h5 => ?_)
    refine r_aaload (p := 117) f242_116 rfl (dj1 (fun x => 110 < x % 1000 ∧ x % 1000 < 119) h4 (by decide)) h5 rfl ?_
    refine r_aln3 (p := 118) f242_117 rfl ?_
    refine r_gfR (f := 1) (p := 121) f242_118 rfl rfl rfl (Or.inl h1) rfl ?_
    refine r_nmR (fun v7 ev7 => ?_)
    refine r_ilw6 (p := 123) f242_121 rfl ?_
    refine le2_gd (fun h6 => ?_)
    refine le2_gd (fun h7 => ?_)
    refine r_iaload (p := 124) f242_123 rfl (dj1 (fun x => x % 1000 = 101) h6 (by decide)) h7 rfl ?_
    refine r_aln0 (p := 125) f242_124 rfl ?_
    refine le2_gd (fun h8 => ?_)
    refine r_gfR (f := 18) (p := 128) f242_125 rfl rfl rfl (Or.inl h8) rfl ?_
    refine r_invI (p := 131) f242_128 rfl rfl rfl (Or.inl h8) hd (Nat.le_of_ble_eq_true rfl) rfl rfl rfl (fun _ => rfl) (fun v2 m2 c2 => ?_)
    have hz2 := z_k c2 hz
    have h9 := k_t1 c2 hz h8 (by decide)
    refine r_pfI (f := 36) (p := 134) f242_131 rfl rfl rfl (by decide) (by decide) (Or.inl h9) rfl ?_
    refine r_aln0 (p := 135) f242_134 rfl ?_
    refine r_iconst (p := 136) f242_135 rfl (pinD rfl rfl) ?_
    refine r_pfI (f := 33) (p := 139) f242_136 rfl rfl rfl (by decide) (by decide) (Or.inl h9) rfl ?_
    refine r_aln0 (p := 140) f242_139 rfl ?_
    refine r_ilw4 (p := 142) f242_140 rfl ?_
    refine r_aln0 (p := 143) f242_142 rfl ?_
    refine r_gfI (f := 36) (p := 146) f242_143 rfl rfl rfl (Or.inl h9) (Eq.trans (sk_f (by decide)) sk_s) ?_
    refine r_invI (p := 149) f242_146 rfl rfl rfl (Or.inl h9) hd (Nat.le_of_ble_eq_true rfl) rfl rfl rfl (fun _ => rfl) (fun v3 m3 c3 => ?_)
    have hz3 := z_k c3 hz2
    refine r_isw7 (p := 151) f242_149 rfl rfl ?_
    refine r_aln0 (p := 152) f242_151 rfl ?_
    refine r_aln0 (p := 153) f242_152 rfl ?_
    have h10 := k_t1 c3 hz2 h9 (by decide)
    refine r_gfIZ (f := 35) (p := 156) f242_153 rfl rfl rfl (Or.inl h10) rfl ?_
    refine r_ifne (t := 163) (p := 159) f242_156 (by decide) rfl rfl ?_ ?_
    · refine r_iconst (p := 160) f242_159 rfl (pinD rfl rfl) ?_
      refine r_goto (p := 164) f242_160 (by decide) rfl ?_
      refine r_iconst (p := 165) f242_164 rfl (pinD rfl rfl) ?_
      refine r_invI (p := 168) f242_165 rfl rfl rfl (Or.inl h10) hd (Nat.le_of_ble_eq_true rfl) rfl rfl rfl (fun _ => rfl) (fun v5 m5 c5 => ?_)
      have hz5 := z_k c5 hz3
      refine r_ifne (t := 173) (p := 171) f242_168 (by decide) rfl rfl ?_ ?_
      · refine r_iconst (p := 172) f242_171 rfl (pinD rfl rfl) ?_
        exact r_iret1 f242_172
      · refine r_ilw7 (p := 175) f242_173 rfl ?_
        refine r_isw8 (p := 177) f242_175 rfl rfl ?_
        exact le2_refl _
    · refine r_iconst (p := 164) f242_163 rfl (pinD rfl rfl) ?_
      refine r_iconst (p := 165) f242_164 rfl (pinD rfl rfl) ?_
      refine r_invI (p := 168) f242_165 rfl rfl rfl (Or.inl h10) hd (Nat.le_of_ble_eq_true rfl) rfl rfl rfl (fun _ => rfl) (fun v4 m4 c4 => ?_)
      have hz4 := z_k c4 hz3
      refine r_ifne (t := 173) (p := 171) f242_168 (by decide) rfl rfl ?_ ?_
      · refine r_iconst (p := 172) f242_171 rfl (pinD rfl rfl) ?_
        exact r_iret1 f242_172
      · refine r_ilw7 (p := 175) f242_173 rfl ?_
        refine r_isw8 (p := 177) f242_175 rfl rfl ?_
        exact le2_refl _
  · refine r_aln0 (p := 280) f242_279 rfl ?_
    refine le2_gd (fun h2 => ?_)
    refine r_invV (p := 283) f242_280 rfl rfl rfl (Or.inl h2) hd (Nat.le_of_ble_eq_true rfl) rfl rfl rfl (fun _ => rfl) (fun m1 c1 => ?_)
    have hz1 := z_k c1 hz
    refine r_aln0 (p := 284) f242_283 rfl ?_
    refine r_iconst (p := 285) f242_284 rfl (pinD rfl rfl) ?_
    have h3 := k_t1 c1 hz h2 (by decide)
    refine r_pfI (f := 4) (p := 288) f242_285 rfl rfl rfl (by decide) (by decide) (Or.inl h3) rfl ?_
    refine r_ilw5 (p := 290) f242_288 rfl ?_
    exact r_iret1 f242_290
theorem q242_177 {d : Nat} {m : Mem} {a0 a1 a2 a3 a4 a5 a6 a7 a8 : Int} (hd : 0 < d) (hz : TZ m) : le2 (gd (tg m a0 = 11) <| if a8 < (vl m a0 33) then (gd (tg m a3 = 12) <| nm (vl m a3 0) fun v9 => gd (tg m v9 = 278101) <| gd ((0 : Int) ≤ a6 ∧ a6 < ln m v9) <| bV (cl (d - 1) 213 [pR a0, pL (vl m v9 a6)] m) fun m3 => bV (cl (d - 1) 212 [pR a0, pI 32] m3) fun m4 => nm (vl m4 a0 32) fun v10 => gd (tg m4 v10 = 186101) <| gd ((0 : Int) ≤ a8 ∧ a8 < ln m4 v10) <| bV (cl (d - 1) 273 [pR a0, pI (vl m4 v10 a8)] m4) fun m5 => bV (cl (d - 1) 212 [pR a0, pI 32] m5) fun m6 => nm (vl m6 a0 32) fun v11 => gd (tg m6 v11 = 186101) <| gd ((0 : Int) ≤ a8 ∧ a8 < ln m6 v11) <| bV (cl (d - 1) 210 [pR a0, pR (vl m6 a0 18), pI (vl m6 v11 a8)] m6) fun m7 => bV (cl (d - 1) 212 [pR a0, pI 10] m7) fun m8 => rn d 242 177 [pR a0, pI a1, pI a2, pR a3, pI a4, pI (w32 (a5 + 1)), pI a6, pI a7, pI (w32 (a8 + 1))] [] m8) else if (vl m a0 17) = 0 then (bI (cl (d - 1) 188 [pR a0, pI 1, pI 4] m) fun v2 m2 => if v2 = 0 then (some (.inl (some (pI 0)), m2)) else rn d 242 99 [pR a0, pI a1, pI a2, pR a3, pI a4, pI a5, pI (w32 (a6 + 1)), pI a7, pI a8] [] m2) else bI (cl (d - 1) 188 [pR a0, pI 0, pI 4] m) fun v1 m1 => if v1 = 0 then (some (.inl (some (pI 0)), m1)) else rn d 242 99 [pR a0, pI a1, pI a2, pR a3, pI a4, pI a5, pI (w32 (a6 + 1)), pI a7, pI a8] [] m1) (rn d 242 177 [pR a0, pI a1, pI a2, pR a3, pI a4, pI a5, pI a6, pI a7, pI a8] [] m) := by
  refine r_ilw8 (p := 179) f242_177 rfl ?_
  refine r_aln0 (p := 180) f242_179 rfl ?_
  refine le2_gd (fun h1 => ?_)
  refine r_gfI (f := 33) (p := 183) f242_180 rfl rfl rfl (Or.inl h1) rfl ?_
  refine r_icge (t := 251) (p := 186) f242_183 (by decide) rfl rfl ?_ ?_
  · refine r_aln0 (p := 187) f242_186 rfl ?_
    refine r_aln3 (p := 188) f242_187 rfl ?_
    refine le2_gd (fun h2 => ?_)
    refine r_gfR (f := 0) (p := 191) f242_188 rfl rfl rfl (Or.inl h2) rfl ?_
    refine r_nmR (fun v9 ev9 => ?_)
    refine r_ilw6 (p := 193) f242_191 rfl ?_
    refine le2_gd (fun h3 => ?_)
    refine le2_gd (fun h4 => ?_)
    refine r_iaload (p := 194) f242_193 rfl (dj1 (fun x => x % 1000 = 101) h3 (by decide)) h4 rfl ?_
    refine r_i2l (p := 195) f242_194 rfl ?_
    refine r_invV (p := 198) f242_195 rfl rfl rfl (Or.inl h1) hd (Nat.le_of_ble_eq_true rfl) rfl rfl rfl (fun _ => rfl) (fun m3 c3 => ?_)
    have hz3 := z_k c3 hz
    refine r_aln0 (p := 199) f242_198 rfl ?_
    refine r_bipush (p := 201) f242_199 rfl (pinD rfl rfl) ?_
    have h5 := k_t1 c3 hz h1 (by decide)
    refine r_invV (p := 204) f242_201 rfl rfl rfl (Or.inl h5) hd (Nat.le_of_ble_eq_true rfl) rfl rfl rfl (fun _ => rfl) (fun m4 c4 => ?_)
    have hz4 := z_k c4 hz3
    refine r_aln0 (p := 205) f242_204 rfl ?_
    refine r_aln0 (p := 206) f242_205 rfl ?_
    have h6 := k_t1 c4 hz3 h5 (by decide)
    refine r_gfR (f := 32) (p := 209) f242_206 rfl rfl rfl (Or.inl h6) rfl ?_
    refine r_nmR (fun v10 ev10 => ?_)
    refine r_ilw8 (p := 211) f242_209 rfl ?_
    refine le2_gd (fun h7 => ?_)
    refine le2_gd (fun h8 => ?_)
    refine r_iaload (p := 212) f242_211 rfl (dj1 (fun x => x % 1000 = 101) h7 (by decide)) h8 rfl ?_
    refine r_invV (p := 215) f242_212 rfl rfl rfl (Or.inl h6) hd (Nat.le_of_ble_eq_true rfl) rfl rfl rfl (fun _ => rfl) (fun m5 c5 => ?_)
    have hz5 := z_k c5 hz4
    refine r_aln0 (p := 216) f242_215 rfl ?_
    refine r_bipush (p := 218) f242_216 rfl (pinD rfl rfl) ?_
    have h9 := k_t1 c5 hz4 h6 (by decide)
    refine r_invV (p := 221) f242_218 rfl rfl rfl (Or.inl h9) hd (Nat.le_of_ble_eq_true rfl) rfl rfl rfl (fun _ => rfl) (fun m6 c6 => ?_)
    have hz6 := z_k c6 hz5
    refine r_aln0 (p := 222) f242_221 rfl ?_
    refine r_aln0 (p := 223) f242_222 rfl ?_
    have h10 := k_t1 c6 hz5 h9 (by decide)
    refine r_gfR (f := 18) (p := 226) f242_223 rfl rfl rfl (Or.inl h10) rfl ?_
    refine r_aln0 (p := 227) f242_226 rfl ?_
    refine r_gfR (f := 32) (p := 230) f242_227 rfl rfl rfl (Or.inl h10) rfl ?_
    refine r_nmR (fun v11 ev11 => ?_)
    refine r_ilw8 (p := 232) f242_230 rfl ?_
    refine le2_gd (fun h11 => ?_)
    refine le2_gd (fun h12 => ?_)
    refine r_iaload (p := 233) f242_232 rfl (dj1 (fun x => x % 1000 = 101) h11 (by decide)) h12 rfl ?_
    refine r_invV (p := 236) f242_233 rfl rfl rfl (Or.inl h10) hd (Nat.le_of_ble_eq_true rfl) rfl rfl rfl (fun _ => rfl) (fun m7 c7 => ?_)
    have hz7 := z_k c7 hz6
    refine r_aln0 (p := 237) f242_236 rfl ?_
    refine r_bipush (p := 239) f242_237 rfl (pinD rfl rfl) ?_
    have h13 := k_t1 c7 hz6 h10 (by decide)
    refine r_invV (p := 242) f242_239 rfl rfl rfl (Or.inl h13) hd (Nat.le_of_ble_eq_true rfl) rfl rfl rfl (fun _ => rfl) (fun m8 c8 => ?_)
    have hz8 := z_k c8 hz7
    refine r_iinc5 (p := 245) f242_242 rfl rfl ?_
    refine r_iinc8 (p := 248) f242_245 rfl rfl ?_
    refine r_goto (p := 177) f242_248 (by decide) rfl ?_
    exact le2_refl _
  · refine r_aln0 (p := 252) f242_251 rfl ?_
    refine r_aln0 (p := 253) f242_252 rfl ?_
    refine r_gfIZ (f := 17) (p := 256) f242_253 rfl rfl rfl (Or.inl h1) rfl ?_
    refine r_ifne (t := 263) (p := 259) f242_256 (by decide) rfl rfl ?_ ?_
    · refine r_iconst (p := 260) f242_259 rfl (pinD rfl rfl) ?_
      refine r_goto (p := 264) f242_260 (by decide) rfl ?_
      refine r_iconst (p := 265) f242_264 rfl (pinD rfl rfl) ?_
      refine r_invI (p := 268) f242_265 rfl rfl rfl (Or.inl h1) hd (Nat.le_of_ble_eq_true rfl) rfl rfl rfl (fun _ => rfl) (fun v2 m2 c2 => ?_)
      have hz2 := z_k c2 hz
      refine r_ifne (t := 273) (p := 271) f242_268 (by decide) rfl rfl ?_ ?_
      · refine r_iconst (p := 272) f242_271 rfl (pinD rfl rfl) ?_
        exact r_iret1 f242_272
      · refine r_iinc6 (p := 276) f242_273 rfl rfl ?_
        refine r_goto (p := 99) f242_276 (by decide) rfl ?_
        exact le2_refl _
    · refine r_iconst (p := 264) f242_263 rfl (pinD rfl rfl) ?_
      refine r_iconst (p := 265) f242_264 rfl (pinD rfl rfl) ?_
      refine r_invI (p := 268) f242_265 rfl rfl rfl (Or.inl h1) hd (Nat.le_of_ble_eq_true rfl) rfl rfl rfl (fun _ => rfl) (fun v1 m1 c1 => ?_)
      have hz1 := z_k c1 hz
      refine r_ifne (t := 273) (p := 271) f242_268 (by decide) rfl rfl ?_ ?_
      · refine r_iconst (p := 272) f242_271 rfl (pinD rfl rfl) ?_
        exact r_iret1 f242_272
      · refine r_iinc6 (p := 276) f242_273 rfl rfl ?_
        refine r_goto (p := 99) f242_276 (by decide) rfl ?_
        exact le2_refl _
/-! 243 PathStoreModel.readQuery ([BI)I -/
def w243_3 : List UInt8 := [162, 0, 18, 42, 182, 0, 204, 42, 42, 180, 0, 155, 182, 0, 171, 87, 2, 172, 29, 172]
abbrev u243_3 : List UInt8 := w243_3 ++ []
def w243_2 : List UInt8 := [2, 172, 42, 4, 3, 182, 1, 215, 62, 29, 156, 0, 5, 2, 172, 42, 180, 0, 155, 42, 180, 0, 158]
abbrev u243_2 : List UInt8 := w243_2 ++ u243_3
def w243_1 : List UInt8 := [181, 1, 163, 42, 3, 181, 1, 166, 42, 180, 0, 127, 182, 0, 249, 42, 16, 36, 182, 0, 183, 154, 0, 5]
abbrev u243_1 : List UInt8 := w243_1 ++ u243_2
def w243_0 : List UInt8 := [42, 43, 181, 0, 161, 42, 3, 181, 0, 155, 42, 28, 181, 0, 158, 42, 2, 181, 0, 164, 42, 3]
abbrev u243_0 : List UInt8 := w243_0 ++ u243_1
theorem s243_0 : (prog_32_method_77_code).data.toList.drop 0 = u243_0 := by decide +kernel
theorem s243_1 : (prog_32_method_77_code).data.toList.drop 22 = u243_1 := dk_seg s243_0 22 rfl rfl
theorem s243_2 : (prog_32_method_77_code).data.toList.drop 46 = u243_2 := dk_seg s243_1 24 rfl rfl
theorem s243_3 : (prog_32_method_77_code).data.toList.drop 69 = u243_3 := dk_seg s243_2 23 rfl rfl
theorem Fm243 {pc len : Nat} {i : Instr} (h : decode (prog_32_method_77_code) pc = .ok (i, len)) (hl : len = ilen i len) : ft 243 pc = some (11, 1, 0, i, len) := ft_mk rfl h hl
theorem f243_0 : ft 243 0 = some (11, 1, 0, .aload_n 0, 1) := Fm243 (dk_42 (dk_at s243_0 0 rfl rfl)) rfl
theorem f243_1 : ft 243 1 = some (11, 1, 0, .aload_n 1, 1) := Fm243 (dk_43 (dk_at s243_0 1 rfl rfl)) rfl
theorem f243_2 : ft 243 2 = some (11, 1, 0, .putfield 161, 3) := Fm243 (dk_181 0 161 (dk_at s243_0 2 rfl rfl)) rfl
theorem f243_5 : ft 243 5 = some (11, 1, 0, .aload_n 0, 1) := Fm243 (dk_42 (dk_at s243_0 5 rfl rfl)) rfl
theorem f243_6 : ft 243 6 = some (11, 1, 0, .iconst 0, 1) := Fm243 (dk_3 (dk_at s243_0 6 rfl rfl)) rfl
theorem f243_7 : ft 243 7 = some (11, 1, 0, .putfield 155, 3) := Fm243 (dk_181 0 155 (dk_at s243_0 7 rfl rfl)) rfl
theorem f243_10 : ft 243 10 = some (11, 1, 0, .aload_n 0, 1) := Fm243 (dk_42 (dk_at s243_0 10 rfl rfl)) rfl
theorem f243_11 : ft 243 11 = some (11, 1, 0, .iload_n 2, 1) := Fm243 (dk_28 (dk_at s243_0 11 rfl rfl)) rfl
theorem f243_12 : ft 243 12 = some (11, 1, 0, .putfield 158, 3) := Fm243 (dk_181 0 158 (dk_at s243_0 12 rfl rfl)) rfl
theorem f243_15 : ft 243 15 = some (11, 1, 0, .aload_n 0, 1) := Fm243 (dk_42 (dk_at s243_0 15 rfl rfl)) rfl
theorem f243_16 : ft 243 16 = some (11, 1, 0, .iconst (-1), 1) := Fm243 (dk_2 (dk_at s243_0 16 rfl rfl)) rfl
theorem f243_17 : ft 243 17 = some (11, 1, 0, .putfield 164, 3) := Fm243 (dk_181 0 164 (dk_at s243_0 17 rfl rfl)) rfl
theorem f243_20 : ft 243 20 = some (11, 1, 0, .aload_n 0, 1) := Fm243 (dk_42 (dk_at s243_0 20 rfl rfl)) rfl
theorem f243_21 : ft 243 21 = some (11, 1, 0, .iconst 0, 1) := Fm243 (dk_3 (dk_at s243_0 21 rfl rfl)) rfl
theorem f243_22 : ft 243 22 = some (11, 1, 0, .putfield 419, 3) := Fm243 (dk_181 1 163 (dk_at s243_1 0 rfl rfl)) rfl
theorem f243_25 : ft 243 25 = some (11, 1, 0, .aload_n 0, 1) := Fm243 (dk_42 (dk_at s243_1 3 rfl rfl)) rfl
theorem f243_26 : ft 243 26 = some (11, 1, 0, .iconst 0, 1) := Fm243 (dk_3 (dk_at s243_1 4 rfl rfl)) rfl
theorem f243_27 : ft 243 27 = some (11, 1, 0, .putfield 422, 3) := Fm243 (dk_181 1 166 (dk_at s243_1 5 rfl rfl)) rfl
theorem f243_30 : ft 243 30 = some (11, 1, 0, .aload_n 0, 1) := Fm243 (dk_42 (dk_at s243_1 8 rfl rfl)) rfl
theorem f243_31 : ft 243 31 = some (11, 1, 0, .getfield 127, 3) := Fm243 (dk_180 0 127 (dk_at s243_1 9 rfl rfl)) rfl
theorem f243_34 : ft 243 34 = some (11, 1, 0, .invokevirtual 249, 3) := Fm243 (dk_182 0 249 (dk_at s243_1 12 rfl rfl)) rfl
theorem f243_37 : ft 243 37 = some (11, 1, 0, .aload_n 0, 1) := Fm243 (dk_42 (dk_at s243_1 15 rfl rfl)) rfl
theorem f243_38 : ft 243 38 = some (11, 1, 0, .bipush 36, 2) := Fm243 (dk_16 36 (dk_at s243_1 16 rfl rfl)) rfl
theorem f243_40 : ft 243 40 = some (11, 1, 0, .invokevirtual 183, 3) := Fm243 (dk_182 0 183 (dk_at s243_1 18 rfl rfl)) rfl
theorem f243_43 : ft 243 43 = some (11, 1, 0, .ifCond .ne 5, 3) := Fm243 (dk_154 0 5 (dk_at s243_1 21 rfl rfl)) rfl
theorem f243_46 : ft 243 46 = some (11, 1, 0, .iconst (-1), 1) := Fm243 (dk_2 (dk_at s243_2 0 rfl rfl)) rfl
theorem f243_47 : ft 243 47 = some (11, 1, 0, .ireturn, 1) := Fm243 (dk_172 (dk_at s243_2 1 rfl rfl)) rfl
theorem f243_48 : ft 243 48 = some (11, 1, 0, .aload_n 0, 1) := Fm243 (dk_42 (dk_at s243_2 2 rfl rfl)) rfl
theorem f243_49 : ft 243 49 = some (11, 1, 0, .iconst 1, 1) := Fm243 (dk_4 (dk_at s243_2 3 rfl rfl)) rfl
theorem f243_50 : ft 243 50 = some (11, 1, 0, .iconst 0, 1) := Fm243 (dk_3 (dk_at s243_2 4 rfl rfl)) rfl
theorem f243_51 : ft 243 51 = some (11, 1, 0, .invokevirtual 471, 3) := Fm243 (dk_182 1 215 (dk_at s243_2 5 rfl rfl)) rfl
theorem f243_54 : ft 243 54 = some (11, 1, 0, .istore_n 3, 1) := Fm243 (dk_62 (dk_at s243_2 8 rfl rfl)) rfl
theorem f243_55 : ft 243 55 = some (11, 1, 0, .iload_n 3, 1) := Fm243 (dk_29 (dk_at s243_2 9 rfl rfl)) rfl
theorem f243_56 : ft 243 56 = some (11, 1, 0, .ifCond .ge 5, 3) := Fm243 (dk_156 0 5 (dk_at s243_2 10 rfl rfl)) rfl
theorem f243_59 : ft 243 59 = some (11, 1, 0, .iconst (-1), 1) := Fm243 (dk_2 (dk_at s243_2 13 rfl rfl)) rfl
theorem f243_60 : ft 243 60 = some (11, 1, 0, .ireturn, 1) := Fm243 (dk_172 (dk_at s243_2 14 rfl rfl)) rfl
theorem f243_61 : ft 243 61 = some (11, 1, 0, .aload_n 0, 1) := Fm243 (dk_42 (dk_at s243_2 15 rfl rfl)) rfl
theorem f243_62 : ft 243 62 = some (11, 1, 0, .getfield 155, 3) := Fm243 (dk_180 0 155 (dk_at s243_2 16 rfl rfl)) rfl
theorem f243_65 : ft 243 65 = some (11, 1, 0, .aload_n 0, 1) := Fm243 (dk_42 (dk_at s243_2 19 rfl rfl)) rfl
theorem f243_66 : ft 243 66 = some (11, 1, 0, .getfield 158, 3) := Fm243 (dk_180 0 158 (dk_at s243_2 20 rfl rfl)) rfl
theorem f243_69 : ft 243 69 = some (11, 1, 0, .if_icmp .ge 18, 3) := Fm243 (dk_162 0 18 (dk_at s243_3 0 rfl rfl)) rfl
theorem f243_72 : ft 243 72 = some (11, 1, 0, .aload_n 0, 1) := Fm243 (dk_42 (dk_at s243_3 3 rfl rfl)) rfl
theorem f243_73 : ft 243 73 = some (11, 1, 0, .invokevirtual 204, 3) := Fm243 (dk_182 0 204 (dk_at s243_3 4 rfl rfl)) rfl
theorem f243_76 : ft 243 76 = some (11, 1, 0, .aload_n 0, 1) := Fm243 (dk_42 (dk_at s243_3 7 rfl rfl)) rfl
theorem f243_77 : ft 243 77 = some (11, 1, 0, .aload_n 0, 1) := Fm243 (dk_42 (dk_at s243_3 8 rfl rfl)) rfl
theorem f243_78 : ft 243 78 = some (11, 1, 0, .getfield 155, 3) := Fm243 (dk_180 0 155 (dk_at s243_3 9 rfl rfl)) rfl
theorem f243_81 : ft 243 81 = some (11, 1, 0, .invokevirtual 171, 3) := Fm243 (dk_182 0 171 (dk_at s243_3 12 rfl rfl)) rfl
theorem f243_84 : ft 243 84 = some (11, 1, 0, .pop, 1) := Fm243 (dk_87 (dk_at s243_3 15 rfl rfl)) rfl
theorem f243_85 : ft 243 85 = some (11, 1, 0, .iconst (-1), 1) := Fm243 (dk_2 (dk_at s243_3 16 rfl rfl)) rfl
theorem f243_86 : ft 243 86 = some (11, 1, 0, .ireturn, 1) := Fm243 (dk_172 (dk_at s243_3 17 rfl rfl)) rfl
theorem f243_87 : ft 243 87 = some (11, 1, 0, .iload_n 3, 1) := Fm243 (dk_29 (dk_at s243_3 18 rfl rfl)) rfl
theorem f243_88 : ft 243 88 = some (11, 1, 0, .ireturn, 1) := Fm243 (dk_172 (dk_at s243_3 19 rfl rfl)) rfl
theorem q243 {d : Nat} {m : Mem} {a0 a1 a2 : Int} (hd : 0 < d) (hz : TZ m) : le2 (gd (tg m a0 = 11) <| nm (vl m a0 30) fun v6 => gd (tg m v6 = 13) <| bV (cl (d - 1) 284 [pR v6] (mst (mst (mst (mst (mst (mst m a0 11 a1) a0 12 0) a0 13 a2) a0 14 (-1)) a0 29 0) a0 31 0)) fun m1 => bI (cl (d - 1) 201 [pR a0, pI 36] m1) fun v2 m2 => if v2 = 0 then (some (.inl (some (pI (-1))), m2)) else bI (cl (d - 1) 244 [pR a0, pI 1, pI 0] m2) fun v3 m3 => if v3 < 0 then (some (.inl (some (pI (-1))), m3)) else if (vl m3 a0 12) < (vl m3 a0 13) then (bV (cl (d - 1) 198 [pR a0] m3) fun m4 => bI (cl (d - 1) 202 [pR a0, pI (vl m4 a0 12)] m4) fun v5 m5 => some (.inl (some (pI (-1))), m5)) else some (.inl (some (pI v3)), m3)) (cl d 243 [pR a0, pR a1, pI a2] m) := by
  refine q_in (n := 4) (L := [pR a0, pR a1, pI a2, pU]) rfl rfl rfl ?_
  refine r_aln0 (p := 1) f243_0 rfl ?_
  refine r_aln1 (p := 2) f243_1 rfl ?_
  refine le2_gd (fun h1 => ?_)
  refine r_pfR (f := 11) (p := 5) f243_2 rfl rfl rfl (by decide) (by decide) (Or.inl h1) rfl ?_
  refine r_aln0 (p := 6) f243_5 rfl ?_
  refine r_iconst (p := 7) f243_6 rfl (pinD rfl rfl) ?_
  refine r_pfI (f := 12) (p := 10) f243_7 rfl rfl rfl (by decide) (by decide) (Or.inl h1) rfl ?_
  refine r_aln0 (p := 11) f243_10 rfl ?_
  refine r_iln2 (p := 12) f243_11 rfl ?_
  refine r_pfI (f := 13) (p := 15) f243_12 rfl rfl rfl (by decide) (by decide) (Or.inl h1) rfl ?_
  refine r_aln0 (p := 16) f243_15 rfl ?_
  refine r_iconst (p := 17) f243_16 rfl (pinD rfl rfl) ?_
  refine r_pfI (f := 14) (p := 20) f243_17 rfl rfl rfl (by decide) (by decide) (Or.inl h1) rfl ?_
  refine r_aln0 (p := 21) f243_20 rfl ?_
  refine r_iconst (p := 22) f243_21 rfl (pinD rfl rfl) ?_
  refine r_pfI (f := 29) (p := 25) f243_22 rfl rfl rfl (by decide) (by decide) (Or.inl h1) rfl ?_
  refine r_aln0 (p := 26) f243_25 rfl ?_
  refine r_iconst (p := 27) f243_26 rfl (pinD rfl rfl) ?_
  refine r_pfI (f := 31) (p := 30) f243_27 rfl rfl rfl (by decide) (by decide) (Or.inl h1) rfl ?_
  refine r_aln0 (p := 31) f243_30 rfl ?_
  refine r_gfR (f := 30) (p := 34) f243_31 rfl rfl rfl (Or.inl h1) (Eq.trans (sk_f (by decide)) (Eq.trans (sk_f (by decide)) (Eq.trans (sk_f (by decide)) (Eq.trans (sk_f (by decide)) (Eq.trans (sk_f (by decide)) (sk_f (by decide))))))) ?_
  refine r_nmR (fun v6 ev6 => ?_)
  refine le2_gd (fun h2 => ?_)
  refine r_invV (p := 37) f243_34 rfl rfl rfl (Or.inl h2) hd (Nat.le_of_ble_eq_true rfl) rfl rfl rfl (fun _ => rfl) (fun m1 c1 => ?_)
  have hz1 := z_k c1 hz
  refine r_aln0 (p := 38) f243_37 rfl ?_
  refine r_bipush (p := 40) f243_38 rfl (pinD rfl rfl) ?_
  have h3 := k_t1 c1 hz h1 (by decide)
  refine r_invI (p := 43) f243_40 rfl rfl rfl (Or.inl h3) hd (Nat.le_of_ble_eq_true rfl) rfl rfl rfl (fun _ => rfl) (fun v2 m2 c2 => ?_)
  have hz2 := z_k c2 hz1
  refine r_ifne (t := 48) (p := 46) f243_43 (by decide) rfl rfl ?_ ?_
  · refine r_iconst (p := 47) f243_46 rfl (pinD rfl rfl) ?_
    exact r_iret1 f243_47
  · refine r_aln0 (p := 49) f243_48 rfl ?_
    refine r_iconst (p := 50) f243_49 rfl (pinD rfl rfl) ?_
    refine r_iconst (p := 51) f243_50 rfl (pinD rfl rfl) ?_
    have h4 := k_t1 c2 hz1 h3 (by decide)
    refine r_invI (p := 54) f243_51 rfl rfl rfl (Or.inl h4) hd (Nat.le_of_ble_eq_true rfl) rfl rfl rfl (fun _ => rfl) (fun v3 m3 c3 => ?_)
    have hz3 := z_k c3 hz2
    refine r_isn3 (p := 55) f243_54 rfl rfl ?_
    refine r_iln3 (p := 56) f243_55 rfl ?_
    refine r_ifge (t := 61) (p := 59) f243_56 (by decide) rfl rfl ?_ ?_
    · refine r_iconst (p := 60) f243_59 rfl (pinD rfl rfl) ?_
      exact r_iret1 f243_60
    · refine r_aln0 (p := 62) f243_61 rfl ?_
      have h5 := k_t1 c3 hz2 h4 (by decide)
      refine r_gfI (f := 12) (p := 65) f243_62 rfl rfl rfl (Or.inl h5) rfl ?_
      refine r_aln0 (p := 66) f243_65 rfl ?_
      refine r_gfI (f := 13) (p := 69) f243_66 rfl rfl rfl (Or.inl h5) rfl ?_
      refine r_icge (t := 87) (p := 72) f243_69 (by decide) rfl rfl ?_ ?_
      · refine r_aln0 (p := 73) f243_72 rfl ?_
        refine r_invV (p := 76) f243_73 rfl rfl rfl (Or.inl h5) hd (Nat.le_of_ble_eq_true rfl) rfl rfl rfl (fun _ => rfl) (fun m4 c4 => ?_)
        have hz4 := z_k c4 hz3
        refine r_aln0 (p := 77) f243_76 rfl ?_
        refine r_aln0 (p := 78) f243_77 rfl ?_
        have h6 := k_t1 c4 hz3 h5 (by decide)
        refine r_gfI (f := 12) (p := 81) f243_78 rfl rfl rfl (Or.inl h6) rfl ?_
        refine r_invI (p := 84) f243_81 rfl rfl rfl (Or.inl h6) hd (Nat.le_of_ble_eq_true rfl) rfl rfl rfl (fun _ => rfl) (fun v5 m5 c5 => ?_)
        have hz5 := z_k c5 hz4
        refine r_pop (p := 85) f243_84 rfl rfl ?_
        refine r_iconst (p := 86) f243_85 rfl (pinD rfl rfl) ?_
        exact r_iret1 f243_86
      · refine r_iln3 (p := 88) f243_87 rfl ?_
        exact r_iret1 f243_88
/-! 244 PathStoreModel.queryRest (ZZ)I -/
def w244_4 : List UInt8 := [182, 1, 172, 167, 0, 12, 42, 21, 4, 6, 21, 6, 182, 1, 172, 21, 6, 54, 4, 167, 255, 176]
abbrev u244_4 : List UInt8 := w244_4 ++ []
def w244_3 : List UInt8 := [182, 1, 175, 54, 6, 21, 6, 156, 0, 5, 2, 172, 21, 4, 156, 0, 14, 42, 29, 5, 21, 6]
abbrev u244_3 : List UInt8 := w244_3 ++ u244_4
def w244_2 : List UInt8 := [159, 0, 20, 42, 182, 0, 167, 16, 91, 159, 0, 11, 42, 21, 5, 181, 0, 155, 29, 172, 42, 29, 28]
abbrev u244_2 : List UInt8 := w244_2 ++ u244_3
def w244_1 : List UInt8 := [6, 4, 182, 1, 172, 2, 54, 4, 42, 180, 0, 155, 54, 5, 42, 182, 0, 204, 42, 182, 0, 167, 16, 46]
abbrev u244_1 : List UInt8 := w244_1 ++ u244_2
def w244_0 : List UInt8 := [42, 16, 20, 182, 1, 169, 62, 42, 29, 4, 27, 153, 0, 7, 4, 167, 0, 4, 3, 182, 1, 172, 42, 29]
abbrev u244_0 : List UInt8 := w244_0 ++ u244_1
theorem s244_0 : (prog_32_method_65_code).data.toList.drop 0 = u244_0 := by decide +kernel
theorem s244_1 : (prog_32_method_65_code).data.toList.drop 24 = u244_1 := dk_seg s244_0 24 rfl rfl
theorem s244_2 : (prog_32_method_65_code).data.toList.drop 48 = u244_2 := dk_seg s244_1 24 rfl rfl
theorem s244_3 : (prog_32_method_65_code).data.toList.drop 71 = u244_3 := dk_seg s244_2 23 rfl rfl
theorem s244_4 : (prog_32_method_65_code).data.toList.drop 93 = u244_4 := dk_seg s244_3 22 rfl rfl
theorem Fm244 {pc len : Nat} {i : Instr} (h : decode (prog_32_method_65_code) pc = .ok (i, len)) (hl : len = ilen i len) : ft 244 pc = some (11, 1, 0, i, len) := ft_mk rfl h hl
theorem f244_0 : ft 244 0 = some (11, 1, 0, .aload_n 0, 1) := Fm244 (dk_42 (dk_at s244_0 0 rfl rfl)) rfl
theorem f244_1 : ft 244 1 = some (11, 1, 0, .bipush 20, 2) := Fm244 (dk_16 20 (dk_at s244_0 1 rfl rfl)) rfl
theorem f244_3 : ft 244 3 = some (11, 1, 0, .invokevirtual 425, 3) := Fm244 (dk_182 1 169 (dk_at s244_0 3 rfl rfl)) rfl
theorem f244_6 : ft 244 6 = some (11, 1, 0, .istore_n 3, 1) := Fm244 (dk_62 (dk_at s244_0 6 rfl rfl)) rfl
theorem f244_7 : ft 244 7 = some (11, 1, 0, .aload_n 0, 1) := Fm244 (dk_42 (dk_at s244_0 7 rfl rfl)) rfl
theorem f244_8 : ft 244 8 = some (11, 1, 0, .iload_n 3, 1) := Fm244 (dk_29 (dk_at s244_0 8 rfl rfl)) rfl
theorem f244_9 : ft 244 9 = some (11, 1, 0, .iconst 1, 1) := Fm244 (dk_4 (dk_at s244_0 9 rfl rfl)) rfl
theorem f244_10 : ft 244 10 = some (11, 1, 0, .iload_n 1, 1) := Fm244 (dk_27 (dk_at s244_0 10 rfl rfl)) rfl
theorem f244_11 : ft 244 11 = some (11, 1, 0, .ifCond .eq 7, 3) := Fm244 (dk_153 0 7 (dk_at s244_0 11 rfl rfl)) rfl
theorem f244_14 : ft 244 14 = some (11, 1, 0, .iconst 1, 1) := Fm244 (dk_4 (dk_at s244_0 14 rfl rfl)) rfl
theorem f244_15 : ft 244 15 = some (11, 1, 0, .goto 4, 3) := Fm244 (dk_167 0 4 (dk_at s244_0 15 rfl rfl)) rfl
theorem f244_18 : ft 244 18 = some (11, 1, 0, .iconst 0, 1) := Fm244 (dk_3 (dk_at s244_0 18 rfl rfl)) rfl
theorem f244_19 : ft 244 19 = some (11, 1, 0, .invokevirtual 428, 3) := Fm244 (dk_182 1 172 (dk_at s244_0 19 rfl rfl)) rfl
theorem f244_22 : ft 244 22 = some (11, 1, 0, .aload_n 0, 1) := Fm244 (dk_42 (dk_at s244_0 22 rfl rfl)) rfl
theorem f244_23 : ft 244 23 = some (11, 1, 0, .iload_n 3, 1) := Fm244 (dk_29 (dk_at s244_0 23 rfl rfl)) rfl
theorem f244_24 : ft 244 24 = some (11, 1, 0, .iconst 3, 1) := Fm244 (dk_6 (dk_at s244_1 0 rfl rfl)) rfl
theorem f244_25 : ft 244 25 = some (11, 1, 0, .iconst 1, 1) := Fm244 (dk_4 (dk_at s244_1 1 rfl rfl)) rfl
theorem f244_26 : ft 244 26 = some (11, 1, 0, .invokevirtual 428, 3) := Fm244 (dk_182 1 172 (dk_at s244_1 2 rfl rfl)) rfl
theorem f244_29 : ft 244 29 = some (11, 1, 0, .iconst (-1), 1) := Fm244 (dk_2 (dk_at s244_1 5 rfl rfl)) rfl
theorem f244_30 : ft 244 30 = some (11, 1, 0, .istore 4, 2) := Fm244 (dk_54 4 (dk_at s244_1 6 rfl rfl)) rfl
theorem f244_32 : ft 244 32 = some (11, 1, 0, .aload_n 0, 1) := Fm244 (dk_42 (dk_at s244_1 8 rfl rfl)) rfl
theorem f244_33 : ft 244 33 = some (11, 1, 0, .getfield 155, 3) := Fm244 (dk_180 0 155 (dk_at s244_1 9 rfl rfl)) rfl
theorem f244_36 : ft 244 36 = some (11, 1, 0, .istore 5, 2) := Fm244 (dk_54 5 (dk_at s244_1 12 rfl rfl)) rfl
theorem f244_38 : ft 244 38 = some (11, 1, 0, .aload_n 0, 1) := Fm244 (dk_42 (dk_at s244_1 14 rfl rfl)) rfl
theorem f244_39 : ft 244 39 = some (11, 1, 0, .invokevirtual 204, 3) := Fm244 (dk_182 0 204 (dk_at s244_1 15 rfl rfl)) rfl
theorem f244_42 : ft 244 42 = some (11, 1, 0, .aload_n 0, 1) := Fm244 (dk_42 (dk_at s244_1 18 rfl rfl)) rfl
theorem f244_43 : ft 244 43 = some (11, 1, 0, .invokevirtual 167, 3) := Fm244 (dk_182 0 167 (dk_at s244_1 19 rfl rfl)) rfl
theorem f244_46 : ft 244 46 = some (11, 1, 0, .bipush 46, 2) := Fm244 (dk_16 46 (dk_at s244_1 22 rfl rfl)) rfl
theorem f244_48 : ft 244 48 = some (11, 1, 0, .if_icmp .eq 20, 3) := Fm244 (dk_159 0 20 (dk_at s244_2 0 rfl rfl)) rfl
theorem f244_51 : ft 244 51 = some (11, 1, 0, .aload_n 0, 1) := Fm244 (dk_42 (dk_at s244_2 3 rfl rfl)) rfl
theorem f244_52 : ft 244 52 = some (11, 1, 0, .invokevirtual 167, 3) := Fm244 (dk_182 0 167 (dk_at s244_2 4 rfl rfl)) rfl
theorem f244_55 : ft 244 55 = some (11, 1, 0, .bipush 91, 2) := Fm244 (dk_16 91 (dk_at s244_2 7 rfl rfl)) rfl
theorem f244_57 : ft 244 57 = some (11, 1, 0, .if_icmp .eq 11, 3) := Fm244 (dk_159 0 11 (dk_at s244_2 9 rfl rfl)) rfl
theorem f244_60 : ft 244 60 = some (11, 1, 0, .aload_n 0, 1) := Fm244 (dk_42 (dk_at s244_2 12 rfl rfl)) rfl
theorem f244_61 : ft 244 61 = some (11, 1, 0, .iload 5, 2) := Fm244 (dk_21 5 (dk_at s244_2 13 rfl rfl)) rfl
theorem f244_63 : ft 244 63 = some (11, 1, 0, .putfield 155, 3) := Fm244 (dk_181 0 155 (dk_at s244_2 15 rfl rfl)) rfl
theorem f244_66 : ft 244 66 = some (11, 1, 0, .iload_n 3, 1) := Fm244 (dk_29 (dk_at s244_2 18 rfl rfl)) rfl
theorem f244_67 : ft 244 67 = some (11, 1, 0, .ireturn, 1) := Fm244 (dk_172 (dk_at s244_2 19 rfl rfl)) rfl
theorem f244_68 : ft 244 68 = some (11, 1, 0, .aload_n 0, 1) := Fm244 (dk_42 (dk_at s244_2 20 rfl rfl)) rfl
theorem f244_69 : ft 244 69 = some (11, 1, 0, .iload_n 3, 1) := Fm244 (dk_29 (dk_at s244_2 21 rfl rfl)) rfl
theorem f244_70 : ft 244 70 = some (11, 1, 0, .iload_n 2, 1) := Fm244 (dk_28 (dk_at s244_2 22 rfl rfl)) rfl
theorem f244_71 : ft 244 71 = some (11, 1, 0, .invokevirtual 431, 3) := Fm244 (dk_182 1 175 (dk_at s244_3 0 rfl rfl)) rfl
theorem f244_74 : ft 244 74 = some (11, 1, 0, .istore 6, 2) := Fm244 (dk_54 6 (dk_at s244_3 3 rfl rfl)) rfl
theorem f244_76 : ft 244 76 = some (11, 1, 0, .iload 6, 2) := Fm244 (dk_21 6 (dk_at s244_3 5 rfl rfl)) rfl
theorem f244_78 : ft 244 78 = some (11, 1, 0, .ifCond .ge 5, 3) := Fm244 (dk_156 0 5 (dk_at s244_3 7 rfl rfl)) rfl
theorem f244_81 : ft 244 81 = some (11, 1, 0, .iconst (-1), 1) := Fm244 (dk_2 (dk_at s244_3 10 rfl rfl)) rfl
theorem f244_82 : ft 244 82 = some (11, 1, 0, .ireturn, 1) := Fm244 (dk_172 (dk_at s244_3 11 rfl rfl)) rfl
theorem f244_83 : ft 244 83 = some (11, 1, 0, .iload 4, 2) := Fm244 (dk_21 4 (dk_at s244_3 12 rfl rfl)) rfl
theorem f244_85 : ft 244 85 = some (11, 1, 0, .ifCond .ge 14, 3) := Fm244 (dk_156 0 14 (dk_at s244_3 14 rfl rfl)) rfl
theorem f244_88 : ft 244 88 = some (11, 1, 0, .aload_n 0, 1) := Fm244 (dk_42 (dk_at s244_3 17 rfl rfl)) rfl
theorem f244_89 : ft 244 89 = some (11, 1, 0, .iload_n 3, 1) := Fm244 (dk_29 (dk_at s244_3 18 rfl rfl)) rfl
theorem f244_90 : ft 244 90 = some (11, 1, 0, .iconst 2, 1) := Fm244 (dk_5 (dk_at s244_3 19 rfl rfl)) rfl
theorem f244_91 : ft 244 91 = some (11, 1, 0, .iload 6, 2) := Fm244 (dk_21 6 (dk_at s244_3 20 rfl rfl)) rfl
theorem f244_93 : ft 244 93 = some (11, 1, 0, .invokevirtual 428, 3) := Fm244 (dk_182 1 172 (dk_at s244_4 0 rfl rfl)) rfl
theorem f244_96 : ft 244 96 = some (11, 1, 0, .goto 12, 3) := Fm244 (dk_167 0 12 (dk_at s244_4 3 rfl rfl)) rfl
theorem f244_99 : ft 244 99 = some (11, 1, 0, .aload_n 0, 1) := Fm244 (dk_42 (dk_at s244_4 6 rfl rfl)) rfl
theorem f244_100 : ft 244 100 = some (11, 1, 0, .iload 4, 2) := Fm244 (dk_21 4 (dk_at s244_4 7 rfl rfl)) rfl
theorem f244_102 : ft 244 102 = some (11, 1, 0, .iconst 3, 1) := Fm244 (dk_6 (dk_at s244_4 9 rfl rfl)) rfl
theorem f244_103 : ft 244 103 = some (11, 1, 0, .iload 6, 2) := Fm244 (dk_21 6 (dk_at s244_4 10 rfl rfl)) rfl
theorem f244_105 : ft 244 105 = some (11, 1, 0, .invokevirtual 428, 3) := Fm244 (dk_182 1 172 (dk_at s244_4 12 rfl rfl)) rfl
theorem f244_108 : ft 244 108 = some (11, 1, 0, .iload 6, 2) := Fm244 (dk_21 6 (dk_at s244_4 15 rfl rfl)) rfl
theorem f244_110 : ft 244 110 = some (11, 1, 0, .istore 4, 2) := Fm244 (dk_54 4 (dk_at s244_4 17 rfl rfl)) rfl
theorem f244_112 : ft 244 112 = some (11, 1, 0, .goto (-80), 3) := Fm244 (dk_167 255 176 (dk_at s244_4 19 rfl rfl)) rfl
theorem q244 {d : Nat} {m : Mem} {a0 a1 a2 : Int} (hd : 0 < d) (hz : TZ m) : le2 (gd (tg m a0 = 11) <| bI (cl (d - 1) 245 [pR a0, pI 20] m) fun v1 m1 => if a1 = 0 then (rn d 244 19 [pR a0, pI a1, pI a2, pI v1, pU, pU, pU] [pI 0, pI 1, pI v1, pR a0] m1) else rn d 244 19 [pR a0, pI a1, pI a2, pI v1, pU, pU, pU] [pI 1, pI 1, pI v1, pR a0] m1) (cl d 244 [pR a0, pI a1, pI a2] m) := by
  refine q_in (n := 7) (L := [pR a0, pI a1, pI a2, pU, pU, pU, pU]) rfl rfl rfl ?_
  refine r_aln0 (p := 1) f244_0 rfl ?_
  refine r_bipush (p := 3) f244_1 rfl (pinD rfl rfl) ?_
  refine le2_gd (fun h1 => ?_)
  refine r_invI (p := 6) f244_3 rfl rfl rfl (Or.inl h1) hd (Nat.le_of_ble_eq_true rfl) rfl rfl rfl (fun _ => rfl) (fun v1 m1 c1 => ?_)
  have hz1 := z_k c1 hz
  refine r_isn3 (p := 7) f244_6 rfl rfl ?_
  refine r_aln0 (p := 8) f244_7 rfl ?_
  refine r_iln3 (p := 9) f244_8 rfl ?_
  refine r_iconst (p := 10) f244_9 rfl (pinD rfl rfl) ?_
  refine r_iln1 (p := 11) f244_10 rfl ?_
  refine r_ifeq (t := 18) (p := 14) f244_11 (by decide) rfl rfl ?_ ?_
  · refine r_iconst (p := 19) f244_18 rfl (pinD rfl rfl) ?_
    exact le2_refl _
  · refine r_iconst (p := 15) f244_14 rfl (pinD rfl rfl) ?_
    refine r_goto (p := 19) f244_15 (by decide) rfl ?_
    exact le2_refl _
theorem q244_19 {d : Nat} {m : Mem} {a0 a1 a2 a3 s3 s2 s1 s0 : Int} (hd : 0 < d) (hz : TZ m) : le2 (gd (tg m s0 = 11) <| bV (cl (d - 1) 246 [pR s0, pI s1, pI s2, pI s3] m) fun m1 => gd (tg m1 a0 = 11) <| bV (cl (d - 1) 246 [pR a0, pI a3, pI 3, pI 1] m1) fun m2 => rn d 244 32 [pR a0, pI a1, pI a2, pI a3, pI (-1), pU, pU] [] m2) (rn d 244 19 [pR a0, pI a1, pI a2, pI a3, pU, pU, pU] [pI s3, pI s2, pI s1, pR s0] m) := by
  refine le2_gd (fun h1 => ?_)
  refine r_invV (p := 22) f244_19 rfl rfl rfl (Or.inl h1) hd (Nat.le_of_ble_eq_true rfl) rfl rfl rfl (fun _ => rfl) (fun m1 c1 => ?_)
  have hz1 := z_k c1 hz
  refine r_aln0 (p := 23) f244_22 rfl ?_
  refine r_iln3 (p := 24) f244_23 rfl ?_
  refine r_iconst (p := 25) f244_24 rfl (pinD rfl rfl) ?_
  refine r_iconst (p := 26) f244_25 rfl (pinD rfl rfl) ?_
  refine le2_gd (fun h2 => ?_)
  refine r_invV (p := 29) f244_26 rfl rfl rfl (Or.inl h2) hd (Nat.le_of_ble_eq_true rfl) rfl rfl rfl (fun _ => rfl) (fun m2 c2 => ?_)
  have hz2 := z_k c2 hz1
  refine r_iconst (p := 30) f244_29 rfl (pinD rfl rfl) ?_
  refine r_isw4 (p := 32) f244_30 rfl rfl ?_
  exact le2_refl _
theorem q244_32 {d : Nat} {m : Mem} {a0 a1 a2 a3 a4 : Int} {z5 z6 : PV} (hd : 0 < d) (hz : TZ m) (hcz5 : cat z5 = 1) (hcz6 : cat z6 = 1) : le2 (gd (tg m a0 = 11) <| nm (vl m a0 12) fun v4 => bV (cl (d - 1) 198 [pR a0] m) fun m1 => bI (cl (d - 1) 199 [pR a0] m1) fun v2 m2 => if v2 = 46 then (rn d 244 68 [pR a0, pI a1, pI a2, pI a3, pI a4, pI v4, z6] [] m2) else bI (cl (d - 1) 199 [pR a0] m2) fun v3 m3 => if v3 = 91 then (rn d 244 68 [pR a0, pI a1, pI a2, pI a3, pI a4, pI v4, z6] [] m3) else some (.inl (some (pI a3)), (mst m3 a0 12 v4))) (rn d 244 32 [pR a0, pI a1, pI a2, pI a3, pI a4, z5, z6] [] m) := by
  refine r_aln0 (p := 33) f244_32 rfl ?_
  refine le2_gd (fun h1 => ?_)
  refine r_gfI (f := 12) (p := 36) f244_33 rfl rfl rfl (Or.inl h1) rfl ?_
  refine r_nmI (fun v4 ev4 => ?_)
  refine r_isw5 (p := 38) f244_36 rfl rfl ?_
  refine r_aln0 (p := 39) f244_38 rfl ?_
  refine r_invV (p := 42) f244_39 rfl rfl rfl (Or.inl h1) hd (Nat.le_of_ble_eq_true rfl) rfl rfl rfl (fun _ => rfl) (fun m1 c1 => ?_)
  have hz1 := z_k c1 hz
  refine r_aln0 (p := 43) f244_42 rfl ?_
  have h2 := k_t1 c1 hz h1 (by decide)
  refine r_invI (p := 46) f244_43 rfl rfl rfl (Or.inl h2) hd (Nat.le_of_ble_eq_true rfl) rfl rfl rfl (fun _ => rfl) (fun v2 m2 c2 => ?_)
  have hz2 := z_k c2 hz1
  refine r_bipush (p := 48) f244_46 rfl (pinD rfl rfl) ?_
  refine r_iceq (t := 68) (p := 51) f244_48 (by decide) rfl rfl ?_ ?_
  · exact le2_refl _
  · refine r_aln0 (p := 52) f244_51 rfl ?_
    have h3 := k_t1 c2 hz1 h2 (by decide)
    refine r_invI (p := 55) f244_52 rfl rfl rfl (Or.inl h3) hd (Nat.le_of_ble_eq_true rfl) rfl rfl rfl (fun _ => rfl) (fun v3 m3 c3 => ?_)
    have hz3 := z_k c3 hz2
    refine r_bipush (p := 57) f244_55 rfl (pinD rfl rfl) ?_
    refine r_iceq (t := 68) (p := 60) f244_57 (by decide) rfl rfl ?_ ?_
    · exact le2_refl _
    · refine r_aln0 (p := 61) f244_60 rfl ?_
      refine r_ilw5 (p := 63) f244_61 rfl ?_
      have h4 := k_t1 c3 hz2 h3 (by decide)
      refine r_pfI (f := 12) (p := 66) f244_63 rfl rfl rfl (by decide) (by decide) (Or.inl h4) rfl ?_
      refine r_iln3 (p := 67) f244_66 rfl ?_
      exact r_iret1 f244_67
theorem q244_68 {d : Nat} {m : Mem} {a0 a1 a2 a3 a4 a5 : Int} {z6 : PV} (hd : 0 < d) (hz : TZ m) (hcz6 : cat z6 = 1) : le2 (gd (tg m a0 = 11) <| bI (cl (d - 1) 247 [pR a0, pI a3, pI a2] m) fun v1 m1 => if v1 < 0 then (some (.inl (some (pI (-1))), m1)) else if a4 < 0 then (bV (cl (d - 1) 246 [pR a0, pI a3, pI 2, pI v1] m1) fun m3 => rn d 244 32 [pR a0, pI a1, pI a2, pI a3, pI v1, pI a5, pI v1] [] m3) else bV (cl (d - 1) 246 [pR a0, pI a4, pI 3, pI v1] m1) fun m2 => rn d 244 32 [pR a0, pI a1, pI a2, pI a3, pI v1, pI a5, pI v1] [] m2) (rn d 244 68 [pR a0, pI a1, pI a2, pI a3, pI a4, pI a5, z6] [] m) := by
  refine r_aln0 (p := 69) f244_68 rfl ?_
  refine r_iln3 (p := 70) f244_69 rfl ?_
  refine r_iln2 (p := 71) f244_70 rfl ?_
  refine le2_gd (fun h1 => ?_)
  refine r_invI (p := 74) f244_71 rfl rfl rfl (Or.inl h1) hd (Nat.le_of_ble_eq_true rfl) rfl rfl rfl (fun _ => rfl) (fun v1 m1 c1 => ?_)
  have hz1 := z_k c1 hz
  refine r_isw6 (p := 76) f244_74 rfl rfl ?_
  refine r_ilw6 (p := 78) f244_76 rfl ?_
  refine r_ifge (t := 83) (p := 81) f244_78 (by decide) rfl rfl ?_ ?_
  · refine r_iconst (p := 82) f244_81 rfl (pinD rfl rfl) ?_
    exact r_iret1 f244_82
  · refine r_ilw4 (p := 85) f244_83 rfl ?_
    refine r_ifge (t := 99) (p := 88) f244_85 (by decide) rfl rfl ?_ ?_
    · refine r_aln0 (p := 89) f244_88 rfl ?_
      refine r_iln3 (p := 90) f244_89 rfl ?_
      refine r_iconst (p := 91) f244_90 rfl (pinD rfl rfl) ?_
      refine r_ilw6 (p := 93) f244_91 rfl ?_
      have h3 := k_t1 c1 hz h1 (by decide)
      refine r_invV (p := 96) f244_93 rfl rfl rfl (Or.inl h3) hd (Nat.le_of_ble_eq_true rfl) rfl rfl rfl (fun _ => rfl) (fun m3 c3 => ?_)
      have hz3 := z_k c3 hz1
      refine r_goto (p := 108) f244_96 (by decide) rfl ?_
      refine r_ilw6 (p := 110) f244_108 rfl ?_
      refine r_isw4 (p := 112) f244_110 rfl rfl ?_
      refine r_goto (p := 32) f244_112 (by decide) rfl ?_
      exact le2_refl _
    · refine r_aln0 (p := 100) f244_99 rfl ?_
      refine r_ilw4 (p := 102) f244_100 rfl ?_
      refine r_iconst (p := 103) f244_102 rfl (pinD rfl rfl) ?_
      refine r_ilw6 (p := 105) f244_103 rfl ?_
      have h2 := k_t1 c1 hz h1 (by decide)
      refine r_invV (p := 108) f244_105 rfl rfl rfl (Or.inl h2) hd (Nat.le_of_ble_eq_true rfl) rfl rfl rfl (fun _ => rfl) (fun m2 c2 => ?_)
      have hz2 := z_k c2 hz1
      refine r_ilw6 (p := 110) f244_108 rfl ?_
      refine r_isw4 (p := 112) f244_110 rfl rfl ?_
      refine r_goto (p := 32) f244_112 (by decide) rfl ?_
      exact le2_refl _
/-! 245 PathStoreModel.row (I)I -/
def w245_6 : List UInt8 := [89, 180, 1, 163, 4, 96, 181, 1, 163, 42, 180, 1, 163, 4, 100, 172]
abbrev u245_6 : List UInt8 := w245_6 ++ []
def w245_5 : List UInt8 := [28, 96, 2, 79, 132, 2, 1, 167, 255, 232, 42, 180, 0, 121, 16, 8, 42, 180, 1, 163, 104, 27, 79, 42]
abbrev u245_5 : List UInt8 := w245_5 ++ u245_6
def w245_4 : List UInt8 := [42, 45, 181, 0, 124, 3, 61, 28, 16, 8, 162, 0, 24, 42, 180, 0, 121, 16, 8, 42, 180, 1, 163, 104]
abbrev u245_4 : List UInt8 := w245_4 ++ u245_5
def w245_3 : List UInt8 := [180, 0, 124, 190, 162, 0, 20, 45, 21, 4, 42, 180, 0, 124, 21, 4, 47, 80, 132, 4, 1, 167, 255, 232]
abbrev u245_3 : List UInt8 := w245_3 ++ u245_4
def w245_2 : List UInt8 := [167, 255, 235, 42, 44, 181, 0, 121, 5, 42, 180, 0, 124, 190, 104, 188, 11, 78, 3, 54, 4, 21, 4, 42]
abbrev u245_2 : List UInt8 := w245_2 ++ u245_3
def w245_1 : List UInt8 := [77, 3, 62, 29, 42, 180, 0, 121, 190, 162, 0, 18, 44, 29, 42, 180, 0, 121, 29, 46, 79, 132, 3, 1]
abbrev u245_1 : List UInt8 := w245_1 ++ u245_2
def w245_0 : List UInt8 := [16, 8, 42, 180, 1, 163, 104, 42, 180, 0, 121, 190, 160, 0, 89, 5, 42, 180, 0, 121, 190, 104, 188, 10]
abbrev u245_0 : List UInt8 := w245_0 ++ u245_1
theorem s245_0 : (prog_32_method_59_code).data.toList.drop 0 = u245_0 := by decide +kernel
theorem s245_1 : (prog_32_method_59_code).data.toList.drop 24 = u245_1 := dk_seg s245_0 24 rfl rfl
theorem s245_2 : (prog_32_method_59_code).data.toList.drop 48 = u245_2 := dk_seg s245_1 24 rfl rfl
theorem s245_3 : (prog_32_method_59_code).data.toList.drop 72 = u245_3 := dk_seg s245_2 24 rfl rfl
theorem s245_4 : (prog_32_method_59_code).data.toList.drop 96 = u245_4 := dk_seg s245_3 24 rfl rfl
theorem s245_5 : (prog_32_method_59_code).data.toList.drop 120 = u245_5 := dk_seg s245_4 24 rfl rfl
theorem s245_6 : (prog_32_method_59_code).data.toList.drop 144 = u245_6 := dk_seg s245_5 24 rfl rfl
theorem Fm245 {pc len : Nat} {i : Instr} (h : decode (prog_32_method_59_code) pc = .ok (i, len)) (hl : len = ilen i len) : ft 245 pc = some (11, 1, 0, i, len) := ft_mk rfl h hl
theorem f245_0 : ft 245 0 = some (11, 1, 0, .bipush 8, 2) := Fm245 (dk_16 8 (dk_at s245_0 0 rfl rfl)) rfl
theorem f245_2 : ft 245 2 = some (11, 1, 0, .aload_n 0, 1) := Fm245 (dk_42 (dk_at s245_0 2 rfl rfl)) rfl
theorem f245_3 : ft 245 3 = some (11, 1, 0, .getfield 419, 3) := Fm245 (dk_180 1 163 (dk_at s245_0 3 rfl rfl)) rfl
theorem f245_6 : ft 245 6 = some (11, 1, 0, .imul, 1) := Fm245 (dk_104 (dk_at s245_0 6 rfl rfl)) rfl
theorem f245_7 : ft 245 7 = some (11, 1, 0, .aload_n 0, 1) := Fm245 (dk_42 (dk_at s245_0 7 rfl rfl)) rfl
theorem f245_8 : ft 245 8 = some (11, 1, 0, .getfield 121, 3) := Fm245 (dk_180 0 121 (dk_at s245_0 8 rfl rfl)) rfl
theorem f245_11 : ft 245 11 = some (11, 1, 0, .arraylength, 1) := Fm245 (dk_190 (dk_at s245_0 11 rfl rfl)) rfl
theorem f245_12 : ft 245 12 = some (11, 1, 0, .if_icmp .ne 89, 3) := Fm245 (dk_160 0 89 (dk_at s245_0 12 rfl rfl)) rfl
theorem f245_15 : ft 245 15 = some (11, 1, 0, .iconst 2, 1) := Fm245 (dk_5 (dk_at s245_0 15 rfl rfl)) rfl
theorem f245_16 : ft 245 16 = some (11, 1, 0, .aload_n 0, 1) := Fm245 (dk_42 (dk_at s245_0 16 rfl rfl)) rfl
theorem f245_17 : ft 245 17 = some (11, 1, 0, .getfield 121, 3) := Fm245 (dk_180 0 121 (dk_at s245_0 17 rfl rfl)) rfl
theorem f245_20 : ft 245 20 = some (11, 1, 0, .arraylength, 1) := Fm245 (dk_190 (dk_at s245_0 20 rfl rfl)) rfl
theorem f245_21 : ft 245 21 = some (11, 1, 0, .imul, 1) := Fm245 (dk_104 (dk_at s245_0 21 rfl rfl)) rfl
theorem f245_22 : ft 245 22 = some (11, 1, 0, .newarray .int, 2) := Fm245 (dk_188_10 (dk_at s245_0 22 rfl rfl)) rfl
theorem f245_24 : ft 245 24 = some (11, 1, 0, .astore_n 2, 1) := Fm245 (dk_77 (dk_at s245_1 0 rfl rfl)) rfl
theorem f245_25 : ft 245 25 = some (11, 1, 0, .iconst 0, 1) := Fm245 (dk_3 (dk_at s245_1 1 rfl rfl)) rfl
theorem f245_26 : ft 245 26 = some (11, 1, 0, .istore_n 3, 1) := Fm245 (dk_62 (dk_at s245_1 2 rfl rfl)) rfl
theorem f245_27 : ft 245 27 = some (11, 1, 0, .iload_n 3, 1) := Fm245 (dk_29 (dk_at s245_1 3 rfl rfl)) rfl
theorem f245_28 : ft 245 28 = some (11, 1, 0, .aload_n 0, 1) := Fm245 (dk_42 (dk_at s245_1 4 rfl rfl)) rfl
theorem f245_29 : ft 245 29 = some (11, 1, 0, .getfield 121, 3) := Fm245 (dk_180 0 121 (dk_at s245_1 5 rfl rfl)) rfl
theorem f245_32 : ft 245 32 = some (11, 1, 0, .arraylength, 1) := Fm245 (dk_190 (dk_at s245_1 8 rfl rfl)) rfl
theorem f245_33 : ft 245 33 = some (11, 1, 0, .if_icmp .ge 18, 3) := Fm245 (dk_162 0 18 (dk_at s245_1 9 rfl rfl)) rfl
theorem f245_36 : ft 245 36 = some (11, 1, 0, .aload_n 2, 1) := Fm245 (dk_44 (dk_at s245_1 12 rfl rfl)) rfl
theorem f245_37 : ft 245 37 = some (11, 1, 0, .iload_n 3, 1) := Fm245 (dk_29 (dk_at s245_1 13 rfl rfl)) rfl
theorem f245_38 : ft 245 38 = some (11, 1, 0, .aload_n 0, 1) := Fm245 (dk_42 (dk_at s245_1 14 rfl rfl)) rfl
theorem f245_39 : ft 245 39 = some (11, 1, 0, .getfield 121, 3) := Fm245 (dk_180 0 121 (dk_at s245_1 15 rfl rfl)) rfl
theorem f245_42 : ft 245 42 = some (11, 1, 0, .iload_n 3, 1) := Fm245 (dk_29 (dk_at s245_1 18 rfl rfl)) rfl
theorem f245_43 : ft 245 43 = some (11, 1, 0, .iaload, 1) := Fm245 (dk_46 (dk_at s245_1 19 rfl rfl)) rfl
theorem f245_44 : ft 245 44 = some (11, 1, 0, .iastore, 1) := Fm245 (dk_79 (dk_at s245_1 20 rfl rfl)) rfl
theorem f245_45 : ft 245 45 = some (11, 1, 0, .iinc 3 1, 3) := Fm245 (dk_132 3 1 (dk_at s245_1 21 rfl rfl)) rfl
theorem f245_48 : ft 245 48 = some (11, 1, 0, .goto (-21), 3) := Fm245 (dk_167 255 235 (dk_at s245_2 0 rfl rfl)) rfl
theorem f245_51 : ft 245 51 = some (11, 1, 0, .aload_n 0, 1) := Fm245 (dk_42 (dk_at s245_2 3 rfl rfl)) rfl
theorem f245_52 : ft 245 52 = some (11, 1, 0, .aload_n 2, 1) := Fm245 (dk_44 (dk_at s245_2 4 rfl rfl)) rfl
theorem f245_53 : ft 245 53 = some (11, 1, 0, .putfield 121, 3) := Fm245 (dk_181 0 121 (dk_at s245_2 5 rfl rfl)) rfl
theorem f245_56 : ft 245 56 = some (11, 1, 0, .iconst 2, 1) := Fm245 (dk_5 (dk_at s245_2 8 rfl rfl)) rfl
theorem f245_57 : ft 245 57 = some (11, 1, 0, .aload_n 0, 1) := Fm245 (dk_42 (dk_at s245_2 9 rfl rfl)) rfl
theorem f245_58 : ft 245 58 = some (11, 1, 0, .getfield 124, 3) := Fm245 (dk_180 0 124 (dk_at s245_2 10 rfl rfl)) rfl
theorem f245_61 : ft 245 61 = some (11, 1, 0, .arraylength, 1) := Fm245 (dk_190 (dk_at s245_2 13 rfl rfl)) rfl
theorem f245_62 : ft 245 62 = some (11, 1, 0, .imul, 1) := Fm245 (dk_104 (dk_at s245_2 14 rfl rfl)) rfl
theorem f245_63 : ft 245 63 = some (11, 1, 0, .newarray .long, 2) := Fm245 (dk_188_11 (dk_at s245_2 15 rfl rfl)) rfl
theorem f245_65 : ft 245 65 = some (11, 1, 0, .astore_n 3, 1) := Fm245 (dk_78 (dk_at s245_2 17 rfl rfl)) rfl
theorem f245_66 : ft 245 66 = some (11, 1, 0, .iconst 0, 1) := Fm245 (dk_3 (dk_at s245_2 18 rfl rfl)) rfl
theorem f245_67 : ft 245 67 = some (11, 1, 0, .istore 4, 2) := Fm245 (dk_54 4 (dk_at s245_2 19 rfl rfl)) rfl
theorem f245_69 : ft 245 69 = some (11, 1, 0, .iload 4, 2) := Fm245 (dk_21 4 (dk_at s245_2 21 rfl rfl)) rfl
theorem f245_71 : ft 245 71 = some (11, 1, 0, .aload_n 0, 1) := Fm245 (dk_42 (dk_at s245_2 23 rfl rfl)) rfl
theorem f245_72 : ft 245 72 = some (11, 1, 0, .getfield 124, 3) := Fm245 (dk_180 0 124 (dk_at s245_3 0 rfl rfl)) rfl
theorem f245_75 : ft 245 75 = some (11, 1, 0, .arraylength, 1) := Fm245 (dk_190 (dk_at s245_3 3 rfl rfl)) rfl
theorem f245_76 : ft 245 76 = some (11, 1, 0, .if_icmp .ge 20, 3) := Fm245 (dk_162 0 20 (dk_at s245_3 4 rfl rfl)) rfl
theorem f245_79 : ft 245 79 = some (11, 1, 0, .aload_n 3, 1) := Fm245 (dk_45 (dk_at s245_3 7 rfl rfl)) rfl
theorem f245_80 : ft 245 80 = some (11, 1, 0, .iload 4, 2) := Fm245 (dk_21 4 (dk_at s245_3 8 rfl rfl)) rfl
theorem f245_82 : ft 245 82 = some (11, 1, 0, .aload_n 0, 1) := Fm245 (dk_42 (dk_at s245_3 10 rfl rfl)) rfl
theorem f245_83 : ft 245 83 = some (11, 1, 0, .getfield 124, 3) := Fm245 (dk_180 0 124 (dk_at s245_3 11 rfl rfl)) rfl
theorem f245_86 : ft 245 86 = some (11, 1, 0, .iload 4, 2) := Fm245 (dk_21 4 (dk_at s245_3 14 rfl rfl)) rfl
theorem f245_88 : ft 245 88 = some (11, 1, 0, .laload, 1) := Fm245 (dk_47 (dk_at s245_3 16 rfl rfl)) rfl
theorem f245_89 : ft 245 89 = some (11, 1, 0, .lastore, 1) := Fm245 (dk_80 (dk_at s245_3 17 rfl rfl)) rfl
theorem f245_90 : ft 245 90 = some (11, 1, 0, .iinc 4 1, 3) := Fm245 (dk_132 4 1 (dk_at s245_3 18 rfl rfl)) rfl
theorem f245_93 : ft 245 93 = some (11, 1, 0, .goto (-24), 3) := Fm245 (dk_167 255 232 (dk_at s245_3 21 rfl rfl)) rfl
theorem f245_96 : ft 245 96 = some (11, 1, 0, .aload_n 0, 1) := Fm245 (dk_42 (dk_at s245_4 0 rfl rfl)) rfl
theorem f245_97 : ft 245 97 = some (11, 1, 0, .aload_n 3, 1) := Fm245 (dk_45 (dk_at s245_4 1 rfl rfl)) rfl
theorem f245_98 : ft 245 98 = some (11, 1, 0, .putfield 124, 3) := Fm245 (dk_181 0 124 (dk_at s245_4 2 rfl rfl)) rfl
theorem f245_101 : ft 245 101 = some (11, 1, 0, .iconst 0, 1) := Fm245 (dk_3 (dk_at s245_4 5 rfl rfl)) rfl
theorem f245_102 : ft 245 102 = some (11, 1, 0, .istore_n 2, 1) := Fm245 (dk_61 (dk_at s245_4 6 rfl rfl)) rfl
theorem f245_103 : ft 245 103 = some (11, 1, 0, .iload_n 2, 1) := Fm245 (dk_28 (dk_at s245_4 7 rfl rfl)) rfl
theorem f245_104 : ft 245 104 = some (11, 1, 0, .bipush 8, 2) := Fm245 (dk_16 8 (dk_at s245_4 8 rfl rfl)) rfl
theorem f245_106 : ft 245 106 = some (11, 1, 0, .if_icmp .ge 24, 3) := Fm245 (dk_162 0 24 (dk_at s245_4 10 rfl rfl)) rfl
theorem f245_109 : ft 245 109 = some (11, 1, 0, .aload_n 0, 1) := Fm245 (dk_42 (dk_at s245_4 13 rfl rfl)) rfl
theorem f245_110 : ft 245 110 = some (11, 1, 0, .getfield 121, 3) := Fm245 (dk_180 0 121 (dk_at s245_4 14 rfl rfl)) rfl
theorem f245_113 : ft 245 113 = some (11, 1, 0, .bipush 8, 2) := Fm245 (dk_16 8 (dk_at s245_4 17 rfl rfl)) rfl
theorem f245_115 : ft 245 115 = some (11, 1, 0, .aload_n 0, 1) := Fm245 (dk_42 (dk_at s245_4 19 rfl rfl)) rfl
theorem f245_116 : ft 245 116 = some (11, 1, 0, .getfield 419, 3) := Fm245 (dk_180 1 163 (dk_at s245_4 20 rfl rfl)) rfl
theorem f245_119 : ft 245 119 = some (11, 1, 0, .imul, 1) := Fm245 (dk_104 (dk_at s245_4 23 rfl rfl)) rfl
theorem f245_120 : ft 245 120 = some (11, 1, 0, .iload_n 2, 1) := Fm245 (dk_28 (dk_at s245_5 0 rfl rfl)) rfl
theorem f245_121 : ft 245 121 = some (11, 1, 0, .iadd, 1) := Fm245 (dk_96 (dk_at s245_5 1 rfl rfl)) rfl
theorem f245_122 : ft 245 122 = some (11, 1, 0, .iconst (-1), 1) := Fm245 (dk_2 (dk_at s245_5 2 rfl rfl)) rfl
theorem f245_123 : ft 245 123 = some (11, 1, 0, .iastore, 1) := Fm245 (dk_79 (dk_at s245_5 3 rfl rfl)) rfl
theorem f245_124 : ft 245 124 = some (11, 1, 0, .iinc 2 1, 3) := Fm245 (dk_132 2 1 (dk_at s245_5 4 rfl rfl)) rfl
theorem f245_127 : ft 245 127 = some (11, 1, 0, .goto (-24), 3) := Fm245 (dk_167 255 232 (dk_at s245_5 7 rfl rfl)) rfl
theorem f245_130 : ft 245 130 = some (11, 1, 0, .aload_n 0, 1) := Fm245 (dk_42 (dk_at s245_5 10 rfl rfl)) rfl
theorem f245_131 : ft 245 131 = some (11, 1, 0, .getfield 121, 3) := Fm245 (dk_180 0 121 (dk_at s245_5 11 rfl rfl)) rfl
theorem f245_134 : ft 245 134 = some (11, 1, 0, .bipush 8, 2) := Fm245 (dk_16 8 (dk_at s245_5 14 rfl rfl)) rfl
theorem f245_136 : ft 245 136 = some (11, 1, 0, .aload_n 0, 1) := Fm245 (dk_42 (dk_at s245_5 16 rfl rfl)) rfl
theorem f245_137 : ft 245 137 = some (11, 1, 0, .getfield 419, 3) := Fm245 (dk_180 1 163 (dk_at s245_5 17 rfl rfl)) rfl
theorem f245_140 : ft 245 140 = some (11, 1, 0, .imul, 1) := Fm245 (dk_104 (dk_at s245_5 20 rfl rfl)) rfl
theorem f245_141 : ft 245 141 = some (11, 1, 0, .iload_n 1, 1) := Fm245 (dk_27 (dk_at s245_5 21 rfl rfl)) rfl
theorem f245_142 : ft 245 142 = some (11, 1, 0, .iastore, 1) := Fm245 (dk_79 (dk_at s245_5 22 rfl rfl)) rfl
theorem f245_143 : ft 245 143 = some (11, 1, 0, .aload_n 0, 1) := Fm245 (dk_42 (dk_at s245_5 23 rfl rfl)) rfl
theorem f245_144 : ft 245 144 = some (11, 1, 0, .dup, 1) := Fm245 (dk_89 (dk_at s245_6 0 rfl rfl)) rfl
theorem f245_145 : ft 245 145 = some (11, 1, 0, .getfield 419, 3) := Fm245 (dk_180 1 163 (dk_at s245_6 1 rfl rfl)) rfl
theorem f245_148 : ft 245 148 = some (11, 1, 0, .iconst 1, 1) := Fm245 (dk_4 (dk_at s245_6 4 rfl rfl)) rfl
theorem f245_149 : ft 245 149 = some (11, 1, 0, .iadd, 1) := Fm245 (dk_96 (dk_at s245_6 5 rfl rfl)) rfl
theorem f245_150 : ft 245 150 = some (11, 1, 0, .putfield 419, 3) := Fm245 (dk_181 1 163 (dk_at s245_6 6 rfl rfl)) rfl
theorem f245_153 : ft 245 153 = some (11, 1, 0, .aload_n 0, 1) := Fm245 (dk_42 (dk_at s245_6 9 rfl rfl)) rfl
theorem f245_154 : ft 245 154 = some (11, 1, 0, .getfield 419, 3) := Fm245 (dk_180 1 163 (dk_at s245_6 10 rfl rfl)) rfl
theorem f245_157 : ft 245 157 = some (11, 1, 0, .iconst 1, 1) := Fm245 (dk_4 (dk_at s245_6 13 rfl rfl)) rfl
theorem f245_158 : ft 245 158 = some (11, 1, 0, .isub, 1) := Fm245 (dk_100 (dk_at s245_6 14 rfl rfl)) rfl
theorem f245_159 : ft 245 159 = some (11, 1, 0, .ireturn, 1) := Fm245 (dk_172 (dk_at s245_6 15 rfl rfl)) rfl
theorem q245 {d : Nat} {m : Mem} {a0 a1 : Int} (hz : TZ m) : le2 (gd (tg m a0 = 11) <| nm (vl m a0 27) fun v2 => gd (tg m v2 = 186101 ∨ tg m v2 = 246101) <| if (w32 (8 * (vl m a0 29))) = (ln m v2) then (nm (w32 (2 * (ln m v2))) fun v3 => gd ((0 : Int) ≤ v3 ∧ v3 ≤ 2000000) <| nw (nx m) (mal m 246101 v3) fun o1 m1 => rn d 245 27 [pR a0, pI a1, pR o1, pI 0, pU] [] m1) else rn d 245 103 [pR a0, pI a1, pI 0, pU, pU] [] m) (cl d 245 [pR a0, pI a1] m) := by
  refine q_in (n := 5) (L := [pR a0, pI a1, pU, pU, pU]) rfl rfl rfl ?_
  refine r_bipush (p := 2) f245_0 rfl (pinD rfl rfl) ?_
  refine r_aln0 (p := 3) f245_2 rfl ?_
  refine le2_gd (fun h1 => ?_)
  refine r_gfI (f := 29) (p := 6) f245_3 rfl rfl rfl (Or.inl h1) rfl ?_
  refine r_imul (p := 7) f245_6 rfl ?_
  refine r_aln0 (p := 8) f245_7 rfl ?_
  refine r_gfR (f := 27) (p := 11) f245_8 rfl rfl rfl (Or.inl h1) rfl ?_
  refine r_nmR (fun v2 ev2 => ?_)
  refine le2_gd (fun h2 => ?_)
  refine r_alen (p := 12) f245_11 rfl (dj2 (fun x => 100 < x % 1000 ∧ x % 1000 < 119) h2 (by decide) (by decide)) ?_
  refine r_icne (t := 101) (p := 15) f245_12 (by decide) rfl rfl ?_ ?_
  · refine r_iconst (p := 16) f245_15 rfl (pinD rfl rfl) ?_
    refine r_aln0 (p := 17) f245_16 rfl ?_
    refine r_gfR (f := 27) (p := 20) f245_17 rfl rfl rfl (Or.inl h1) ev2.symm ?_
    refine r_alen (p := 21) f245_20 rfl (dj2 (fun x => 100 < x % 1000 ∧ x % 1000 < 119) h2 (by decide) (by decide)) ?_
    refine r_imul (p := 22) f245_21 rfl ?_
    refine r_nmI (fun v3 ev3 => ?_)
    refine le2_gd (fun h3 => ?_)
    refine r_newa (t1 := 246101) (p := 24) f245_22 rfl rfl h3 rfl rfl (fun o1 m1 h4 k1 => ?_)
    have hz1 := z_k k1 hz
    refine r_asn2 (p := 25) f245_24 rfl rfl ?_
    refine r_iconst (p := 26) f245_25 rfl (pinD rfl rfl) ?_
    refine r_isn3 (p := 27) f245_26 rfl rfl ?_
    exact le2_refl _
  · refine r_iconst (p := 102) f245_101 rfl (pinD rfl rfl) ?_
    refine r_isn2 (p := 103) f245_102 rfl rfl ?_
    exact le2_refl _
theorem q245_27 {d : Nat} {m : Mem} {a0 a1 a2 a3 : Int} (hz : TZ m) : le2 (gd (tg m a0 = 11) <| nm (vl m a0 27) fun v2 => gd (tg m v2 = 186101 ∨ tg m v2 = 246101) <| if a3 < (ln m v2) then (gd ((0 : Int) ≤ a3 ∧ a3 < ln m v2) <| gd (tg m a2 = 246101) <| gd ((0 : Int) ≤ a3 ∧ a3 < ln m a2) <| rn d 245 27 [pR a0, pI a1, pR a2, pI (w32 (a3 + 1)), pU] [] (mst m a2 a3 (vl m v2 a3))) else nm (vl m a0 28) fun v3 => gd (tg m v3 = 186102 ∨ tg m v3 = 246102) <| nm (w32 (2 * (ln m v3))) fun v4 => gd ((0 : Int) ≤ v4 ∧ v4 ≤ 2000000) <| nw (nx (mst m a0 27 a2)) (mal (mst m a0 27 a2) 246102 v4) fun o1 m1 => rn d 245 69 [pR a0, pI a1, pR a2, pR o1, pI 0] [] m1) (rn d 245 27 [pR a0, pI a1, pR a2, pI a3, pU] [] m) := by
  refine r_iln3 (p := 28) f245_27 rfl ?_
  refine r_aln0 (p := 29) f245_28 rfl ?_
  refine le2_gd (fun h1 => ?_)
  refine r_gfR (f := 27) (p := 32) f245_29 rfl rfl rfl (Or.inl h1) rfl ?_
  refine r_nmR (fun v2 ev2 => ?_)
  refine le2_gd (fun h2 => ?_)
  refine r_alen (p := 33) f245_32 rfl (dj2 (fun x => 100 < x % 1000 ∧ x % 1000 < 119) h2 (by decide) (by decide)) ?_
  refine r_icge (t := 51) (p := 36) f245_33 (by decide) rfl rfl ?_ ?_
  · refine r_aln2 (p := 37) f245_36 rfl ?_
    refine r_iln3 (p := 38) f245_37 rfl ?_
    refine r_aln0 (p := 39) f245_38 rfl ?_
    refine r_gfR (f := 27) (p := 42) f245_39 rfl rfl rfl (Or.inl h1) ev2.symm ?_
    refine r_iln3 (p := 43) f245_42 rfl ?_
    refine le2_gd (fun h6 => ?_)
    refine r_iaload (p := 44) f245_43 rfl (dj2 (fun x => x % 1000 = 101) h2 (by decide) (by decide)) h6 rfl ?_
    refine le2_gd (fun h7 => ?_)
    refine le2_gd (fun h8 => ?_)
    refine r_iastore (p := 45) f245_44 rfl (dj1 (fun x => 1000 ≤ x ∧ x % 1000 = 101 ∧ Nat.testBit (eM 245) (bix x 0) = true) h7 (by decide)) h8 ?_
    refine r_iinc3 (p := 48) f245_45 rfl rfl ?_
    refine r_goto (p := 27) f245_48 (by decide) rfl ?_
    exact le2_refl _
  · refine r_aln0 (p := 52) f245_51 rfl ?_
    refine r_aln2 (p := 53) f245_52 rfl ?_
    refine r_pfR (f := 27) (p := 56) f245_53 rfl rfl rfl (by decide) (by decide) (Or.inl h1) rfl ?_
    refine r_iconst (p := 57) f245_56 rfl (pinD rfl rfl) ?_
    refine r_aln0 (p := 58) f245_57 rfl ?_
    refine r_gfR (f := 28) (p := 61) f245_58 rfl rfl rfl (Or.inl h1) (sk_f (by decide)) ?_
    refine r_nmR (fun v3 ev3 => ?_)
    refine le2_gd (fun h3 => ?_)
    refine r_alen (p := 62) f245_61 rfl (dj2 (fun x => 100 < x % 1000 ∧ x % 1000 < 119) h3 (by decide) (by decide)) ?_
    refine r_imul (p := 63) f245_62 rfl ?_
    refine r_nmI (fun v4 ev4 => ?_)
    refine le2_gd (fun h4 => ?_)
    refine r_newa (t1 := 246102) (p := 65) f245_63 rfl rfl h4 rfl rfl (fun o1 m1 h5 k1 => ?_)
    have hz1 := z_k k1 hz
    refine r_asn3 (p := 66) f245_65 rfl rfl ?_
    refine r_iconst (p := 67) f245_66 rfl (pinD rfl rfl) ?_
    refine r_isw4 (p := 69) f245_67 rfl rfl ?_
    exact le2_refl _
theorem q245_69 {d : Nat} {m : Mem} {a0 a1 a2 a3 a4 : Int} (hz : TZ m) : le2 (gd (tg m a0 = 11) <| nm (vl m a0 28) fun v1 => gd (tg m v1 = 186102 ∨ tg m v1 = 246102) <| if a4 < (ln m v1) then (gd ((0 : Int) ≤ a4 ∧ a4 < ln m v1) <| gd (tg m a3 = 246102) <| gd ((0 : Int) ≤ a4 ∧ a4 < ln m a3) <| rn d 245 69 [pR a0, pI a1, pR a2, pR a3, pI (w32 (a4 + 1))] [] (mst m a3 a4 (vl m v1 a4))) else rn d 245 103 [pR a0, pI a1, pI 0, pR a3, pI a4] [] (mst m a0 28 a3)) (rn d 245 69 [pR a0, pI a1, pR a2, pR a3, pI a4] [] m) := by
  refine r_ilw4 (p := 71) f245_69 rfl ?_
  refine r_aln0 (p := 72) f245_71 rfl ?_
  refine le2_gd (fun h1 => ?_)
  refine r_gfR (f := 28) (p := 75) f245_72 rfl rfl rfl (Or.inl h1) rfl ?_
  refine r_nmR (fun v1 ev1 => ?_)
  refine le2_gd (fun h2 => ?_)
  refine r_alen (p := 76) f245_75 rfl (dj2 (fun x => 100 < x % 1000 ∧ x % 1000 < 119) h2 (by decide) (by decide)) ?_
  refine r_icge (t := 96) (p := 79) f245_76 (by decide) rfl rfl ?_ ?_
  · refine r_aln3 (p := 80) f245_79 rfl ?_
    refine r_ilw4 (p := 82) f245_80 rfl ?_
    refine r_aln0 (p := 83) f245_82 rfl ?_
    refine r_gfR (f := 28) (p := 86) f245_83 rfl rfl rfl (Or.inl h1) ev1.symm ?_
    refine r_ilw4 (p := 88) f245_86 rfl ?_
    refine le2_gd (fun h3 => ?_)
    refine r_laload (p := 89) f245_88 rfl (dj2 (fun x => x % 1000 = 102) h2 (by decide) (by decide)) h3 rfl ?_
    refine le2_gd (fun h4 => ?_)
    refine le2_gd (fun h5 => ?_)
    refine r_lastore (p := 90) f245_89 rfl (dj1 (fun x => 1000 ≤ x ∧ x % 1000 = 102 ∧ Nat.testBit (eM 245) (bix x 0) = true) h4 (by decide)) h5 ?_
    refine r_iinc4 (p := 93) f245_90 rfl rfl ?_
    refine r_goto (p := 69) f245_93 (by decide) rfl ?_
    exact le2_refl _
  · refine r_aln0 (p := 97) f245_96 rfl ?_
    refine r_aln3 (p := 98) f245_97 rfl ?_
    refine r_pfR (f := 28) (p := 101) f245_98 rfl rfl rfl (by decide) (by decide) (Or.inl h1) rfl ?_
    refine r_iconst (p := 102) f245_101 rfl (pinD rfl rfl) ?_
    refine r_isn2 (p := 103) f245_102 rfl rfl ?_
    exact le2_refl _
theorem q245_103 {d : Nat} {m : Mem} {a0 a1 a2 : Int} {z3 z4 : PV} (hz : TZ m) (hcz3 : cat z3 = 1) (hcz4 : cat z4 = 1) : le2 (if a2 < 8 then (gd (tg m a0 = 11) <| nm (vl m a0 27) fun v1 => nm (w32 ((w32 (8 * (vl m a0 29))) + a2)) fun v2 => gd (tg m v1 = 186101 ∨ tg m v1 = 246101) <| gd ((0 : Int) ≤ v2 ∧ v2 < ln m v1) <| rn d 245 103 [pR a0, pI a1, pI (w32 (a2 + 1)), z3, z4] [] (mst m v1 v2 (-1))) else gd (tg m a0 = 11) <| nm (vl m a0 27) fun v3 => nm (vl m a0 29) fun v4 => nm (w32 (8 * v4)) fun v5 => gd (tg m v3 = 186101 ∨ tg m v3 = 246101) <| gd ((0 : Int) ≤ v5 ∧ v5 < ln m v3) <| nm (w32 (v4 + 1)) fun v6 => some (.inl (some (pI (w32 (v6 - 1)))), (mst (mst m v3 v5 a1) a0 29 v6))) (rn d 245 103 [pR a0, pI a1, pI a2, z3, z4] [] m) := by
  refine r_iln2 (p := 104) f245_103 rfl ?_
  refine r_bipush (p := 106) f245_104 rfl (pinD rfl rfl) ?_
  refine r_icge (t := 130) (p := 109) f245_106 (by decide) rfl rfl ?_ ?_
  · refine r_aln0 (p := 110) f245_109 rfl ?_
    refine le2_gd (fun h4 => ?_)
    refine r_gfR (f := 27) (p := 113) f245_110 rfl rfl rfl (Or.inl h4) rfl ?_
    refine r_nmR (fun v1 ev1 => ?_)
    refine r_bipush (p := 115) f245_113 rfl (pinD rfl rfl) ?_
    refine r_aln0 (p := 116) f245_115 rfl ?_
    refine r_gfI (f := 29) (p := 119) f245_116 rfl rfl rfl (Or.inl h4) rfl ?_
    refine r_imul (p := 120) f245_119 rfl ?_
    refine r_iln2 (p := 121) f245_120 rfl ?_
    refine r_iadd (p := 122) f245_121 rfl ?_
    refine r_nmI (fun v2 ev2 => ?_)
    refine r_iconst (p := 123) f245_122 rfl (pinD rfl rfl) ?_
    refine le2_gd (fun h5 => ?_)
    refine le2_gd (fun h6 => ?_)
    refine r_iastore (p := 124) f245_123 rfl (dj2 (fun x => 1000 ≤ x ∧ x % 1000 = 101 ∧ Nat.testBit (eM 245) (bix x 0) = true) h5 (by decide) (by decide)) h6 ?_
    refine r_iinc2 (p := 127) f245_124 rfl rfl ?_
    refine r_goto (p := 103) f245_127 (by decide) rfl ?_
    exact le2_refl _
  · refine r_aln0 (p := 131) f245_130 rfl ?_
    refine le2_gd (fun h1 => ?_)
    refine r_gfR (f := 27) (p := 134) f245_131 rfl rfl rfl (Or.inl h1) rfl ?_
    refine r_nmR (fun v3 ev3 => ?_)
    refine r_bipush (p := 136) f245_134 rfl (pinD rfl rfl) ?_
    refine r_aln0 (p := 137) f245_136 rfl ?_
    refine r_gfI (f := 29) (p := 140) f245_137 rfl rfl rfl (Or.inl h1) rfl ?_
    refine r_nmI (fun v4 ev4 => ?_)
    refine r_imul (p := 141) f245_140 rfl ?_
    refine r_nmI (fun v5 ev5 => ?_)
    refine r_iln1 (p := 142) f245_141 rfl ?_
    refine le2_gd (fun h2 => ?_)
    refine le2_gd (fun h3 => ?_)
    refine r_iastore (p := 143) f245_142 rfl (dj2 (fun x => 1000 ≤ x ∧ x % 1000 = 101 ∧ Nat.testBit (eM 245) (bix x 0) = true) h2 (by decide) (by decide)) h3 ?_
    refine r_aln0 (p := 144) f245_143 rfl ?_
    refine r_dup (p := 145) f245_144 rfl rfl ?_
    refine r_gfI (f := 29) (p := 148) f245_145 rfl rfl rfl (Or.inl h1) (Eq.trans (sk_o (ne_oa (dj1 (fun x => x < 100) h1 (by decide)) (dj2 (fun x => ¬ x < 100) h2 (by decide) (by decide)))) ev4.symm) ?_
    refine r_iconst (p := 149) f245_148 rfl (pinD rfl rfl) ?_
    refine r_iadd (p := 150) f245_149 rfl ?_
    refine r_nmI (fun v6 ev6 => ?_)
    refine r_pfI (f := 29) (p := 153) f245_150 rfl rfl rfl (by decide) (by decide) (Or.inl h1) rfl ?_
    refine r_aln0 (p := 154) f245_153 rfl ?_
    refine r_gfI (f := 29) (p := 157) f245_154 rfl rfl rfl (Or.inl h1) sk_s ?_
    refine r_iconst (p := 158) f245_157 rfl (pinD rfl rfl) ?_
    refine r_isub (p := 159) f245_158 rfl ?_
    exact r_iret1 f245_159
/-! 246 PathStoreModel.set (III)V -/
def w246_0 : List UInt8 := [42, 180, 0, 121, 16, 8, 27, 104, 28, 96, 29, 79, 177]
abbrev u246_0 : List UInt8 := w246_0 ++ []
theorem s246_0 : (prog_32_method_61_code).data.toList.drop 0 = u246_0 := by decide +kernel
theorem Fm246 {pc len : Nat} {i : Instr} (h : decode (prog_32_method_61_code) pc = .ok (i, len)) (hl : len = ilen i len) : ft 246 pc = some (11, 0, 0, i, len) := ft_mk rfl h hl
theorem f246_0 : ft 246 0 = some (11, 0, 0, .aload_n 0, 1) := Fm246 (dk_42 (dk_at s246_0 0 rfl rfl)) rfl
theorem f246_1 : ft 246 1 = some (11, 0, 0, .getfield 121, 3) := Fm246 (dk_180 0 121 (dk_at s246_0 1 rfl rfl)) rfl
theorem f246_4 : ft 246 4 = some (11, 0, 0, .bipush 8, 2) := Fm246 (dk_16 8 (dk_at s246_0 4 rfl rfl)) rfl
theorem f246_6 : ft 246 6 = some (11, 0, 0, .iload_n 1, 1) := Fm246 (dk_27 (dk_at s246_0 6 rfl rfl)) rfl
theorem f246_7 : ft 246 7 = some (11, 0, 0, .imul, 1) := Fm246 (dk_104 (dk_at s246_0 7 rfl rfl)) rfl
theorem f246_8 : ft 246 8 = some (11, 0, 0, .iload_n 2, 1) := Fm246 (dk_28 (dk_at s246_0 8 rfl rfl)) rfl
theorem f246_9 : ft 246 9 = some (11, 0, 0, .iadd, 1) := Fm246 (dk_96 (dk_at s246_0 9 rfl rfl)) rfl
theorem f246_10 : ft 246 10 = some (11, 0, 0, .iload_n 3, 1) := Fm246 (dk_29 (dk_at s246_0 10 rfl rfl)) rfl
theorem f246_11 : ft 246 11 = some (11, 0, 0, .iastore, 1) := Fm246 (dk_79 (dk_at s246_0 11 rfl rfl)) rfl
theorem f246_12 : ft 246 12 = some (11, 0, 0, .return_, 1) := Fm246 (dk_177 (dk_at s246_0 12 rfl rfl)) rfl
theorem q246 {d : Nat} {m : Mem} {a0 a1 a2 a3 : Int} (hz : TZ m) : le2 (gd (tg m a0 = 11) <| nm (vl m a0 27) fun v1 => nm (w32 ((w32 (8 * a1)) + a2)) fun v2 => gd (tg m v1 = 186101 ∨ tg m v1 = 246101) <| gd ((0 : Int) ≤ v2 ∧ v2 < ln m v1) <| some (.inl none, (mst m v1 v2 a3))) (cl d 246 [pR a0, pI a1, pI a2, pI a3] m) := by
  refine q_in (n := 4) (L := [pR a0, pI a1, pI a2, pI a3]) rfl rfl rfl ?_
  refine r_aln0 (p := 1) f246_0 rfl ?_
  refine le2_gd (fun h1 => ?_)
  refine r_gfR (f := 27) (p := 4) f246_1 rfl rfl rfl (Or.inl h1) rfl ?_
  refine r_nmR (fun v1 ev1 => ?_)
  refine r_bipush (p := 6) f246_4 rfl (pinD rfl rfl) ?_
  refine r_iln1 (p := 7) f246_6 rfl ?_
  refine r_imul (p := 8) f246_7 rfl ?_
  refine r_iln2 (p := 9) f246_8 rfl ?_
  refine r_iadd (p := 10) f246_9 rfl ?_
  refine r_nmI (fun v2 ev2 => ?_)
  refine r_iln3 (p := 11) f246_10 rfl ?_
  refine le2_gd (fun h2 => ?_)
  refine le2_gd (fun h3 => ?_)
  refine r_iastore (p := 12) f246_11 rfl (dj2 (fun x => 1000 ≤ x ∧ x % 1000 = 101 ∧ Nat.testBit (eM 246) (bix x 0) = true) h2 (by decide) (by decide)) h3 ?_
  exact r_ret f246_12
/-! 247 PathStoreModel.segment (IZ)I -/
def w247_11 : List UInt8 := [182, 1, 179, 153, 0, 7, 29, 167, 0, 4, 2, 172]
abbrev u247_11 : List UInt8 := w247_11 ++ []
def w247_10 : List UInt8 := [21, 4, 5, 182, 1, 186, 100, 182, 1, 172, 42, 29, 5, 21, 4, 182, 1, 172, 29, 172, 42, 27, 29, 28]
abbrev u247_10 : List UInt8 := w247_10 ++ u247_11
def w247_9 : List UInt8 := [180, 0, 155, 4, 96, 181, 0, 155, 167, 255, 215, 42, 21, 4, 6, 42, 180, 0, 127, 180, 0, 224, 42]
abbrev u247_9 : List UInt8 := w247_9 ++ u247_10
def w247_8 : List UInt8 := [42, 182, 0, 167, 184, 0, 186, 153, 0, 27, 42, 180, 0, 127, 42, 182, 0, 167, 182, 0, 197, 42, 89]
abbrev u247_8 : List UInt8 := w247_8 ++ u247_9
def w247_7 : List UInt8 := [42, 21, 4, 5, 42, 180, 0, 127, 180, 0, 224, 182, 1, 172, 42, 182, 0, 167, 184, 1, 183, 154, 0, 13]
abbrev u247_7 : List UInt8 := w247_7 ++ u247_8
def w247_6 : List UInt8 := [184, 1, 183, 154, 0, 14, 42, 42, 180, 0, 155, 182, 0, 171, 87, 2, 172, 42, 4, 182, 1, 169, 54, 4]
abbrev u247_6 : List UInt8 := w247_6 ++ u247_7
def w247_5 : List UInt8 := [29, 5, 42, 5, 182, 1, 169, 182, 1, 172, 42, 27, 6, 3, 182, 1, 172, 29, 172, 42, 182, 0, 167]
abbrev u247_5 : List UInt8 := w247_5 ++ u247_6
def w247_4 : List UInt8 := [42, 182, 0, 167, 16, 42, 160, 0, 37, 28, 154, 0, 33, 42, 89, 180, 0, 155, 4, 96, 181, 0, 155, 42]
abbrev u247_4 : List UInt8 := w247_4 ++ u247_5
def w247_3 : List UInt8 := [182, 0, 167, 16, 91, 160, 0, 19, 42, 27, 29, 28, 182, 1, 179, 153, 0, 7, 29, 167, 0, 4, 2, 172]
abbrev u247_3 : List UInt8 := w247_3 ++ u247_4
def w247_2 : List UInt8 := [180, 0, 155, 4, 96, 181, 0, 155, 42, 29, 4, 4, 182, 1, 172, 42, 27, 6, 3, 182, 1, 172, 42]
abbrev u247_2 : List UInt8 := w247_2 ++ u247_3
def w247_1 : List UInt8 := [89, 180, 0, 155, 4, 96, 181, 0, 155, 42, 182, 0, 167, 16, 46, 160, 0, 56, 28, 154, 0, 52, 42, 89]
abbrev u247_1 : List UInt8 := w247_1 ++ u247_2
def w247_0 : List UInt8 := [42, 16, 21, 182, 1, 169, 62, 42, 29, 4, 3, 182, 1, 172, 42, 182, 0, 167, 16, 46, 160, 0, 236, 42]
abbrev u247_0 : List UInt8 := w247_0 ++ u247_1
theorem s247_0 : (prog_32_method_66_code).data.toList.drop 0 = u247_0 := by decide +kernel
theorem s247_1 : (prog_32_method_66_code).data.toList.drop 24 = u247_1 := dk_seg s247_0 24 rfl rfl
theorem s247_2 : (prog_32_method_66_code).data.toList.drop 48 = u247_2 := dk_seg s247_1 24 rfl rfl
theorem s247_3 : (prog_32_method_66_code).data.toList.drop 71 = u247_3 := dk_seg s247_2 23 rfl rfl
theorem s247_4 : (prog_32_method_66_code).data.toList.drop 95 = u247_4 := dk_seg s247_3 24 rfl rfl
theorem s247_5 : (prog_32_method_66_code).data.toList.drop 119 = u247_5 := dk_seg s247_4 24 rfl rfl
theorem s247_6 : (prog_32_method_66_code).data.toList.drop 142 = u247_6 := dk_seg s247_5 23 rfl rfl
theorem s247_7 : (prog_32_method_66_code).data.toList.drop 166 = u247_7 := dk_seg s247_6 24 rfl rfl
theorem s247_8 : (prog_32_method_66_code).data.toList.drop 190 = u247_8 := dk_seg s247_7 24 rfl rfl
theorem s247_9 : (prog_32_method_66_code).data.toList.drop 213 = u247_9 := dk_seg s247_8 23 rfl rfl
theorem s247_10 : (prog_32_method_66_code).data.toList.drop 236 = u247_10 := dk_seg s247_9 23 rfl rfl
theorem s247_11 : (prog_32_method_66_code).data.toList.drop 260 = u247_11 := dk_seg s247_10 24 rfl rfl
theorem Fm247 {pc len : Nat} {i : Instr} (h : decode (prog_32_method_66_code) pc = .ok (i, len)) (hl : len = ilen i len) : ft 247 pc = some (11, 1, 0, i, len) := ft_mk rfl h hl
theorem f247_0 : ft 247 0 = some (11, 1, 0, .aload_n 0, 1) := Fm247 (dk_42 (dk_at s247_0 0 rfl rfl)) rfl
theorem f247_1 : ft 247 1 = some (11, 1, 0, .bipush 21, 2) := Fm247 (dk_16 21 (dk_at s247_0 1 rfl rfl)) rfl
theorem f247_3 : ft 247 3 = some (11, 1, 0, .invokevirtual 425, 3) := Fm247 (dk_182 1 169 (dk_at s247_0 3 rfl rfl)) rfl
theorem f247_6 : ft 247 6 = some (11, 1, 0, .istore_n 3, 1) := Fm247 (dk_62 (dk_at s247_0 6 rfl rfl)) rfl
theorem f247_7 : ft 247 7 = some (11, 1, 0, .aload_n 0, 1) := Fm247 (dk_42 (dk_at s247_0 7 rfl rfl)) rfl
theorem f247_8 : ft 247 8 = some (11, 1, 0, .iload_n 3, 1) := Fm247 (dk_29 (dk_at s247_0 8 rfl rfl)) rfl
theorem f247_9 : ft 247 9 = some (11, 1, 0, .iconst 1, 1) := Fm247 (dk_4 (dk_at s247_0 9 rfl rfl)) rfl
theorem f247_10 : ft 247 10 = some (11, 1, 0, .iconst 0, 1) := Fm247 (dk_3 (dk_at s247_0 10 rfl rfl)) rfl
theorem f247_11 : ft 247 11 = some (11, 1, 0, .invokevirtual 428, 3) := Fm247 (dk_182 1 172 (dk_at s247_0 11 rfl rfl)) rfl
theorem f247_14 : ft 247 14 = some (11, 1, 0, .aload_n 0, 1) := Fm247 (dk_42 (dk_at s247_0 14 rfl rfl)) rfl
theorem f247_15 : ft 247 15 = some (11, 1, 0, .invokevirtual 167, 3) := Fm247 (dk_182 0 167 (dk_at s247_0 15 rfl rfl)) rfl
theorem f247_18 : ft 247 18 = some (11, 1, 0, .bipush 46, 2) := Fm247 (dk_16 46 (dk_at s247_0 18 rfl rfl)) rfl
theorem f247_20 : ft 247 20 = some (11, 1, 0, .if_icmp .ne 236, 3) := Fm247 (dk_160 0 236 (dk_at s247_0 20 rfl rfl)) rfl
theorem f247_23 : ft 247 23 = some (11, 1, 0, .aload_n 0, 1) := Fm247 (dk_42 (dk_at s247_0 23 rfl rfl)) rfl
theorem f247_24 : ft 247 24 = some (11, 1, 0, .dup, 1) := Fm247 (dk_89 (dk_at s247_1 0 rfl rfl)) rfl
theorem f247_25 : ft 247 25 = some (11, 1, 0, .getfield 155, 3) := Fm247 (dk_180 0 155 (dk_at s247_1 1 rfl rfl)) rfl
theorem f247_28 : ft 247 28 = some (11, 1, 0, .iconst 1, 1) := Fm247 (dk_4 (dk_at s247_1 4 rfl rfl)) rfl
theorem f247_29 : ft 247 29 = some (11, 1, 0, .iadd, 1) := Fm247 (dk_96 (dk_at s247_1 5 rfl rfl)) rfl
theorem f247_30 : ft 247 30 = some (11, 1, 0, .putfield 155, 3) := Fm247 (dk_181 0 155 (dk_at s247_1 6 rfl rfl)) rfl
theorem f247_33 : ft 247 33 = some (11, 1, 0, .aload_n 0, 1) := Fm247 (dk_42 (dk_at s247_1 9 rfl rfl)) rfl
theorem f247_34 : ft 247 34 = some (11, 1, 0, .invokevirtual 167, 3) := Fm247 (dk_182 0 167 (dk_at s247_1 10 rfl rfl)) rfl
theorem f247_37 : ft 247 37 = some (11, 1, 0, .bipush 46, 2) := Fm247 (dk_16 46 (dk_at s247_1 13 rfl rfl)) rfl
theorem f247_39 : ft 247 39 = some (11, 1, 0, .if_icmp .ne 56, 3) := Fm247 (dk_160 0 56 (dk_at s247_1 15 rfl rfl)) rfl
theorem f247_42 : ft 247 42 = some (11, 1, 0, .iload_n 2, 1) := Fm247 (dk_28 (dk_at s247_1 18 rfl rfl)) rfl
theorem f247_43 : ft 247 43 = some (11, 1, 0, .ifCond .ne 52, 3) := Fm247 (dk_154 0 52 (dk_at s247_1 19 rfl rfl)) rfl
theorem f247_46 : ft 247 46 = some (11, 1, 0, .aload_n 0, 1) := Fm247 (dk_42 (dk_at s247_1 22 rfl rfl)) rfl
theorem f247_47 : ft 247 47 = some (11, 1, 0, .dup, 1) := Fm247 (dk_89 (dk_at s247_1 23 rfl rfl)) rfl
theorem f247_48 : ft 247 48 = some (11, 1, 0, .getfield 155, 3) := Fm247 (dk_180 0 155 (dk_at s247_2 0 rfl rfl)) rfl
theorem f247_51 : ft 247 51 = some (11, 1, 0, .iconst 1, 1) := Fm247 (dk_4 (dk_at s247_2 3 rfl rfl)) rfl
theorem f247_52 : ft 247 52 = some (11, 1, 0, .iadd, 1) := Fm247 (dk_96 (dk_at s247_2 4 rfl rfl)) rfl
theorem f247_53 : ft 247 53 = some (11, 1, 0, .putfield 155, 3) := Fm247 (dk_181 0 155 (dk_at s247_2 5 rfl rfl)) rfl
theorem f247_56 : ft 247 56 = some (11, 1, 0, .aload_n 0, 1) := Fm247 (dk_42 (dk_at s247_2 8 rfl rfl)) rfl
theorem f247_57 : ft 247 57 = some (11, 1, 0, .iload_n 3, 1) := Fm247 (dk_29 (dk_at s247_2 9 rfl rfl)) rfl
theorem f247_58 : ft 247 58 = some (11, 1, 0, .iconst 1, 1) := Fm247 (dk_4 (dk_at s247_2 10 rfl rfl)) rfl
theorem f247_59 : ft 247 59 = some (11, 1, 0, .iconst 1, 1) := Fm247 (dk_4 (dk_at s247_2 11 rfl rfl)) rfl
theorem f247_60 : ft 247 60 = some (11, 1, 0, .invokevirtual 428, 3) := Fm247 (dk_182 1 172 (dk_at s247_2 12 rfl rfl)) rfl
theorem f247_63 : ft 247 63 = some (11, 1, 0, .aload_n 0, 1) := Fm247 (dk_42 (dk_at s247_2 15 rfl rfl)) rfl
theorem f247_64 : ft 247 64 = some (11, 1, 0, .iload_n 1, 1) := Fm247 (dk_27 (dk_at s247_2 16 rfl rfl)) rfl
theorem f247_65 : ft 247 65 = some (11, 1, 0, .iconst 3, 1) := Fm247 (dk_6 (dk_at s247_2 17 rfl rfl)) rfl
theorem f247_66 : ft 247 66 = some (11, 1, 0, .iconst 0, 1) := Fm247 (dk_3 (dk_at s247_2 18 rfl rfl)) rfl
theorem f247_67 : ft 247 67 = some (11, 1, 0, .invokevirtual 428, 3) := Fm247 (dk_182 1 172 (dk_at s247_2 19 rfl rfl)) rfl
theorem f247_70 : ft 247 70 = some (11, 1, 0, .aload_n 0, 1) := Fm247 (dk_42 (dk_at s247_2 22 rfl rfl)) rfl
theorem f247_71 : ft 247 71 = some (11, 1, 0, .invokevirtual 167, 3) := Fm247 (dk_182 0 167 (dk_at s247_3 0 rfl rfl)) rfl
theorem f247_74 : ft 247 74 = some (11, 1, 0, .bipush 91, 2) := Fm247 (dk_16 91 (dk_at s247_3 3 rfl rfl)) rfl
theorem f247_76 : ft 247 76 = some (11, 1, 0, .if_icmp .ne 19, 3) := Fm247 (dk_160 0 19 (dk_at s247_3 5 rfl rfl)) rfl
theorem f247_79 : ft 247 79 = some (11, 1, 0, .aload_n 0, 1) := Fm247 (dk_42 (dk_at s247_3 8 rfl rfl)) rfl
theorem f247_80 : ft 247 80 = some (11, 1, 0, .iload_n 1, 1) := Fm247 (dk_27 (dk_at s247_3 9 rfl rfl)) rfl
theorem f247_81 : ft 247 81 = some (11, 1, 0, .iload_n 3, 1) := Fm247 (dk_29 (dk_at s247_3 10 rfl rfl)) rfl
theorem f247_82 : ft 247 82 = some (11, 1, 0, .iload_n 2, 1) := Fm247 (dk_28 (dk_at s247_3 11 rfl rfl)) rfl
theorem f247_83 : ft 247 83 = some (11, 1, 0, .invokevirtual 435, 3) := Fm247 (dk_182 1 179 (dk_at s247_3 12 rfl rfl)) rfl
theorem f247_86 : ft 247 86 = some (11, 1, 0, .ifCond .eq 7, 3) := Fm247 (dk_153 0 7 (dk_at s247_3 15 rfl rfl)) rfl
theorem f247_89 : ft 247 89 = some (11, 1, 0, .iload_n 3, 1) := Fm247 (dk_29 (dk_at s247_3 18 rfl rfl)) rfl
theorem f247_90 : ft 247 90 = some (11, 1, 0, .goto 4, 3) := Fm247 (dk_167 0 4 (dk_at s247_3 19 rfl rfl)) rfl
theorem f247_93 : ft 247 93 = some (11, 1, 0, .iconst (-1), 1) := Fm247 (dk_2 (dk_at s247_3 22 rfl rfl)) rfl
theorem f247_94 : ft 247 94 = some (11, 1, 0, .ireturn, 1) := Fm247 (dk_172 (dk_at s247_3 23 rfl rfl)) rfl
theorem f247_95 : ft 247 95 = some (11, 1, 0, .aload_n 0, 1) := Fm247 (dk_42 (dk_at s247_4 0 rfl rfl)) rfl
theorem f247_96 : ft 247 96 = some (11, 1, 0, .invokevirtual 167, 3) := Fm247 (dk_182 0 167 (dk_at s247_4 1 rfl rfl)) rfl
theorem f247_99 : ft 247 99 = some (11, 1, 0, .bipush 42, 2) := Fm247 (dk_16 42 (dk_at s247_4 4 rfl rfl)) rfl
theorem f247_101 : ft 247 101 = some (11, 1, 0, .if_icmp .ne 37, 3) := Fm247 (dk_160 0 37 (dk_at s247_4 6 rfl rfl)) rfl
theorem f247_104 : ft 247 104 = some (11, 1, 0, .iload_n 2, 1) := Fm247 (dk_28 (dk_at s247_4 9 rfl rfl)) rfl
theorem f247_105 : ft 247 105 = some (11, 1, 0, .ifCond .ne 33, 3) := Fm247 (dk_154 0 33 (dk_at s247_4 10 rfl rfl)) rfl
theorem f247_108 : ft 247 108 = some (11, 1, 0, .aload_n 0, 1) := Fm247 (dk_42 (dk_at s247_4 13 rfl rfl)) rfl
theorem f247_109 : ft 247 109 = some (11, 1, 0, .dup, 1) := Fm247 (dk_89 (dk_at s247_4 14 rfl rfl)) rfl
theorem f247_110 : ft 247 110 = some (11, 1, 0, .getfield 155, 3) := Fm247 (dk_180 0 155 (dk_at s247_4 15 rfl rfl)) rfl
theorem f247_113 : ft 247 113 = some (11, 1, 0, .iconst 1, 1) := Fm247 (dk_4 (dk_at s247_4 18 rfl rfl)) rfl
theorem f247_114 : ft 247 114 = some (11, 1, 0, .iadd, 1) := Fm247 (dk_96 (dk_at s247_4 19 rfl rfl)) rfl
theorem f247_115 : ft 247 115 = some (11, 1, 0, .putfield 155, 3) := Fm247 (dk_181 0 155 (dk_at s247_4 20 rfl rfl)) rfl
theorem f247_118 : ft 247 118 = some (11, 1, 0, .aload_n 0, 1) := Fm247 (dk_42 (dk_at s247_4 23 rfl rfl)) rfl
theorem f247_119 : ft 247 119 = some (11, 1, 0, .iload_n 3, 1) := Fm247 (dk_29 (dk_at s247_5 0 rfl rfl)) rfl
theorem f247_120 : ft 247 120 = some (11, 1, 0, .iconst 2, 1) := Fm247 (dk_5 (dk_at s247_5 1 rfl rfl)) rfl
theorem f247_121 : ft 247 121 = some (11, 1, 0, .aload_n 0, 1) := Fm247 (dk_42 (dk_at s247_5 2 rfl rfl)) rfl
theorem f247_122 : ft 247 122 = some (11, 1, 0, .iconst 2, 1) := Fm247 (dk_5 (dk_at s247_5 3 rfl rfl)) rfl
theorem f247_123 : ft 247 123 = some (11, 1, 0, .invokevirtual 425, 3) := Fm247 (dk_182 1 169 (dk_at s247_5 4 rfl rfl)) rfl
theorem f247_126 : ft 247 126 = some (11, 1, 0, .invokevirtual 428, 3) := Fm247 (dk_182 1 172 (dk_at s247_5 7 rfl rfl)) rfl
theorem f247_129 : ft 247 129 = some (11, 1, 0, .aload_n 0, 1) := Fm247 (dk_42 (dk_at s247_5 10 rfl rfl)) rfl
theorem f247_130 : ft 247 130 = some (11, 1, 0, .iload_n 1, 1) := Fm247 (dk_27 (dk_at s247_5 11 rfl rfl)) rfl
theorem f247_131 : ft 247 131 = some (11, 1, 0, .iconst 3, 1) := Fm247 (dk_6 (dk_at s247_5 12 rfl rfl)) rfl
theorem f247_132 : ft 247 132 = some (11, 1, 0, .iconst 0, 1) := Fm247 (dk_3 (dk_at s247_5 13 rfl rfl)) rfl
theorem f247_133 : ft 247 133 = some (11, 1, 0, .invokevirtual 428, 3) := Fm247 (dk_182 1 172 (dk_at s247_5 14 rfl rfl)) rfl
theorem f247_136 : ft 247 136 = some (11, 1, 0, .iload_n 3, 1) := Fm247 (dk_29 (dk_at s247_5 17 rfl rfl)) rfl
theorem f247_137 : ft 247 137 = some (11, 1, 0, .ireturn, 1) := Fm247 (dk_172 (dk_at s247_5 18 rfl rfl)) rfl
theorem f247_138 : ft 247 138 = some (11, 1, 0, .aload_n 0, 1) := Fm247 (dk_42 (dk_at s247_5 19 rfl rfl)) rfl
theorem f247_139 : ft 247 139 = some (11, 1, 0, .invokevirtual 167, 3) := Fm247 (dk_182 0 167 (dk_at s247_5 20 rfl rfl)) rfl
theorem f247_142 : ft 247 142 = some (11, 1, 0, .invokestatic 439, 3) := Fm247 (dk_184 1 183 (dk_at s247_6 0 rfl rfl)) rfl
theorem f247_145 : ft 247 145 = some (11, 1, 0, .ifCond .ne 14, 3) := Fm247 (dk_154 0 14 (dk_at s247_6 3 rfl rfl)) rfl
theorem f247_148 : ft 247 148 = some (11, 1, 0, .aload_n 0, 1) := Fm247 (dk_42 (dk_at s247_6 6 rfl rfl)) rfl
theorem f247_149 : ft 247 149 = some (11, 1, 0, .aload_n 0, 1) := Fm247 (dk_42 (dk_at s247_6 7 rfl rfl)) rfl
theorem f247_150 : ft 247 150 = some (11, 1, 0, .getfield 155, 3) := Fm247 (dk_180 0 155 (dk_at s247_6 8 rfl rfl)) rfl
theorem f247_153 : ft 247 153 = some (11, 1, 0, .invokevirtual 171, 3) := Fm247 (dk_182 0 171 (dk_at s247_6 11 rfl rfl)) rfl
theorem f247_156 : ft 247 156 = some (11, 1, 0, .pop, 1) := Fm247 (dk_87 (dk_at s247_6 14 rfl rfl)) rfl
theorem f247_157 : ft 247 157 = some (11, 1, 0, .iconst (-1), 1) := Fm247 (dk_2 (dk_at s247_6 15 rfl rfl)) rfl
theorem f247_158 : ft 247 158 = some (11, 1, 0, .ireturn, 1) := Fm247 (dk_172 (dk_at s247_6 16 rfl rfl)) rfl
theorem f247_159 : ft 247 159 = some (11, 1, 0, .aload_n 0, 1) := Fm247 (dk_42 (dk_at s247_6 17 rfl rfl)) rfl
theorem f247_160 : ft 247 160 = some (11, 1, 0, .iconst 1, 1) := Fm247 (dk_4 (dk_at s247_6 18 rfl rfl)) rfl
theorem f247_161 : ft 247 161 = some (11, 1, 0, .invokevirtual 425, 3) := Fm247 (dk_182 1 169 (dk_at s247_6 19 rfl rfl)) rfl
theorem f247_164 : ft 247 164 = some (11, 1, 0, .istore 4, 2) := Fm247 (dk_54 4 (dk_at s247_6 22 rfl rfl)) rfl
theorem f247_166 : ft 247 166 = some (11, 1, 0, .aload_n 0, 1) := Fm247 (dk_42 (dk_at s247_7 0 rfl rfl)) rfl
theorem f247_167 : ft 247 167 = some (11, 1, 0, .iload 4, 2) := Fm247 (dk_21 4 (dk_at s247_7 1 rfl rfl)) rfl
theorem f247_169 : ft 247 169 = some (11, 1, 0, .iconst 2, 1) := Fm247 (dk_5 (dk_at s247_7 3 rfl rfl)) rfl
theorem f247_170 : ft 247 170 = some (11, 1, 0, .aload_n 0, 1) := Fm247 (dk_42 (dk_at s247_7 4 rfl rfl)) rfl
theorem f247_171 : ft 247 171 = some (11, 1, 0, .getfield 127, 3) := Fm247 (dk_180 0 127 (dk_at s247_7 5 rfl rfl)) rfl
theorem f247_174 : ft 247 174 = some (11, 1, 0, .getfield 224, 3) := Fm247 (dk_180 0 224 (dk_at s247_7 8 rfl rfl)) rfl
theorem f247_177 : ft 247 177 = some (11, 1, 0, .invokevirtual 428, 3) := Fm247 (dk_182 1 172 (dk_at s247_7 11 rfl rfl)) rfl
theorem f247_180 : ft 247 180 = some (11, 1, 0, .aload_n 0, 1) := Fm247 (dk_42 (dk_at s247_7 14 rfl rfl)) rfl
theorem f247_181 : ft 247 181 = some (11, 1, 0, .invokevirtual 167, 3) := Fm247 (dk_182 0 167 (dk_at s247_7 15 rfl rfl)) rfl
theorem f247_184 : ft 247 184 = some (11, 1, 0, .invokestatic 439, 3) := Fm247 (dk_184 1 183 (dk_at s247_7 18 rfl rfl)) rfl
theorem f247_187 : ft 247 187 = some (11, 1, 0, .ifCond .ne 13, 3) := Fm247 (dk_154 0 13 (dk_at s247_7 21 rfl rfl)) rfl
theorem f247_190 : ft 247 190 = some (11, 1, 0, .aload_n 0, 1) := Fm247 (dk_42 (dk_at s247_8 0 rfl rfl)) rfl
theorem f247_191 : ft 247 191 = some (11, 1, 0, .invokevirtual 167, 3) := Fm247 (dk_182 0 167 (dk_at s247_8 1 rfl rfl)) rfl
theorem f247_194 : ft 247 194 = some (11, 1, 0, .invokestatic 186, 3) := Fm247 (dk_184 0 186 (dk_at s247_8 4 rfl rfl)) rfl
theorem f247_197 : ft 247 197 = some (11, 1, 0, .ifCond .eq 27, 3) := Fm247 (dk_153 0 27 (dk_at s247_8 7 rfl rfl)) rfl
theorem f247_200 : ft 247 200 = some (11, 1, 0, .aload_n 0, 1) := Fm247 (dk_42 (dk_at s247_8 10 rfl rfl)) rfl
theorem f247_201 : ft 247 201 = some (11, 1, 0, .getfield 127, 3) := Fm247 (dk_180 0 127 (dk_at s247_8 11 rfl rfl)) rfl
theorem f247_204 : ft 247 204 = some (11, 1, 0, .aload_n 0, 1) := Fm247 (dk_42 (dk_at s247_8 14 rfl rfl)) rfl
theorem f247_205 : ft 247 205 = some (11, 1, 0, .invokevirtual 167, 3) := Fm247 (dk_182 0 167 (dk_at s247_8 15 rfl rfl)) rfl
theorem f247_208 : ft 247 208 = some (11, 1, 0, .invokevirtual 197, 3) := Fm247 (dk_182 0 197 (dk_at s247_8 18 rfl rfl)) rfl
theorem f247_211 : ft 247 211 = some (11, 1, 0, .aload_n 0, 1) := Fm247 (dk_42 (dk_at s247_8 21 rfl rfl)) rfl
theorem f247_212 : ft 247 212 = some (11, 1, 0, .dup, 1) := Fm247 (dk_89 (dk_at s247_8 22 rfl rfl)) rfl
theorem f247_213 : ft 247 213 = some (11, 1, 0, .getfield 155, 3) := Fm247 (dk_180 0 155 (dk_at s247_9 0 rfl rfl)) rfl
theorem f247_216 : ft 247 216 = some (11, 1, 0, .iconst 1, 1) := Fm247 (dk_4 (dk_at s247_9 3 rfl rfl)) rfl
theorem f247_217 : ft 247 217 = some (11, 1, 0, .iadd, 1) := Fm247 (dk_96 (dk_at s247_9 4 rfl rfl)) rfl
theorem f247_218 : ft 247 218 = some (11, 1, 0, .putfield 155, 3) := Fm247 (dk_181 0 155 (dk_at s247_9 5 rfl rfl)) rfl
theorem f247_221 : ft 247 221 = some (11, 1, 0, .goto (-41), 3) := Fm247 (dk_167 255 215 (dk_at s247_9 8 rfl rfl)) rfl
theorem f247_224 : ft 247 224 = some (11, 1, 0, .aload_n 0, 1) := Fm247 (dk_42 (dk_at s247_9 11 rfl rfl)) rfl
theorem f247_225 : ft 247 225 = some (11, 1, 0, .iload 4, 2) := Fm247 (dk_21 4 (dk_at s247_9 12 rfl rfl)) rfl
theorem f247_227 : ft 247 227 = some (11, 1, 0, .iconst 3, 1) := Fm247 (dk_6 (dk_at s247_9 14 rfl rfl)) rfl
theorem f247_228 : ft 247 228 = some (11, 1, 0, .aload_n 0, 1) := Fm247 (dk_42 (dk_at s247_9 15 rfl rfl)) rfl
theorem f247_229 : ft 247 229 = some (11, 1, 0, .getfield 127, 3) := Fm247 (dk_180 0 127 (dk_at s247_9 16 rfl rfl)) rfl
theorem f247_232 : ft 247 232 = some (11, 1, 0, .getfield 224, 3) := Fm247 (dk_180 0 224 (dk_at s247_9 19 rfl rfl)) rfl
theorem f247_235 : ft 247 235 = some (11, 1, 0, .aload_n 0, 1) := Fm247 (dk_42 (dk_at s247_9 22 rfl rfl)) rfl
theorem f247_236 : ft 247 236 = some (11, 1, 0, .iload 4, 2) := Fm247 (dk_21 4 (dk_at s247_10 0 rfl rfl)) rfl
theorem f247_238 : ft 247 238 = some (11, 1, 0, .iconst 2, 1) := Fm247 (dk_5 (dk_at s247_10 2 rfl rfl)) rfl
theorem f247_239 : ft 247 239 = some (11, 1, 0, .invokevirtual 442, 3) := Fm247 (dk_182 1 186 (dk_at s247_10 3 rfl rfl)) rfl
theorem f247_242 : ft 247 242 = some (11, 1, 0, .isub, 1) := Fm247 (dk_100 (dk_at s247_10 6 rfl rfl)) rfl
theorem f247_243 : ft 247 243 = some (11, 1, 0, .invokevirtual 428, 3) := Fm247 (dk_182 1 172 (dk_at s247_10 7 rfl rfl)) rfl
theorem f247_246 : ft 247 246 = some (11, 1, 0, .aload_n 0, 1) := Fm247 (dk_42 (dk_at s247_10 10 rfl rfl)) rfl
theorem f247_247 : ft 247 247 = some (11, 1, 0, .iload_n 3, 1) := Fm247 (dk_29 (dk_at s247_10 11 rfl rfl)) rfl
theorem f247_248 : ft 247 248 = some (11, 1, 0, .iconst 2, 1) := Fm247 (dk_5 (dk_at s247_10 12 rfl rfl)) rfl
theorem f247_249 : ft 247 249 = some (11, 1, 0, .iload 4, 2) := Fm247 (dk_21 4 (dk_at s247_10 13 rfl rfl)) rfl
theorem f247_251 : ft 247 251 = some (11, 1, 0, .invokevirtual 428, 3) := Fm247 (dk_182 1 172 (dk_at s247_10 15 rfl rfl)) rfl
theorem f247_254 : ft 247 254 = some (11, 1, 0, .iload_n 3, 1) := Fm247 (dk_29 (dk_at s247_10 18 rfl rfl)) rfl
theorem f247_255 : ft 247 255 = some (11, 1, 0, .ireturn, 1) := Fm247 (dk_172 (dk_at s247_10 19 rfl rfl)) rfl
theorem f247_256 : ft 247 256 = some (11, 1, 0, .aload_n 0, 1) := Fm247 (dk_42 (dk_at s247_10 20 rfl rfl)) rfl
theorem f247_257 : ft 247 257 = some (11, 1, 0, .iload_n 1, 1) := Fm247 (dk_27 (dk_at s247_10 21 rfl rfl)) rfl
theorem f247_258 : ft 247 258 = some (11, 1, 0, .iload_n 3, 1) := Fm247 (dk_29 (dk_at s247_10 22 rfl rfl)) rfl
theorem f247_259 : ft 247 259 = some (11, 1, 0, .iload_n 2, 1) := Fm247 (dk_28 (dk_at s247_10 23 rfl rfl)) rfl
theorem f247_260 : ft 247 260 = some (11, 1, 0, .invokevirtual 435, 3) := Fm247 (dk_182 1 179 (dk_at s247_11 0 rfl rfl)) rfl
theorem f247_263 : ft 247 263 = some (11, 1, 0, .ifCond .eq 7, 3) := Fm247 (dk_153 0 7 (dk_at s247_11 3 rfl rfl)) rfl
theorem f247_266 : ft 247 266 = some (11, 1, 0, .iload_n 3, 1) := Fm247 (dk_29 (dk_at s247_11 6 rfl rfl)) rfl
theorem f247_267 : ft 247 267 = some (11, 1, 0, .goto 4, 3) := Fm247 (dk_167 0 4 (dk_at s247_11 7 rfl rfl)) rfl
theorem f247_270 : ft 247 270 = some (11, 1, 0, .iconst (-1), 1) := Fm247 (dk_2 (dk_at s247_11 10 rfl rfl)) rfl
theorem f247_271 : ft 247 271 = some (11, 1, 0, .ireturn, 1) := Fm247 (dk_172 (dk_at s247_11 11 rfl rfl)) rfl
theorem q247 {d : Nat} {m : Mem} {a0 a1 a2 : Int} (hd : 0 < d) (hz : TZ m) : le2 (gd (tg m a0 = 11) <| bI (cl (d - 1) 245 [pR a0, pI 21] m) fun v1 m1 => bV (cl (d - 1) 246 [pR a0, pI v1, pI 1, pI 0] m1) fun m2 => bI (cl (d - 1) 199 [pR a0] m2) fun v3 m3 => if v3 = 46 then (bI (cl (d - 1) 199 [pR a0] (mst m3 a0 12 (w32 ((vl m3 a0 12) + 1)))) fun v5 m5 => if v5 = 46 then (if a2 = 0 then (bV (cl (d - 1) 246 [pR a0, pI v1, pI 1, pI 1] (mst m5 a0 12 (w32 ((vl m5 a0 12) + 1)))) fun m6 => bV (cl (d - 1) 246 [pR a0, pI a1, pI 3, pI 0] m6) fun m7 => bI (cl (d - 1) 199 [pR a0] m7) fun v8 m8 => if v8 = 91 then (bI (cl (d - 1) 248 [pR a0, pI a1, pI v1, pI a2] m8) fun v9 m9 => if v9 = 0 then (some (.inl (some (pI (-1))), m9)) else some (.inl (some (pI v1)), m9)) else rn d 247 95 [pR a0, pI a1, pI a2, pI v1, pU] [] m8) else rn d 247 95 [pR a0, pI a1, pI a2, pI v1, pU] [] m5) else rn d 247 95 [pR a0, pI a1, pI a2, pI v1, pU] [] m5) else bI (cl (d - 1) 248 [pR a0, pI a1, pI v1, pI a2] m3) fun v4 m4 => if v4 = 0 then (some (.inl (some (pI (-1))), m4)) else some (.inl (some (pI v1)), m4)) (cl d 247 [pR a0, pI a1, pI a2] m) := by
  refine q_in (n := 5) (L := [pR a0, pI a1, pI a2, pU, pU]) rfl rfl rfl ?_
  refine r_aln0 (p := 1) f247_0 rfl ?_
  refine r_bipush (p := 3) f247_1 rfl (pinD rfl rfl) ?_
  refine le2_gd (fun h1 => ?_)
  refine r_invI (p := 6) f247_3 rfl rfl rfl (Or.inl h1) hd (Nat.le_of_ble_eq_true rfl) rfl rfl rfl (fun _ => rfl) (fun v1 m1 c1 => ?_)
  have hz1 := z_k c1 hz
  refine r_isn3 (p := 7) f247_6 rfl rfl ?_
  refine r_aln0 (p := 8) f247_7 rfl ?_
  refine r_iln3 (p := 9) f247_8 rfl ?_
  refine r_iconst (p := 10) f247_9 rfl (pinD rfl rfl) ?_
  refine r_iconst (p := 11) f247_10 rfl (pinD rfl rfl) ?_
  have h2 := k_t1 c1 hz h1 (by decide)
  refine r_invV (p := 14) f247_11 rfl rfl rfl (Or.inl h2) hd (Nat.le_of_ble_eq_true rfl) rfl rfl rfl (fun _ => rfl) (fun m2 c2 => ?_)
  have hz2 := z_k c2 hz1
  refine r_aln0 (p := 15) f247_14 rfl ?_
  have h3 := k_t1 c2 hz1 h2 (by decide)
  refine r_invI (p := 18) f247_15 rfl rfl rfl (Or.inl h3) hd (Nat.le_of_ble_eq_true rfl) rfl rfl rfl (fun _ => rfl) (fun v3 m3 c3 => ?_)
  have hz3 := z_k c3 hz2
  refine r_bipush (p := 20) f247_18 rfl (pinD rfl rfl) ?_
  refine r_icne (t := 256) (p := 23) f247_20 (by decide) rfl rfl ?_ ?_
  · refine r_aln0 (p := 24) f247_23 rfl ?_
    refine r_dup (p := 25) f247_24 rfl rfl ?_
    have h5 := k_t1 c3 hz2 h3 (by decide)
    refine r_gfI (f := 12) (p := 28) f247_25 rfl rfl rfl (Or.inl h5) rfl ?_
    refine r_iconst (p := 29) f247_28 rfl (pinD rfl rfl) ?_
    refine r_iadd (p := 30) f247_29 rfl ?_
    refine r_pfI (f := 12) (p := 33) f247_30 rfl rfl rfl (by decide) (by decide) (Or.inl h5) rfl ?_
    refine r_aln0 (p := 34) f247_33 rfl ?_
    refine r_invI (p := 37) f247_34 rfl rfl rfl (Or.inl h5) hd (Nat.le_of_ble_eq_true rfl) rfl rfl rfl (fun _ => rfl) (fun v5 m5 c5 => ?_)
    have hz5 := z_k c5 hz3
    refine r_bipush (p := 39) f247_37 rfl (pinD rfl rfl) ?_
    refine r_icne (t := 95) (p := 42) f247_39 (by decide) rfl rfl ?_ ?_
    · refine r_iln2 (p := 43) f247_42 rfl ?_
      refine r_ifne (t := 95) (p := 46) f247_43 (by decide) rfl rfl ?_ ?_
      · refine r_aln0 (p := 47) f247_46 rfl ?_
        refine r_dup (p := 48) f247_47 rfl rfl ?_
        have h6 := k_t1 c5 hz3 h5 (by decide)
        refine r_gfI (f := 12) (p := 51) f247_48 rfl rfl rfl (Or.inl h6) rfl ?_
        refine r_iconst (p := 52) f247_51 rfl (pinD rfl rfl) ?_
        refine r_iadd (p := 53) f247_52 rfl ?_
        refine r_pfI (f := 12) (p := 56) f247_53 rfl rfl rfl (by decide) (by decide) (Or.inl h6) rfl ?_
        refine r_aln0 (p := 57) f247_56 rfl ?_
        refine r_iln3 (p := 58) f247_57 rfl ?_
        refine r_iconst (p := 59) f247_58 rfl (pinD rfl rfl) ?_
        refine r_iconst (p := 60) f247_59 rfl (pinD rfl rfl) ?_
        refine r_invV (p := 63) f247_60 rfl rfl rfl (Or.inl h6) hd (Nat.le_of_ble_eq_true rfl) rfl rfl rfl (fun _ => rfl) (fun m6 c6 => ?_)
        have hz6 := z_k c6 hz5
        refine r_aln0 (p := 64) f247_63 rfl ?_
        refine r_iln1 (p := 65) f247_64 rfl ?_
        refine r_iconst (p := 66) f247_65 rfl (pinD rfl rfl) ?_
        refine r_iconst (p := 67) f247_66 rfl (pinD rfl rfl) ?_
        have h7 := k_t1 c6 hz5 h6 (by decide)
        refine r_invV (p := 70) f247_67 rfl rfl rfl (Or.inl h7) hd (Nat.le_of_ble_eq_true rfl) rfl rfl rfl (fun _ => rfl) (fun m7 c7 => ?_)
        have hz7 := z_k c7 hz6
        refine r_aln0 (p := 71) f247_70 rfl ?_
        have h8 := k_t1 c7 hz6 h7 (by decide)
        refine r_invI (p := 74) f247_71 rfl rfl rfl (Or.inl h8) hd (Nat.le_of_ble_eq_true rfl) rfl rfl rfl (fun _ => rfl) (fun v8 m8 c8 => ?_)
        have hz8 := z_k c8 hz7
        refine r_bipush (p := 76) f247_74 rfl (pinD rfl rfl) ?_
        refine r_icne (t := 95) (p := 79) f247_76 (by decide) rfl rfl ?_ ?_
        · refine r_aln0 (p := 80) f247_79 rfl ?_
          refine r_iln1 (p := 81) f247_80 rfl ?_
          refine r_iln3 (p := 82) f247_81 rfl ?_
          refine r_iln2 (p := 83) f247_82 rfl ?_
          have h9 := k_t1 c8 hz7 h8 (by decide)
          refine r_invI (p := 86) f247_83 rfl rfl rfl (Or.inl h9) hd (Nat.le_of_ble_eq_true rfl) rfl rfl rfl (fun _ => rfl) (fun v9 m9 c9 => ?_)
          have hz9 := z_k c9 hz8
          refine r_ifeq (t := 93) (p := 89) f247_86 (by decide) rfl rfl ?_ ?_
          · refine r_iconst (p := 94) f247_93 rfl (pinD rfl rfl) ?_
            exact r_iret1 f247_94
          · refine r_iln3 (p := 90) f247_89 rfl ?_
            refine r_goto (p := 94) f247_90 (by decide) rfl ?_
            exact r_iret1 f247_94
        · exact le2_refl _
      · exact le2_refl _
    · exact le2_refl _
  · refine r_aln0 (p := 257) f247_256 rfl ?_
    refine r_iln1 (p := 258) f247_257 rfl ?_
    refine r_iln3 (p := 259) f247_258 rfl ?_
    refine r_iln2 (p := 260) f247_259 rfl ?_
    have h4 := k_t1 c3 hz2 h3 (by decide)
    refine r_invI (p := 263) f247_260 rfl rfl rfl (Or.inl h4) hd (Nat.le_of_ble_eq_true rfl) rfl rfl rfl (fun _ => rfl) (fun v4 m4 c4 => ?_)
    have hz4 := z_k c4 hz3
    refine r_ifeq (t := 270) (p := 266) f247_263 (by decide) rfl rfl ?_ ?_
    · refine r_iconst (p := 271) f247_270 rfl (pinD rfl rfl) ?_
      exact r_iret1 f247_271
    · refine r_iln3 (p := 267) f247_266 rfl ?_
      refine r_goto (p := 271) f247_267 (by decide) rfl ?_
      exact r_iret1 f247_271
theorem q247_95 {d : Nat} {m : Mem} {a0 a1 a2 a3 : Int} (hd : 0 < d) (hz : TZ m) : le2 (gd (tg m a0 = 11) <| bI (cl (d - 1) 199 [pR a0] m) fun v1 m1 => if v1 = 42 then (if a2 = 0 then (bI (cl (d - 1) 245 [pR a0, pI 2] (mst m1 a0 12 (w32 ((vl m1 a0 12) + 1)))) fun v2 m2 => bV (cl (d - 1) 246 [pR a0, pI a3, pI 2, pI v2] m2) fun m3 => bV (cl (d - 1) 246 [pR a0, pI a1, pI 3, pI 0] m3) fun m4 => some (.inl (some (pI a3)), m4)) else rn d 247 138 [pR a0, pI a1, pI a2, pI a3, pU] [] m1) else rn d 247 138 [pR a0, pI a1, pI a2, pI a3, pU] [] m1) (rn d 247 95 [pR a0, pI a1, pI a2, pI a3, pU] [] m) := by
  refine r_aln0 (p := 96) f247_95 rfl ?_
  refine le2_gd (fun h1 => ?_)
  refine r_invI (p := 99) f247_96 rfl rfl rfl (Or.inl h1) hd (Nat.le_of_ble_eq_true rfl) rfl rfl rfl (fun _ => rfl) (fun v1 m1 c1 => ?_)
  have hz1 := z_k c1 hz
  refine r_bipush (p := 101) f247_99 rfl (pinD rfl rfl) ?_
  refine r_icne (t := 138) (p := 104) f247_101 (by decide) rfl rfl ?_ ?_
  · refine r_iln2 (p := 105) f247_104 rfl ?_
    refine r_ifne (t := 138) (p := 108) f247_105 (by decide) rfl rfl ?_ ?_
    · refine r_aln0 (p := 109) f247_108 rfl ?_
      refine r_dup (p := 110) f247_109 rfl rfl ?_
      have h2 := k_t1 c1 hz h1 (by decide)
      refine r_gfI (f := 12) (p := 113) f247_110 rfl rfl rfl (Or.inl h2) rfl ?_
      refine r_iconst (p := 114) f247_113 rfl (pinD rfl rfl) ?_
      refine r_iadd (p := 115) f247_114 rfl ?_
      refine r_pfI (f := 12) (p := 118) f247_115 rfl rfl rfl (by decide) (by decide) (Or.inl h2) rfl ?_
      refine r_aln0 (p := 119) f247_118 rfl ?_
      refine r_iln3 (p := 120) f247_119 rfl ?_
      refine r_iconst (p := 121) f247_120 rfl (pinD rfl rfl) ?_
      refine r_aln0 (p := 122) f247_121 rfl ?_
      refine r_iconst (p := 123) f247_122 rfl (pinD rfl rfl) ?_
      refine r_invI (p := 126) f247_123 rfl rfl rfl (Or.inl h2) hd (Nat.le_of_ble_eq_true rfl) rfl rfl rfl (fun _ => rfl) (fun v2 m2 c2 => ?_)
      have hz2 := z_k c2 hz1
      have h3 := k_t1 c2 hz1 h2 (by decide)
      refine r_invV (p := 129) f247_126 rfl rfl rfl (Or.inl h3) hd (Nat.le_of_ble_eq_true rfl) rfl rfl rfl (fun _ => rfl) (fun m3 c3 => ?_)
      have hz3 := z_k c3 hz2
      refine r_aln0 (p := 130) f247_129 rfl ?_
      refine r_iln1 (p := 131) f247_130 rfl ?_
      refine r_iconst (p := 132) f247_131 rfl (pinD rfl rfl) ?_
      refine r_iconst (p := 133) f247_132 rfl (pinD rfl rfl) ?_
      have h4 := k_t1 c3 hz2 h3 (by decide)
      refine r_invV (p := 136) f247_133 rfl rfl rfl (Or.inl h4) hd (Nat.le_of_ble_eq_true rfl) rfl rfl rfl (fun _ => rfl) (fun m4 c4 => ?_)
      have hz4 := z_k c4 hz3
      refine r_iln3 (p := 137) f247_136 rfl ?_
      exact r_iret1 f247_137
    · exact le2_refl _
  · exact le2_refl _
theorem q247_138 {d : Nat} {m : Mem} {a0 a1 a2 a3 : Int} (hd : 0 < d) (hz : TZ m) : le2 (gd (tg m a0 = 11) <| bI (cl (d - 1) 199 [pR a0] m) fun v1 m1 => bI (cl (d - 1) 261 [pI v1] m1) fun v2 m2 => if v2 = 0 then (bI (cl (d - 1) 202 [pR a0, pI (vl m2 a0 12)] m2) fun v5 m5 => some (.inl (some (pI (-1))), m5)) else bI (cl (d - 1) 245 [pR a0, pI 1] m2) fun v3 m3 => nm (vl m3 a0 30) fun v6 => gd (tg m3 v6 = 13) <| bV (cl (d - 1) 246 [pR a0, pI v3, pI 2, pI (vl m3 v6 12)] m3) fun m4 => rn d 247 180 [pR a0, pI a1, pI a2, pI a3, pI v3] [] m4) (rn d 247 138 [pR a0, pI a1, pI a2, pI a3, pU] [] m) := by
  refine r_aln0 (p := 139) f247_138 rfl ?_
  refine le2_gd (fun h1 => ?_)
  refine r_invI (p := 142) f247_139 rfl rfl rfl (Or.inl h1) hd (Nat.le_of_ble_eq_true rfl) rfl rfl rfl (fun _ => rfl) (fun v1 m1 c1 => ?_)
  have hz1 := z_k c1 hz
  refine r_istI (p := 145) f247_142 rfl rfl rfl hd (Nat.le_of_ble_eq_true rfl) rfl rfl rfl (fun _ => rfl) (fun v2 m2 c2 => ?_)
  have hz2 := z_k c2 hz1
  refine r_ifne (t := 159) (p := 148) f247_145 (by decide) rfl rfl ?_ ?_
  · refine r_aln0 (p := 149) f247_148 rfl ?_
    refine r_aln0 (p := 150) f247_149 rfl ?_
    have h6 := k_t1 c1 hz h1 (by decide)
    have h7 := k_t1 c2 hz1 h6 (by decide)
    refine r_gfI (f := 12) (p := 153) f247_150 rfl rfl rfl (Or.inl h7) rfl ?_
    refine r_invI (p := 156) f247_153 rfl rfl rfl (Or.inl h7) hd (Nat.le_of_ble_eq_true rfl) rfl rfl rfl (fun _ => rfl) (fun v5 m5 c5 => ?_)
    have hz5 := z_k c5 hz2
    refine r_pop (p := 157) f247_156 rfl rfl ?_
    refine r_iconst (p := 158) f247_157 rfl (pinD rfl rfl) ?_
    exact r_iret1 f247_158
  · refine r_aln0 (p := 160) f247_159 rfl ?_
    refine r_iconst (p := 161) f247_160 rfl (pinD rfl rfl) ?_
    have h2 := k_t1 c1 hz h1 (by decide)
    have h3 := k_t1 c2 hz1 h2 (by decide)
    refine r_invI (p := 164) f247_161 rfl rfl rfl (Or.inl h3) hd (Nat.le_of_ble_eq_true rfl) rfl rfl rfl (fun _ => rfl) (fun v3 m3 c3 => ?_)
    have hz3 := z_k c3 hz2
    refine r_isw4 (p := 166) f247_164 rfl rfl ?_
    refine r_aln0 (p := 167) f247_166 rfl ?_
    refine r_ilw4 (p := 169) f247_167 rfl ?_
    refine r_iconst (p := 170) f247_169 rfl (pinD rfl rfl) ?_
    refine r_aln0 (p := 171) f247_170 rfl ?_
    have h4 := k_t1 c3 hz2 h3 (by decide)
    refine r_gfR (f := 30) (p := 174) f247_171 rfl rfl rfl (Or.inl h4) rfl ?_
    refine r_nmR (fun v6 ev6 => ?_)
    refine le2_gd (fun h5 => ?_)
    refine r_gfI (f := 12) (p := 177) f247_174 rfl rfl rfl (Or.inl h5) rfl ?_
    refine r_invV (p := 180) f247_177 rfl rfl rfl (Or.inl h4) hd (Nat.le_of_ble_eq_true rfl) rfl rfl rfl (fun _ => rfl) (fun m4 c4 => ?_)
    have hz4 := z_k c4 hz3
    exact le2_refl _
theorem q247_180 {d : Nat} {m : Mem} {a0 a1 a2 a3 a4 : Int} (hd : 0 < d) (hz : TZ m) : le2 (gd (tg m a0 = 11) <| bI (cl (d - 1) 199 [pR a0] m) fun v1 m1 => bI (cl (d - 1) 261 [pI v1] m1) fun v2 m2 => if v2 = 0 then (bI (cl (d - 1) 199 [pR a0] m2) fun v3 m3 => bI (cl (d - 1) 206 [pI v3] m3) fun v4 m4 => if v4 = 0 then (nm (vl m4 a0 30) fun v8 => gd (tg m4 v8 = 13) <| bI (cl (d - 1) 251 [pR a0, pI a4, pI 2] m4) fun v5 m5 => bV (cl (d - 1) 246 [pR a0, pI a4, pI 3, pI (w32 ((vl m4 v8 12) - v5))] m5) fun m6 => bV (cl (d - 1) 246 [pR a0, pI a3, pI 2, pI a4] m6) fun m7 => some (.inl (some (pI a3)), m7)) else rn d 247 200 [pR a0, pI a1, pI a2, pI a3, pI a4] [] m4) else rn d 247 200 [pR a0, pI a1, pI a2, pI a3, pI a4] [] m2) (rn d 247 180 [pR a0, pI a1, pI a2, pI a3, pI a4] [] m) := by
  refine r_aln0 (p := 181) f247_180 rfl ?_
  refine le2_gd (fun h1 => ?_)
  refine r_invI (p := 184) f247_181 rfl rfl rfl (Or.inl h1) hd (Nat.le_of_ble_eq_true rfl) rfl rfl rfl (fun _ => rfl) (fun v1 m1 c1 => ?_)
  have hz1 := z_k c1 hz
  refine r_istI (p := 187) f247_184 rfl rfl rfl hd (Nat.le_of_ble_eq_true rfl) rfl rfl rfl (fun _ => rfl) (fun v2 m2 c2 => ?_)
  have hz2 := z_k c2 hz1
  refine r_ifne (t := 200) (p := 190) f247_187 (by decide) rfl rfl ?_ ?_
  · refine r_aln0 (p := 191) f247_190 rfl ?_
    have h2 := k_t1 c1 hz h1 (by decide)
    have h3 := k_t1 c2 hz1 h2 (by decide)
    refine r_invI (p := 194) f247_191 rfl rfl rfl (Or.inl h3) hd (Nat.le_of_ble_eq_true rfl) rfl rfl rfl (fun _ => rfl) (fun v3 m3 c3 => ?_)
    have hz3 := z_k c3 hz2
    refine r_istI (p := 197) f247_194 rfl rfl rfl hd (Nat.le_of_ble_eq_true rfl) rfl rfl rfl (fun _ => rfl) (fun v4 m4 c4 => ?_)
    have hz4 := z_k c4 hz3
    refine r_ifeq (t := 224) (p := 200) f247_197 (by decide) rfl rfl ?_ ?_
    · refine r_aln0 (p := 225) f247_224 rfl ?_
      refine r_ilw4 (p := 227) f247_225 rfl ?_
      refine r_iconst (p := 228) f247_227 rfl (pinD rfl rfl) ?_
      refine r_aln0 (p := 229) f247_228 rfl ?_
      have h4 := k_t1 c3 hz2 h3 (by decide)
      have h5 := k_t1 c4 hz3 h4 (by decide)
      refine r_gfR (f := 30) (p := 232) f247_229 rfl rfl rfl (Or.inl h5) rfl ?_
      refine r_nmR (fun v8 ev8 => ?_)
      refine le2_gd (fun h6 => ?_)
      refine r_gfI (f := 12) (p := 235) f247_232 rfl rfl rfl (Or.inl h6) rfl ?_
      refine r_aln0 (p := 236) f247_235 rfl ?_
      refine r_ilw4 (p := 238) f247_236 rfl ?_
      refine r_iconst (p := 239) f247_238 rfl (pinD rfl rfl) ?_
      refine r_invI (p := 242) f247_239 rfl rfl rfl (Or.inl h5) hd (Nat.le_of_ble_eq_true rfl) rfl rfl rfl (fun _ => rfl) (fun v5 m5 c5 => ?_)
      have hz5 := z_k c5 hz4
      refine r_isub (p := 243) f247_242 rfl ?_
      have h7 := k_t1 c5 hz4 h5 (by decide)
      refine r_invV (p := 246) f247_243 rfl rfl rfl (Or.inl h7) hd (Nat.le_of_ble_eq_true rfl) rfl rfl rfl (fun _ => rfl) (fun m6 c6 => ?_)
      have hz6 := z_k c6 hz5
      refine r_aln0 (p := 247) f247_246 rfl ?_
      refine r_iln3 (p := 248) f247_247 rfl ?_
      refine r_iconst (p := 249) f247_248 rfl (pinD rfl rfl) ?_
      refine r_ilw4 (p := 251) f247_249 rfl ?_
      have h8 := k_t1 c6 hz5 h7 (by decide)
      refine r_invV (p := 254) f247_251 rfl rfl rfl (Or.inl h8) hd (Nat.le_of_ble_eq_true rfl) rfl rfl rfl (fun _ => rfl) (fun m7 c7 => ?_)
      have hz7 := z_k c7 hz6
      refine r_iln3 (p := 255) f247_254 rfl ?_
      exact r_iret1 f247_255
    · exact le2_refl _
  · exact le2_refl _
theorem q247_200 {d : Nat} {m : Mem} {a0 a1 a2 a3 a4 : Int} (hd : 0 < d) (hz : TZ m) : le2 (gd (tg m a0 = 11) <| nm (vl m a0 30) fun v3 => bI (cl (d - 1) 199 [pR a0] m) fun v1 m1 => gd (tg m1 v3 = 13) <| bV (cl (d - 1) 287 [pR v3, pI v1] m1) fun m2 => rn d 247 180 [pR a0, pI a1, pI a2, pI a3, pI a4] [] (mst m2 a0 12 (w32 ((vl m2 a0 12) + 1)))) (rn d 247 200 [pR a0, pI a1, pI a2, pI a3, pI a4] [] m) := by
  refine r_aln0 (p := 201) f247_200 rfl ?_
  refine le2_gd (fun h1 => ?_)
  refine r_gfR (f := 30) (p := 204) f247_201 rfl rfl rfl (Or.inl h1) rfl ?_
  refine r_nmR (fun v3 ev3 => ?_)
  refine r_aln0 (p := 205) f247_204 rfl ?_
  refine r_invI (p := 208) f247_205 rfl rfl rfl (Or.inl h1) hd (Nat.le_of_ble_eq_true rfl) rfl rfl rfl (fun _ => rfl) (fun v1 m1 c1 => ?_)
  have hz1 := z_k c1 hz
  refine le2_gd (fun h2 => ?_)
  refine r_invV (p := 211) f247_208 rfl rfl rfl (Or.inl h2) hd (Nat.le_of_ble_eq_true rfl) rfl rfl rfl (fun _ => rfl) (fun m2 c2 => ?_)
  have hz2 := z_k c2 hz1
  refine r_aln0 (p := 212) f247_211 rfl ?_
  refine r_dup (p := 213) f247_212 rfl rfl ?_
  have h3 := k_t1 c1 hz h1 (by decide)
  have h4 := k_t1 c2 hz1 h3 (by decide)
  refine r_gfI (f := 12) (p := 216) f247_213 rfl rfl rfl (Or.inl h4) rfl ?_
  refine r_iconst (p := 217) f247_216 rfl (pinD rfl rfl) ?_
  refine r_iadd (p := 218) f247_217 rfl ?_
  refine r_pfI (f := 12) (p := 221) f247_218 rfl rfl rfl (by decide) (by decide) (Or.inl h4) rfl ?_
  refine r_goto (p := 180) f247_221 (by decide) rfl ?_
  exact le2_refl _
/-! 248 PathStoreModel.selectors (IIZ)Z -/
def w248_6 : List UInt8 := [180, 0, 155, 4, 96, 181, 0, 155, 167, 255, 123]
abbrev u248_6 : List UInt8 := w248_6 ++ []
def w248_5 : List UInt8 := [154, 0, 12, 42, 182, 0, 167, 16, 44, 159, 0, 12, 42, 42, 180, 0, 155, 182, 0, 171, 172, 42, 89]
abbrev u248_5 : List UInt8 := w248_5 ++ u248_6
def w248_4 : List UInt8 := [54, 4, 42, 182, 0, 204, 42, 182, 0, 167, 16, 93, 160, 0, 10, 42, 16, 93, 182, 1, 196, 172, 29]
abbrev u248_4 : List UInt8 := w248_4 ++ u248_5
def w248_3 : List UInt8 := [4, 159, 0, 21, 42, 21, 5, 3, 182, 1, 186, 6, 159, 0, 10, 42, 27, 6, 3, 182, 1, 172, 21, 5]
abbrev u248_3 : List UInt8 := w248_3 ++ u248_4
def w248_2 : List UInt8 := [167, 0, 12, 42, 21, 4, 4, 21, 5, 182, 1, 172, 21, 4, 156, 0, 25, 42, 21, 5, 3, 182, 1, 186]
abbrev u248_2 : List UInt8 := w248_2 ++ u248_3
def w248_1 : List UInt8 := [54, 5, 21, 5, 156, 0, 5, 3, 172, 21, 4, 156, 0, 14, 42, 28, 5, 21, 5, 182, 1, 172]
abbrev u248_1 : List UInt8 := w248_1 ++ u248_2
def w248_0 : List UInt8 := [42, 16, 91, 182, 1, 189, 154, 0, 5, 3, 172, 2, 54, 4, 42, 182, 0, 204, 42, 29, 182, 1, 192]
abbrev u248_0 : List UInt8 := w248_0 ++ u248_1
theorem s248_0 : (prog_32_method_67_code).data.toList.drop 0 = u248_0 := by decide +kernel
theorem s248_1 : (prog_32_method_67_code).data.toList.drop 23 = u248_1 := dk_seg s248_0 23 rfl rfl
theorem s248_2 : (prog_32_method_67_code).data.toList.drop 45 = u248_2 := dk_seg s248_1 22 rfl rfl
theorem s248_3 : (prog_32_method_67_code).data.toList.drop 69 = u248_3 := dk_seg s248_2 24 rfl rfl
theorem s248_4 : (prog_32_method_67_code).data.toList.drop 93 = u248_4 := dk_seg s248_3 24 rfl rfl
theorem s248_5 : (prog_32_method_67_code).data.toList.drop 116 = u248_5 := dk_seg s248_4 23 rfl rfl
theorem s248_6 : (prog_32_method_67_code).data.toList.drop 139 = u248_6 := dk_seg s248_5 23 rfl rfl
theorem Fm248 {pc len : Nat} {i : Instr} (h : decode (prog_32_method_67_code) pc = .ok (i, len)) (hl : len = ilen i len) : ft 248 pc = some (11, 4, 0, i, len) := ft_mk rfl h hl
theorem f248_0 : ft 248 0 = some (11, 4, 0, .aload_n 0, 1) := Fm248 (dk_42 (dk_at s248_0 0 rfl rfl)) rfl
theorem f248_1 : ft 248 1 = some (11, 4, 0, .bipush 91, 2) := Fm248 (dk_16 91 (dk_at s248_0 1 rfl rfl)) rfl
theorem f248_3 : ft 248 3 = some (11, 4, 0, .invokevirtual 445, 3) := Fm248 (dk_182 1 189 (dk_at s248_0 3 rfl rfl)) rfl
theorem f248_6 : ft 248 6 = some (11, 4, 0, .ifCond .ne 5, 3) := Fm248 (dk_154 0 5 (dk_at s248_0 6 rfl rfl)) rfl
theorem f248_9 : ft 248 9 = some (11, 4, 0, .iconst 0, 1) := Fm248 (dk_3 (dk_at s248_0 9 rfl rfl)) rfl
theorem f248_10 : ft 248 10 = some (11, 4, 0, .ireturn, 1) := Fm248 (dk_172 (dk_at s248_0 10 rfl rfl)) rfl
theorem f248_11 : ft 248 11 = some (11, 4, 0, .iconst (-1), 1) := Fm248 (dk_2 (dk_at s248_0 11 rfl rfl)) rfl
theorem f248_12 : ft 248 12 = some (11, 4, 0, .istore 4, 2) := Fm248 (dk_54 4 (dk_at s248_0 12 rfl rfl)) rfl
theorem f248_14 : ft 248 14 = some (11, 4, 0, .aload_n 0, 1) := Fm248 (dk_42 (dk_at s248_0 14 rfl rfl)) rfl
theorem f248_15 : ft 248 15 = some (11, 4, 0, .invokevirtual 204, 3) := Fm248 (dk_182 0 204 (dk_at s248_0 15 rfl rfl)) rfl
theorem f248_18 : ft 248 18 = some (11, 4, 0, .aload_n 0, 1) := Fm248 (dk_42 (dk_at s248_0 18 rfl rfl)) rfl
theorem f248_19 : ft 248 19 = some (11, 4, 0, .iload_n 3, 1) := Fm248 (dk_29 (dk_at s248_0 19 rfl rfl)) rfl
theorem f248_20 : ft 248 20 = some (11, 4, 0, .invokevirtual 448, 3) := Fm248 (dk_182 1 192 (dk_at s248_0 20 rfl rfl)) rfl
theorem f248_23 : ft 248 23 = some (11, 4, 0, .istore 5, 2) := Fm248 (dk_54 5 (dk_at s248_1 0 rfl rfl)) rfl
theorem f248_25 : ft 248 25 = some (11, 4, 0, .iload 5, 2) := Fm248 (dk_21 5 (dk_at s248_1 2 rfl rfl)) rfl
theorem f248_27 : ft 248 27 = some (11, 4, 0, .ifCond .ge 5, 3) := Fm248 (dk_156 0 5 (dk_at s248_1 4 rfl rfl)) rfl
theorem f248_30 : ft 248 30 = some (11, 4, 0, .iconst 0, 1) := Fm248 (dk_3 (dk_at s248_1 7 rfl rfl)) rfl
theorem f248_31 : ft 248 31 = some (11, 4, 0, .ireturn, 1) := Fm248 (dk_172 (dk_at s248_1 8 rfl rfl)) rfl
theorem f248_32 : ft 248 32 = some (11, 4, 0, .iload 4, 2) := Fm248 (dk_21 4 (dk_at s248_1 9 rfl rfl)) rfl
theorem f248_34 : ft 248 34 = some (11, 4, 0, .ifCond .ge 14, 3) := Fm248 (dk_156 0 14 (dk_at s248_1 11 rfl rfl)) rfl
theorem f248_37 : ft 248 37 = some (11, 4, 0, .aload_n 0, 1) := Fm248 (dk_42 (dk_at s248_1 14 rfl rfl)) rfl
theorem f248_38 : ft 248 38 = some (11, 4, 0, .iload_n 2, 1) := Fm248 (dk_28 (dk_at s248_1 15 rfl rfl)) rfl
theorem f248_39 : ft 248 39 = some (11, 4, 0, .iconst 2, 1) := Fm248 (dk_5 (dk_at s248_1 16 rfl rfl)) rfl
theorem f248_40 : ft 248 40 = some (11, 4, 0, .iload 5, 2) := Fm248 (dk_21 5 (dk_at s248_1 17 rfl rfl)) rfl
theorem f248_42 : ft 248 42 = some (11, 4, 0, .invokevirtual 428, 3) := Fm248 (dk_182 1 172 (dk_at s248_1 19 rfl rfl)) rfl
theorem f248_45 : ft 248 45 = some (11, 4, 0, .goto 12, 3) := Fm248 (dk_167 0 12 (dk_at s248_2 0 rfl rfl)) rfl
theorem f248_48 : ft 248 48 = some (11, 4, 0, .aload_n 0, 1) := Fm248 (dk_42 (dk_at s248_2 3 rfl rfl)) rfl
theorem f248_49 : ft 248 49 = some (11, 4, 0, .iload 4, 2) := Fm248 (dk_21 4 (dk_at s248_2 4 rfl rfl)) rfl
theorem f248_51 : ft 248 51 = some (11, 4, 0, .iconst 1, 1) := Fm248 (dk_4 (dk_at s248_2 6 rfl rfl)) rfl
theorem f248_52 : ft 248 52 = some (11, 4, 0, .iload 5, 2) := Fm248 (dk_21 5 (dk_at s248_2 7 rfl rfl)) rfl
theorem f248_54 : ft 248 54 = some (11, 4, 0, .invokevirtual 428, 3) := Fm248 (dk_182 1 172 (dk_at s248_2 9 rfl rfl)) rfl
theorem f248_57 : ft 248 57 = some (11, 4, 0, .iload 4, 2) := Fm248 (dk_21 4 (dk_at s248_2 12 rfl rfl)) rfl
theorem f248_59 : ft 248 59 = some (11, 4, 0, .ifCond .ge 25, 3) := Fm248 (dk_156 0 25 (dk_at s248_2 14 rfl rfl)) rfl
theorem f248_62 : ft 248 62 = some (11, 4, 0, .aload_n 0, 1) := Fm248 (dk_42 (dk_at s248_2 17 rfl rfl)) rfl
theorem f248_63 : ft 248 63 = some (11, 4, 0, .iload 5, 2) := Fm248 (dk_21 5 (dk_at s248_2 18 rfl rfl)) rfl
theorem f248_65 : ft 248 65 = some (11, 4, 0, .iconst 0, 1) := Fm248 (dk_3 (dk_at s248_2 20 rfl rfl)) rfl
theorem f248_66 : ft 248 66 = some (11, 4, 0, .invokevirtual 442, 3) := Fm248 (dk_182 1 186 (dk_at s248_2 21 rfl rfl)) rfl
theorem f248_69 : ft 248 69 = some (11, 4, 0, .iconst 1, 1) := Fm248 (dk_4 (dk_at s248_3 0 rfl rfl)) rfl
theorem f248_70 : ft 248 70 = some (11, 4, 0, .if_icmp .eq 21, 3) := Fm248 (dk_159 0 21 (dk_at s248_3 1 rfl rfl)) rfl
theorem f248_73 : ft 248 73 = some (11, 4, 0, .aload_n 0, 1) := Fm248 (dk_42 (dk_at s248_3 4 rfl rfl)) rfl
theorem f248_74 : ft 248 74 = some (11, 4, 0, .iload 5, 2) := Fm248 (dk_21 5 (dk_at s248_3 5 rfl rfl)) rfl
theorem f248_76 : ft 248 76 = some (11, 4, 0, .iconst 0, 1) := Fm248 (dk_3 (dk_at s248_3 7 rfl rfl)) rfl
theorem f248_77 : ft 248 77 = some (11, 4, 0, .invokevirtual 442, 3) := Fm248 (dk_182 1 186 (dk_at s248_3 8 rfl rfl)) rfl
theorem f248_80 : ft 248 80 = some (11, 4, 0, .iconst 3, 1) := Fm248 (dk_6 (dk_at s248_3 11 rfl rfl)) rfl
theorem f248_81 : ft 248 81 = some (11, 4, 0, .if_icmp .eq 10, 3) := Fm248 (dk_159 0 10 (dk_at s248_3 12 rfl rfl)) rfl
theorem f248_84 : ft 248 84 = some (11, 4, 0, .aload_n 0, 1) := Fm248 (dk_42 (dk_at s248_3 15 rfl rfl)) rfl
theorem f248_85 : ft 248 85 = some (11, 4, 0, .iload_n 1, 1) := Fm248 (dk_27 (dk_at s248_3 16 rfl rfl)) rfl
theorem f248_86 : ft 248 86 = some (11, 4, 0, .iconst 3, 1) := Fm248 (dk_6 (dk_at s248_3 17 rfl rfl)) rfl
theorem f248_87 : ft 248 87 = some (11, 4, 0, .iconst 0, 1) := Fm248 (dk_3 (dk_at s248_3 18 rfl rfl)) rfl
theorem f248_88 : ft 248 88 = some (11, 4, 0, .invokevirtual 428, 3) := Fm248 (dk_182 1 172 (dk_at s248_3 19 rfl rfl)) rfl
theorem f248_91 : ft 248 91 = some (11, 4, 0, .iload 5, 2) := Fm248 (dk_21 5 (dk_at s248_3 22 rfl rfl)) rfl
theorem f248_93 : ft 248 93 = some (11, 4, 0, .istore 4, 2) := Fm248 (dk_54 4 (dk_at s248_4 0 rfl rfl)) rfl
theorem f248_95 : ft 248 95 = some (11, 4, 0, .aload_n 0, 1) := Fm248 (dk_42 (dk_at s248_4 2 rfl rfl)) rfl
theorem f248_96 : ft 248 96 = some (11, 4, 0, .invokevirtual 204, 3) := Fm248 (dk_182 0 204 (dk_at s248_4 3 rfl rfl)) rfl
theorem f248_99 : ft 248 99 = some (11, 4, 0, .aload_n 0, 1) := Fm248 (dk_42 (dk_at s248_4 6 rfl rfl)) rfl
theorem f248_100 : ft 248 100 = some (11, 4, 0, .invokevirtual 167, 3) := Fm248 (dk_182 0 167 (dk_at s248_4 7 rfl rfl)) rfl
theorem f248_103 : ft 248 103 = some (11, 4, 0, .bipush 93, 2) := Fm248 (dk_16 93 (dk_at s248_4 10 rfl rfl)) rfl
theorem f248_105 : ft 248 105 = some (11, 4, 0, .if_icmp .ne 10, 3) := Fm248 (dk_160 0 10 (dk_at s248_4 12 rfl rfl)) rfl
theorem f248_108 : ft 248 108 = some (11, 4, 0, .aload_n 0, 1) := Fm248 (dk_42 (dk_at s248_4 15 rfl rfl)) rfl
theorem f248_109 : ft 248 109 = some (11, 4, 0, .bipush 93, 2) := Fm248 (dk_16 93 (dk_at s248_4 16 rfl rfl)) rfl
theorem f248_111 : ft 248 111 = some (11, 4, 0, .invokevirtual 452, 3) := Fm248 (dk_182 1 196 (dk_at s248_4 18 rfl rfl)) rfl
theorem f248_114 : ft 248 114 = some (11, 4, 0, .ireturn, 1) := Fm248 (dk_172 (dk_at s248_4 21 rfl rfl)) rfl
theorem f248_115 : ft 248 115 = some (11, 4, 0, .iload_n 3, 1) := Fm248 (dk_29 (dk_at s248_4 22 rfl rfl)) rfl
theorem f248_116 : ft 248 116 = some (11, 4, 0, .ifCond .ne 12, 3) := Fm248 (dk_154 0 12 (dk_at s248_5 0 rfl rfl)) rfl
theorem f248_119 : ft 248 119 = some (11, 4, 0, .aload_n 0, 1) := Fm248 (dk_42 (dk_at s248_5 3 rfl rfl)) rfl
theorem f248_120 : ft 248 120 = some (11, 4, 0, .invokevirtual 167, 3) := Fm248 (dk_182 0 167 (dk_at s248_5 4 rfl rfl)) rfl
theorem f248_123 : ft 248 123 = some (11, 4, 0, .bipush 44, 2) := Fm248 (dk_16 44 (dk_at s248_5 7 rfl rfl)) rfl
theorem f248_125 : ft 248 125 = some (11, 4, 0, .if_icmp .eq 12, 3) := Fm248 (dk_159 0 12 (dk_at s248_5 9 rfl rfl)) rfl
theorem f248_128 : ft 248 128 = some (11, 4, 0, .aload_n 0, 1) := Fm248 (dk_42 (dk_at s248_5 12 rfl rfl)) rfl
theorem f248_129 : ft 248 129 = some (11, 4, 0, .aload_n 0, 1) := Fm248 (dk_42 (dk_at s248_5 13 rfl rfl)) rfl
theorem f248_130 : ft 248 130 = some (11, 4, 0, .getfield 155, 3) := Fm248 (dk_180 0 155 (dk_at s248_5 14 rfl rfl)) rfl
theorem f248_133 : ft 248 133 = some (11, 4, 0, .invokevirtual 171, 3) := Fm248 (dk_182 0 171 (dk_at s248_5 17 rfl rfl)) rfl
theorem f248_136 : ft 248 136 = some (11, 4, 0, .ireturn, 1) := Fm248 (dk_172 (dk_at s248_5 20 rfl rfl)) rfl
theorem f248_137 : ft 248 137 = some (11, 4, 0, .aload_n 0, 1) := Fm248 (dk_42 (dk_at s248_5 21 rfl rfl)) rfl
theorem f248_138 : ft 248 138 = some (11, 4, 0, .dup, 1) := Fm248 (dk_89 (dk_at s248_5 22 rfl rfl)) rfl
theorem f248_139 : ft 248 139 = some (11, 4, 0, .getfield 155, 3) := Fm248 (dk_180 0 155 (dk_at s248_6 0 rfl rfl)) rfl
theorem f248_142 : ft 248 142 = some (11, 4, 0, .iconst 1, 1) := Fm248 (dk_4 (dk_at s248_6 3 rfl rfl)) rfl
theorem f248_143 : ft 248 143 = some (11, 4, 0, .iadd, 1) := Fm248 (dk_96 (dk_at s248_6 4 rfl rfl)) rfl
theorem f248_144 : ft 248 144 = some (11, 4, 0, .putfield 155, 3) := Fm248 (dk_181 0 155 (dk_at s248_6 5 rfl rfl)) rfl
theorem f248_147 : ft 248 147 = some (11, 4, 0, .goto (-133), 3) := Fm248 (dk_167 255 123 (dk_at s248_6 8 rfl rfl)) rfl
theorem q248 {d : Nat} {m : Mem} {a0 a1 a2 a3 : Int} (hd : 0 < d) (hz : TZ m) : le2 (gd (tg m a0 = 11) <| bI (cl (d - 1) 249 [pR a0, pI 91] m) fun v1 m1 => if v1 = 0 then (some (.inl (some (pI 0)), m1)) else rn d 248 14 [pR a0, pI a1, pI a2, pI a3, pI (-1), pU] [] m1) (cl d 248 [pR a0, pI a1, pI a2, pI a3] m) := by
  refine q_in (n := 6) (L := [pR a0, pI a1, pI a2, pI a3, pU, pU]) rfl rfl rfl ?_
  refine r_aln0 (p := 1) f248_0 rfl ?_
  refine r_bipush (p := 3) f248_1 rfl (pinD rfl rfl) ?_
  refine le2_gd (fun h1 => ?_)
  refine r_invI (p := 6) f248_3 rfl rfl rfl (Or.inl h1) hd (Nat.le_of_ble_eq_true rfl) rfl rfl rfl (fun _ => rfl) (fun v1 m1 c1 => ?_)
  have hz1 := z_k c1 hz
  refine r_ifne (t := 11) (p := 9) f248_6 (by decide) rfl rfl ?_ ?_
  · refine r_iconst (p := 10) f248_9 rfl (pinD rfl rfl) ?_
    exact r_iret4 f248_10 (by decide)
  · refine r_iconst (p := 12) f248_11 rfl (pinD rfl rfl) ?_
    refine r_isw4 (p := 14) f248_12 rfl rfl ?_
    exact le2_refl _
theorem q248_14 {d : Nat} {m : Mem} {a0 a1 a2 a3 a4 : Int} {z5 : PV} (hd : 0 < d) (hz : TZ m) (hcz5 : cat z5 = 1) : le2 (gd (tg m a0 = 11) <| bV (cl (d - 1) 198 [pR a0] m) fun m1 => bI (cl (d - 1) 250 [pR a0, pI a3] m1) fun v2 m2 => if v2 < 0 then (some (.inl (some (pI 0)), m2)) else if a4 < 0 then (bV (cl (d - 1) 246 [pR a0, pI a2, pI 2, pI v2] m2) fun m4 => rn d 248 57 [pR a0, pI a1, pI a2, pI a3, pI a4, pI v2] [] m4) else bV (cl (d - 1) 246 [pR a0, pI a4, pI 1, pI v2] m2) fun m3 => rn d 248 57 [pR a0, pI a1, pI a2, pI a3, pI a4, pI v2] [] m3) (rn d 248 14 [pR a0, pI a1, pI a2, pI a3, pI a4, z5] [] m) := by
  refine r_aln0 (p := 15) f248_14 rfl ?_
  refine le2_gd (fun h1 => ?_)
  refine r_invV (p := 18) f248_15 rfl rfl rfl (Or.inl h1) hd (Nat.le_of_ble_eq_true rfl) rfl rfl rfl (fun _ => rfl) (fun m1 c1 => ?_)
  have hz1 := z_k c1 hz
  refine r_aln0 (p := 19) f248_18 rfl ?_
  refine r_iln3 (p := 20) f248_19 rfl ?_
  have h2 := k_t1 c1 hz h1 (by decide)
  refine r_invI (p := 23) f248_20 rfl rfl rfl (Or.inl h2) hd (Nat.le_of_ble_eq_true rfl) rfl rfl rfl (fun _ => rfl) (fun v2 m2 c2 => ?_)
  have hz2 := z_k c2 hz1
  refine r_isw5 (p := 25) f248_23 rfl rfl ?_
  refine r_ilw5 (p := 27) f248_25 rfl ?_
  refine r_ifge (t := 32) (p := 30) f248_27 (by decide) rfl rfl ?_ ?_
  · refine r_iconst (p := 31) f248_30 rfl (pinD rfl rfl) ?_
    exact r_iret4 f248_31 (by decide)
  · refine r_ilw4 (p := 34) f248_32 rfl ?_
    refine r_ifge (t := 48) (p := 37) f248_34 (by decide) rfl rfl ?_ ?_
    · refine r_aln0 (p := 38) f248_37 rfl ?_
      refine r_iln2 (p := 39) f248_38 rfl ?_
      refine r_iconst (p := 40) f248_39 rfl (pinD rfl rfl) ?_
      refine r_ilw5 (p := 42) f248_40 rfl ?_
      have h4 := k_t1 c2 hz1 h2 (by decide)
      refine r_invV (p := 45) f248_42 rfl rfl rfl (Or.inl h4) hd (Nat.le_of_ble_eq_true rfl) rfl rfl rfl (fun _ => rfl) (fun m4 c4 => ?_)
      have hz4 := z_k c4 hz2
      refine r_goto (p := 57) f248_45 (by decide) rfl ?_
      exact le2_refl _
    · refine r_aln0 (p := 49) f248_48 rfl ?_
      refine r_ilw4 (p := 51) f248_49 rfl ?_
      refine r_iconst (p := 52) f248_51 rfl (pinD rfl rfl) ?_
      refine r_ilw5 (p := 54) f248_52 rfl ?_
      have h3 := k_t1 c2 hz1 h2 (by decide)
      refine r_invV (p := 57) f248_54 rfl rfl rfl (Or.inl h3) hd (Nat.le_of_ble_eq_true rfl) rfl rfl rfl (fun _ => rfl) (fun m3 c3 => ?_)
      have hz3 := z_k c3 hz2
      exact le2_refl _
theorem q248_57 {d : Nat} {m : Mem} {a0 a1 a2 a3 a4 a5 : Int} (hd : 0 < d) (hz : TZ m) : le2 (if a4 < 0 then (gd (tg m a0 = 11) <| bI (cl (d - 1) 251 [pR a0, pI a5, pI 0] m) fun v2 m2 => if v2 = 1 then (rn d 248 91 [pR a0, pI a1, pI a2, pI a3, pI a4, pI a5] [] m2) else bI (cl (d - 1) 251 [pR a0, pI a5, pI 0] m2) fun v3 m3 => if v3 = 3 then (rn d 248 91 [pR a0, pI a1, pI a2, pI a3, pI a4, pI a5] [] m3) else bV (cl (d - 1) 246 [pR a0, pI a1, pI 3, pI 0] m3) fun m4 => rn d 248 91 [pR a0, pI a1, pI a2, pI a3, pI a4, pI a5] [] m4) else gd (tg m a0 = 11) <| bV (cl (d - 1) 246 [pR a0, pI a1, pI 3, pI 0] m) fun m1 => rn d 248 91 [pR a0, pI a1, pI a2, pI a3, pI a4, pI a5] [] m1) (rn d 248 57 [pR a0, pI a1, pI a2, pI a3, pI a4, pI a5] [] m) := by
  refine r_ilw4 (p := 59) f248_57 rfl ?_
  refine r_ifge (t := 84) (p := 62) f248_59 (by decide) rfl rfl ?_ ?_
  · refine r_aln0 (p := 63) f248_62 rfl ?_
    refine r_ilw5 (p := 65) f248_63 rfl ?_
    refine r_iconst (p := 66) f248_65 rfl (pinD rfl rfl) ?_
    refine le2_gd (fun h2 => ?_)
    refine r_invI (p := 69) f248_66 rfl rfl rfl (Or.inl h2) hd (Nat.le_of_ble_eq_true rfl) rfl rfl rfl (fun _ => rfl) (fun v2 m2 c2 => ?_)
    have hz2 := z_k c2 hz
    refine r_iconst (p := 70) f248_69 rfl (pinD rfl rfl) ?_
    refine r_iceq (t := 91) (p := 73) f248_70 (by decide) rfl rfl ?_ ?_
    · exact le2_refl _
    · refine r_aln0 (p := 74) f248_73 rfl ?_
      refine r_ilw5 (p := 76) f248_74 rfl ?_
      refine r_iconst (p := 77) f248_76 rfl (pinD rfl rfl) ?_
      have h3 := k_t1 c2 hz h2 (by decide)
      refine r_invI (p := 80) f248_77 rfl rfl rfl (Or.inl h3) hd (Nat.le_of_ble_eq_true rfl) rfl rfl rfl (fun _ => rfl) (fun v3 m3 c3 => ?_)
      have hz3 := z_k c3 hz2
      refine r_iconst (p := 81) f248_80 rfl (pinD rfl rfl) ?_
      refine r_iceq (t := 91) (p := 84) f248_81 (by decide) rfl rfl ?_ ?_
      · exact le2_refl _
      · refine r_aln0 (p := 85) f248_84 rfl ?_
        refine r_iln1 (p := 86) f248_85 rfl ?_
        refine r_iconst (p := 87) f248_86 rfl (pinD rfl rfl) ?_
        refine r_iconst (p := 88) f248_87 rfl (pinD rfl rfl) ?_
        have h4 := k_t1 c3 hz2 h3 (by decide)
        refine r_invV (p := 91) f248_88 rfl rfl rfl (Or.inl h4) hd (Nat.le_of_ble_eq_true rfl) rfl rfl rfl (fun _ => rfl) (fun m4 c4 => ?_)
        have hz4 := z_k c4 hz3
        exact le2_refl _
  · refine r_aln0 (p := 85) f248_84 rfl ?_
    refine r_iln1 (p := 86) f248_85 rfl ?_
    refine r_iconst (p := 87) f248_86 rfl (pinD rfl rfl) ?_
    refine r_iconst (p := 88) f248_87 rfl (pinD rfl rfl) ?_
    refine le2_gd (fun h1 => ?_)
    refine r_invV (p := 91) f248_88 rfl rfl rfl (Or.inl h1) hd (Nat.le_of_ble_eq_true rfl) rfl rfl rfl (fun _ => rfl) (fun m1 c1 => ?_)
    have hz1 := z_k c1 hz
    exact le2_refl _
theorem q248_91 {d : Nat} {m : Mem} {a0 a1 a2 a3 a4 a5 : Int} (hd : 0 < d) (hz : TZ m) : le2 (gd (tg m a0 = 11) <| bV (cl (d - 1) 198 [pR a0] m) fun m1 => bI (cl (d - 1) 199 [pR a0] m1) fun v2 m2 => if v2 = 93 then (bI (cl (d - 1) 255 [pR a0, pI 93] m2) fun v6 m6 => gd (v6 = 0 ∨ v6 = 1) <| some (.inl (some (pI v6)), m6)) else if a3 = 0 then (bI (cl (d - 1) 199 [pR a0] m2) fun v4 m4 => if v4 = 44 then (rn d 248 14 [pR a0, pI a1, pI a2, pI a3, pI a5, pI a5] [] (mst m4 a0 12 (w32 ((vl m4 a0 12) + 1)))) else bI (cl (d - 1) 202 [pR a0, pI (vl m4 a0 12)] m4) fun v5 m5 => gd (v5 = 0 ∨ v5 = 1) <| some (.inl (some (pI v5)), m5)) else bI (cl (d - 1) 202 [pR a0, pI (vl m2 a0 12)] m2) fun v3 m3 => gd (v3 = 0 ∨ v3 = 1) <| some (.inl (some (pI v3)), m3)) (rn d 248 91 [pR a0, pI a1, pI a2, pI a3, pI a4, pI a5] [] m) := by
  refine r_ilw5 (p := 93) f248_91 rfl ?_
  refine r_isw4 (p := 95) f248_93 rfl rfl ?_
  refine r_aln0 (p := 96) f248_95 rfl ?_
  refine le2_gd (fun h1 => ?_)
  refine r_invV (p := 99) f248_96 rfl rfl rfl (Or.inl h1) hd (Nat.le_of_ble_eq_true rfl) rfl rfl rfl (fun _ => rfl) (fun m1 c1 => ?_)
  have hz1 := z_k c1 hz
  refine r_aln0 (p := 100) f248_99 rfl ?_
  have h2 := k_t1 c1 hz h1 (by decide)
  refine r_invI (p := 103) f248_100 rfl rfl rfl (Or.inl h2) hd (Nat.le_of_ble_eq_true rfl) rfl rfl rfl (fun _ => rfl) (fun v2 m2 c2 => ?_)
  have hz2 := z_k c2 hz1
  refine r_bipush (p := 105) f248_103 rfl (pinD rfl rfl) ?_
  refine r_icne (t := 115) (p := 108) f248_105 (by decide) rfl rfl ?_ ?_
  · refine r_aln0 (p := 109) f248_108 rfl ?_
    refine r_bipush (p := 111) f248_109 rfl (pinD rfl rfl) ?_
    have h9 := k_t1 c2 hz1 h2 (by decide)
    refine r_invI (p := 114) f248_111 rfl rfl rfl (Or.inl h9) hd (Nat.le_of_ble_eq_true rfl) rfl rfl rfl (fun _ => rfl) (fun v6 m6 c6 => ?_)
    have hz6 := z_k c6 hz2
    refine le2_gd (fun h10 => ?_)
    exact r_iret4 f248_114 h10
  · refine r_iln3 (p := 116) f248_115 rfl ?_
    refine r_ifne (t := 128) (p := 119) f248_116 (by decide) rfl rfl ?_ ?_
    · refine r_aln0 (p := 120) f248_119 rfl ?_
      have h5 := k_t1 c2 hz1 h2 (by decide)
      refine r_invI (p := 123) f248_120 rfl rfl rfl (Or.inl h5) hd (Nat.le_of_ble_eq_true rfl) rfl rfl rfl (fun _ => rfl) (fun v4 m4 c4 => ?_)
      have hz4 := z_k c4 hz2
      refine r_bipush (p := 125) f248_123 rfl (pinD rfl rfl) ?_
      refine r_iceq (t := 137) (p := 128) f248_125 (by decide) rfl rfl ?_ ?_
      · refine r_aln0 (p := 138) f248_137 rfl ?_
        refine r_dup (p := 139) f248_138 rfl rfl ?_
        have h6 := k_t1 c4 hz2 h5 (by decide)
        refine r_gfI (f := 12) (p := 142) f248_139 rfl rfl rfl (Or.inl h6) rfl ?_
        refine r_iconst (p := 143) f248_142 rfl (pinD rfl rfl) ?_
        refine r_iadd (p := 144) f248_143 rfl ?_
        refine r_pfI (f := 12) (p := 147) f248_144 rfl rfl rfl (by decide) (by decide) (Or.inl h6) rfl ?_
        refine r_goto (p := 14) f248_147 (by decide) rfl ?_
        exact le2_refl _
      · refine r_aln0 (p := 129) f248_128 rfl ?_
        refine r_aln0 (p := 130) f248_129 rfl ?_
        have h7 := k_t1 c4 hz2 h5 (by decide)
        refine r_gfI (f := 12) (p := 133) f248_130 rfl rfl rfl (Or.inl h7) rfl ?_
        refine r_invI (p := 136) f248_133 rfl rfl rfl (Or.inl h7) hd (Nat.le_of_ble_eq_true rfl) rfl rfl rfl (fun _ => rfl) (fun v5 m5 c5 => ?_)
        have hz5 := z_k c5 hz4
        refine le2_gd (fun h8 => ?_)
        exact r_iret4 f248_136 h8
    · refine r_aln0 (p := 129) f248_128 rfl ?_
      refine r_aln0 (p := 130) f248_129 rfl ?_
      have h3 := k_t1 c2 hz1 h2 (by decide)
      refine r_gfI (f := 12) (p := 133) f248_130 rfl rfl rfl (Or.inl h3) rfl ?_
      refine r_invI (p := 136) f248_133 rfl rfl rfl (Or.inl h3) hd (Nat.le_of_ble_eq_true rfl) rfl rfl rfl (fun _ => rfl) (fun v3 m3 c3 => ?_)
      have hz3 := z_k c3 hz2
      refine le2_gd (fun h4 => ?_)
      exact r_iret4 f248_136 h4
/-! 249 PathStoreModel.enter (I)Z -/
def w249_2 : List UInt8 := [4, 172]
abbrev u249_2 : List UInt8 := w249_2 ++ []
def w249_1 : List UInt8 := [182, 0, 171, 172, 42, 89, 180, 1, 166, 4, 96, 181, 1, 166, 42, 89, 180, 0, 155, 4, 96, 181, 0, 155]
abbrev u249_1 : List UInt8 := w249_1 ++ u249_2
def w249_0 : List UInt8 := [42, 182, 0, 167, 27, 160, 0, 12, 42, 180, 1, 166, 16, 16, 160, 0, 12, 42, 42, 180, 0, 155]
abbrev u249_0 : List UInt8 := w249_0 ++ u249_1
theorem s249_0 : (prog_32_method_63_code).data.toList.drop 0 = u249_0 := by decide +kernel
theorem s249_1 : (prog_32_method_63_code).data.toList.drop 22 = u249_1 := dk_seg s249_0 22 rfl rfl
theorem s249_2 : (prog_32_method_63_code).data.toList.drop 46 = u249_2 := dk_seg s249_1 24 rfl rfl
theorem Fm249 {pc len : Nat} {i : Instr} (h : decode (prog_32_method_63_code) pc = .ok (i, len)) (hl : len = ilen i len) : ft 249 pc = some (11, 4, 0, i, len) := ft_mk rfl h hl
theorem f249_0 : ft 249 0 = some (11, 4, 0, .aload_n 0, 1) := Fm249 (dk_42 (dk_at s249_0 0 rfl rfl)) rfl
theorem f249_1 : ft 249 1 = some (11, 4, 0, .invokevirtual 167, 3) := Fm249 (dk_182 0 167 (dk_at s249_0 1 rfl rfl)) rfl
theorem f249_4 : ft 249 4 = some (11, 4, 0, .iload_n 1, 1) := Fm249 (dk_27 (dk_at s249_0 4 rfl rfl)) rfl
theorem f249_5 : ft 249 5 = some (11, 4, 0, .if_icmp .ne 12, 3) := Fm249 (dk_160 0 12 (dk_at s249_0 5 rfl rfl)) rfl
theorem f249_8 : ft 249 8 = some (11, 4, 0, .aload_n 0, 1) := Fm249 (dk_42 (dk_at s249_0 8 rfl rfl)) rfl
theorem f249_9 : ft 249 9 = some (11, 4, 0, .getfield 422, 3) := Fm249 (dk_180 1 166 (dk_at s249_0 9 rfl rfl)) rfl
theorem f249_12 : ft 249 12 = some (11, 4, 0, .bipush 16, 2) := Fm249 (dk_16 16 (dk_at s249_0 12 rfl rfl)) rfl
theorem f249_14 : ft 249 14 = some (11, 4, 0, .if_icmp .ne 12, 3) := Fm249 (dk_160 0 12 (dk_at s249_0 14 rfl rfl)) rfl
theorem f249_17 : ft 249 17 = some (11, 4, 0, .aload_n 0, 1) := Fm249 (dk_42 (dk_at s249_0 17 rfl rfl)) rfl
theorem f249_18 : ft 249 18 = some (11, 4, 0, .aload_n 0, 1) := Fm249 (dk_42 (dk_at s249_0 18 rfl rfl)) rfl
theorem f249_19 : ft 249 19 = some (11, 4, 0, .getfield 155, 3) := Fm249 (dk_180 0 155 (dk_at s249_0 19 rfl rfl)) rfl
theorem f249_22 : ft 249 22 = some (11, 4, 0, .invokevirtual 171, 3) := Fm249 (dk_182 0 171 (dk_at s249_1 0 rfl rfl)) rfl
theorem f249_25 : ft 249 25 = some (11, 4, 0, .ireturn, 1) := Fm249 (dk_172 (dk_at s249_1 3 rfl rfl)) rfl
theorem f249_26 : ft 249 26 = some (11, 4, 0, .aload_n 0, 1) := Fm249 (dk_42 (dk_at s249_1 4 rfl rfl)) rfl
theorem f249_27 : ft 249 27 = some (11, 4, 0, .dup, 1) := Fm249 (dk_89 (dk_at s249_1 5 rfl rfl)) rfl
theorem f249_28 : ft 249 28 = some (11, 4, 0, .getfield 422, 3) := Fm249 (dk_180 1 166 (dk_at s249_1 6 rfl rfl)) rfl
theorem f249_31 : ft 249 31 = some (11, 4, 0, .iconst 1, 1) := Fm249 (dk_4 (dk_at s249_1 9 rfl rfl)) rfl
theorem f249_32 : ft 249 32 = some (11, 4, 0, .iadd, 1) := Fm249 (dk_96 (dk_at s249_1 10 rfl rfl)) rfl
theorem f249_33 : ft 249 33 = some (11, 4, 0, .putfield 422, 3) := Fm249 (dk_181 1 166 (dk_at s249_1 11 rfl rfl)) rfl
theorem f249_36 : ft 249 36 = some (11, 4, 0, .aload_n 0, 1) := Fm249 (dk_42 (dk_at s249_1 14 rfl rfl)) rfl
theorem f249_37 : ft 249 37 = some (11, 4, 0, .dup, 1) := Fm249 (dk_89 (dk_at s249_1 15 rfl rfl)) rfl
theorem f249_38 : ft 249 38 = some (11, 4, 0, .getfield 155, 3) := Fm249 (dk_180 0 155 (dk_at s249_1 16 rfl rfl)) rfl
theorem f249_41 : ft 249 41 = some (11, 4, 0, .iconst 1, 1) := Fm249 (dk_4 (dk_at s249_1 19 rfl rfl)) rfl
theorem f249_42 : ft 249 42 = some (11, 4, 0, .iadd, 1) := Fm249 (dk_96 (dk_at s249_1 20 rfl rfl)) rfl
theorem f249_43 : ft 249 43 = some (11, 4, 0, .putfield 155, 3) := Fm249 (dk_181 0 155 (dk_at s249_1 21 rfl rfl)) rfl
theorem f249_46 : ft 249 46 = some (11, 4, 0, .iconst 1, 1) := Fm249 (dk_4 (dk_at s249_2 0 rfl rfl)) rfl
theorem f249_47 : ft 249 47 = some (11, 4, 0, .ireturn, 1) := Fm249 (dk_172 (dk_at s249_2 1 rfl rfl)) rfl
theorem q249 {d : Nat} {m : Mem} {a0 a1 : Int} (hd : 0 < d) (hz : TZ m) : le2 (gd (tg m a0 = 11) <| bI (cl (d - 1) 199 [pR a0] m) fun v1 m1 => if v1 = a1 then (nm (vl m1 a0 31) fun v4 => if v4 = 16 then (bI (cl (d - 1) 202 [pR a0, pI (vl m1 a0 12)] m1) fun v3 m3 => gd (v3 = 0 ∨ v3 = 1) <| some (.inl (some (pI v3)), m3)) else some (.inl (some (pI 1)), (mst (mst m1 a0 31 (w32 (v4 + 1))) a0 12 (w32 ((vl m1 a0 12) + 1))))) else bI (cl (d - 1) 202 [pR a0, pI (vl m1 a0 12)] m1) fun v2 m2 => gd (v2 = 0 ∨ v2 = 1) <| some (.inl (some (pI v2)), m2)) (cl d 249 [pR a0, pI a1] m) := by
  refine q_in (n := 2) (L := [pR a0, pI a1]) rfl rfl rfl ?_
  refine r_aln0 (p := 1) f249_0 rfl ?_
  refine le2_gd (fun h1 => ?_)
  refine r_invI (p := 4) f249_1 rfl rfl rfl (Or.inl h1) hd (Nat.le_of_ble_eq_true rfl) rfl rfl rfl (fun _ => rfl) (fun v1 m1 c1 => ?_)
  have hz1 := z_k c1 hz
  refine r_iln1 (p := 5) f249_4 rfl ?_
  refine r_icne (t := 17) (p := 8) f249_5 (by decide) rfl rfl ?_ ?_
  · refine r_aln0 (p := 9) f249_8 rfl ?_
    have h4 := k_t1 c1 hz h1 (by decide)
    refine r_gfI (f := 31) (p := 12) f249_9 rfl rfl rfl (Or.inl h4) rfl ?_
    refine r_nmI (fun v4 ev4 => ?_)
    refine r_bipush (p := 14) f249_12 rfl (pinD rfl rfl) ?_
    refine r_icne (t := 26) (p := 17) f249_14 (by decide) rfl rfl ?_ ?_
    · refine r_aln0 (p := 18) f249_17 rfl ?_
      refine r_aln0 (p := 19) f249_18 rfl ?_
      refine r_gfI (f := 12) (p := 22) f249_19 rfl rfl rfl (Or.inl h4) rfl ?_
      refine r_invI (p := 25) f249_22 rfl rfl rfl (Or.inl h4) hd (Nat.le_of_ble_eq_true rfl) rfl rfl rfl (fun _ => rfl) (fun v3 m3 c3 => ?_)
      have hz3 := z_k c3 hz1
      refine le2_gd (fun h5 => ?_)
      exact r_iret4 f249_25 h5
    · refine r_aln0 (p := 27) f249_26 rfl ?_
      refine r_dup (p := 28) f249_27 rfl rfl ?_
      refine r_gfI (f := 31) (p := 31) f249_28 rfl rfl rfl (Or.inl h4) ev4.symm ?_
      refine r_iconst (p := 32) f249_31 rfl (pinD rfl rfl) ?_
      refine r_iadd (p := 33) f249_32 rfl ?_
      refine r_pfI (f := 31) (p := 36) f249_33 rfl rfl rfl (by decide) (by decide) (Or.inl h4) rfl ?_
      refine r_aln0 (p := 37) f249_36 rfl ?_
      refine r_dup (p := 38) f249_37 rfl rfl ?_
      refine r_gfI (f := 12) (p := 41) f249_38 rfl rfl rfl (Or.inl h4) (sk_f (by decide)) ?_
      refine r_iconst (p := 42) f249_41 rfl (pinD rfl rfl) ?_
      refine r_iadd (p := 43) f249_42 rfl ?_
      refine r_pfI (f := 12) (p := 46) f249_43 rfl rfl rfl (by decide) (by decide) (Or.inl h4) rfl ?_
      refine r_iconst (p := 47) f249_46 rfl (pinD rfl rfl) ?_
      exact r_iret4 f249_47 (by decide)
  · refine r_aln0 (p := 18) f249_17 rfl ?_
    refine r_aln0 (p := 19) f249_18 rfl ?_
    have h2 := k_t1 c1 hz h1 (by decide)
    refine r_gfI (f := 12) (p := 22) f249_19 rfl rfl rfl (Or.inl h2) rfl ?_
    refine r_invI (p := 25) f249_22 rfl rfl rfl (Or.inl h2) hd (Nat.le_of_ble_eq_true rfl) rfl rfl rfl (fun _ => rfl) (fun v2 m2 c2 => ?_)
    have hz2 := z_k c2 hz1
    refine le2_gd (fun h3 => ?_)
    exact r_iret4 f249_25 h3
/-! 250 PathStoreModel.selector (Z)I -/
def w250_16 : List UInt8 := [167, 0, 4, 2, 172, 42, 21, 4, 181, 0, 155, 29, 172]
abbrev u250_16 : List UInt8 := w250_16 ++ []
def w250_15 : List UInt8 := [159, 0, 13, 42, 182, 0, 167, 184, 0, 186, 153, 0, 18, 42, 29, 5, 182, 1, 202, 153, 0, 7, 29]
abbrev u250_15 : List UInt8 := w250_15 ++ u250_16
def w250_14 : List UInt8 := [180, 0, 155, 4, 96, 181, 0, 155, 42, 180, 0, 155, 54, 4, 42, 182, 0, 204, 42, 182, 0, 167, 16, 45]
abbrev u250_14 : List UInt8 := w250_14 ++ u250_15
def w250_13 : List UInt8 := [182, 0, 204, 42, 182, 0, 167, 16, 58, 159, 0, 11, 42, 21, 4, 181, 0, 155, 29, 172, 42, 89]
abbrev u250_13 : List UInt8 := w250_13 ++ u250_14
def w250_12 : List UInt8 := [184, 0, 186, 153, 0, 14, 42, 29, 4, 182, 1, 202, 154, 0, 5, 2, 172, 42, 180, 0, 155, 54, 4, 42]
abbrev u250_12 : List UInt8 := w250_12 ++ u250_13
def w250_11 : List UInt8 := [4, 96, 181, 0, 155, 42, 182, 0, 204, 42, 182, 0, 167, 16, 45, 159, 0, 13, 42, 182, 0, 167]
abbrev u250_11 : List UInt8 := w250_11 ++ u250_12
def w250_10 : List UInt8 := [27, 153, 0, 11, 42, 21, 4, 181, 0, 155, 29, 172, 42, 29, 3, 7, 182, 1, 172, 42, 89, 180, 0, 155]
abbrev u250_10 : List UInt8 := w250_10 ++ u250_11
def w250_9 : List UInt8 := [154, 0, 5, 2, 172, 42, 180, 0, 155, 54, 4, 42, 182, 0, 204, 42, 182, 0, 167, 16, 58, 160, 0, 7]
abbrev u250_9 : List UInt8 := w250_9 ++ u250_10
def w250_8 : List UInt8 := [182, 1, 169, 62, 42, 29, 5, 3, 182, 1, 172, 28, 16, 58, 159, 0, 45, 42, 29, 3, 182, 1, 202]
abbrev u250_8 : List UInt8 := w250_8 ++ u250_9
def w250_7 : List UInt8 := [16, 58, 160, 0, 7, 27, 153, 0, 14, 42, 42, 180, 0, 155, 182, 0, 171, 87, 2, 172, 42, 6]
abbrev u250_7 : List UInt8 := w250_7 ++ u250_8
def w250_6 : List UInt8 := [29, 5, 21, 4, 182, 1, 172, 29, 172, 28, 16, 45, 159, 0, 31, 28, 184, 0, 186, 154, 0, 24, 28]
abbrev u250_6 : List UInt8 := w250_6 ++ u250_7
def w250_5 : List UInt8 := [42, 8, 182, 1, 169, 62, 42, 182, 0, 204, 42, 182, 1, 199, 54, 4, 21, 4, 156, 0, 5, 2, 172, 42]
abbrev u250_5 : List UInt8 := w250_5 ++ u250_6
def w250_4 : List UInt8 := [182, 1, 169, 172, 28, 16, 63, 160, 0, 50, 27, 154, 0, 46, 42, 89, 180, 0, 155, 4, 96, 181, 0, 155]
abbrev u250_4 : List UInt8 := w250_4 ++ u250_5
def w250_3 : List UInt8 := [28, 16, 42, 160, 0, 23, 27, 154, 0, 19, 42, 89, 180, 0, 155, 4, 96, 181, 0, 155, 42, 5]
abbrev u250_3 : List UInt8 := w250_3 ++ u250_4
def w250_2 : List UInt8 := [2, 172, 42, 29, 6, 42, 180, 0, 127, 180, 0, 224, 42, 29, 5, 182, 1, 186, 100, 182, 1, 172, 29, 172]
abbrev u250_2 : List UInt8 := w250_2 ++ u250_3
def w250_1 : List UInt8 := [29, 5, 42, 180, 0, 127, 180, 0, 224, 182, 1, 172, 42, 28, 42, 180, 0, 127, 182, 0, 220, 154, 0, 5]
abbrev u250_1 : List UInt8 := w250_1 ++ u250_2
def w250_0 : List UInt8 := [42, 182, 0, 167, 61, 28, 16, 39, 159, 0, 9, 28, 16, 34, 160, 0, 58, 42, 4, 182, 1, 169, 62, 42]
abbrev u250_0 : List UInt8 := w250_0 ++ u250_1
theorem s250_0 : (prog_32_method_68_code).data.toList.drop 0 = u250_0 := by decide +kernel
theorem s250_1 : (prog_32_method_68_code).data.toList.drop 24 = u250_1 := dk_seg s250_0 24 rfl rfl
theorem s250_2 : (prog_32_method_68_code).data.toList.drop 48 = u250_2 := dk_seg s250_1 24 rfl rfl
theorem s250_3 : (prog_32_method_68_code).data.toList.drop 72 = u250_3 := dk_seg s250_2 24 rfl rfl
theorem s250_4 : (prog_32_method_68_code).data.toList.drop 94 = u250_4 := dk_seg s250_3 22 rfl rfl
theorem s250_5 : (prog_32_method_68_code).data.toList.drop 118 = u250_5 := dk_seg s250_4 24 rfl rfl
theorem s250_6 : (prog_32_method_68_code).data.toList.drop 142 = u250_6 := dk_seg s250_5 24 rfl rfl
theorem s250_7 : (prog_32_method_68_code).data.toList.drop 165 = u250_7 := dk_seg s250_6 23 rfl rfl
theorem s250_8 : (prog_32_method_68_code).data.toList.drop 187 = u250_8 := dk_seg s250_7 22 rfl rfl
theorem s250_9 : (prog_32_method_68_code).data.toList.drop 210 = u250_9 := dk_seg s250_8 23 rfl rfl
theorem s250_10 : (prog_32_method_68_code).data.toList.drop 234 = u250_10 := dk_seg s250_9 24 rfl rfl
theorem s250_11 : (prog_32_method_68_code).data.toList.drop 258 = u250_11 := dk_seg s250_10 24 rfl rfl
theorem s250_12 : (prog_32_method_68_code).data.toList.drop 280 = u250_12 := dk_seg s250_11 22 rfl rfl
theorem s250_13 : (prog_32_method_68_code).data.toList.drop 304 = u250_13 := dk_seg s250_12 24 rfl rfl
theorem s250_14 : (prog_32_method_68_code).data.toList.drop 326 = u250_14 := dk_seg s250_13 22 rfl rfl
theorem s250_15 : (prog_32_method_68_code).data.toList.drop 350 = u250_15 := dk_seg s250_14 24 rfl rfl
theorem s250_16 : (prog_32_method_68_code).data.toList.drop 373 = u250_16 := dk_seg s250_15 23 rfl rfl
theorem Fm250 {pc len : Nat} {i : Instr} (h : decode (prog_32_method_68_code) pc = .ok (i, len)) (hl : len = ilen i len) : ft 250 pc = some (11, 1, 0, i, len) := ft_mk rfl h hl
theorem f250_0 : ft 250 0 = some (11, 1, 0, .aload_n 0, 1) := Fm250 (dk_42 (dk_at s250_0 0 rfl rfl)) rfl
theorem f250_1 : ft 250 1 = some (11, 1, 0, .invokevirtual 167, 3) := Fm250 (dk_182 0 167 (dk_at s250_0 1 rfl rfl)) rfl
theorem f250_4 : ft 250 4 = some (11, 1, 0, .istore_n 2, 1) := Fm250 (dk_61 (dk_at s250_0 4 rfl rfl)) rfl
theorem f250_5 : ft 250 5 = some (11, 1, 0, .iload_n 2, 1) := Fm250 (dk_28 (dk_at s250_0 5 rfl rfl)) rfl
theorem f250_6 : ft 250 6 = some (11, 1, 0, .bipush 39, 2) := Fm250 (dk_16 39 (dk_at s250_0 6 rfl rfl)) rfl
theorem f250_8 : ft 250 8 = some (11, 1, 0, .if_icmp .eq 9, 3) := Fm250 (dk_159 0 9 (dk_at s250_0 8 rfl rfl)) rfl
theorem f250_11 : ft 250 11 = some (11, 1, 0, .iload_n 2, 1) := Fm250 (dk_28 (dk_at s250_0 11 rfl rfl)) rfl
theorem f250_12 : ft 250 12 = some (11, 1, 0, .bipush 34, 2) := Fm250 (dk_16 34 (dk_at s250_0 12 rfl rfl)) rfl
theorem f250_14 : ft 250 14 = some (11, 1, 0, .if_icmp .ne 58, 3) := Fm250 (dk_160 0 58 (dk_at s250_0 14 rfl rfl)) rfl
theorem f250_17 : ft 250 17 = some (11, 1, 0, .aload_n 0, 1) := Fm250 (dk_42 (dk_at s250_0 17 rfl rfl)) rfl
theorem f250_18 : ft 250 18 = some (11, 1, 0, .iconst 1, 1) := Fm250 (dk_4 (dk_at s250_0 18 rfl rfl)) rfl
theorem f250_19 : ft 250 19 = some (11, 1, 0, .invokevirtual 425, 3) := Fm250 (dk_182 1 169 (dk_at s250_0 19 rfl rfl)) rfl
theorem f250_22 : ft 250 22 = some (11, 1, 0, .istore_n 3, 1) := Fm250 (dk_62 (dk_at s250_0 22 rfl rfl)) rfl
theorem f250_23 : ft 250 23 = some (11, 1, 0, .aload_n 0, 1) := Fm250 (dk_42 (dk_at s250_0 23 rfl rfl)) rfl
theorem f250_24 : ft 250 24 = some (11, 1, 0, .iload_n 3, 1) := Fm250 (dk_29 (dk_at s250_1 0 rfl rfl)) rfl
theorem f250_25 : ft 250 25 = some (11, 1, 0, .iconst 2, 1) := Fm250 (dk_5 (dk_at s250_1 1 rfl rfl)) rfl
theorem f250_26 : ft 250 26 = some (11, 1, 0, .aload_n 0, 1) := Fm250 (dk_42 (dk_at s250_1 2 rfl rfl)) rfl
theorem f250_27 : ft 250 27 = some (11, 1, 0, .getfield 127, 3) := Fm250 (dk_180 0 127 (dk_at s250_1 3 rfl rfl)) rfl
theorem f250_30 : ft 250 30 = some (11, 1, 0, .getfield 224, 3) := Fm250 (dk_180 0 224 (dk_at s250_1 6 rfl rfl)) rfl
theorem f250_33 : ft 250 33 = some (11, 1, 0, .invokevirtual 428, 3) := Fm250 (dk_182 1 172 (dk_at s250_1 9 rfl rfl)) rfl
theorem f250_36 : ft 250 36 = some (11, 1, 0, .aload_n 0, 1) := Fm250 (dk_42 (dk_at s250_1 12 rfl rfl)) rfl
theorem f250_37 : ft 250 37 = some (11, 1, 0, .iload_n 2, 1) := Fm250 (dk_28 (dk_at s250_1 13 rfl rfl)) rfl
theorem f250_38 : ft 250 38 = some (11, 1, 0, .aload_n 0, 1) := Fm250 (dk_42 (dk_at s250_1 14 rfl rfl)) rfl
theorem f250_39 : ft 250 39 = some (11, 1, 0, .getfield 127, 3) := Fm250 (dk_180 0 127 (dk_at s250_1 15 rfl rfl)) rfl
theorem f250_42 : ft 250 42 = some (11, 1, 0, .invokevirtual 220, 3) := Fm250 (dk_182 0 220 (dk_at s250_1 18 rfl rfl)) rfl
theorem f250_45 : ft 250 45 = some (11, 1, 0, .ifCond .ne 5, 3) := Fm250 (dk_154 0 5 (dk_at s250_1 21 rfl rfl)) rfl
theorem f250_48 : ft 250 48 = some (11, 1, 0, .iconst (-1), 1) := Fm250 (dk_2 (dk_at s250_2 0 rfl rfl)) rfl
theorem f250_49 : ft 250 49 = some (11, 1, 0, .ireturn, 1) := Fm250 (dk_172 (dk_at s250_2 1 rfl rfl)) rfl
theorem f250_50 : ft 250 50 = some (11, 1, 0, .aload_n 0, 1) := Fm250 (dk_42 (dk_at s250_2 2 rfl rfl)) rfl
theorem f250_51 : ft 250 51 = some (11, 1, 0, .iload_n 3, 1) := Fm250 (dk_29 (dk_at s250_2 3 rfl rfl)) rfl
theorem f250_52 : ft 250 52 = some (11, 1, 0, .iconst 3, 1) := Fm250 (dk_6 (dk_at s250_2 4 rfl rfl)) rfl
theorem f250_53 : ft 250 53 = some (11, 1, 0, .aload_n 0, 1) := Fm250 (dk_42 (dk_at s250_2 5 rfl rfl)) rfl
theorem f250_54 : ft 250 54 = some (11, 1, 0, .getfield 127, 3) := Fm250 (dk_180 0 127 (dk_at s250_2 6 rfl rfl)) rfl
theorem f250_57 : ft 250 57 = some (11, 1, 0, .getfield 224, 3) := Fm250 (dk_180 0 224 (dk_at s250_2 9 rfl rfl)) rfl
theorem f250_60 : ft 250 60 = some (11, 1, 0, .aload_n 0, 1) := Fm250 (dk_42 (dk_at s250_2 12 rfl rfl)) rfl
theorem f250_61 : ft 250 61 = some (11, 1, 0, .iload_n 3, 1) := Fm250 (dk_29 (dk_at s250_2 13 rfl rfl)) rfl
theorem f250_62 : ft 250 62 = some (11, 1, 0, .iconst 2, 1) := Fm250 (dk_5 (dk_at s250_2 14 rfl rfl)) rfl
theorem f250_63 : ft 250 63 = some (11, 1, 0, .invokevirtual 442, 3) := Fm250 (dk_182 1 186 (dk_at s250_2 15 rfl rfl)) rfl
theorem f250_66 : ft 250 66 = some (11, 1, 0, .isub, 1) := Fm250 (dk_100 (dk_at s250_2 18 rfl rfl)) rfl
theorem f250_67 : ft 250 67 = some (11, 1, 0, .invokevirtual 428, 3) := Fm250 (dk_182 1 172 (dk_at s250_2 19 rfl rfl)) rfl
theorem f250_70 : ft 250 70 = some (11, 1, 0, .iload_n 3, 1) := Fm250 (dk_29 (dk_at s250_2 22 rfl rfl)) rfl
theorem f250_71 : ft 250 71 = some (11, 1, 0, .ireturn, 1) := Fm250 (dk_172 (dk_at s250_2 23 rfl rfl)) rfl
theorem f250_72 : ft 250 72 = some (11, 1, 0, .iload_n 2, 1) := Fm250 (dk_28 (dk_at s250_3 0 rfl rfl)) rfl
theorem f250_73 : ft 250 73 = some (11, 1, 0, .bipush 42, 2) := Fm250 (dk_16 42 (dk_at s250_3 1 rfl rfl)) rfl
theorem f250_75 : ft 250 75 = some (11, 1, 0, .if_icmp .ne 23, 3) := Fm250 (dk_160 0 23 (dk_at s250_3 3 rfl rfl)) rfl
theorem f250_78 : ft 250 78 = some (11, 1, 0, .iload_n 1, 1) := Fm250 (dk_27 (dk_at s250_3 6 rfl rfl)) rfl
theorem f250_79 : ft 250 79 = some (11, 1, 0, .ifCond .ne 19, 3) := Fm250 (dk_154 0 19 (dk_at s250_3 7 rfl rfl)) rfl
theorem f250_82 : ft 250 82 = some (11, 1, 0, .aload_n 0, 1) := Fm250 (dk_42 (dk_at s250_3 10 rfl rfl)) rfl
theorem f250_83 : ft 250 83 = some (11, 1, 0, .dup, 1) := Fm250 (dk_89 (dk_at s250_3 11 rfl rfl)) rfl
theorem f250_84 : ft 250 84 = some (11, 1, 0, .getfield 155, 3) := Fm250 (dk_180 0 155 (dk_at s250_3 12 rfl rfl)) rfl
theorem f250_87 : ft 250 87 = some (11, 1, 0, .iconst 1, 1) := Fm250 (dk_4 (dk_at s250_3 15 rfl rfl)) rfl
theorem f250_88 : ft 250 88 = some (11, 1, 0, .iadd, 1) := Fm250 (dk_96 (dk_at s250_3 16 rfl rfl)) rfl
theorem f250_89 : ft 250 89 = some (11, 1, 0, .putfield 155, 3) := Fm250 (dk_181 0 155 (dk_at s250_3 17 rfl rfl)) rfl
theorem f250_92 : ft 250 92 = some (11, 1, 0, .aload_n 0, 1) := Fm250 (dk_42 (dk_at s250_3 20 rfl rfl)) rfl
theorem f250_93 : ft 250 93 = some (11, 1, 0, .iconst 2, 1) := Fm250 (dk_5 (dk_at s250_3 21 rfl rfl)) rfl
theorem f250_94 : ft 250 94 = some (11, 1, 0, .invokevirtual 425, 3) := Fm250 (dk_182 1 169 (dk_at s250_4 0 rfl rfl)) rfl
theorem f250_97 : ft 250 97 = some (11, 1, 0, .ireturn, 1) := Fm250 (dk_172 (dk_at s250_4 3 rfl rfl)) rfl
theorem f250_98 : ft 250 98 = some (11, 1, 0, .iload_n 2, 1) := Fm250 (dk_28 (dk_at s250_4 4 rfl rfl)) rfl
theorem f250_99 : ft 250 99 = some (11, 1, 0, .bipush 63, 2) := Fm250 (dk_16 63 (dk_at s250_4 5 rfl rfl)) rfl
theorem f250_101 : ft 250 101 = some (11, 1, 0, .if_icmp .ne 50, 3) := Fm250 (dk_160 0 50 (dk_at s250_4 7 rfl rfl)) rfl
theorem f250_104 : ft 250 104 = some (11, 1, 0, .iload_n 1, 1) := Fm250 (dk_27 (dk_at s250_4 10 rfl rfl)) rfl
theorem f250_105 : ft 250 105 = some (11, 1, 0, .ifCond .ne 46, 3) := Fm250 (dk_154 0 46 (dk_at s250_4 11 rfl rfl)) rfl
theorem f250_108 : ft 250 108 = some (11, 1, 0, .aload_n 0, 1) := Fm250 (dk_42 (dk_at s250_4 14 rfl rfl)) rfl
theorem f250_109 : ft 250 109 = some (11, 1, 0, .dup, 1) := Fm250 (dk_89 (dk_at s250_4 15 rfl rfl)) rfl
theorem f250_110 : ft 250 110 = some (11, 1, 0, .getfield 155, 3) := Fm250 (dk_180 0 155 (dk_at s250_4 16 rfl rfl)) rfl
theorem f250_113 : ft 250 113 = some (11, 1, 0, .iconst 1, 1) := Fm250 (dk_4 (dk_at s250_4 19 rfl rfl)) rfl
theorem f250_114 : ft 250 114 = some (11, 1, 0, .iadd, 1) := Fm250 (dk_96 (dk_at s250_4 20 rfl rfl)) rfl
theorem f250_115 : ft 250 115 = some (11, 1, 0, .putfield 155, 3) := Fm250 (dk_181 0 155 (dk_at s250_4 21 rfl rfl)) rfl
theorem f250_118 : ft 250 118 = some (11, 1, 0, .aload_n 0, 1) := Fm250 (dk_42 (dk_at s250_5 0 rfl rfl)) rfl
theorem f250_119 : ft 250 119 = some (11, 1, 0, .iconst 5, 1) := Fm250 (dk_8 (dk_at s250_5 1 rfl rfl)) rfl
theorem f250_120 : ft 250 120 = some (11, 1, 0, .invokevirtual 425, 3) := Fm250 (dk_182 1 169 (dk_at s250_5 2 rfl rfl)) rfl
theorem f250_123 : ft 250 123 = some (11, 1, 0, .istore_n 3, 1) := Fm250 (dk_62 (dk_at s250_5 5 rfl rfl)) rfl
theorem f250_124 : ft 250 124 = some (11, 1, 0, .aload_n 0, 1) := Fm250 (dk_42 (dk_at s250_5 6 rfl rfl)) rfl
theorem f250_125 : ft 250 125 = some (11, 1, 0, .invokevirtual 204, 3) := Fm250 (dk_182 0 204 (dk_at s250_5 7 rfl rfl)) rfl
theorem f250_128 : ft 250 128 = some (11, 1, 0, .aload_n 0, 1) := Fm250 (dk_42 (dk_at s250_5 10 rfl rfl)) rfl
theorem f250_129 : ft 250 129 = some (11, 1, 0, .invokevirtual 455, 3) := Fm250 (dk_182 1 199 (dk_at s250_5 11 rfl rfl)) rfl
theorem f250_132 : ft 250 132 = some (11, 1, 0, .istore 4, 2) := Fm250 (dk_54 4 (dk_at s250_5 14 rfl rfl)) rfl
theorem f250_134 : ft 250 134 = some (11, 1, 0, .iload 4, 2) := Fm250 (dk_21 4 (dk_at s250_5 16 rfl rfl)) rfl
theorem f250_136 : ft 250 136 = some (11, 1, 0, .ifCond .ge 5, 3) := Fm250 (dk_156 0 5 (dk_at s250_5 18 rfl rfl)) rfl
theorem f250_139 : ft 250 139 = some (11, 1, 0, .iconst (-1), 1) := Fm250 (dk_2 (dk_at s250_5 21 rfl rfl)) rfl
theorem f250_140 : ft 250 140 = some (11, 1, 0, .ireturn, 1) := Fm250 (dk_172 (dk_at s250_5 22 rfl rfl)) rfl
theorem f250_141 : ft 250 141 = some (11, 1, 0, .aload_n 0, 1) := Fm250 (dk_42 (dk_at s250_5 23 rfl rfl)) rfl
theorem f250_142 : ft 250 142 = some (11, 1, 0, .iload_n 3, 1) := Fm250 (dk_29 (dk_at s250_6 0 rfl rfl)) rfl
theorem f250_143 : ft 250 143 = some (11, 1, 0, .iconst 2, 1) := Fm250 (dk_5 (dk_at s250_6 1 rfl rfl)) rfl
theorem f250_144 : ft 250 144 = some (11, 1, 0, .iload 4, 2) := Fm250 (dk_21 4 (dk_at s250_6 2 rfl rfl)) rfl
theorem f250_146 : ft 250 146 = some (11, 1, 0, .invokevirtual 428, 3) := Fm250 (dk_182 1 172 (dk_at s250_6 4 rfl rfl)) rfl
theorem f250_149 : ft 250 149 = some (11, 1, 0, .iload_n 3, 1) := Fm250 (dk_29 (dk_at s250_6 7 rfl rfl)) rfl
theorem f250_150 : ft 250 150 = some (11, 1, 0, .ireturn, 1) := Fm250 (dk_172 (dk_at s250_6 8 rfl rfl)) rfl
theorem f250_151 : ft 250 151 = some (11, 1, 0, .iload_n 2, 1) := Fm250 (dk_28 (dk_at s250_6 9 rfl rfl)) rfl
theorem f250_152 : ft 250 152 = some (11, 1, 0, .bipush 45, 2) := Fm250 (dk_16 45 (dk_at s250_6 10 rfl rfl)) rfl
theorem f250_154 : ft 250 154 = some (11, 1, 0, .if_icmp .eq 31, 3) := Fm250 (dk_159 0 31 (dk_at s250_6 12 rfl rfl)) rfl
theorem f250_157 : ft 250 157 = some (11, 1, 0, .iload_n 2, 1) := Fm250 (dk_28 (dk_at s250_6 15 rfl rfl)) rfl
theorem f250_158 : ft 250 158 = some (11, 1, 0, .invokestatic 186, 3) := Fm250 (dk_184 0 186 (dk_at s250_6 16 rfl rfl)) rfl
theorem f250_161 : ft 250 161 = some (11, 1, 0, .ifCond .ne 24, 3) := Fm250 (dk_154 0 24 (dk_at s250_6 19 rfl rfl)) rfl
theorem f250_164 : ft 250 164 = some (11, 1, 0, .iload_n 2, 1) := Fm250 (dk_28 (dk_at s250_6 22 rfl rfl)) rfl
theorem f250_165 : ft 250 165 = some (11, 1, 0, .bipush 58, 2) := Fm250 (dk_16 58 (dk_at s250_7 0 rfl rfl)) rfl
theorem f250_167 : ft 250 167 = some (11, 1, 0, .if_icmp .ne 7, 3) := Fm250 (dk_160 0 7 (dk_at s250_7 2 rfl rfl)) rfl
theorem f250_170 : ft 250 170 = some (11, 1, 0, .iload_n 1, 1) := Fm250 (dk_27 (dk_at s250_7 5 rfl rfl)) rfl
theorem f250_171 : ft 250 171 = some (11, 1, 0, .ifCond .eq 14, 3) := Fm250 (dk_153 0 14 (dk_at s250_7 6 rfl rfl)) rfl
theorem f250_174 : ft 250 174 = some (11, 1, 0, .aload_n 0, 1) := Fm250 (dk_42 (dk_at s250_7 9 rfl rfl)) rfl
theorem f250_175 : ft 250 175 = some (11, 1, 0, .aload_n 0, 1) := Fm250 (dk_42 (dk_at s250_7 10 rfl rfl)) rfl
theorem f250_176 : ft 250 176 = some (11, 1, 0, .getfield 155, 3) := Fm250 (dk_180 0 155 (dk_at s250_7 11 rfl rfl)) rfl
theorem f250_179 : ft 250 179 = some (11, 1, 0, .invokevirtual 171, 3) := Fm250 (dk_182 0 171 (dk_at s250_7 14 rfl rfl)) rfl
theorem f250_182 : ft 250 182 = some (11, 1, 0, .pop, 1) := Fm250 (dk_87 (dk_at s250_7 17 rfl rfl)) rfl
theorem f250_183 : ft 250 183 = some (11, 1, 0, .iconst (-1), 1) := Fm250 (dk_2 (dk_at s250_7 18 rfl rfl)) rfl
theorem f250_184 : ft 250 184 = some (11, 1, 0, .ireturn, 1) := Fm250 (dk_172 (dk_at s250_7 19 rfl rfl)) rfl
theorem f250_185 : ft 250 185 = some (11, 1, 0, .aload_n 0, 1) := Fm250 (dk_42 (dk_at s250_7 20 rfl rfl)) rfl
theorem f250_186 : ft 250 186 = some (11, 1, 0, .iconst 3, 1) := Fm250 (dk_6 (dk_at s250_7 21 rfl rfl)) rfl
theorem f250_187 : ft 250 187 = some (11, 1, 0, .invokevirtual 425, 3) := Fm250 (dk_182 1 169 (dk_at s250_8 0 rfl rfl)) rfl
theorem f250_190 : ft 250 190 = some (11, 1, 0, .istore_n 3, 1) := Fm250 (dk_62 (dk_at s250_8 3 rfl rfl)) rfl
theorem f250_191 : ft 250 191 = some (11, 1, 0, .aload_n 0, 1) := Fm250 (dk_42 (dk_at s250_8 4 rfl rfl)) rfl
theorem f250_192 : ft 250 192 = some (11, 1, 0, .iload_n 3, 1) := Fm250 (dk_29 (dk_at s250_8 5 rfl rfl)) rfl
theorem f250_193 : ft 250 193 = some (11, 1, 0, .iconst 2, 1) := Fm250 (dk_5 (dk_at s250_8 6 rfl rfl)) rfl
theorem f250_194 : ft 250 194 = some (11, 1, 0, .iconst 0, 1) := Fm250 (dk_3 (dk_at s250_8 7 rfl rfl)) rfl
theorem f250_195 : ft 250 195 = some (11, 1, 0, .invokevirtual 428, 3) := Fm250 (dk_182 1 172 (dk_at s250_8 8 rfl rfl)) rfl
theorem f250_198 : ft 250 198 = some (11, 1, 0, .iload_n 2, 1) := Fm250 (dk_28 (dk_at s250_8 11 rfl rfl)) rfl
theorem f250_199 : ft 250 199 = some (11, 1, 0, .bipush 58, 2) := Fm250 (dk_16 58 (dk_at s250_8 12 rfl rfl)) rfl
theorem f250_201 : ft 250 201 = some (11, 1, 0, .if_icmp .eq 45, 3) := Fm250 (dk_159 0 45 (dk_at s250_8 14 rfl rfl)) rfl
theorem f250_204 : ft 250 204 = some (11, 1, 0, .aload_n 0, 1) := Fm250 (dk_42 (dk_at s250_8 17 rfl rfl)) rfl
theorem f250_205 : ft 250 205 = some (11, 1, 0, .iload_n 3, 1) := Fm250 (dk_29 (dk_at s250_8 18 rfl rfl)) rfl
theorem f250_206 : ft 250 206 = some (11, 1, 0, .iconst 0, 1) := Fm250 (dk_3 (dk_at s250_8 19 rfl rfl)) rfl
theorem f250_207 : ft 250 207 = some (11, 1, 0, .invokevirtual 458, 3) := Fm250 (dk_182 1 202 (dk_at s250_8 20 rfl rfl)) rfl
theorem f250_210 : ft 250 210 = some (11, 1, 0, .ifCond .ne 5, 3) := Fm250 (dk_154 0 5 (dk_at s250_9 0 rfl rfl)) rfl
theorem f250_213 : ft 250 213 = some (11, 1, 0, .iconst (-1), 1) := Fm250 (dk_2 (dk_at s250_9 3 rfl rfl)) rfl
theorem f250_214 : ft 250 214 = some (11, 1, 0, .ireturn, 1) := Fm250 (dk_172 (dk_at s250_9 4 rfl rfl)) rfl
theorem f250_215 : ft 250 215 = some (11, 1, 0, .aload_n 0, 1) := Fm250 (dk_42 (dk_at s250_9 5 rfl rfl)) rfl
theorem f250_216 : ft 250 216 = some (11, 1, 0, .getfield 155, 3) := Fm250 (dk_180 0 155 (dk_at s250_9 6 rfl rfl)) rfl
theorem f250_219 : ft 250 219 = some (11, 1, 0, .istore 4, 2) := Fm250 (dk_54 4 (dk_at s250_9 9 rfl rfl)) rfl
theorem f250_221 : ft 250 221 = some (11, 1, 0, .aload_n 0, 1) := Fm250 (dk_42 (dk_at s250_9 11 rfl rfl)) rfl
theorem f250_222 : ft 250 222 = some (11, 1, 0, .invokevirtual 204, 3) := Fm250 (dk_182 0 204 (dk_at s250_9 12 rfl rfl)) rfl
theorem f250_225 : ft 250 225 = some (11, 1, 0, .aload_n 0, 1) := Fm250 (dk_42 (dk_at s250_9 15 rfl rfl)) rfl
theorem f250_226 : ft 250 226 = some (11, 1, 0, .invokevirtual 167, 3) := Fm250 (dk_182 0 167 (dk_at s250_9 16 rfl rfl)) rfl
theorem f250_229 : ft 250 229 = some (11, 1, 0, .bipush 58, 2) := Fm250 (dk_16 58 (dk_at s250_9 19 rfl rfl)) rfl
theorem f250_231 : ft 250 231 = some (11, 1, 0, .if_icmp .ne 7, 3) := Fm250 (dk_160 0 7 (dk_at s250_9 21 rfl rfl)) rfl
theorem f250_234 : ft 250 234 = some (11, 1, 0, .iload_n 1, 1) := Fm250 (dk_27 (dk_at s250_10 0 rfl rfl)) rfl
theorem f250_235 : ft 250 235 = some (11, 1, 0, .ifCond .eq 11, 3) := Fm250 (dk_153 0 11 (dk_at s250_10 1 rfl rfl)) rfl
theorem f250_238 : ft 250 238 = some (11, 1, 0, .aload_n 0, 1) := Fm250 (dk_42 (dk_at s250_10 4 rfl rfl)) rfl
theorem f250_239 : ft 250 239 = some (11, 1, 0, .iload 4, 2) := Fm250 (dk_21 4 (dk_at s250_10 5 rfl rfl)) rfl
theorem f250_241 : ft 250 241 = some (11, 1, 0, .putfield 155, 3) := Fm250 (dk_181 0 155 (dk_at s250_10 7 rfl rfl)) rfl
theorem f250_244 : ft 250 244 = some (11, 1, 0, .iload_n 3, 1) := Fm250 (dk_29 (dk_at s250_10 10 rfl rfl)) rfl
theorem f250_245 : ft 250 245 = some (11, 1, 0, .ireturn, 1) := Fm250 (dk_172 (dk_at s250_10 11 rfl rfl)) rfl
theorem f250_246 : ft 250 246 = some (11, 1, 0, .aload_n 0, 1) := Fm250 (dk_42 (dk_at s250_10 12 rfl rfl)) rfl
theorem f250_247 : ft 250 247 = some (11, 1, 0, .iload_n 3, 1) := Fm250 (dk_29 (dk_at s250_10 13 rfl rfl)) rfl
theorem f250_248 : ft 250 248 = some (11, 1, 0, .iconst 0, 1) := Fm250 (dk_3 (dk_at s250_10 14 rfl rfl)) rfl
theorem f250_249 : ft 250 249 = some (11, 1, 0, .iconst 4, 1) := Fm250 (dk_7 (dk_at s250_10 15 rfl rfl)) rfl
theorem f250_250 : ft 250 250 = some (11, 1, 0, .invokevirtual 428, 3) := Fm250 (dk_182 1 172 (dk_at s250_10 16 rfl rfl)) rfl
theorem f250_253 : ft 250 253 = some (11, 1, 0, .aload_n 0, 1) := Fm250 (dk_42 (dk_at s250_10 19 rfl rfl)) rfl
theorem f250_254 : ft 250 254 = some (11, 1, 0, .dup, 1) := Fm250 (dk_89 (dk_at s250_10 20 rfl rfl)) rfl
theorem f250_255 : ft 250 255 = some (11, 1, 0, .getfield 155, 3) := Fm250 (dk_180 0 155 (dk_at s250_10 21 rfl rfl)) rfl
theorem f250_258 : ft 250 258 = some (11, 1, 0, .iconst 1, 1) := Fm250 (dk_4 (dk_at s250_11 0 rfl rfl)) rfl
theorem f250_259 : ft 250 259 = some (11, 1, 0, .iadd, 1) := Fm250 (dk_96 (dk_at s250_11 1 rfl rfl)) rfl
theorem f250_260 : ft 250 260 = some (11, 1, 0, .putfield 155, 3) := Fm250 (dk_181 0 155 (dk_at s250_11 2 rfl rfl)) rfl
theorem f250_263 : ft 250 263 = some (11, 1, 0, .aload_n 0, 1) := Fm250 (dk_42 (dk_at s250_11 5 rfl rfl)) rfl
theorem f250_264 : ft 250 264 = some (11, 1, 0, .invokevirtual 204, 3) := Fm250 (dk_182 0 204 (dk_at s250_11 6 rfl rfl)) rfl
theorem f250_267 : ft 250 267 = some (11, 1, 0, .aload_n 0, 1) := Fm250 (dk_42 (dk_at s250_11 9 rfl rfl)) rfl
theorem f250_268 : ft 250 268 = some (11, 1, 0, .invokevirtual 167, 3) := Fm250 (dk_182 0 167 (dk_at s250_11 10 rfl rfl)) rfl
theorem f250_271 : ft 250 271 = some (11, 1, 0, .bipush 45, 2) := Fm250 (dk_16 45 (dk_at s250_11 13 rfl rfl)) rfl
theorem f250_273 : ft 250 273 = some (11, 1, 0, .if_icmp .eq 13, 3) := Fm250 (dk_159 0 13 (dk_at s250_11 15 rfl rfl)) rfl
theorem f250_276 : ft 250 276 = some (11, 1, 0, .aload_n 0, 1) := Fm250 (dk_42 (dk_at s250_11 18 rfl rfl)) rfl
theorem f250_277 : ft 250 277 = some (11, 1, 0, .invokevirtual 167, 3) := Fm250 (dk_182 0 167 (dk_at s250_11 19 rfl rfl)) rfl
theorem f250_280 : ft 250 280 = some (11, 1, 0, .invokestatic 186, 3) := Fm250 (dk_184 0 186 (dk_at s250_12 0 rfl rfl)) rfl
theorem f250_283 : ft 250 283 = some (11, 1, 0, .ifCond .eq 14, 3) := Fm250 (dk_153 0 14 (dk_at s250_12 3 rfl rfl)) rfl
theorem f250_286 : ft 250 286 = some (11, 1, 0, .aload_n 0, 1) := Fm250 (dk_42 (dk_at s250_12 6 rfl rfl)) rfl
theorem f250_287 : ft 250 287 = some (11, 1, 0, .iload_n 3, 1) := Fm250 (dk_29 (dk_at s250_12 7 rfl rfl)) rfl
theorem f250_288 : ft 250 288 = some (11, 1, 0, .iconst 1, 1) := Fm250 (dk_4 (dk_at s250_12 8 rfl rfl)) rfl
theorem f250_289 : ft 250 289 = some (11, 1, 0, .invokevirtual 458, 3) := Fm250 (dk_182 1 202 (dk_at s250_12 9 rfl rfl)) rfl
theorem f250_292 : ft 250 292 = some (11, 1, 0, .ifCond .ne 5, 3) := Fm250 (dk_154 0 5 (dk_at s250_12 12 rfl rfl)) rfl
theorem f250_295 : ft 250 295 = some (11, 1, 0, .iconst (-1), 1) := Fm250 (dk_2 (dk_at s250_12 15 rfl rfl)) rfl
theorem f250_296 : ft 250 296 = some (11, 1, 0, .ireturn, 1) := Fm250 (dk_172 (dk_at s250_12 16 rfl rfl)) rfl
theorem f250_297 : ft 250 297 = some (11, 1, 0, .aload_n 0, 1) := Fm250 (dk_42 (dk_at s250_12 17 rfl rfl)) rfl
theorem f250_298 : ft 250 298 = some (11, 1, 0, .getfield 155, 3) := Fm250 (dk_180 0 155 (dk_at s250_12 18 rfl rfl)) rfl
theorem f250_301 : ft 250 301 = some (11, 1, 0, .istore 4, 2) := Fm250 (dk_54 4 (dk_at s250_12 21 rfl rfl)) rfl
theorem f250_303 : ft 250 303 = some (11, 1, 0, .aload_n 0, 1) := Fm250 (dk_42 (dk_at s250_12 23 rfl rfl)) rfl
theorem f250_304 : ft 250 304 = some (11, 1, 0, .invokevirtual 204, 3) := Fm250 (dk_182 0 204 (dk_at s250_13 0 rfl rfl)) rfl
theorem f250_307 : ft 250 307 = some (11, 1, 0, .aload_n 0, 1) := Fm250 (dk_42 (dk_at s250_13 3 rfl rfl)) rfl
theorem f250_308 : ft 250 308 = some (11, 1, 0, .invokevirtual 167, 3) := Fm250 (dk_182 0 167 (dk_at s250_13 4 rfl rfl)) rfl
theorem f250_311 : ft 250 311 = some (11, 1, 0, .bipush 58, 2) := Fm250 (dk_16 58 (dk_at s250_13 7 rfl rfl)) rfl
theorem f250_313 : ft 250 313 = some (11, 1, 0, .if_icmp .eq 11, 3) := Fm250 (dk_159 0 11 (dk_at s250_13 9 rfl rfl)) rfl
theorem f250_316 : ft 250 316 = some (11, 1, 0, .aload_n 0, 1) := Fm250 (dk_42 (dk_at s250_13 12 rfl rfl)) rfl
theorem f250_317 : ft 250 317 = some (11, 1, 0, .iload 4, 2) := Fm250 (dk_21 4 (dk_at s250_13 13 rfl rfl)) rfl
theorem f250_319 : ft 250 319 = some (11, 1, 0, .putfield 155, 3) := Fm250 (dk_181 0 155 (dk_at s250_13 15 rfl rfl)) rfl
theorem f250_322 : ft 250 322 = some (11, 1, 0, .iload_n 3, 1) := Fm250 (dk_29 (dk_at s250_13 18 rfl rfl)) rfl
theorem f250_323 : ft 250 323 = some (11, 1, 0, .ireturn, 1) := Fm250 (dk_172 (dk_at s250_13 19 rfl rfl)) rfl
theorem f250_324 : ft 250 324 = some (11, 1, 0, .aload_n 0, 1) := Fm250 (dk_42 (dk_at s250_13 20 rfl rfl)) rfl
theorem f250_325 : ft 250 325 = some (11, 1, 0, .dup, 1) := Fm250 (dk_89 (dk_at s250_13 21 rfl rfl)) rfl
theorem f250_326 : ft 250 326 = some (11, 1, 0, .getfield 155, 3) := Fm250 (dk_180 0 155 (dk_at s250_14 0 rfl rfl)) rfl
theorem f250_329 : ft 250 329 = some (11, 1, 0, .iconst 1, 1) := Fm250 (dk_4 (dk_at s250_14 3 rfl rfl)) rfl
theorem f250_330 : ft 250 330 = some (11, 1, 0, .iadd, 1) := Fm250 (dk_96 (dk_at s250_14 4 rfl rfl)) rfl
theorem f250_331 : ft 250 331 = some (11, 1, 0, .putfield 155, 3) := Fm250 (dk_181 0 155 (dk_at s250_14 5 rfl rfl)) rfl
theorem f250_334 : ft 250 334 = some (11, 1, 0, .aload_n 0, 1) := Fm250 (dk_42 (dk_at s250_14 8 rfl rfl)) rfl
theorem f250_335 : ft 250 335 = some (11, 1, 0, .getfield 155, 3) := Fm250 (dk_180 0 155 (dk_at s250_14 9 rfl rfl)) rfl
theorem f250_338 : ft 250 338 = some (11, 1, 0, .istore 4, 2) := Fm250 (dk_54 4 (dk_at s250_14 12 rfl rfl)) rfl
theorem f250_340 : ft 250 340 = some (11, 1, 0, .aload_n 0, 1) := Fm250 (dk_42 (dk_at s250_14 14 rfl rfl)) rfl
theorem f250_341 : ft 250 341 = some (11, 1, 0, .invokevirtual 204, 3) := Fm250 (dk_182 0 204 (dk_at s250_14 15 rfl rfl)) rfl
theorem f250_344 : ft 250 344 = some (11, 1, 0, .aload_n 0, 1) := Fm250 (dk_42 (dk_at s250_14 18 rfl rfl)) rfl
theorem f250_345 : ft 250 345 = some (11, 1, 0, .invokevirtual 167, 3) := Fm250 (dk_182 0 167 (dk_at s250_14 19 rfl rfl)) rfl
theorem f250_348 : ft 250 348 = some (11, 1, 0, .bipush 45, 2) := Fm250 (dk_16 45 (dk_at s250_14 22 rfl rfl)) rfl
theorem f250_350 : ft 250 350 = some (11, 1, 0, .if_icmp .eq 13, 3) := Fm250 (dk_159 0 13 (dk_at s250_15 0 rfl rfl)) rfl
theorem f250_353 : ft 250 353 = some (11, 1, 0, .aload_n 0, 1) := Fm250 (dk_42 (dk_at s250_15 3 rfl rfl)) rfl
theorem f250_354 : ft 250 354 = some (11, 1, 0, .invokevirtual 167, 3) := Fm250 (dk_182 0 167 (dk_at s250_15 4 rfl rfl)) rfl
theorem f250_357 : ft 250 357 = some (11, 1, 0, .invokestatic 186, 3) := Fm250 (dk_184 0 186 (dk_at s250_15 7 rfl rfl)) rfl
theorem f250_360 : ft 250 360 = some (11, 1, 0, .ifCond .eq 18, 3) := Fm250 (dk_153 0 18 (dk_at s250_15 10 rfl rfl)) rfl
theorem f250_363 : ft 250 363 = some (11, 1, 0, .aload_n 0, 1) := Fm250 (dk_42 (dk_at s250_15 13 rfl rfl)) rfl
theorem f250_364 : ft 250 364 = some (11, 1, 0, .iload_n 3, 1) := Fm250 (dk_29 (dk_at s250_15 14 rfl rfl)) rfl
theorem f250_365 : ft 250 365 = some (11, 1, 0, .iconst 2, 1) := Fm250 (dk_5 (dk_at s250_15 15 rfl rfl)) rfl
theorem f250_366 : ft 250 366 = some (11, 1, 0, .invokevirtual 458, 3) := Fm250 (dk_182 1 202 (dk_at s250_15 16 rfl rfl)) rfl
theorem f250_369 : ft 250 369 = some (11, 1, 0, .ifCond .eq 7, 3) := Fm250 (dk_153 0 7 (dk_at s250_15 19 rfl rfl)) rfl
theorem f250_372 : ft 250 372 = some (11, 1, 0, .iload_n 3, 1) := Fm250 (dk_29 (dk_at s250_15 22 rfl rfl)) rfl
theorem f250_373 : ft 250 373 = some (11, 1, 0, .goto 4, 3) := Fm250 (dk_167 0 4 (dk_at s250_16 0 rfl rfl)) rfl
theorem f250_376 : ft 250 376 = some (11, 1, 0, .iconst (-1), 1) := Fm250 (dk_2 (dk_at s250_16 3 rfl rfl)) rfl
theorem f250_377 : ft 250 377 = some (11, 1, 0, .ireturn, 1) := Fm250 (dk_172 (dk_at s250_16 4 rfl rfl)) rfl
theorem f250_378 : ft 250 378 = some (11, 1, 0, .aload_n 0, 1) := Fm250 (dk_42 (dk_at s250_16 5 rfl rfl)) rfl
theorem f250_379 : ft 250 379 = some (11, 1, 0, .iload 4, 2) := Fm250 (dk_21 4 (dk_at s250_16 6 rfl rfl)) rfl
theorem f250_381 : ft 250 381 = some (11, 1, 0, .putfield 155, 3) := Fm250 (dk_181 0 155 (dk_at s250_16 8 rfl rfl)) rfl
theorem f250_384 : ft 250 384 = some (11, 1, 0, .iload_n 3, 1) := Fm250 (dk_29 (dk_at s250_16 11 rfl rfl)) rfl
theorem f250_385 : ft 250 385 = some (11, 1, 0, .ireturn, 1) := Fm250 (dk_172 (dk_at s250_16 12 rfl rfl)) rfl
theorem q250 {d : Nat} {m : Mem} {a0 a1 : Int} (hd : 0 < d) (hz : TZ m) : le2 (gd (tg m a0 = 11) <| bI (cl (d - 1) 199 [pR a0] m) fun v1 m1 => if v1 = 39 then (rn d 250 17 [pR a0, pI a1, pI v1, pU, pU] [] m1) else if v1 = 34 then (rn d 250 17 [pR a0, pI a1, pI v1, pU, pU] [] m1) else if v1 = 42 then (if a1 = 0 then (bI (cl (d - 1) 245 [pR a0, pI 2] (mst m1 a0 12 (w32 ((vl m1 a0 12) + 1)))) fun v2 m2 => some (.inl (some (pI v2)), m2)) else rn d 250 98 [pR a0, pI a1, pI v1, pU, pU] [] m1) else rn d 250 98 [pR a0, pI a1, pI v1, pU, pU] [] m1) (cl d 250 [pR a0, pI a1] m) := by
  refine q_in (n := 5) (L := [pR a0, pI a1, pU, pU, pU]) rfl rfl rfl ?_
  refine r_aln0 (p := 1) f250_0 rfl ?_
  refine le2_gd (fun h1 => ?_)
  refine r_invI (p := 4) f250_1 rfl rfl rfl (Or.inl h1) hd (Nat.le_of_ble_eq_true rfl) rfl rfl rfl (fun _ => rfl) (fun v1 m1 c1 => ?_)
  have hz1 := z_k c1 hz
  refine r_isn2 (p := 5) f250_4 rfl rfl ?_
  refine r_iln2 (p := 6) f250_5 rfl ?_
  refine r_bipush (p := 8) f250_6 rfl (pinD rfl rfl) ?_
  refine r_iceq (t := 17) (p := 11) f250_8 (by decide) rfl rfl ?_ ?_
  · exact le2_refl _
  · refine r_iln2 (p := 12) f250_11 rfl ?_
    refine r_bipush (p := 14) f250_12 rfl (pinD rfl rfl) ?_
    refine r_icne (t := 72) (p := 17) f250_14 (by decide) rfl rfl ?_ ?_
    · exact le2_refl _
    · refine r_iln2 (p := 73) f250_72 rfl ?_
      refine r_bipush (p := 75) f250_73 rfl (pinD rfl rfl) ?_
      refine r_icne (t := 98) (p := 78) f250_75 (by decide) rfl rfl ?_ ?_
      · refine r_iln1 (p := 79) f250_78 rfl ?_
        refine r_ifne (t := 98) (p := 82) f250_79 (by decide) rfl rfl ?_ ?_
        · refine r_aln0 (p := 83) f250_82 rfl ?_
          refine r_dup (p := 84) f250_83 rfl rfl ?_
          have h2 := k_t1 c1 hz h1 (by decide)
          refine r_gfI (f := 12) (p := 87) f250_84 rfl rfl rfl (Or.inl h2) rfl ?_
          refine r_iconst (p := 88) f250_87 rfl (pinD rfl rfl) ?_
          refine r_iadd (p := 89) f250_88 rfl ?_
          refine r_pfI (f := 12) (p := 92) f250_89 rfl rfl rfl (by decide) (by decide) (Or.inl h2) rfl ?_
          refine r_aln0 (p := 93) f250_92 rfl ?_
          refine r_iconst (p := 94) f250_93 rfl (pinD rfl rfl) ?_
          refine r_invI (p := 97) f250_94 rfl rfl rfl (Or.inl h2) hd (Nat.le_of_ble_eq_true rfl) rfl rfl rfl (fun _ => rfl) (fun v2 m2 c2 => ?_)
          have hz2 := z_k c2 hz1
          exact r_iret1 f250_97
        · exact le2_refl _
      · exact le2_refl _
theorem q250_17 {d : Nat} {m : Mem} {a0 a1 a2 : Int} (hd : 0 < d) (hz : TZ m) : le2 (gd (tg m a0 = 11) <| bI (cl (d - 1) 245 [pR a0, pI 1] m) fun v1 m1 => nm (vl m1 a0 30) fun v6 => gd (tg m1 v6 = 13) <| bV (cl (d - 1) 246 [pR a0, pI v1, pI 2, pI (vl m1 v6 12)] m1) fun m2 => bI (cl (d - 1) 203 [pR a0, pI a2, pR (vl m2 a0 30)] m2) fun v3 m3 => if v3 = 0 then (some (.inl (some (pI (-1))), m3)) else nm (vl m3 a0 30) fun v7 => gd (tg m3 v7 = 13) <| bI (cl (d - 1) 251 [pR a0, pI v1, pI 2] m3) fun v4 m4 => bV (cl (d - 1) 246 [pR a0, pI v1, pI 3, pI (w32 ((vl m3 v7 12) - v4))] m4) fun m5 => some (.inl (some (pI v1)), m5)) (rn d 250 17 [pR a0, pI a1, pI a2, pU, pU] [] m) := by
  refine r_aln0 (p := 18) f250_17 rfl ?_
  refine r_iconst (p := 19) f250_18 rfl (pinD rfl rfl) ?_
  refine le2_gd (fun h1 => ?_)
  refine r_invI (p := 22) f250_19 rfl rfl rfl (Or.inl h1) hd (Nat.le_of_ble_eq_true rfl) rfl rfl rfl (fun _ => rfl) (fun v1 m1 c1 => ?_)
  have hz1 := z_k c1 hz
  refine r_isn3 (p := 23) f250_22 rfl rfl ?_
  refine r_aln0 (p := 24) f250_23 rfl ?_
  refine r_iln3 (p := 25) f250_24 rfl ?_
  refine r_iconst (p := 26) f250_25 rfl (pinD rfl rfl) ?_
  refine r_aln0 (p := 27) f250_26 rfl ?_
  have h2 := k_t1 c1 hz h1 (by decide)
  refine r_gfR (f := 30) (p := 30) f250_27 rfl rfl rfl (Or.inl h2) rfl ?_
  refine r_nmR (fun v6 ev6 => ?_)
  refine le2_gd (fun h3 => ?_)
  refine r_gfI (f := 12) (p := 33) f250_30 rfl rfl rfl (Or.inl h3) rfl ?_
  refine r_invV (p := 36) f250_33 rfl rfl rfl (Or.inl h2) hd (Nat.le_of_ble_eq_true rfl) rfl rfl rfl (fun _ => rfl) (fun m2 c2 => ?_)
  have hz2 := z_k c2 hz1
  refine r_aln0 (p := 37) f250_36 rfl ?_
  refine r_iln2 (p := 38) f250_37 rfl ?_
  refine r_aln0 (p := 39) f250_38 rfl ?_
  have h4 := k_t1 c2 hz1 h2 (by decide)
  refine r_gfR (f := 30) (p := 42) f250_39 rfl rfl rfl (Or.inl h4) rfl ?_
  refine r_invI (p := 45) f250_42 rfl rfl rfl (Or.inl h4) hd (Nat.le_of_ble_eq_true rfl) rfl rfl rfl (fun _ => rfl) (fun v3 m3 c3 => ?_)
  have hz3 := z_k c3 hz2
  refine r_ifne (t := 50) (p := 48) f250_45 (by decide) rfl rfl ?_ ?_
  · refine r_iconst (p := 49) f250_48 rfl (pinD rfl rfl) ?_
    exact r_iret1 f250_49
  · refine r_aln0 (p := 51) f250_50 rfl ?_
    refine r_iln3 (p := 52) f250_51 rfl ?_
    refine r_iconst (p := 53) f250_52 rfl (pinD rfl rfl) ?_
    refine r_aln0 (p := 54) f250_53 rfl ?_
    have h5 := k_t1 c3 hz2 h4 (by decide)
    refine r_gfR (f := 30) (p := 57) f250_54 rfl rfl rfl (Or.inl h5) rfl ?_
    refine r_nmR (fun v7 ev7 => ?_)
    refine le2_gd (fun h6 => ?_)
    refine r_gfI (f := 12) (p := 60) f250_57 rfl rfl rfl (Or.inl h6) rfl ?_
    refine r_aln0 (p := 61) f250_60 rfl ?_
    refine r_iln3 (p := 62) f250_61 rfl ?_
    refine r_iconst (p := 63) f250_62 rfl (pinD rfl rfl) ?_
    refine r_invI (p := 66) f250_63 rfl rfl rfl (Or.inl h5) hd (Nat.le_of_ble_eq_true rfl) rfl rfl rfl (fun _ => rfl) (fun v4 m4 c4 => ?_)
    have hz4 := z_k c4 hz3
    refine r_isub (p := 67) f250_66 rfl ?_
    have h7 := k_t1 c4 hz3 h5 (by decide)
    refine r_invV (p := 70) f250_67 rfl rfl rfl (Or.inl h7) hd (Nat.le_of_ble_eq_true rfl) rfl rfl rfl (fun _ => rfl) (fun m5 c5 => ?_)
    have hz5 := z_k c5 hz4
    refine r_iln3 (p := 71) f250_70 rfl ?_
    exact r_iret1 f250_71
theorem q250_98 {d : Nat} {m : Mem} {a0 a1 a2 : Int} (hd : 0 < d) (hz : TZ m) : le2 (if a2 = 63 then (if a1 = 0 then (gd (tg m a0 = 11) <| bI (cl (d - 1) 245 [pR a0, pI 5] (mst m a0 12 (w32 ((vl m a0 12) + 1)))) fun v1 m1 => bV (cl (d - 1) 198 [pR a0] m1) fun m2 => bI (cl (d - 1) 252 [pR a0] m2) fun v3 m3 => if v3 < 0 then (some (.inl (some (pI (-1))), m3)) else bV (cl (d - 1) 246 [pR a0, pI v1, pI 2, pI v3] m3) fun m4 => some (.inl (some (pI v1)), m4)) else rn d 250 151 [pR a0, pI a1, pI a2, pU, pU] [] m) else rn d 250 151 [pR a0, pI a1, pI a2, pU, pU] [] m) (rn d 250 98 [pR a0, pI a1, pI a2, pU, pU] [] m) := by
  refine r_iln2 (p := 99) f250_98 rfl ?_
  refine r_bipush (p := 101) f250_99 rfl (pinD rfl rfl) ?_
  refine r_icne (t := 151) (p := 104) f250_101 (by decide) rfl rfl ?_ ?_
  · refine r_iln1 (p := 105) f250_104 rfl ?_
    refine r_ifne (t := 151) (p := 108) f250_105 (by decide) rfl rfl ?_ ?_
    · refine r_aln0 (p := 109) f250_108 rfl ?_
      refine r_dup (p := 110) f250_109 rfl rfl ?_
      refine le2_gd (fun h1 => ?_)
      refine r_gfI (f := 12) (p := 113) f250_110 rfl rfl rfl (Or.inl h1) rfl ?_
      refine r_iconst (p := 114) f250_113 rfl (pinD rfl rfl) ?_
      refine r_iadd (p := 115) f250_114 rfl ?_
      refine r_pfI (f := 12) (p := 118) f250_115 rfl rfl rfl (by decide) (by decide) (Or.inl h1) rfl ?_
      refine r_aln0 (p := 119) f250_118 rfl ?_
      refine r_iconst (p := 120) f250_119 rfl (pinD rfl rfl) ?_
      refine r_invI (p := 123) f250_120 rfl rfl rfl (Or.inl h1) hd (Nat.le_of_ble_eq_true rfl) rfl rfl rfl (fun _ => rfl) (fun v1 m1 c1 => ?_)
      have hz1 := z_k c1 hz
      refine r_isn3 (p := 124) f250_123 rfl rfl ?_
      refine r_aln0 (p := 125) f250_124 rfl ?_
      have h2 := k_t1 c1 hz h1 (by decide)
      refine r_invV (p := 128) f250_125 rfl rfl rfl (Or.inl h2) hd (Nat.le_of_ble_eq_true rfl) rfl rfl rfl (fun _ => rfl) (fun m2 c2 => ?_)
      have hz2 := z_k c2 hz1
      refine r_aln0 (p := 129) f250_128 rfl ?_
      have h3 := k_t1 c2 hz1 h2 (by decide)
      refine r_invI (p := 132) f250_129 rfl rfl rfl (Or.inl h3) hd (Nat.le_of_ble_eq_true rfl) rfl rfl rfl (fun _ => rfl) (fun v3 m3 c3 => ?_)
      have hz3 := z_k c3 hz2
      refine r_isw4 (p := 134) f250_132 rfl rfl ?_
      refine r_ilw4 (p := 136) f250_134 rfl ?_
      refine r_ifge (t := 141) (p := 139) f250_136 (by decide) rfl rfl ?_ ?_
      · refine r_iconst (p := 140) f250_139 rfl (pinD rfl rfl) ?_
        exact r_iret1 f250_140
      · refine r_aln0 (p := 142) f250_141 rfl ?_
        refine r_iln3 (p := 143) f250_142 rfl ?_
        refine r_iconst (p := 144) f250_143 rfl (pinD rfl rfl) ?_
        refine r_ilw4 (p := 146) f250_144 rfl ?_
        have h4 := k_t1 c3 hz2 h3 (by decide)
        refine r_invV (p := 149) f250_146 rfl rfl rfl (Or.inl h4) hd (Nat.le_of_ble_eq_true rfl) rfl rfl rfl (fun _ => rfl) (fun m4 c4 => ?_)
        have hz4 := z_k c4 hz3
        refine r_iln3 (p := 150) f250_149 rfl ?_
        exact r_iret1 f250_150
    · exact le2_refl _
  · exact le2_refl _
theorem q250_151 {d : Nat} {m : Mem} {a0 a1 a2 : Int} (hd : 0 < d) (hz : TZ m) : le2 (if a2 = 45 then (rn d 250 185 [pR a0, pI a1, pI a2, pU, pU] [] m) else bI (cl (d - 1) 206 [pI a2] m) fun v1 m1 => if v1 = 0 then (if a2 = 58 then (if a1 = 0 then (rn d 250 185 [pR a0, pI a1, pI a2, pU, pU] [] m1) else gd (tg m1 a0 = 11) <| bI (cl (d - 1) 202 [pR a0, pI (vl m1 a0 12)] m1) fun v3 m3 => some (.inl (some (pI (-1))), m3)) else gd (tg m1 a0 = 11) <| bI (cl (d - 1) 202 [pR a0, pI (vl m1 a0 12)] m1) fun v2 m2 => some (.inl (some (pI (-1))), m2)) else rn d 250 185 [pR a0, pI a1, pI a2, pU, pU] [] m1) (rn d 250 151 [pR a0, pI a1, pI a2, pU, pU] [] m) := by
  refine r_iln2 (p := 152) f250_151 rfl ?_
  refine r_bipush (p := 154) f250_152 rfl (pinD rfl rfl) ?_
  refine r_iceq (t := 185) (p := 157) f250_154 (by decide) rfl rfl ?_ ?_
  · exact le2_refl _
  · refine r_iln2 (p := 158) f250_157 rfl ?_
    refine r_istI (p := 161) f250_158 rfl rfl rfl hd (Nat.le_of_ble_eq_true rfl) rfl rfl rfl (fun _ => rfl) (fun v1 m1 c1 => ?_)
    have hz1 := z_k c1 hz
    refine r_ifne (t := 185) (p := 164) f250_161 (by decide) rfl rfl ?_ ?_
    · refine r_iln2 (p := 165) f250_164 rfl ?_
      refine r_bipush (p := 167) f250_165 rfl (pinD rfl rfl) ?_
      refine r_icne (t := 174) (p := 170) f250_167 (by decide) rfl rfl ?_ ?_
      · refine r_iln1 (p := 171) f250_170 rfl ?_
        refine r_ifeq (t := 185) (p := 174) f250_171 (by decide) rfl rfl ?_ ?_
        · exact le2_refl _
        · refine r_aln0 (p := 175) f250_174 rfl ?_
          refine r_aln0 (p := 176) f250_175 rfl ?_
          refine le2_gd (fun h2 => ?_)
          refine r_gfI (f := 12) (p := 179) f250_176 rfl rfl rfl (Or.inl h2) rfl ?_
          refine r_invI (p := 182) f250_179 rfl rfl rfl (Or.inl h2) hd (Nat.le_of_ble_eq_true rfl) rfl rfl rfl (fun _ => rfl) (fun v3 m3 c3 => ?_)
          have hz3 := z_k c3 hz1
          refine r_pop (p := 183) f250_182 rfl rfl ?_
          refine r_iconst (p := 184) f250_183 rfl (pinD rfl rfl) ?_
          exact r_iret1 f250_184
      · refine r_aln0 (p := 175) f250_174 rfl ?_
        refine r_aln0 (p := 176) f250_175 rfl ?_
        refine le2_gd (fun h1 => ?_)
        refine r_gfI (f := 12) (p := 179) f250_176 rfl rfl rfl (Or.inl h1) rfl ?_
        refine r_invI (p := 182) f250_179 rfl rfl rfl (Or.inl h1) hd (Nat.le_of_ble_eq_true rfl) rfl rfl rfl (fun _ => rfl) (fun v2 m2 c2 => ?_)
        have hz2 := z_k c2 hz1
        refine r_pop (p := 183) f250_182 rfl rfl ?_
        refine r_iconst (p := 184) f250_183 rfl (pinD rfl rfl) ?_
        exact r_iret1 f250_184
    · exact le2_refl _
theorem q250_185 {d : Nat} {m : Mem} {a0 a1 a2 : Int} (hd : 0 < d) (hz : TZ m) : le2 (gd (tg m a0 = 11) <| bI (cl (d - 1) 245 [pR a0, pI 3] m) fun v1 m1 => bV (cl (d - 1) 246 [pR a0, pI v1, pI 2, pI 0] m1) fun m2 => if a2 = 58 then (rn d 250 246 [pR a0, pI a1, pI a2, pI v1, pU] [] m2) else bI (cl (d - 1) 259 [pR a0, pI v1, pI 0] m2) fun v3 m3 => if v3 = 0 then (some (.inl (some (pI (-1))), m3)) else nm (vl m3 a0 12) fun v6 => bV (cl (d - 1) 198 [pR a0] m3) fun m4 => bI (cl (d - 1) 199 [pR a0] m4) fun v5 m5 => if v5 = 58 then (if a1 = 0 then (rn d 250 246 [pR a0, pI a1, pI a2, pI v1, pI v6] [] m5) else some (.inl (some (pI v1)), (mst m5 a0 12 v6))) else some (.inl (some (pI v1)), (mst m5 a0 12 v6))) (rn d 250 185 [pR a0, pI a1, pI a2, pU, pU] [] m) := by
  refine r_aln0 (p := 186) f250_185 rfl ?_
  refine r_iconst (p := 187) f250_186 rfl (pinD rfl rfl) ?_
  refine le2_gd (fun h1 => ?_)
  refine r_invI (p := 190) f250_187 rfl rfl rfl (Or.inl h1) hd (Nat.le_of_ble_eq_true rfl) rfl rfl rfl (fun _ => rfl) (fun v1 m1 c1 => ?_)
  have hz1 := z_k c1 hz
  refine r_isn3 (p := 191) f250_190 rfl rfl ?_
  refine r_aln0 (p := 192) f250_191 rfl ?_
  refine r_iln3 (p := 193) f250_192 rfl ?_
  refine r_iconst (p := 194) f250_193 rfl (pinD rfl rfl) ?_
  refine r_iconst (p := 195) f250_194 rfl (pinD rfl rfl) ?_
  have h2 := k_t1 c1 hz h1 (by decide)
  refine r_invV (p := 198) f250_195 rfl rfl rfl (Or.inl h2) hd (Nat.le_of_ble_eq_true rfl) rfl rfl rfl (fun _ => rfl) (fun m2 c2 => ?_)
  have hz2 := z_k c2 hz1
  refine r_iln2 (p := 199) f250_198 rfl ?_
  refine r_bipush (p := 201) f250_199 rfl (pinD rfl rfl) ?_
  refine r_iceq (t := 246) (p := 204) f250_201 (by decide) rfl rfl ?_ ?_
  · exact le2_refl _
  · refine r_aln0 (p := 205) f250_204 rfl ?_
    refine r_iln3 (p := 206) f250_205 rfl ?_
    refine r_iconst (p := 207) f250_206 rfl (pinD rfl rfl) ?_
    have h3 := k_t1 c2 hz1 h2 (by decide)
    refine r_invI (p := 210) f250_207 rfl rfl rfl (Or.inl h3) hd (Nat.le_of_ble_eq_true rfl) rfl rfl rfl (fun _ => rfl) (fun v3 m3 c3 => ?_)
    have hz3 := z_k c3 hz2
    refine r_ifne (t := 215) (p := 213) f250_210 (by decide) rfl rfl ?_ ?_
    · refine r_iconst (p := 214) f250_213 rfl (pinD rfl rfl) ?_
      exact r_iret1 f250_214
    · refine r_aln0 (p := 216) f250_215 rfl ?_
      have h4 := k_t1 c3 hz2 h3 (by decide)
      refine r_gfI (f := 12) (p := 219) f250_216 rfl rfl rfl (Or.inl h4) rfl ?_
      refine r_nmI (fun v6 ev6 => ?_)
      refine r_isw4 (p := 221) f250_219 rfl rfl ?_
      refine r_aln0 (p := 222) f250_221 rfl ?_
      refine r_invV (p := 225) f250_222 rfl rfl rfl (Or.inl h4) hd (Nat.le_of_ble_eq_true rfl) rfl rfl rfl (fun _ => rfl) (fun m4 c4 => ?_)
      have hz4 := z_k c4 hz3
      refine r_aln0 (p := 226) f250_225 rfl ?_
      have h5 := k_t1 c4 hz3 h4 (by decide)
      refine r_invI (p := 229) f250_226 rfl rfl rfl (Or.inl h5) hd (Nat.le_of_ble_eq_true rfl) rfl rfl rfl (fun _ => rfl) (fun v5 m5 c5 => ?_)
      have hz5 := z_k c5 hz4
      refine r_bipush (p := 231) f250_229 rfl (pinD rfl rfl) ?_
      refine r_icne (t := 238) (p := 234) f250_231 (by decide) rfl rfl ?_ ?_
      · refine r_iln1 (p := 235) f250_234 rfl ?_
        refine r_ifeq (t := 246) (p := 238) f250_235 (by decide) rfl rfl ?_ ?_
        · exact le2_refl _
        · refine r_aln0 (p := 239) f250_238 rfl ?_
          refine r_ilw4 (p := 241) f250_239 rfl ?_
          have h7 := k_t1 c5 hz4 h5 (by decide)
          refine r_pfI (f := 12) (p := 244) f250_241 rfl rfl rfl (by decide) (by decide) (Or.inl h7) rfl ?_
          refine r_iln3 (p := 245) f250_244 rfl ?_
          exact r_iret1 f250_245
      · refine r_aln0 (p := 239) f250_238 rfl ?_
        refine r_ilw4 (p := 241) f250_239 rfl ?_
        have h6 := k_t1 c5 hz4 h5 (by decide)
        refine r_pfI (f := 12) (p := 244) f250_241 rfl rfl rfl (by decide) (by decide) (Or.inl h6) rfl ?_
        refine r_iln3 (p := 245) f250_244 rfl ?_
        exact r_iret1 f250_245
theorem q250_246 {d : Nat} {m : Mem} {a0 a1 a2 a3 : Int} {z4 : PV} (hd : 0 < d) (hz : TZ m) (hcz4 : cat z4 = 1) : le2 (gd (tg m a0 = 11) <| bV (cl (d - 1) 246 [pR a0, pI a3, pI 0, pI 4] m) fun m1 => bV (cl (d - 1) 198 [pR a0] (mst m1 a0 12 (w32 ((vl m1 a0 12) + 1)))) fun m2 => bI (cl (d - 1) 199 [pR a0] m2) fun v3 m3 => if v3 = 45 then (bI (cl (d - 1) 259 [pR a0, pI a3, pI 1] m3) fun v4 m4 => if v4 = 0 then (some (.inl (some (pI (-1))), m4)) else rn d 250 297 [pR a0, pI a1, pI a2, pI a3, z4] [] m4) else bI (cl (d - 1) 199 [pR a0] m3) fun v5 m5 => bI (cl (d - 1) 206 [pI v5] m5) fun v6 m6 => if v6 = 0 then (rn d 250 297 [pR a0, pI a1, pI a2, pI a3, z4] [] m6) else bI (cl (d - 1) 259 [pR a0, pI a3, pI 1] m6) fun v7 m7 => if v7 = 0 then (some (.inl (some (pI (-1))), m7)) else rn d 250 297 [pR a0, pI a1, pI a2, pI a3, z4] [] m7) (rn d 250 246 [pR a0, pI a1, pI a2, pI a3, z4] [] m) := by
  refine r_aln0 (p := 247) f250_246 rfl ?_
  refine r_iln3 (p := 248) f250_247 rfl ?_
  refine r_iconst (p := 249) f250_248 rfl (pinD rfl rfl) ?_
  refine r_iconst (p := 250) f250_249 rfl (pinD rfl rfl) ?_
  refine le2_gd (fun h1 => ?_)
  refine r_invV (p := 253) f250_250 rfl rfl rfl (Or.inl h1) hd (Nat.le_of_ble_eq_true rfl) rfl rfl rfl (fun _ => rfl) (fun m1 c1 => ?_)
  have hz1 := z_k c1 hz
  refine r_aln0 (p := 254) f250_253 rfl ?_
  refine r_dup (p := 255) f250_254 rfl rfl ?_
  have h2 := k_t1 c1 hz h1 (by decide)
  refine r_gfI (f := 12) (p := 258) f250_255 rfl rfl rfl (Or.inl h2) rfl ?_
  refine r_iconst (p := 259) f250_258 rfl (pinD rfl rfl) ?_
  refine r_iadd (p := 260) f250_259 rfl ?_
  refine r_pfI (f := 12) (p := 263) f250_260 rfl rfl rfl (by decide) (by decide) (Or.inl h2) rfl ?_
  refine r_aln0 (p := 264) f250_263 rfl ?_
  refine r_invV (p := 267) f250_264 rfl rfl rfl (Or.inl h2) hd (Nat.le_of_ble_eq_true rfl) rfl rfl rfl (fun _ => rfl) (fun m2 c2 => ?_)
  have hz2 := z_k c2 hz1
  refine r_aln0 (p := 268) f250_267 rfl ?_
  have h3 := k_t1 c2 hz1 h2 (by decide)
  refine r_invI (p := 271) f250_268 rfl rfl rfl (Or.inl h3) hd (Nat.le_of_ble_eq_true rfl) rfl rfl rfl (fun _ => rfl) (fun v3 m3 c3 => ?_)
  have hz3 := z_k c3 hz2
  refine r_bipush (p := 273) f250_271 rfl (pinD rfl rfl) ?_
  refine r_iceq (t := 286) (p := 276) f250_273 (by decide) rfl rfl ?_ ?_
  · refine r_aln0 (p := 287) f250_286 rfl ?_
    refine r_iln3 (p := 288) f250_287 rfl ?_
    refine r_iconst (p := 289) f250_288 rfl (pinD rfl rfl) ?_
    have h4 := k_t1 c3 hz2 h3 (by decide)
    refine r_invI (p := 292) f250_289 rfl rfl rfl (Or.inl h4) hd (Nat.le_of_ble_eq_true rfl) rfl rfl rfl (fun _ => rfl) (fun v4 m4 c4 => ?_)
    have hz4 := z_k c4 hz3
    refine r_ifne (t := 297) (p := 295) f250_292 (by decide) rfl rfl ?_ ?_
    · refine r_iconst (p := 296) f250_295 rfl (pinD rfl rfl) ?_
      exact r_iret1 f250_296
    · exact le2_refl _
  · refine r_aln0 (p := 277) f250_276 rfl ?_
    have h5 := k_t1 c3 hz2 h3 (by decide)
    refine r_invI (p := 280) f250_277 rfl rfl rfl (Or.inl h5) hd (Nat.le_of_ble_eq_true rfl) rfl rfl rfl (fun _ => rfl) (fun v5 m5 c5 => ?_)
    have hz5 := z_k c5 hz3
    refine r_istI (p := 283) f250_280 rfl rfl rfl hd (Nat.le_of_ble_eq_true rfl) rfl rfl rfl (fun _ => rfl) (fun v6 m6 c6 => ?_)
    have hz6 := z_k c6 hz5
    refine r_ifeq (t := 297) (p := 286) f250_283 (by decide) rfl rfl ?_ ?_
    · exact le2_refl _
    · refine r_aln0 (p := 287) f250_286 rfl ?_
      refine r_iln3 (p := 288) f250_287 rfl ?_
      refine r_iconst (p := 289) f250_288 rfl (pinD rfl rfl) ?_
      have h6 := k_t1 c5 hz3 h5 (by decide)
      have h7 := k_t1 c6 hz5 h6 (by decide)
      refine r_invI (p := 292) f250_289 rfl rfl rfl (Or.inl h7) hd (Nat.le_of_ble_eq_true rfl) rfl rfl rfl (fun _ => rfl) (fun v7 m7 c7 => ?_)
      have hz7 := z_k c7 hz6
      refine r_ifne (t := 297) (p := 295) f250_292 (by decide) rfl rfl ?_ ?_
      · refine r_iconst (p := 296) f250_295 rfl (pinD rfl rfl) ?_
        exact r_iret1 f250_296
      · exact le2_refl _
theorem q250_297 {d : Nat} {m : Mem} {a0 a1 a2 a3 : Int} {z4 : PV} (hd : 0 < d) (hz : TZ m) (hcz4 : cat z4 = 1) : le2 (gd (tg m a0 = 11) <| bV (cl (d - 1) 198 [pR a0] m) fun m1 => bI (cl (d - 1) 199 [pR a0] m1) fun v2 m2 => if v2 = 58 then (nm (w32 ((vl m2 a0 12) + 1)) fun v7 => bV (cl (d - 1) 198 [pR a0] (mst m2 a0 12 v7)) fun m3 => bI (cl (d - 1) 199 [pR a0] m3) fun v4 m4 => if v4 = 45 then (rn d 250 363 [pR a0, pI a1, pI a2, pI a3, pI v7] [] m4) else bI (cl (d - 1) 199 [pR a0] m4) fun v5 m5 => bI (cl (d - 1) 206 [pI v5] m5) fun v6 m6 => if v6 = 0 then (some (.inl (some (pI a3)), (mst m6 a0 12 v7))) else rn d 250 363 [pR a0, pI a1, pI a2, pI a3, pI v7] [] m6) else some (.inl (some (pI a3)), (mst m2 a0 12 (vl m a0 12)))) (rn d 250 297 [pR a0, pI a1, pI a2, pI a3, z4] [] m) := by
  refine r_aln0 (p := 298) f250_297 rfl ?_
  refine le2_gd (fun h1 => ?_)
  refine r_gfI (f := 12) (p := 301) f250_298 rfl rfl rfl (Or.inl h1) rfl ?_
  refine r_isw4 (p := 303) f250_301 rfl rfl ?_
  refine r_aln0 (p := 304) f250_303 rfl ?_
  refine r_invV (p := 307) f250_304 rfl rfl rfl (Or.inl h1) hd (Nat.le_of_ble_eq_true rfl) rfl rfl rfl (fun _ => rfl) (fun m1 c1 => ?_)
  have hz1 := z_k c1 hz
  refine r_aln0 (p := 308) f250_307 rfl ?_
  have h2 := k_t1 c1 hz h1 (by decide)
  refine r_invI (p := 311) f250_308 rfl rfl rfl (Or.inl h2) hd (Nat.le_of_ble_eq_true rfl) rfl rfl rfl (fun _ => rfl) (fun v2 m2 c2 => ?_)
  have hz2 := z_k c2 hz1
  refine r_bipush (p := 313) f250_311 rfl (pinD rfl rfl) ?_
  refine r_iceq (t := 324) (p := 316) f250_313 (by decide) rfl rfl ?_ ?_
  · refine r_aln0 (p := 325) f250_324 rfl ?_
    refine r_dup (p := 326) f250_325 rfl rfl ?_
    have h3 := k_t1 c2 hz1 h2 (by decide)
    refine r_gfI (f := 12) (p := 329) f250_326 rfl rfl rfl (Or.inl h3) rfl ?_
    refine r_iconst (p := 330) f250_329 rfl (pinD rfl rfl) ?_
    refine r_iadd (p := 331) f250_330 rfl ?_
    refine r_nmI (fun v7 ev7 => ?_)
    refine r_pfI (f := 12) (p := 334) f250_331 rfl rfl rfl (by decide) (by decide) (Or.inl h3) rfl ?_
    refine r_aln0 (p := 335) f250_334 rfl ?_
    refine r_gfI (f := 12) (p := 338) f250_335 rfl rfl rfl (Or.inl h3) sk_s ?_
    refine r_isw4 (p := 340) f250_338 rfl rfl ?_
    refine r_aln0 (p := 341) f250_340 rfl ?_
    refine r_invV (p := 344) f250_341 rfl rfl rfl (Or.inl h3) hd (Nat.le_of_ble_eq_true rfl) rfl rfl rfl (fun _ => rfl) (fun m3 c3 => ?_)
    have hz3 := z_k c3 hz2
    refine r_aln0 (p := 345) f250_344 rfl ?_
    have h4 := k_t1 c3 hz2 h3 (by decide)
    refine r_invI (p := 348) f250_345 rfl rfl rfl (Or.inl h4) hd (Nat.le_of_ble_eq_true rfl) rfl rfl rfl (fun _ => rfl) (fun v4 m4 c4 => ?_)
    have hz4 := z_k c4 hz3
    refine r_bipush (p := 350) f250_348 rfl (pinD rfl rfl) ?_
    refine r_iceq (t := 363) (p := 353) f250_350 (by decide) rfl rfl ?_ ?_
    · exact le2_refl _
    · refine r_aln0 (p := 354) f250_353 rfl ?_
      have h5 := k_t1 c4 hz3 h4 (by decide)
      refine r_invI (p := 357) f250_354 rfl rfl rfl (Or.inl h5) hd (Nat.le_of_ble_eq_true rfl) rfl rfl rfl (fun _ => rfl) (fun v5 m5 c5 => ?_)
      have hz5 := z_k c5 hz4
      refine r_istI (p := 360) f250_357 rfl rfl rfl hd (Nat.le_of_ble_eq_true rfl) rfl rfl rfl (fun _ => rfl) (fun v6 m6 c6 => ?_)
      have hz6 := z_k c6 hz5
      refine r_ifeq (t := 378) (p := 363) f250_360 (by decide) rfl rfl ?_ ?_
      · refine r_aln0 (p := 379) f250_378 rfl ?_
        refine r_ilw4 (p := 381) f250_379 rfl ?_
        have h6 := k_t1 c5 hz4 h5 (by decide)
        have h7 := k_t1 c6 hz5 h6 (by decide)
        refine r_pfI (f := 12) (p := 384) f250_381 rfl rfl rfl (by decide) (by decide) (Or.inl h7) rfl ?_
        refine r_iln3 (p := 385) f250_384 rfl ?_
        exact r_iret1 f250_385
      · exact le2_refl _
  · refine r_aln0 (p := 317) f250_316 rfl ?_
    refine r_ilw4 (p := 319) f250_317 rfl ?_
    have h8 := k_t1 c2 hz1 h2 (by decide)
    refine r_pfI (f := 12) (p := 322) f250_319 rfl rfl rfl (by decide) (by decide) (Or.inl h8) rfl ?_
    refine r_iln3 (p := 323) f250_322 rfl ?_
    exact r_iret1 f250_323
theorem q250_363 {d : Nat} {m : Mem} {a0 a1 a2 a3 a4 : Int} (hd : 0 < d) (hz : TZ m) : le2 (gd (tg m a0 = 11) <| bI (cl (d - 1) 259 [pR a0, pI a3, pI 2] m) fun v1 m1 => if v1 = 0 then (some (.inl (some (pI (-1))), m1)) else some (.inl (some (pI a3)), m1)) (rn d 250 363 [pR a0, pI a1, pI a2, pI a3, pI a4] [] m) := by
  refine r_aln0 (p := 364) f250_363 rfl ?_
  refine r_iln3 (p := 365) f250_364 rfl ?_
  refine r_iconst (p := 366) f250_365 rfl (pinD rfl rfl) ?_
  refine le2_gd (fun h1 => ?_)
  refine r_invI (p := 369) f250_366 rfl rfl rfl (Or.inl h1) hd (Nat.le_of_ble_eq_true rfl) rfl rfl rfl (fun _ => rfl) (fun v1 m1 c1 => ?_)
  have hz1 := z_k c1 hz
  refine r_ifeq (t := 376) (p := 372) f250_369 (by decide) rfl rfl ?_ ?_
  · refine r_iconst (p := 377) f250_376 rfl (pinD rfl rfl) ?_
    exact r_iret1 f250_377
  · refine r_iln3 (p := 373) f250_372 rfl ?_
    refine r_goto (p := 377) f250_373 (by decide) rfl ?_
    exact r_iret1 f250_377
/-! 251 PathStoreModel.field (II)I -/
def w251_0 : List UInt8 := [42, 180, 0, 121, 16, 8, 27, 104, 28, 96, 46, 172]
abbrev u251_0 : List UInt8 := w251_0 ++ []
theorem s251_0 : (prog_32_method_60_code).data.toList.drop 0 = u251_0 := by decide +kernel
theorem Fm251 {pc len : Nat} {i : Instr} (h : decode (prog_32_method_60_code) pc = .ok (i, len)) (hl : len = ilen i len) : ft 251 pc = some (11, 1, 0, i, len) := ft_mk rfl h hl
theorem f251_0 : ft 251 0 = some (11, 1, 0, .aload_n 0, 1) := Fm251 (dk_42 (dk_at s251_0 0 rfl rfl)) rfl
theorem f251_1 : ft 251 1 = some (11, 1, 0, .getfield 121, 3) := Fm251 (dk_180 0 121 (dk_at s251_0 1 rfl rfl)) rfl
theorem f251_4 : ft 251 4 = some (11, 1, 0, .bipush 8, 2) := Fm251 (dk_16 8 (dk_at s251_0 4 rfl rfl)) rfl
theorem f251_6 : ft 251 6 = some (11, 1, 0, .iload_n 1, 1) := Fm251 (dk_27 (dk_at s251_0 6 rfl rfl)) rfl
theorem f251_7 : ft 251 7 = some (11, 1, 0, .imul, 1) := Fm251 (dk_104 (dk_at s251_0 7 rfl rfl)) rfl
theorem f251_8 : ft 251 8 = some (11, 1, 0, .iload_n 2, 1) := Fm251 (dk_28 (dk_at s251_0 8 rfl rfl)) rfl
theorem f251_9 : ft 251 9 = some (11, 1, 0, .iadd, 1) := Fm251 (dk_96 (dk_at s251_0 9 rfl rfl)) rfl
theorem f251_10 : ft 251 10 = some (11, 1, 0, .iaload, 1) := Fm251 (dk_46 (dk_at s251_0 10 rfl rfl)) rfl
theorem f251_11 : ft 251 11 = some (11, 1, 0, .ireturn, 1) := Fm251 (dk_172 (dk_at s251_0 11 rfl rfl)) rfl
theorem q251 {d : Nat} {m : Mem} {a0 a1 a2 : Int} (hz : TZ m) : le2 (gd (tg m a0 = 11) <| nm (vl m a0 27) fun v1 => nm (w32 ((w32 (8 * a1)) + a2)) fun v2 => gd (tg m v1 = 186101 ∨ tg m v1 = 246101) <| gd ((0 : Int) ≤ v2 ∧ v2 < ln m v1) <| some (.inl (some (pI (vl m v1 v2))), m)) (cl d 251 [pR a0, pI a1, pI a2] m) := by
  refine q_in (n := 3) (L := [pR a0, pI a1, pI a2]) rfl rfl rfl ?_
  refine r_aln0 (p := 1) f251_0 rfl ?_
  refine le2_gd (fun h1 => ?_)
  refine r_gfR (f := 27) (p := 4) f251_1 rfl rfl rfl (Or.inl h1) rfl ?_
  refine r_nmR (fun v1 ev1 => ?_)
  refine r_bipush (p := 6) f251_4 rfl (pinD rfl rfl) ?_
  refine r_iln1 (p := 7) f251_6 rfl ?_
  refine r_imul (p := 8) f251_7 rfl ?_
  refine r_iln2 (p := 9) f251_8 rfl ?_
  refine r_iadd (p := 10) f251_9 rfl ?_
  refine r_nmI (fun v2 ev2 => ?_)
  refine le2_gd (fun h2 => ?_)
  refine le2_gd (fun h3 => ?_)
  refine r_iaload (p := 11) f251_10 rfl (dj2 (fun x => x % 1000 = 101) h2 (by decide) (by decide)) h3 rfl ?_
  exact r_iret1 f251_11
/-! 252 PathStoreModel.or ()I -/
def w252_3 : List UInt8 := [19, 1, 208, 182, 0, 213, 154, 0, 5, 2, 172, 42, 182, 0, 204, 167, 255, 179]
abbrev u252_3 : List UInt8 := w252_3 ++ []
def w252_2 : List UInt8 := [54, 4, 42, 182, 0, 204, 42, 182, 0, 167, 16, 124, 159, 0, 11, 42, 21, 4, 181, 0, 155, 27, 172, 42]
abbrev u252_2 : List UInt8 := w252_2 ++ u252_3
def w252_1 : List UInt8 := [42, 27, 5, 29, 182, 1, 172, 167, 0, 10, 42, 28, 4, 29, 182, 1, 172, 29, 61, 42, 180, 0, 155]
abbrev u252_1 : List UInt8 := w252_1 ++ u252_2
def w252_0 : List UInt8 := [42, 16, 30, 182, 1, 169, 60, 2, 61, 42, 182, 1, 205, 62, 29, 156, 0, 5, 2, 172, 28, 156, 0, 13]
abbrev u252_0 : List UInt8 := w252_0 ++ u252_1
theorem s252_0 : (prog_32_method_70_code).data.toList.drop 0 = u252_0 := by decide +kernel
theorem s252_1 : (prog_32_method_70_code).data.toList.drop 24 = u252_1 := dk_seg s252_0 24 rfl rfl
theorem s252_2 : (prog_32_method_70_code).data.toList.drop 47 = u252_2 := dk_seg s252_1 23 rfl rfl
theorem s252_3 : (prog_32_method_70_code).data.toList.drop 71 = u252_3 := dk_seg s252_2 24 rfl rfl
theorem Fm252 {pc len : Nat} {i : Instr} (h : decode (prog_32_method_70_code) pc = .ok (i, len)) (hl : len = ilen i len) : ft 252 pc = some (11, 1, 0, i, len) := ft_mk rfl h hl
theorem f252_0 : ft 252 0 = some (11, 1, 0, .aload_n 0, 1) := Fm252 (dk_42 (dk_at s252_0 0 rfl rfl)) rfl
theorem f252_1 : ft 252 1 = some (11, 1, 0, .bipush 30, 2) := Fm252 (dk_16 30 (dk_at s252_0 1 rfl rfl)) rfl
theorem f252_3 : ft 252 3 = some (11, 1, 0, .invokevirtual 425, 3) := Fm252 (dk_182 1 169 (dk_at s252_0 3 rfl rfl)) rfl
theorem f252_6 : ft 252 6 = some (11, 1, 0, .istore_n 1, 1) := Fm252 (dk_60 (dk_at s252_0 6 rfl rfl)) rfl
theorem f252_7 : ft 252 7 = some (11, 1, 0, .iconst (-1), 1) := Fm252 (dk_2 (dk_at s252_0 7 rfl rfl)) rfl
theorem f252_8 : ft 252 8 = some (11, 1, 0, .istore_n 2, 1) := Fm252 (dk_61 (dk_at s252_0 8 rfl rfl)) rfl
theorem f252_9 : ft 252 9 = some (11, 1, 0, .aload_n 0, 1) := Fm252 (dk_42 (dk_at s252_0 9 rfl rfl)) rfl
theorem f252_10 : ft 252 10 = some (11, 1, 0, .invokevirtual 461, 3) := Fm252 (dk_182 1 205 (dk_at s252_0 10 rfl rfl)) rfl
theorem f252_13 : ft 252 13 = some (11, 1, 0, .istore_n 3, 1) := Fm252 (dk_62 (dk_at s252_0 13 rfl rfl)) rfl
theorem f252_14 : ft 252 14 = some (11, 1, 0, .iload_n 3, 1) := Fm252 (dk_29 (dk_at s252_0 14 rfl rfl)) rfl
theorem f252_15 : ft 252 15 = some (11, 1, 0, .ifCond .ge 5, 3) := Fm252 (dk_156 0 5 (dk_at s252_0 15 rfl rfl)) rfl
theorem f252_18 : ft 252 18 = some (11, 1, 0, .iconst (-1), 1) := Fm252 (dk_2 (dk_at s252_0 18 rfl rfl)) rfl
theorem f252_19 : ft 252 19 = some (11, 1, 0, .ireturn, 1) := Fm252 (dk_172 (dk_at s252_0 19 rfl rfl)) rfl
theorem f252_20 : ft 252 20 = some (11, 1, 0, .iload_n 2, 1) := Fm252 (dk_28 (dk_at s252_0 20 rfl rfl)) rfl
theorem f252_21 : ft 252 21 = some (11, 1, 0, .ifCond .ge 13, 3) := Fm252 (dk_156 0 13 (dk_at s252_0 21 rfl rfl)) rfl
theorem f252_24 : ft 252 24 = some (11, 1, 0, .aload_n 0, 1) := Fm252 (dk_42 (dk_at s252_1 0 rfl rfl)) rfl
theorem f252_25 : ft 252 25 = some (11, 1, 0, .iload_n 1, 1) := Fm252 (dk_27 (dk_at s252_1 1 rfl rfl)) rfl
theorem f252_26 : ft 252 26 = some (11, 1, 0, .iconst 2, 1) := Fm252 (dk_5 (dk_at s252_1 2 rfl rfl)) rfl
theorem f252_27 : ft 252 27 = some (11, 1, 0, .iload_n 3, 1) := Fm252 (dk_29 (dk_at s252_1 3 rfl rfl)) rfl
theorem f252_28 : ft 252 28 = some (11, 1, 0, .invokevirtual 428, 3) := Fm252 (dk_182 1 172 (dk_at s252_1 4 rfl rfl)) rfl
theorem f252_31 : ft 252 31 = some (11, 1, 0, .goto 10, 3) := Fm252 (dk_167 0 10 (dk_at s252_1 7 rfl rfl)) rfl
theorem f252_34 : ft 252 34 = some (11, 1, 0, .aload_n 0, 1) := Fm252 (dk_42 (dk_at s252_1 10 rfl rfl)) rfl
theorem f252_35 : ft 252 35 = some (11, 1, 0, .iload_n 2, 1) := Fm252 (dk_28 (dk_at s252_1 11 rfl rfl)) rfl
theorem f252_36 : ft 252 36 = some (11, 1, 0, .iconst 1, 1) := Fm252 (dk_4 (dk_at s252_1 12 rfl rfl)) rfl
theorem f252_37 : ft 252 37 = some (11, 1, 0, .iload_n 3, 1) := Fm252 (dk_29 (dk_at s252_1 13 rfl rfl)) rfl
theorem f252_38 : ft 252 38 = some (11, 1, 0, .invokevirtual 428, 3) := Fm252 (dk_182 1 172 (dk_at s252_1 14 rfl rfl)) rfl
theorem f252_41 : ft 252 41 = some (11, 1, 0, .iload_n 3, 1) := Fm252 (dk_29 (dk_at s252_1 17 rfl rfl)) rfl
theorem f252_42 : ft 252 42 = some (11, 1, 0, .istore_n 2, 1) := Fm252 (dk_61 (dk_at s252_1 18 rfl rfl)) rfl
theorem f252_43 : ft 252 43 = some (11, 1, 0, .aload_n 0, 1) := Fm252 (dk_42 (dk_at s252_1 19 rfl rfl)) rfl
theorem f252_44 : ft 252 44 = some (11, 1, 0, .getfield 155, 3) := Fm252 (dk_180 0 155 (dk_at s252_1 20 rfl rfl)) rfl
theorem f252_47 : ft 252 47 = some (11, 1, 0, .istore 4, 2) := Fm252 (dk_54 4 (dk_at s252_2 0 rfl rfl)) rfl
theorem f252_49 : ft 252 49 = some (11, 1, 0, .aload_n 0, 1) := Fm252 (dk_42 (dk_at s252_2 2 rfl rfl)) rfl
theorem f252_50 : ft 252 50 = some (11, 1, 0, .invokevirtual 204, 3) := Fm252 (dk_182 0 204 (dk_at s252_2 3 rfl rfl)) rfl
theorem f252_53 : ft 252 53 = some (11, 1, 0, .aload_n 0, 1) := Fm252 (dk_42 (dk_at s252_2 6 rfl rfl)) rfl
theorem f252_54 : ft 252 54 = some (11, 1, 0, .invokevirtual 167, 3) := Fm252 (dk_182 0 167 (dk_at s252_2 7 rfl rfl)) rfl
theorem f252_57 : ft 252 57 = some (11, 1, 0, .bipush 124, 2) := Fm252 (dk_16 124 (dk_at s252_2 10 rfl rfl)) rfl
theorem f252_59 : ft 252 59 = some (11, 1, 0, .if_icmp .eq 11, 3) := Fm252 (dk_159 0 11 (dk_at s252_2 12 rfl rfl)) rfl
theorem f252_62 : ft 252 62 = some (11, 1, 0, .aload_n 0, 1) := Fm252 (dk_42 (dk_at s252_2 15 rfl rfl)) rfl
theorem f252_63 : ft 252 63 = some (11, 1, 0, .iload 4, 2) := Fm252 (dk_21 4 (dk_at s252_2 16 rfl rfl)) rfl
theorem f252_65 : ft 252 65 = some (11, 1, 0, .putfield 155, 3) := Fm252 (dk_181 0 155 (dk_at s252_2 18 rfl rfl)) rfl
theorem f252_68 : ft 252 68 = some (11, 1, 0, .iload_n 1, 1) := Fm252 (dk_27 (dk_at s252_2 21 rfl rfl)) rfl
theorem f252_69 : ft 252 69 = some (11, 1, 0, .ireturn, 1) := Fm252 (dk_172 (dk_at s252_2 22 rfl rfl)) rfl
theorem f252_70 : ft 252 70 = some (11, 1, 0, .aload_n 0, 1) := Fm252 (dk_42 (dk_at s252_2 23 rfl rfl)) rfl
theorem f252_71 : ft 252 71 = some (11, 1, 0, .ldc_w 464, 3) := Fm252 (dk_19 1 208 (dk_at s252_3 0 rfl rfl)) rfl
theorem f252_74 : ft 252 74 = some (11, 1, 0, .invokevirtual 213, 3) := Fm252 (dk_182 0 213 (dk_at s252_3 3 rfl rfl)) rfl
theorem f252_77 : ft 252 77 = some (11, 1, 0, .ifCond .ne 5, 3) := Fm252 (dk_154 0 5 (dk_at s252_3 6 rfl rfl)) rfl
theorem f252_80 : ft 252 80 = some (11, 1, 0, .iconst (-1), 1) := Fm252 (dk_2 (dk_at s252_3 9 rfl rfl)) rfl
theorem f252_81 : ft 252 81 = some (11, 1, 0, .ireturn, 1) := Fm252 (dk_172 (dk_at s252_3 10 rfl rfl)) rfl
theorem f252_82 : ft 252 82 = some (11, 1, 0, .aload_n 0, 1) := Fm252 (dk_42 (dk_at s252_3 11 rfl rfl)) rfl
theorem f252_83 : ft 252 83 = some (11, 1, 0, .invokevirtual 204, 3) := Fm252 (dk_182 0 204 (dk_at s252_3 12 rfl rfl)) rfl
theorem f252_86 : ft 252 86 = some (11, 1, 0, .goto (-77), 3) := Fm252 (dk_167 255 179 (dk_at s252_3 15 rfl rfl)) rfl
theorem q252 {d : Nat} {m : Mem} {a0 : Int} (hd : 0 < d) (hz : TZ m) : le2 (gd (tg m a0 = 11) <| bI (cl (d - 1) 245 [pR a0, pI 30] m) fun v1 m1 => rn d 252 9 [pR a0, pI v1, pI (-1), pU, pU] [] m1) (cl d 252 [pR a0] m) := by
  refine q_in (n := 5) (L := [pR a0, pU, pU, pU, pU]) rfl rfl rfl ?_
  refine r_aln0 (p := 1) f252_0 rfl ?_
  refine r_bipush (p := 3) f252_1 rfl (pinD rfl rfl) ?_
  refine le2_gd (fun h1 => ?_)
  refine r_invI (p := 6) f252_3 rfl rfl rfl (Or.inl h1) hd (Nat.le_of_ble_eq_true rfl) rfl rfl rfl (fun _ => rfl) (fun v1 m1 c1 => ?_)
  have hz1 := z_k c1 hz
  refine r_isn1 (p := 7) f252_6 rfl rfl ?_
  refine r_iconst (p := 8) f252_7 rfl (pinD rfl rfl) ?_
  refine r_isn2 (p := 9) f252_8 rfl rfl ?_
  exact le2_refl _
theorem q252_9 {d : Nat} {m : Mem} {a0 a1 a2 : Int} {z3 z4 : PV} (hd : 0 < d) (hz : TZ m) (hcz3 : cat z3 = 1) (hcz4 : cat z4 = 1) : le2 (gd (tg m a0 = 11) <| bI (cl (d - 1) 253 [pR a0] m) fun v1 m1 => if v1 < 0 then (some (.inl (some (pI (-1))), m1)) else if a2 < 0 then (bV (cl (d - 1) 246 [pR a0, pI a1, pI 2, pI v1] m1) fun m3 => rn d 252 41 [pR a0, pI a1, pI a2, pI v1, z4] [] m3) else bV (cl (d - 1) 246 [pR a0, pI a2, pI 1, pI v1] m1) fun m2 => rn d 252 41 [pR a0, pI a1, pI a2, pI v1, z4] [] m2) (rn d 252 9 [pR a0, pI a1, pI a2, z3, z4] [] m) := by
  refine r_aln0 (p := 10) f252_9 rfl ?_
  refine le2_gd (fun h1 => ?_)
  refine r_invI (p := 13) f252_10 rfl rfl rfl (Or.inl h1) hd (Nat.le_of_ble_eq_true rfl) rfl rfl rfl (fun _ => rfl) (fun v1 m1 c1 => ?_)
  have hz1 := z_k c1 hz
  refine r_isn3 (p := 14) f252_13 rfl rfl ?_
  refine r_iln3 (p := 15) f252_14 rfl ?_
  refine r_ifge (t := 20) (p := 18) f252_15 (by decide) rfl rfl ?_ ?_
  · refine r_iconst (p := 19) f252_18 rfl (pinD rfl rfl) ?_
    exact r_iret1 f252_19
  · refine r_iln2 (p := 21) f252_20 rfl ?_
    refine r_ifge (t := 34) (p := 24) f252_21 (by decide) rfl rfl ?_ ?_
    · refine r_aln0 (p := 25) f252_24 rfl ?_
      refine r_iln1 (p := 26) f252_25 rfl ?_
      refine r_iconst (p := 27) f252_26 rfl (pinD rfl rfl) ?_
      refine r_iln3 (p := 28) f252_27 rfl ?_
      have h3 := k_t1 c1 hz h1 (by decide)
      refine r_invV (p := 31) f252_28 rfl rfl rfl (Or.inl h3) hd (Nat.le_of_ble_eq_true rfl) rfl rfl rfl (fun _ => rfl) (fun m3 c3 => ?_)
      have hz3 := z_k c3 hz1
      refine r_goto (p := 41) f252_31 (by decide) rfl ?_
      exact le2_refl _
    · refine r_aln0 (p := 35) f252_34 rfl ?_
      refine r_iln2 (p := 36) f252_35 rfl ?_
      refine r_iconst (p := 37) f252_36 rfl (pinD rfl rfl) ?_
      refine r_iln3 (p := 38) f252_37 rfl ?_
      have h2 := k_t1 c1 hz h1 (by decide)
      refine r_invV (p := 41) f252_38 rfl rfl rfl (Or.inl h2) hd (Nat.le_of_ble_eq_true rfl) rfl rfl rfl (fun _ => rfl) (fun m2 c2 => ?_)
      have hz2 := z_k c2 hz1
      exact le2_refl _
theorem q252_41 {d : Nat} {m : Mem} {a0 a1 a2 a3 : Int} {z4 : PV} (hd : 0 < d) (hz : TZ m) (hcz4 : cat z4 = 1) : le2 (gd (tg m a0 = 11) <| nm (vl m a0 12) fun v5 => bV (cl (d - 1) 198 [pR a0] m) fun m1 => bI (cl (d - 1) 199 [pR a0] m1) fun v2 m2 => if v2 = 124 then (bI (cl (d - 1) 200 [pR a0, pR 90] m2) fun v3 m3 => if v3 = 0 then (some (.inl (some (pI (-1))), m3)) else bV (cl (d - 1) 198 [pR a0] m3) fun m4 => rn d 252 9 [pR a0, pI a1, pI a3, pI a3, pI v5] [] m4) else some (.inl (some (pI a1)), (mst m2 a0 12 v5))) (rn d 252 41 [pR a0, pI a1, pI a2, pI a3, z4] [] m) := by
  refine r_iln3 (p := 42) f252_41 rfl ?_
  refine r_isn2 (p := 43) f252_42 rfl rfl ?_
  refine r_aln0 (p := 44) f252_43 rfl ?_
  refine le2_gd (fun h1 => ?_)
  refine r_gfI (f := 12) (p := 47) f252_44 rfl rfl rfl (Or.inl h1) rfl ?_
  refine r_nmI (fun v5 ev5 => ?_)
  refine r_isw4 (p := 49) f252_47 rfl rfl ?_
  refine r_aln0 (p := 50) f252_49 rfl ?_
  refine r_invV (p := 53) f252_50 rfl rfl rfl (Or.inl h1) hd (Nat.le_of_ble_eq_true rfl) rfl rfl rfl (fun _ => rfl) (fun m1 c1 => ?_)
  have hz1 := z_k c1 hz
  refine r_aln0 (p := 54) f252_53 rfl ?_
  have h2 := k_t1 c1 hz h1 (by decide)
  refine r_invI (p := 57) f252_54 rfl rfl rfl (Or.inl h2) hd (Nat.le_of_ble_eq_true rfl) rfl rfl rfl (fun _ => rfl) (fun v2 m2 c2 => ?_)
  have hz2 := z_k c2 hz1
  refine r_bipush (p := 59) f252_57 rfl (pinD rfl rfl) ?_
  refine r_iceq (t := 70) (p := 62) f252_59 (by decide) rfl rfl ?_ ?_
  · refine r_aln0 (p := 71) f252_70 rfl ?_
    refine r_ldc_wR (p := 74) f252_71 rfl rfl ?_
    have h3 := k_t1 c2 hz1 h2 (by decide)
    refine r_invI (p := 77) f252_74 rfl rfl rfl (Or.inl h3) hd (Nat.le_of_ble_eq_true rfl) rfl rfl rfl (fun _ => rfl) (fun v3 m3 c3 => ?_)
    have hz3 := z_k c3 hz2
    refine r_ifne (t := 82) (p := 80) f252_77 (by decide) rfl rfl ?_ ?_
    · refine r_iconst (p := 81) f252_80 rfl (pinD rfl rfl) ?_
      exact r_iret1 f252_81
    · refine r_aln0 (p := 83) f252_82 rfl ?_
      have h4 := k_t1 c3 hz2 h3 (by decide)
      refine r_invV (p := 86) f252_83 rfl rfl rfl (Or.inl h4) hd (Nat.le_of_ble_eq_true rfl) rfl rfl rfl (fun _ => rfl) (fun m4 c4 => ?_)
      have hz4 := z_k c4 hz3
      refine r_goto (p := 9) f252_86 (by decide) rfl ?_
      exact le2_refl _
  · refine r_aln0 (p := 63) f252_62 rfl ?_
    refine r_ilw4 (p := 65) f252_63 rfl ?_
    have h5 := k_t1 c2 hz1 h2 (by decide)
    refine r_pfI (f := 12) (p := 68) f252_65 rfl rfl rfl (by decide) (by decide) (Or.inl h5) rfl ?_
    refine r_iln1 (p := 69) f252_68 rfl ?_
    exact r_iret1 f252_69
/-! 253 PathStoreModel.and ()I -/
def w253_3 : List UInt8 := [19, 1, 213, 182, 0, 213, 154, 0, 5, 2, 172, 42, 182, 0, 204, 167, 255, 179]
abbrev u253_3 : List UInt8 := w253_3 ++ []
def w253_2 : List UInt8 := [54, 4, 42, 182, 0, 204, 42, 182, 0, 167, 16, 38, 159, 0, 11, 42, 21, 4, 181, 0, 155, 27, 172, 42]
abbrev u253_2 : List UInt8 := w253_2 ++ u253_3
def w253_1 : List UInt8 := [42, 27, 5, 29, 182, 1, 172, 167, 0, 10, 42, 28, 4, 29, 182, 1, 172, 29, 61, 42, 180, 0, 155]
abbrev u253_1 : List UInt8 := w253_1 ++ u253_2
def w253_0 : List UInt8 := [42, 16, 31, 182, 1, 169, 60, 2, 61, 42, 182, 1, 210, 62, 29, 156, 0, 5, 2, 172, 28, 156, 0, 13]
abbrev u253_0 : List UInt8 := w253_0 ++ u253_1
theorem s253_0 : (prog_32_method_71_code).data.toList.drop 0 = u253_0 := by decide +kernel
theorem s253_1 : (prog_32_method_71_code).data.toList.drop 24 = u253_1 := dk_seg s253_0 24 rfl rfl
theorem s253_2 : (prog_32_method_71_code).data.toList.drop 47 = u253_2 := dk_seg s253_1 23 rfl rfl
theorem s253_3 : (prog_32_method_71_code).data.toList.drop 71 = u253_3 := dk_seg s253_2 24 rfl rfl
theorem Fm253 {pc len : Nat} {i : Instr} (h : decode (prog_32_method_71_code) pc = .ok (i, len)) (hl : len = ilen i len) : ft 253 pc = some (11, 1, 0, i, len) := ft_mk rfl h hl
theorem f253_0 : ft 253 0 = some (11, 1, 0, .aload_n 0, 1) := Fm253 (dk_42 (dk_at s253_0 0 rfl rfl)) rfl
theorem f253_1 : ft 253 1 = some (11, 1, 0, .bipush 31, 2) := Fm253 (dk_16 31 (dk_at s253_0 1 rfl rfl)) rfl
theorem f253_3 : ft 253 3 = some (11, 1, 0, .invokevirtual 425, 3) := Fm253 (dk_182 1 169 (dk_at s253_0 3 rfl rfl)) rfl
theorem f253_6 : ft 253 6 = some (11, 1, 0, .istore_n 1, 1) := Fm253 (dk_60 (dk_at s253_0 6 rfl rfl)) rfl
theorem f253_7 : ft 253 7 = some (11, 1, 0, .iconst (-1), 1) := Fm253 (dk_2 (dk_at s253_0 7 rfl rfl)) rfl
theorem f253_8 : ft 253 8 = some (11, 1, 0, .istore_n 2, 1) := Fm253 (dk_61 (dk_at s253_0 8 rfl rfl)) rfl
theorem f253_9 : ft 253 9 = some (11, 1, 0, .aload_n 0, 1) := Fm253 (dk_42 (dk_at s253_0 9 rfl rfl)) rfl
theorem f253_10 : ft 253 10 = some (11, 1, 0, .invokevirtual 466, 3) := Fm253 (dk_182 1 210 (dk_at s253_0 10 rfl rfl)) rfl
theorem f253_13 : ft 253 13 = some (11, 1, 0, .istore_n 3, 1) := Fm253 (dk_62 (dk_at s253_0 13 rfl rfl)) rfl
theorem f253_14 : ft 253 14 = some (11, 1, 0, .iload_n 3, 1) := Fm253 (dk_29 (dk_at s253_0 14 rfl rfl)) rfl
theorem f253_15 : ft 253 15 = some (11, 1, 0, .ifCond .ge 5, 3) := Fm253 (dk_156 0 5 (dk_at s253_0 15 rfl rfl)) rfl
theorem f253_18 : ft 253 18 = some (11, 1, 0, .iconst (-1), 1) := Fm253 (dk_2 (dk_at s253_0 18 rfl rfl)) rfl
theorem f253_19 : ft 253 19 = some (11, 1, 0, .ireturn, 1) := Fm253 (dk_172 (dk_at s253_0 19 rfl rfl)) rfl
theorem f253_20 : ft 253 20 = some (11, 1, 0, .iload_n 2, 1) := Fm253 (dk_28 (dk_at s253_0 20 rfl rfl)) rfl
theorem f253_21 : ft 253 21 = some (11, 1, 0, .ifCond .ge 13, 3) := Fm253 (dk_156 0 13 (dk_at s253_0 21 rfl rfl)) rfl
theorem f253_24 : ft 253 24 = some (11, 1, 0, .aload_n 0, 1) := Fm253 (dk_42 (dk_at s253_1 0 rfl rfl)) rfl
theorem f253_25 : ft 253 25 = some (11, 1, 0, .iload_n 1, 1) := Fm253 (dk_27 (dk_at s253_1 1 rfl rfl)) rfl
theorem f253_26 : ft 253 26 = some (11, 1, 0, .iconst 2, 1) := Fm253 (dk_5 (dk_at s253_1 2 rfl rfl)) rfl
theorem f253_27 : ft 253 27 = some (11, 1, 0, .iload_n 3, 1) := Fm253 (dk_29 (dk_at s253_1 3 rfl rfl)) rfl
theorem f253_28 : ft 253 28 = some (11, 1, 0, .invokevirtual 428, 3) := Fm253 (dk_182 1 172 (dk_at s253_1 4 rfl rfl)) rfl
theorem f253_31 : ft 253 31 = some (11, 1, 0, .goto 10, 3) := Fm253 (dk_167 0 10 (dk_at s253_1 7 rfl rfl)) rfl
theorem f253_34 : ft 253 34 = some (11, 1, 0, .aload_n 0, 1) := Fm253 (dk_42 (dk_at s253_1 10 rfl rfl)) rfl
theorem f253_35 : ft 253 35 = some (11, 1, 0, .iload_n 2, 1) := Fm253 (dk_28 (dk_at s253_1 11 rfl rfl)) rfl
theorem f253_36 : ft 253 36 = some (11, 1, 0, .iconst 1, 1) := Fm253 (dk_4 (dk_at s253_1 12 rfl rfl)) rfl
theorem f253_37 : ft 253 37 = some (11, 1, 0, .iload_n 3, 1) := Fm253 (dk_29 (dk_at s253_1 13 rfl rfl)) rfl
theorem f253_38 : ft 253 38 = some (11, 1, 0, .invokevirtual 428, 3) := Fm253 (dk_182 1 172 (dk_at s253_1 14 rfl rfl)) rfl
theorem f253_41 : ft 253 41 = some (11, 1, 0, .iload_n 3, 1) := Fm253 (dk_29 (dk_at s253_1 17 rfl rfl)) rfl
theorem f253_42 : ft 253 42 = some (11, 1, 0, .istore_n 2, 1) := Fm253 (dk_61 (dk_at s253_1 18 rfl rfl)) rfl
theorem f253_43 : ft 253 43 = some (11, 1, 0, .aload_n 0, 1) := Fm253 (dk_42 (dk_at s253_1 19 rfl rfl)) rfl
theorem f253_44 : ft 253 44 = some (11, 1, 0, .getfield 155, 3) := Fm253 (dk_180 0 155 (dk_at s253_1 20 rfl rfl)) rfl
theorem f253_47 : ft 253 47 = some (11, 1, 0, .istore 4, 2) := Fm253 (dk_54 4 (dk_at s253_2 0 rfl rfl)) rfl
theorem f253_49 : ft 253 49 = some (11, 1, 0, .aload_n 0, 1) := Fm253 (dk_42 (dk_at s253_2 2 rfl rfl)) rfl
theorem f253_50 : ft 253 50 = some (11, 1, 0, .invokevirtual 204, 3) := Fm253 (dk_182 0 204 (dk_at s253_2 3 rfl rfl)) rfl
theorem f253_53 : ft 253 53 = some (11, 1, 0, .aload_n 0, 1) := Fm253 (dk_42 (dk_at s253_2 6 rfl rfl)) rfl
theorem f253_54 : ft 253 54 = some (11, 1, 0, .invokevirtual 167, 3) := Fm253 (dk_182 0 167 (dk_at s253_2 7 rfl rfl)) rfl
theorem f253_57 : ft 253 57 = some (11, 1, 0, .bipush 38, 2) := Fm253 (dk_16 38 (dk_at s253_2 10 rfl rfl)) rfl
theorem f253_59 : ft 253 59 = some (11, 1, 0, .if_icmp .eq 11, 3) := Fm253 (dk_159 0 11 (dk_at s253_2 12 rfl rfl)) rfl
theorem f253_62 : ft 253 62 = some (11, 1, 0, .aload_n 0, 1) := Fm253 (dk_42 (dk_at s253_2 15 rfl rfl)) rfl
theorem f253_63 : ft 253 63 = some (11, 1, 0, .iload 4, 2) := Fm253 (dk_21 4 (dk_at s253_2 16 rfl rfl)) rfl
theorem f253_65 : ft 253 65 = some (11, 1, 0, .putfield 155, 3) := Fm253 (dk_181 0 155 (dk_at s253_2 18 rfl rfl)) rfl
theorem f253_68 : ft 253 68 = some (11, 1, 0, .iload_n 1, 1) := Fm253 (dk_27 (dk_at s253_2 21 rfl rfl)) rfl
theorem f253_69 : ft 253 69 = some (11, 1, 0, .ireturn, 1) := Fm253 (dk_172 (dk_at s253_2 22 rfl rfl)) rfl
theorem f253_70 : ft 253 70 = some (11, 1, 0, .aload_n 0, 1) := Fm253 (dk_42 (dk_at s253_2 23 rfl rfl)) rfl
theorem f253_71 : ft 253 71 = some (11, 1, 0, .ldc_w 469, 3) := Fm253 (dk_19 1 213 (dk_at s253_3 0 rfl rfl)) rfl
theorem f253_74 : ft 253 74 = some (11, 1, 0, .invokevirtual 213, 3) := Fm253 (dk_182 0 213 (dk_at s253_3 3 rfl rfl)) rfl
theorem f253_77 : ft 253 77 = some (11, 1, 0, .ifCond .ne 5, 3) := Fm253 (dk_154 0 5 (dk_at s253_3 6 rfl rfl)) rfl
theorem f253_80 : ft 253 80 = some (11, 1, 0, .iconst (-1), 1) := Fm253 (dk_2 (dk_at s253_3 9 rfl rfl)) rfl
theorem f253_81 : ft 253 81 = some (11, 1, 0, .ireturn, 1) := Fm253 (dk_172 (dk_at s253_3 10 rfl rfl)) rfl
theorem f253_82 : ft 253 82 = some (11, 1, 0, .aload_n 0, 1) := Fm253 (dk_42 (dk_at s253_3 11 rfl rfl)) rfl
theorem f253_83 : ft 253 83 = some (11, 1, 0, .invokevirtual 204, 3) := Fm253 (dk_182 0 204 (dk_at s253_3 12 rfl rfl)) rfl
theorem f253_86 : ft 253 86 = some (11, 1, 0, .goto (-77), 3) := Fm253 (dk_167 255 179 (dk_at s253_3 15 rfl rfl)) rfl
theorem q253 {d : Nat} {m : Mem} {a0 : Int} (hd : 0 < d) (hz : TZ m) : le2 (gd (tg m a0 = 11) <| bI (cl (d - 1) 245 [pR a0, pI 31] m) fun v1 m1 => rn d 253 9 [pR a0, pI v1, pI (-1), pU, pU] [] m1) (cl d 253 [pR a0] m) := by
  refine q_in (n := 5) (L := [pR a0, pU, pU, pU, pU]) rfl rfl rfl ?_
  refine r_aln0 (p := 1) f253_0 rfl ?_
  refine r_bipush (p := 3) f253_1 rfl (pinD rfl rfl) ?_
  refine le2_gd (fun h1 => ?_)
  refine r_invI (p := 6) f253_3 rfl rfl rfl (Or.inl h1) hd (Nat.le_of_ble_eq_true rfl) rfl rfl rfl (fun _ => rfl) (fun v1 m1 c1 => ?_)
  have hz1 := z_k c1 hz
  refine r_isn1 (p := 7) f253_6 rfl rfl ?_
  refine r_iconst (p := 8) f253_7 rfl (pinD rfl rfl) ?_
  refine r_isn2 (p := 9) f253_8 rfl rfl ?_
  exact le2_refl _
theorem q253_9 {d : Nat} {m : Mem} {a0 a1 a2 : Int} {z3 z4 : PV} (hd : 0 < d) (hz : TZ m) (hcz3 : cat z3 = 1) (hcz4 : cat z4 = 1) : le2 (gd (tg m a0 = 11) <| bI (cl (d - 1) 254 [pR a0] m) fun v1 m1 => if v1 < 0 then (some (.inl (some (pI (-1))), m1)) else if a2 < 0 then (bV (cl (d - 1) 246 [pR a0, pI a1, pI 2, pI v1] m1) fun m3 => rn d 253 41 [pR a0, pI a1, pI a2, pI v1, z4] [] m3) else bV (cl (d - 1) 246 [pR a0, pI a2, pI 1, pI v1] m1) fun m2 => rn d 253 41 [pR a0, pI a1, pI a2, pI v1, z4] [] m2) (rn d 253 9 [pR a0, pI a1, pI a2, z3, z4] [] m) := by
  refine r_aln0 (p := 10) f253_9 rfl ?_
  refine le2_gd (fun h1 => ?_)
  refine r_invI (p := 13) f253_10 rfl rfl rfl (Or.inl h1) hd (Nat.le_of_ble_eq_true rfl) rfl rfl rfl (fun _ => rfl) (fun v1 m1 c1 => ?_)
  have hz1 := z_k c1 hz
  refine r_isn3 (p := 14) f253_13 rfl rfl ?_
  refine r_iln3 (p := 15) f253_14 rfl ?_
  refine r_ifge (t := 20) (p := 18) f253_15 (by decide) rfl rfl ?_ ?_
  · refine r_iconst (p := 19) f253_18 rfl (pinD rfl rfl) ?_
    exact r_iret1 f253_19
  · refine r_iln2 (p := 21) f253_20 rfl ?_
    refine r_ifge (t := 34) (p := 24) f253_21 (by decide) rfl rfl ?_ ?_
    · refine r_aln0 (p := 25) f253_24 rfl ?_
      refine r_iln1 (p := 26) f253_25 rfl ?_
      refine r_iconst (p := 27) f253_26 rfl (pinD rfl rfl) ?_
      refine r_iln3 (p := 28) f253_27 rfl ?_
      have h3 := k_t1 c1 hz h1 (by decide)
      refine r_invV (p := 31) f253_28 rfl rfl rfl (Or.inl h3) hd (Nat.le_of_ble_eq_true rfl) rfl rfl rfl (fun _ => rfl) (fun m3 c3 => ?_)
      have hz3 := z_k c3 hz1
      refine r_goto (p := 41) f253_31 (by decide) rfl ?_
      exact le2_refl _
    · refine r_aln0 (p := 35) f253_34 rfl ?_
      refine r_iln2 (p := 36) f253_35 rfl ?_
      refine r_iconst (p := 37) f253_36 rfl (pinD rfl rfl) ?_
      refine r_iln3 (p := 38) f253_37 rfl ?_
      have h2 := k_t1 c1 hz h1 (by decide)
      refine r_invV (p := 41) f253_38 rfl rfl rfl (Or.inl h2) hd (Nat.le_of_ble_eq_true rfl) rfl rfl rfl (fun _ => rfl) (fun m2 c2 => ?_)
      have hz2 := z_k c2 hz1
      exact le2_refl _
theorem q253_41 {d : Nat} {m : Mem} {a0 a1 a2 a3 : Int} {z4 : PV} (hd : 0 < d) (hz : TZ m) (hcz4 : cat z4 = 1) : le2 (gd (tg m a0 = 11) <| nm (vl m a0 12) fun v5 => bV (cl (d - 1) 198 [pR a0] m) fun m1 => bI (cl (d - 1) 199 [pR a0] m1) fun v2 m2 => if v2 = 38 then (bI (cl (d - 1) 200 [pR a0, pR 88] m2) fun v3 m3 => if v3 = 0 then (some (.inl (some (pI (-1))), m3)) else bV (cl (d - 1) 198 [pR a0] m3) fun m4 => rn d 253 9 [pR a0, pI a1, pI a3, pI a3, pI v5] [] m4) else some (.inl (some (pI a1)), (mst m2 a0 12 v5))) (rn d 253 41 [pR a0, pI a1, pI a2, pI a3, z4] [] m) := by
  refine r_iln3 (p := 42) f253_41 rfl ?_
  refine r_isn2 (p := 43) f253_42 rfl rfl ?_
  refine r_aln0 (p := 44) f253_43 rfl ?_
  refine le2_gd (fun h1 => ?_)
  refine r_gfI (f := 12) (p := 47) f253_44 rfl rfl rfl (Or.inl h1) rfl ?_
  refine r_nmI (fun v5 ev5 => ?_)
  refine r_isw4 (p := 49) f253_47 rfl rfl ?_
  refine r_aln0 (p := 50) f253_49 rfl ?_
  refine r_invV (p := 53) f253_50 rfl rfl rfl (Or.inl h1) hd (Nat.le_of_ble_eq_true rfl) rfl rfl rfl (fun _ => rfl) (fun m1 c1 => ?_)
  have hz1 := z_k c1 hz
  refine r_aln0 (p := 54) f253_53 rfl ?_
  have h2 := k_t1 c1 hz h1 (by decide)
  refine r_invI (p := 57) f253_54 rfl rfl rfl (Or.inl h2) hd (Nat.le_of_ble_eq_true rfl) rfl rfl rfl (fun _ => rfl) (fun v2 m2 c2 => ?_)
  have hz2 := z_k c2 hz1
  refine r_bipush (p := 59) f253_57 rfl (pinD rfl rfl) ?_
  refine r_iceq (t := 70) (p := 62) f253_59 (by decide) rfl rfl ?_ ?_
  · refine r_aln0 (p := 71) f253_70 rfl ?_
    refine r_ldc_wR (p := 74) f253_71 rfl rfl ?_
    have h3 := k_t1 c2 hz1 h2 (by decide)
    refine r_invI (p := 77) f253_74 rfl rfl rfl (Or.inl h3) hd (Nat.le_of_ble_eq_true rfl) rfl rfl rfl (fun _ => rfl) (fun v3 m3 c3 => ?_)
    have hz3 := z_k c3 hz2
    refine r_ifne (t := 82) (p := 80) f253_77 (by decide) rfl rfl ?_ ?_
    · refine r_iconst (p := 81) f253_80 rfl (pinD rfl rfl) ?_
      exact r_iret1 f253_81
    · refine r_aln0 (p := 83) f253_82 rfl ?_
      have h4 := k_t1 c3 hz2 h3 (by decide)
      refine r_invV (p := 86) f253_83 rfl rfl rfl (Or.inl h4) hd (Nat.le_of_ble_eq_true rfl) rfl rfl rfl (fun _ => rfl) (fun m4 c4 => ?_)
      have hz4 := z_k c4 hz3
      refine r_goto (p := 9) f253_86 (by decide) rfl ?_
      exact le2_refl _
  · refine r_aln0 (p := 63) f253_62 rfl ?_
    refine r_ilw4 (p := 65) f253_63 rfl ?_
    have h5 := k_t1 c2 hz1 h2 (by decide)
    refine r_pfI (f := 12) (p := 68) f253_65 rfl rfl rfl (by decide) (by decide) (Or.inl h5) rfl ?_
    refine r_iln1 (p := 69) f253_68 rfl ?_
    exact r_iret1 f253_69
/-! 254 PathStoreModel.basic ()I -/
def w254_12 : List UInt8 := [29, 5, 28, 182, 1, 172, 29, 172]
abbrev u254_12 : List UInt8 := w254_12 ++ []
def w254_11 : List UInt8 := [42, 29, 182, 1, 222, 172, 27, 154, 0, 9, 42, 28, 182, 1, 228, 172, 42, 16, 32, 182, 1, 169, 62, 42]
abbrev u254_11 : List UInt8 := w254_11 ++ u254_12
def w254_10 : List UInt8 := [180, 0, 155, 182, 0, 171, 87, 2, 172, 42, 182, 1, 225, 62, 29, 156, 0, 5, 2, 172, 42, 182, 0, 204]
abbrev u254_10 : List UInt8 := w254_10 ++ u254_11
def w254_9 : List UInt8 := [42, 16, 34, 182, 1, 169, 61, 42, 28, 5, 21, 4, 182, 1, 172, 167, 0, 39, 27, 153, 0, 14, 42, 42]
abbrev u254_9 : List UInt8 := w254_9 ++ u254_10
def w254_8 : List UInt8 := [54, 6, 42, 21, 6, 5, 21, 4, 182, 1, 172, 42, 21, 6, 182, 1, 222, 172, 42, 21, 5, 181, 0, 155]
abbrev u254_8 : List UInt8 := w254_8 ++ u254_9
def w254_7 : List UInt8 := [182, 1, 186, 154, 0, 14, 42, 42, 180, 0, 155, 182, 0, 171, 87, 2, 172, 42, 16, 45, 182, 1, 169]
abbrev u254_7 : List UInt8 := w254_7 ++ u254_8
def w254_6 : List UInt8 := [180, 0, 155, 54, 5, 42, 182, 0, 204, 27, 154, 0, 55, 42, 182, 1, 219, 153, 0, 48, 42, 21, 4, 6]
abbrev u254_6 : List UInt8 := w254_6 ++ u254_7
def w254_5 : List UInt8 := [180, 0, 155, 4, 96, 181, 0, 155, 42, 29, 3, 182, 1, 215, 54, 4, 21, 4, 156, 0, 5, 2, 172, 42]
abbrev u254_5 : List UInt8 := w254_5 ++ u254_6
def w254_4 : List UInt8 := [16, 36, 160, 0, 133, 42, 182, 0, 167, 16, 36, 160, 0, 7, 4, 167, 0, 4, 3, 62, 42, 89]
abbrev u254_4 : List UInt8 := w254_4 ++ u254_5
def w254_3 : List UInt8 := [42, 16, 41, 182, 1, 196, 154, 0, 189, 2, 172, 42, 182, 0, 167, 16, 64, 159, 0, 12, 42, 182, 0, 167]
abbrev u254_3 : List UInt8 := w254_3 ++ u254_4
def w254_2 : List UInt8 := [154, 0, 5, 2, 172, 42, 182, 0, 204, 42, 182, 1, 199, 61, 28, 156, 0, 5, 2, 172, 42, 182, 0, 204]
abbrev u254_2 : List UInt8 := w254_2 ++ u254_3
def w254_1 : List UInt8 := [4, 96, 181, 0, 155, 42, 182, 0, 204, 42, 182, 0, 167, 16, 40, 160, 0, 44, 42, 16, 40, 182, 1, 189]
abbrev u254_1 : List UInt8 := w254_1 ++ u254_2
def w254_0 : List UInt8 := [42, 182, 0, 167, 16, 33, 160, 0, 7, 4, 167, 0, 4, 3, 60, 27, 153, 0, 17, 42, 89, 180, 0, 155]
abbrev u254_0 : List UInt8 := w254_0 ++ u254_1
theorem s254_0 : (prog_32_method_72_code).data.toList.drop 0 = u254_0 := by decide +kernel
theorem s254_1 : (prog_32_method_72_code).data.toList.drop 24 = u254_1 := dk_seg s254_0 24 rfl rfl
theorem s254_2 : (prog_32_method_72_code).data.toList.drop 48 = u254_2 := dk_seg s254_1 24 rfl rfl
theorem s254_3 : (prog_32_method_72_code).data.toList.drop 72 = u254_3 := dk_seg s254_2 24 rfl rfl
theorem s254_4 : (prog_32_method_72_code).data.toList.drop 96 = u254_4 := dk_seg s254_3 24 rfl rfl
theorem s254_5 : (prog_32_method_72_code).data.toList.drop 118 = u254_5 := dk_seg s254_4 22 rfl rfl
theorem s254_6 : (prog_32_method_72_code).data.toList.drop 142 = u254_6 := dk_seg s254_5 24 rfl rfl
theorem s254_7 : (prog_32_method_72_code).data.toList.drop 166 = u254_7 := dk_seg s254_6 24 rfl rfl
theorem s254_8 : (prog_32_method_72_code).data.toList.drop 189 = u254_8 := dk_seg s254_7 23 rfl rfl
theorem s254_9 : (prog_32_method_72_code).data.toList.drop 213 = u254_9 := dk_seg s254_8 24 rfl rfl
theorem s254_10 : (prog_32_method_72_code).data.toList.drop 237 = u254_10 := dk_seg s254_9 24 rfl rfl
theorem s254_11 : (prog_32_method_72_code).data.toList.drop 261 = u254_11 := dk_seg s254_10 24 rfl rfl
theorem s254_12 : (prog_32_method_72_code).data.toList.drop 285 = u254_12 := dk_seg s254_11 24 rfl rfl
theorem Fm254 {pc len : Nat} {i : Instr} (h : decode (prog_32_method_72_code) pc = .ok (i, len)) (hl : len = ilen i len) : ft 254 pc = some (11, 1, 0, i, len) := ft_mk rfl h hl
theorem f254_0 : ft 254 0 = some (11, 1, 0, .aload_n 0, 1) := Fm254 (dk_42 (dk_at s254_0 0 rfl rfl)) rfl
theorem f254_1 : ft 254 1 = some (11, 1, 0, .invokevirtual 167, 3) := Fm254 (dk_182 0 167 (dk_at s254_0 1 rfl rfl)) rfl
theorem f254_4 : ft 254 4 = some (11, 1, 0, .bipush 33, 2) := Fm254 (dk_16 33 (dk_at s254_0 4 rfl rfl)) rfl
theorem f254_6 : ft 254 6 = some (11, 1, 0, .if_icmp .ne 7, 3) := Fm254 (dk_160 0 7 (dk_at s254_0 6 rfl rfl)) rfl
theorem f254_9 : ft 254 9 = some (11, 1, 0, .iconst 1, 1) := Fm254 (dk_4 (dk_at s254_0 9 rfl rfl)) rfl
theorem f254_10 : ft 254 10 = some (11, 1, 0, .goto 4, 3) := Fm254 (dk_167 0 4 (dk_at s254_0 10 rfl rfl)) rfl
theorem f254_13 : ft 254 13 = some (11, 1, 0, .iconst 0, 1) := Fm254 (dk_3 (dk_at s254_0 13 rfl rfl)) rfl
theorem f254_14 : ft 254 14 = some (11, 1, 0, .istore_n 1, 1) := Fm254 (dk_60 (dk_at s254_0 14 rfl rfl)) rfl
theorem f254_15 : ft 254 15 = some (11, 1, 0, .iload_n 1, 1) := Fm254 (dk_27 (dk_at s254_0 15 rfl rfl)) rfl
theorem f254_16 : ft 254 16 = some (11, 1, 0, .ifCond .eq 17, 3) := Fm254 (dk_153 0 17 (dk_at s254_0 16 rfl rfl)) rfl
theorem f254_19 : ft 254 19 = some (11, 1, 0, .aload_n 0, 1) := Fm254 (dk_42 (dk_at s254_0 19 rfl rfl)) rfl
theorem f254_20 : ft 254 20 = some (11, 1, 0, .dup, 1) := Fm254 (dk_89 (dk_at s254_0 20 rfl rfl)) rfl
theorem f254_21 : ft 254 21 = some (11, 1, 0, .getfield 155, 3) := Fm254 (dk_180 0 155 (dk_at s254_0 21 rfl rfl)) rfl
theorem f254_24 : ft 254 24 = some (11, 1, 0, .iconst 1, 1) := Fm254 (dk_4 (dk_at s254_1 0 rfl rfl)) rfl
theorem f254_25 : ft 254 25 = some (11, 1, 0, .iadd, 1) := Fm254 (dk_96 (dk_at s254_1 1 rfl rfl)) rfl
theorem f254_26 : ft 254 26 = some (11, 1, 0, .putfield 155, 3) := Fm254 (dk_181 0 155 (dk_at s254_1 2 rfl rfl)) rfl
theorem f254_29 : ft 254 29 = some (11, 1, 0, .aload_n 0, 1) := Fm254 (dk_42 (dk_at s254_1 5 rfl rfl)) rfl
theorem f254_30 : ft 254 30 = some (11, 1, 0, .invokevirtual 204, 3) := Fm254 (dk_182 0 204 (dk_at s254_1 6 rfl rfl)) rfl
theorem f254_33 : ft 254 33 = some (11, 1, 0, .aload_n 0, 1) := Fm254 (dk_42 (dk_at s254_1 9 rfl rfl)) rfl
theorem f254_34 : ft 254 34 = some (11, 1, 0, .invokevirtual 167, 3) := Fm254 (dk_182 0 167 (dk_at s254_1 10 rfl rfl)) rfl
theorem f254_37 : ft 254 37 = some (11, 1, 0, .bipush 40, 2) := Fm254 (dk_16 40 (dk_at s254_1 13 rfl rfl)) rfl
theorem f254_39 : ft 254 39 = some (11, 1, 0, .if_icmp .ne 44, 3) := Fm254 (dk_160 0 44 (dk_at s254_1 15 rfl rfl)) rfl
theorem f254_42 : ft 254 42 = some (11, 1, 0, .aload_n 0, 1) := Fm254 (dk_42 (dk_at s254_1 18 rfl rfl)) rfl
theorem f254_43 : ft 254 43 = some (11, 1, 0, .bipush 40, 2) := Fm254 (dk_16 40 (dk_at s254_1 19 rfl rfl)) rfl
theorem f254_45 : ft 254 45 = some (11, 1, 0, .invokevirtual 445, 3) := Fm254 (dk_182 1 189 (dk_at s254_1 21 rfl rfl)) rfl
theorem f254_48 : ft 254 48 = some (11, 1, 0, .ifCond .ne 5, 3) := Fm254 (dk_154 0 5 (dk_at s254_2 0 rfl rfl)) rfl
theorem f254_51 : ft 254 51 = some (11, 1, 0, .iconst (-1), 1) := Fm254 (dk_2 (dk_at s254_2 3 rfl rfl)) rfl
theorem f254_52 : ft 254 52 = some (11, 1, 0, .ireturn, 1) := Fm254 (dk_172 (dk_at s254_2 4 rfl rfl)) rfl
theorem f254_53 : ft 254 53 = some (11, 1, 0, .aload_n 0, 1) := Fm254 (dk_42 (dk_at s254_2 5 rfl rfl)) rfl
theorem f254_54 : ft 254 54 = some (11, 1, 0, .invokevirtual 204, 3) := Fm254 (dk_182 0 204 (dk_at s254_2 6 rfl rfl)) rfl
theorem f254_57 : ft 254 57 = some (11, 1, 0, .aload_n 0, 1) := Fm254 (dk_42 (dk_at s254_2 9 rfl rfl)) rfl
theorem f254_58 : ft 254 58 = some (11, 1, 0, .invokevirtual 455, 3) := Fm254 (dk_182 1 199 (dk_at s254_2 10 rfl rfl)) rfl
theorem f254_61 : ft 254 61 = some (11, 1, 0, .istore_n 2, 1) := Fm254 (dk_61 (dk_at s254_2 13 rfl rfl)) rfl
theorem f254_62 : ft 254 62 = some (11, 1, 0, .iload_n 2, 1) := Fm254 (dk_28 (dk_at s254_2 14 rfl rfl)) rfl
theorem f254_63 : ft 254 63 = some (11, 1, 0, .ifCond .ge 5, 3) := Fm254 (dk_156 0 5 (dk_at s254_2 15 rfl rfl)) rfl
theorem f254_66 : ft 254 66 = some (11, 1, 0, .iconst (-1), 1) := Fm254 (dk_2 (dk_at s254_2 18 rfl rfl)) rfl
theorem f254_67 : ft 254 67 = some (11, 1, 0, .ireturn, 1) := Fm254 (dk_172 (dk_at s254_2 19 rfl rfl)) rfl
theorem f254_68 : ft 254 68 = some (11, 1, 0, .aload_n 0, 1) := Fm254 (dk_42 (dk_at s254_2 20 rfl rfl)) rfl
theorem f254_69 : ft 254 69 = some (11, 1, 0, .invokevirtual 204, 3) := Fm254 (dk_182 0 204 (dk_at s254_2 21 rfl rfl)) rfl
theorem f254_72 : ft 254 72 = some (11, 1, 0, .aload_n 0, 1) := Fm254 (dk_42 (dk_at s254_3 0 rfl rfl)) rfl
theorem f254_73 : ft 254 73 = some (11, 1, 0, .bipush 41, 2) := Fm254 (dk_16 41 (dk_at s254_3 1 rfl rfl)) rfl
theorem f254_75 : ft 254 75 = some (11, 1, 0, .invokevirtual 452, 3) := Fm254 (dk_182 1 196 (dk_at s254_3 3 rfl rfl)) rfl
theorem f254_78 : ft 254 78 = some (11, 1, 0, .ifCond .ne 189, 3) := Fm254 (dk_154 0 189 (dk_at s254_3 6 rfl rfl)) rfl
theorem f254_81 : ft 254 81 = some (11, 1, 0, .iconst (-1), 1) := Fm254 (dk_2 (dk_at s254_3 9 rfl rfl)) rfl
theorem f254_82 : ft 254 82 = some (11, 1, 0, .ireturn, 1) := Fm254 (dk_172 (dk_at s254_3 10 rfl rfl)) rfl
theorem f254_83 : ft 254 83 = some (11, 1, 0, .aload_n 0, 1) := Fm254 (dk_42 (dk_at s254_3 11 rfl rfl)) rfl
theorem f254_84 : ft 254 84 = some (11, 1, 0, .invokevirtual 167, 3) := Fm254 (dk_182 0 167 (dk_at s254_3 12 rfl rfl)) rfl
theorem f254_87 : ft 254 87 = some (11, 1, 0, .bipush 64, 2) := Fm254 (dk_16 64 (dk_at s254_3 15 rfl rfl)) rfl
theorem f254_89 : ft 254 89 = some (11, 1, 0, .if_icmp .eq 12, 3) := Fm254 (dk_159 0 12 (dk_at s254_3 17 rfl rfl)) rfl
theorem f254_92 : ft 254 92 = some (11, 1, 0, .aload_n 0, 1) := Fm254 (dk_42 (dk_at s254_3 20 rfl rfl)) rfl
theorem f254_93 : ft 254 93 = some (11, 1, 0, .invokevirtual 167, 3) := Fm254 (dk_182 0 167 (dk_at s254_3 21 rfl rfl)) rfl
theorem f254_96 : ft 254 96 = some (11, 1, 0, .bipush 36, 2) := Fm254 (dk_16 36 (dk_at s254_4 0 rfl rfl)) rfl
theorem f254_98 : ft 254 98 = some (11, 1, 0, .if_icmp .ne 133, 3) := Fm254 (dk_160 0 133 (dk_at s254_4 2 rfl rfl)) rfl
theorem f254_101 : ft 254 101 = some (11, 1, 0, .aload_n 0, 1) := Fm254 (dk_42 (dk_at s254_4 5 rfl rfl)) rfl
theorem f254_102 : ft 254 102 = some (11, 1, 0, .invokevirtual 167, 3) := Fm254 (dk_182 0 167 (dk_at s254_4 6 rfl rfl)) rfl
theorem f254_105 : ft 254 105 = some (11, 1, 0, .bipush 36, 2) := Fm254 (dk_16 36 (dk_at s254_4 9 rfl rfl)) rfl
theorem f254_107 : ft 254 107 = some (11, 1, 0, .if_icmp .ne 7, 3) := Fm254 (dk_160 0 7 (dk_at s254_4 11 rfl rfl)) rfl
theorem f254_110 : ft 254 110 = some (11, 1, 0, .iconst 1, 1) := Fm254 (dk_4 (dk_at s254_4 14 rfl rfl)) rfl
theorem f254_111 : ft 254 111 = some (11, 1, 0, .goto 4, 3) := Fm254 (dk_167 0 4 (dk_at s254_4 15 rfl rfl)) rfl
theorem f254_114 : ft 254 114 = some (11, 1, 0, .iconst 0, 1) := Fm254 (dk_3 (dk_at s254_4 18 rfl rfl)) rfl
theorem f254_115 : ft 254 115 = some (11, 1, 0, .istore_n 3, 1) := Fm254 (dk_62 (dk_at s254_4 19 rfl rfl)) rfl
theorem f254_116 : ft 254 116 = some (11, 1, 0, .aload_n 0, 1) := Fm254 (dk_42 (dk_at s254_4 20 rfl rfl)) rfl
theorem f254_117 : ft 254 117 = some (11, 1, 0, .dup, 1) := Fm254 (dk_89 (dk_at s254_4 21 rfl rfl)) rfl
theorem f254_118 : ft 254 118 = some (11, 1, 0, .getfield 155, 3) := Fm254 (dk_180 0 155 (dk_at s254_5 0 rfl rfl)) rfl
theorem f254_121 : ft 254 121 = some (11, 1, 0, .iconst 1, 1) := Fm254 (dk_4 (dk_at s254_5 3 rfl rfl)) rfl
theorem f254_122 : ft 254 122 = some (11, 1, 0, .iadd, 1) := Fm254 (dk_96 (dk_at s254_5 4 rfl rfl)) rfl
theorem f254_123 : ft 254 123 = some (11, 1, 0, .putfield 155, 3) := Fm254 (dk_181 0 155 (dk_at s254_5 5 rfl rfl)) rfl
theorem f254_126 : ft 254 126 = some (11, 1, 0, .aload_n 0, 1) := Fm254 (dk_42 (dk_at s254_5 8 rfl rfl)) rfl
theorem f254_127 : ft 254 127 = some (11, 1, 0, .iload_n 3, 1) := Fm254 (dk_29 (dk_at s254_5 9 rfl rfl)) rfl
theorem f254_128 : ft 254 128 = some (11, 1, 0, .iconst 0, 1) := Fm254 (dk_3 (dk_at s254_5 10 rfl rfl)) rfl
theorem f254_129 : ft 254 129 = some (11, 1, 0, .invokevirtual 471, 3) := Fm254 (dk_182 1 215 (dk_at s254_5 11 rfl rfl)) rfl
theorem f254_132 : ft 254 132 = some (11, 1, 0, .istore 4, 2) := Fm254 (dk_54 4 (dk_at s254_5 14 rfl rfl)) rfl
theorem f254_134 : ft 254 134 = some (11, 1, 0, .iload 4, 2) := Fm254 (dk_21 4 (dk_at s254_5 16 rfl rfl)) rfl
theorem f254_136 : ft 254 136 = some (11, 1, 0, .ifCond .ge 5, 3) := Fm254 (dk_156 0 5 (dk_at s254_5 18 rfl rfl)) rfl
theorem f254_139 : ft 254 139 = some (11, 1, 0, .iconst (-1), 1) := Fm254 (dk_2 (dk_at s254_5 21 rfl rfl)) rfl
theorem f254_140 : ft 254 140 = some (11, 1, 0, .ireturn, 1) := Fm254 (dk_172 (dk_at s254_5 22 rfl rfl)) rfl
theorem f254_141 : ft 254 141 = some (11, 1, 0, .aload_n 0, 1) := Fm254 (dk_42 (dk_at s254_5 23 rfl rfl)) rfl
theorem f254_142 : ft 254 142 = some (11, 1, 0, .getfield 155, 3) := Fm254 (dk_180 0 155 (dk_at s254_6 0 rfl rfl)) rfl
theorem f254_145 : ft 254 145 = some (11, 1, 0, .istore 5, 2) := Fm254 (dk_54 5 (dk_at s254_6 3 rfl rfl)) rfl
theorem f254_147 : ft 254 147 = some (11, 1, 0, .aload_n 0, 1) := Fm254 (dk_42 (dk_at s254_6 5 rfl rfl)) rfl
theorem f254_148 : ft 254 148 = some (11, 1, 0, .invokevirtual 204, 3) := Fm254 (dk_182 0 204 (dk_at s254_6 6 rfl rfl)) rfl
theorem f254_151 : ft 254 151 = some (11, 1, 0, .iload_n 1, 1) := Fm254 (dk_27 (dk_at s254_6 9 rfl rfl)) rfl
theorem f254_152 : ft 254 152 = some (11, 1, 0, .ifCond .ne 55, 3) := Fm254 (dk_154 0 55 (dk_at s254_6 10 rfl rfl)) rfl
theorem f254_155 : ft 254 155 = some (11, 1, 0, .aload_n 0, 1) := Fm254 (dk_42 (dk_at s254_6 13 rfl rfl)) rfl
theorem f254_156 : ft 254 156 = some (11, 1, 0, .invokevirtual 475, 3) := Fm254 (dk_182 1 219 (dk_at s254_6 14 rfl rfl)) rfl
theorem f254_159 : ft 254 159 = some (11, 1, 0, .ifCond .eq 48, 3) := Fm254 (dk_153 0 48 (dk_at s254_6 17 rfl rfl)) rfl
theorem f254_162 : ft 254 162 = some (11, 1, 0, .aload_n 0, 1) := Fm254 (dk_42 (dk_at s254_6 20 rfl rfl)) rfl
theorem f254_163 : ft 254 163 = some (11, 1, 0, .iload 4, 2) := Fm254 (dk_21 4 (dk_at s254_6 21 rfl rfl)) rfl
theorem f254_165 : ft 254 165 = some (11, 1, 0, .iconst 3, 1) := Fm254 (dk_6 (dk_at s254_6 23 rfl rfl)) rfl
theorem f254_166 : ft 254 166 = some (11, 1, 0, .invokevirtual 442, 3) := Fm254 (dk_182 1 186 (dk_at s254_7 0 rfl rfl)) rfl
theorem f254_169 : ft 254 169 = some (11, 1, 0, .ifCond .ne 14, 3) := Fm254 (dk_154 0 14 (dk_at s254_7 3 rfl rfl)) rfl
theorem f254_172 : ft 254 172 = some (11, 1, 0, .aload_n 0, 1) := Fm254 (dk_42 (dk_at s254_7 6 rfl rfl)) rfl
theorem f254_173 : ft 254 173 = some (11, 1, 0, .aload_n 0, 1) := Fm254 (dk_42 (dk_at s254_7 7 rfl rfl)) rfl
theorem f254_174 : ft 254 174 = some (11, 1, 0, .getfield 155, 3) := Fm254 (dk_180 0 155 (dk_at s254_7 8 rfl rfl)) rfl
theorem f254_177 : ft 254 177 = some (11, 1, 0, .invokevirtual 171, 3) := Fm254 (dk_182 0 171 (dk_at s254_7 11 rfl rfl)) rfl
theorem f254_180 : ft 254 180 = some (11, 1, 0, .pop, 1) := Fm254 (dk_87 (dk_at s254_7 14 rfl rfl)) rfl
theorem f254_181 : ft 254 181 = some (11, 1, 0, .iconst (-1), 1) := Fm254 (dk_2 (dk_at s254_7 15 rfl rfl)) rfl
theorem f254_182 : ft 254 182 = some (11, 1, 0, .ireturn, 1) := Fm254 (dk_172 (dk_at s254_7 16 rfl rfl)) rfl
theorem f254_183 : ft 254 183 = some (11, 1, 0, .aload_n 0, 1) := Fm254 (dk_42 (dk_at s254_7 17 rfl rfl)) rfl
theorem f254_184 : ft 254 184 = some (11, 1, 0, .bipush 45, 2) := Fm254 (dk_16 45 (dk_at s254_7 18 rfl rfl)) rfl
theorem f254_186 : ft 254 186 = some (11, 1, 0, .invokevirtual 425, 3) := Fm254 (dk_182 1 169 (dk_at s254_7 20 rfl rfl)) rfl
theorem f254_189 : ft 254 189 = some (11, 1, 0, .istore 6, 2) := Fm254 (dk_54 6 (dk_at s254_8 0 rfl rfl)) rfl
theorem f254_191 : ft 254 191 = some (11, 1, 0, .aload_n 0, 1) := Fm254 (dk_42 (dk_at s254_8 2 rfl rfl)) rfl
theorem f254_192 : ft 254 192 = some (11, 1, 0, .iload 6, 2) := Fm254 (dk_21 6 (dk_at s254_8 3 rfl rfl)) rfl
theorem f254_194 : ft 254 194 = some (11, 1, 0, .iconst 2, 1) := Fm254 (dk_5 (dk_at s254_8 5 rfl rfl)) rfl
theorem f254_195 : ft 254 195 = some (11, 1, 0, .iload 4, 2) := Fm254 (dk_21 4 (dk_at s254_8 6 rfl rfl)) rfl
theorem f254_197 : ft 254 197 = some (11, 1, 0, .invokevirtual 428, 3) := Fm254 (dk_182 1 172 (dk_at s254_8 8 rfl rfl)) rfl
theorem f254_200 : ft 254 200 = some (11, 1, 0, .aload_n 0, 1) := Fm254 (dk_42 (dk_at s254_8 11 rfl rfl)) rfl
theorem f254_201 : ft 254 201 = some (11, 1, 0, .iload 6, 2) := Fm254 (dk_21 6 (dk_at s254_8 12 rfl rfl)) rfl
theorem f254_203 : ft 254 203 = some (11, 1, 0, .invokevirtual 478, 3) := Fm254 (dk_182 1 222 (dk_at s254_8 14 rfl rfl)) rfl
theorem f254_206 : ft 254 206 = some (11, 1, 0, .ireturn, 1) := Fm254 (dk_172 (dk_at s254_8 17 rfl rfl)) rfl
theorem f254_207 : ft 254 207 = some (11, 1, 0, .aload_n 0, 1) := Fm254 (dk_42 (dk_at s254_8 18 rfl rfl)) rfl
theorem f254_208 : ft 254 208 = some (11, 1, 0, .iload 5, 2) := Fm254 (dk_21 5 (dk_at s254_8 19 rfl rfl)) rfl
theorem f254_210 : ft 254 210 = some (11, 1, 0, .putfield 155, 3) := Fm254 (dk_181 0 155 (dk_at s254_8 21 rfl rfl)) rfl
theorem f254_213 : ft 254 213 = some (11, 1, 0, .aload_n 0, 1) := Fm254 (dk_42 (dk_at s254_9 0 rfl rfl)) rfl
theorem f254_214 : ft 254 214 = some (11, 1, 0, .bipush 34, 2) := Fm254 (dk_16 34 (dk_at s254_9 1 rfl rfl)) rfl
theorem f254_216 : ft 254 216 = some (11, 1, 0, .invokevirtual 425, 3) := Fm254 (dk_182 1 169 (dk_at s254_9 3 rfl rfl)) rfl
theorem f254_219 : ft 254 219 = some (11, 1, 0, .istore_n 2, 1) := Fm254 (dk_61 (dk_at s254_9 6 rfl rfl)) rfl
theorem f254_220 : ft 254 220 = some (11, 1, 0, .aload_n 0, 1) := Fm254 (dk_42 (dk_at s254_9 7 rfl rfl)) rfl
theorem f254_221 : ft 254 221 = some (11, 1, 0, .iload_n 2, 1) := Fm254 (dk_28 (dk_at s254_9 8 rfl rfl)) rfl
theorem f254_222 : ft 254 222 = some (11, 1, 0, .iconst 2, 1) := Fm254 (dk_5 (dk_at s254_9 9 rfl rfl)) rfl
theorem f254_223 : ft 254 223 = some (11, 1, 0, .iload 4, 2) := Fm254 (dk_21 4 (dk_at s254_9 10 rfl rfl)) rfl
theorem f254_225 : ft 254 225 = some (11, 1, 0, .invokevirtual 428, 3) := Fm254 (dk_182 1 172 (dk_at s254_9 12 rfl rfl)) rfl
theorem f254_228 : ft 254 228 = some (11, 1, 0, .goto 39, 3) := Fm254 (dk_167 0 39 (dk_at s254_9 15 rfl rfl)) rfl
theorem f254_231 : ft 254 231 = some (11, 1, 0, .iload_n 1, 1) := Fm254 (dk_27 (dk_at s254_9 18 rfl rfl)) rfl
theorem f254_232 : ft 254 232 = some (11, 1, 0, .ifCond .eq 14, 3) := Fm254 (dk_153 0 14 (dk_at s254_9 19 rfl rfl)) rfl
theorem f254_235 : ft 254 235 = some (11, 1, 0, .aload_n 0, 1) := Fm254 (dk_42 (dk_at s254_9 22 rfl rfl)) rfl
theorem f254_236 : ft 254 236 = some (11, 1, 0, .aload_n 0, 1) := Fm254 (dk_42 (dk_at s254_9 23 rfl rfl)) rfl
theorem f254_237 : ft 254 237 = some (11, 1, 0, .getfield 155, 3) := Fm254 (dk_180 0 155 (dk_at s254_10 0 rfl rfl)) rfl
theorem f254_240 : ft 254 240 = some (11, 1, 0, .invokevirtual 171, 3) := Fm254 (dk_182 0 171 (dk_at s254_10 3 rfl rfl)) rfl
theorem f254_243 : ft 254 243 = some (11, 1, 0, .pop, 1) := Fm254 (dk_87 (dk_at s254_10 6 rfl rfl)) rfl
theorem f254_244 : ft 254 244 = some (11, 1, 0, .iconst (-1), 1) := Fm254 (dk_2 (dk_at s254_10 7 rfl rfl)) rfl
theorem f254_245 : ft 254 245 = some (11, 1, 0, .ireturn, 1) := Fm254 (dk_172 (dk_at s254_10 8 rfl rfl)) rfl
theorem f254_246 : ft 254 246 = some (11, 1, 0, .aload_n 0, 1) := Fm254 (dk_42 (dk_at s254_10 9 rfl rfl)) rfl
theorem f254_247 : ft 254 247 = some (11, 1, 0, .invokevirtual 481, 3) := Fm254 (dk_182 1 225 (dk_at s254_10 10 rfl rfl)) rfl
theorem f254_250 : ft 254 250 = some (11, 1, 0, .istore_n 3, 1) := Fm254 (dk_62 (dk_at s254_10 13 rfl rfl)) rfl
theorem f254_251 : ft 254 251 = some (11, 1, 0, .iload_n 3, 1) := Fm254 (dk_29 (dk_at s254_10 14 rfl rfl)) rfl
theorem f254_252 : ft 254 252 = some (11, 1, 0, .ifCond .ge 5, 3) := Fm254 (dk_156 0 5 (dk_at s254_10 15 rfl rfl)) rfl
theorem f254_255 : ft 254 255 = some (11, 1, 0, .iconst (-1), 1) := Fm254 (dk_2 (dk_at s254_10 18 rfl rfl)) rfl
theorem f254_256 : ft 254 256 = some (11, 1, 0, .ireturn, 1) := Fm254 (dk_172 (dk_at s254_10 19 rfl rfl)) rfl
theorem f254_257 : ft 254 257 = some (11, 1, 0, .aload_n 0, 1) := Fm254 (dk_42 (dk_at s254_10 20 rfl rfl)) rfl
theorem f254_258 : ft 254 258 = some (11, 1, 0, .invokevirtual 204, 3) := Fm254 (dk_182 0 204 (dk_at s254_10 21 rfl rfl)) rfl
theorem f254_261 : ft 254 261 = some (11, 1, 0, .aload_n 0, 1) := Fm254 (dk_42 (dk_at s254_11 0 rfl rfl)) rfl
theorem f254_262 : ft 254 262 = some (11, 1, 0, .iload_n 3, 1) := Fm254 (dk_29 (dk_at s254_11 1 rfl rfl)) rfl
theorem f254_263 : ft 254 263 = some (11, 1, 0, .invokevirtual 478, 3) := Fm254 (dk_182 1 222 (dk_at s254_11 2 rfl rfl)) rfl
theorem f254_266 : ft 254 266 = some (11, 1, 0, .ireturn, 1) := Fm254 (dk_172 (dk_at s254_11 5 rfl rfl)) rfl
theorem f254_267 : ft 254 267 = some (11, 1, 0, .iload_n 1, 1) := Fm254 (dk_27 (dk_at s254_11 6 rfl rfl)) rfl
theorem f254_268 : ft 254 268 = some (11, 1, 0, .ifCond .ne 9, 3) := Fm254 (dk_154 0 9 (dk_at s254_11 7 rfl rfl)) rfl
theorem f254_271 : ft 254 271 = some (11, 1, 0, .aload_n 0, 1) := Fm254 (dk_42 (dk_at s254_11 10 rfl rfl)) rfl
theorem f254_272 : ft 254 272 = some (11, 1, 0, .iload_n 2, 1) := Fm254 (dk_28 (dk_at s254_11 11 rfl rfl)) rfl
theorem f254_273 : ft 254 273 = some (11, 1, 0, .invokevirtual 484, 3) := Fm254 (dk_182 1 228 (dk_at s254_11 12 rfl rfl)) rfl
theorem f254_276 : ft 254 276 = some (11, 1, 0, .ireturn, 1) := Fm254 (dk_172 (dk_at s254_11 15 rfl rfl)) rfl
theorem f254_277 : ft 254 277 = some (11, 1, 0, .aload_n 0, 1) := Fm254 (dk_42 (dk_at s254_11 16 rfl rfl)) rfl
theorem f254_278 : ft 254 278 = some (11, 1, 0, .bipush 32, 2) := Fm254 (dk_16 32 (dk_at s254_11 17 rfl rfl)) rfl
theorem f254_280 : ft 254 280 = some (11, 1, 0, .invokevirtual 425, 3) := Fm254 (dk_182 1 169 (dk_at s254_11 19 rfl rfl)) rfl
theorem f254_283 : ft 254 283 = some (11, 1, 0, .istore_n 3, 1) := Fm254 (dk_62 (dk_at s254_11 22 rfl rfl)) rfl
theorem f254_284 : ft 254 284 = some (11, 1, 0, .aload_n 0, 1) := Fm254 (dk_42 (dk_at s254_11 23 rfl rfl)) rfl
theorem f254_285 : ft 254 285 = some (11, 1, 0, .iload_n 3, 1) := Fm254 (dk_29 (dk_at s254_12 0 rfl rfl)) rfl
theorem f254_286 : ft 254 286 = some (11, 1, 0, .iconst 2, 1) := Fm254 (dk_5 (dk_at s254_12 1 rfl rfl)) rfl
theorem f254_287 : ft 254 287 = some (11, 1, 0, .iload_n 2, 1) := Fm254 (dk_28 (dk_at s254_12 2 rfl rfl)) rfl
theorem f254_288 : ft 254 288 = some (11, 1, 0, .invokevirtual 428, 3) := Fm254 (dk_182 1 172 (dk_at s254_12 3 rfl rfl)) rfl
theorem f254_291 : ft 254 291 = some (11, 1, 0, .iload_n 3, 1) := Fm254 (dk_29 (dk_at s254_12 6 rfl rfl)) rfl
theorem f254_292 : ft 254 292 = some (11, 1, 0, .ireturn, 1) := Fm254 (dk_172 (dk_at s254_12 7 rfl rfl)) rfl
theorem q254 {d : Nat} {m : Mem} {a0 : Int} (hd : 0 < d) (hz : TZ m) : le2 (gd (tg m a0 = 11) <| bI (cl (d - 1) 199 [pR a0] m) fun v1 m1 => if v1 = 33 then (rn d 254 14 [pR a0, pU, pU, pU, pU, pU, pU] [pI 1] m1) else rn d 254 14 [pR a0, pU, pU, pU, pU, pU, pU] [pI 0] m1) (cl d 254 [pR a0] m) := by
  refine q_in (n := 7) (L := [pR a0, pU, pU, pU, pU, pU, pU]) rfl rfl rfl ?_
  refine r_aln0 (p := 1) f254_0 rfl ?_
  refine le2_gd (fun h1 => ?_)
  refine r_invI (p := 4) f254_1 rfl rfl rfl (Or.inl h1) hd (Nat.le_of_ble_eq_true rfl) rfl rfl rfl (fun _ => rfl) (fun v1 m1 c1 => ?_)
  have hz1 := z_k c1 hz
  refine r_bipush (p := 6) f254_4 rfl (pinD rfl rfl) ?_
  refine r_icne (t := 13) (p := 9) f254_6 (by decide) rfl rfl ?_ ?_
  · refine r_iconst (p := 10) f254_9 rfl (pinD rfl rfl) ?_
    refine r_goto (p := 14) f254_10 (by decide) rfl ?_
    exact le2_refl _
  · refine r_iconst (p := 14) f254_13 rfl (pinD rfl rfl) ?_
    exact le2_refl _
theorem q254_14 {d : Nat} {m : Mem} {a0 s0 : Int} (hd : 0 < d) (hz : TZ m) : le2 (if s0 = 0 then (rn d 254 33 [pR a0, pI s0, pU, pU, pU, pU, pU] [] m) else gd (tg m a0 = 11) <| bV (cl (d - 1) 198 [pR a0] (mst m a0 12 (w32 ((vl m a0 12) + 1)))) fun m1 => rn d 254 33 [pR a0, pI s0, pU, pU, pU, pU, pU] [] m1) (rn d 254 14 [pR a0, pU, pU, pU, pU, pU, pU] [pI s0] m) := by
  refine r_isn1 (p := 15) f254_14 rfl rfl ?_
  refine r_iln1 (p := 16) f254_15 rfl ?_
  refine r_ifeq (t := 33) (p := 19) f254_16 (by decide) rfl rfl ?_ ?_
  · exact le2_refl _
  · refine r_aln0 (p := 20) f254_19 rfl ?_
    refine r_dup (p := 21) f254_20 rfl rfl ?_
    refine le2_gd (fun h1 => ?_)
    refine r_gfI (f := 12) (p := 24) f254_21 rfl rfl rfl (Or.inl h1) rfl ?_
    refine r_iconst (p := 25) f254_24 rfl (pinD rfl rfl) ?_
    refine r_iadd (p := 26) f254_25 rfl ?_
    refine r_pfI (f := 12) (p := 29) f254_26 rfl rfl rfl (by decide) (by decide) (Or.inl h1) rfl ?_
    refine r_aln0 (p := 30) f254_29 rfl ?_
    refine r_invV (p := 33) f254_30 rfl rfl rfl (Or.inl h1) hd (Nat.le_of_ble_eq_true rfl) rfl rfl rfl (fun _ => rfl) (fun m1 c1 => ?_)
    have hz1 := z_k c1 hz
    exact le2_refl _
theorem q254_33 {d : Nat} {m : Mem} {a0 a1 : Int} (hd : 0 < d) (hz : TZ m) : le2 (gd (tg m a0 = 11) <| bI (cl (d - 1) 199 [pR a0] m) fun v1 m1 => if v1 = 40 then (bI (cl (d - 1) 249 [pR a0, pI 40] m1) fun v10 m10 => if v10 = 0 then (some (.inl (some (pI (-1))), m10)) else bV (cl (d - 1) 198 [pR a0] m10) fun m11 => bI (cl (d - 1) 252 [pR a0] m11) fun v12 m12 => if v12 < 0 then (some (.inl (some (pI (-1))), m12)) else bV (cl (d - 1) 198 [pR a0] m12) fun m13 => bI (cl (d - 1) 255 [pR a0, pI 41] m13) fun v14 m14 => if v14 = 0 then (some (.inl (some (pI (-1))), m14)) else rn d 254 267 [pR a0, pI a1, pI v12, pU, pU, pU, pU] [] m14) else bI (cl (d - 1) 199 [pR a0] m1) fun v2 m2 => if v2 = 64 then (bI (cl (d - 1) 199 [pR a0] m2) fun v3 m3 => if v3 = 36 then (rn d 254 115 [pR a0, pI a1, pU, pU, pU, pU, pU] [pI 1] m3) else rn d 254 115 [pR a0, pI a1, pU, pU, pU, pU, pU] [pI 0] m3) else bI (cl (d - 1) 199 [pR a0] m2) fun v4 m4 => if v4 = 36 then (bI (cl (d - 1) 199 [pR a0] m4) fun v9 m9 => if v9 = 36 then (rn d 254 115 [pR a0, pI a1, pU, pU, pU, pU, pU] [pI 1] m9) else rn d 254 115 [pR a0, pI a1, pU, pU, pU, pU, pU] [pI 0] m9) else if a1 = 0 then (bI (cl (d - 1) 258 [pR a0] m4) fun v5 m5 => if v5 < 0 then (some (.inl (some (pI (-1))), m5)) else bV (cl (d - 1) 198 [pR a0] m5) fun m6 => bI (cl (d - 1) 257 [pR a0, pI v5] m6) fun v7 m7 => some (.inl (some (pI v7)), m7)) else bI (cl (d - 1) 202 [pR a0, pI (vl m4 a0 12)] m4) fun v8 m8 => some (.inl (some (pI (-1))), m8)) (rn d 254 33 [pR a0, pI a1, pU, pU, pU, pU, pU] [] m) := by
  refine r_aln0 (p := 34) f254_33 rfl ?_
  refine le2_gd (fun h1 => ?_)
  refine r_invI (p := 37) f254_34 rfl rfl rfl (Or.inl h1) hd (Nat.le_of_ble_eq_true rfl) rfl rfl rfl (fun _ => rfl) (fun v1 m1 c1 => ?_)
  have hz1 := z_k c1 hz
  refine r_bipush (p := 39) f254_37 rfl (pinD rfl rfl) ?_
  refine r_icne (t := 83) (p := 42) f254_39 (by decide) rfl rfl ?_ ?_
  · refine r_aln0 (p := 43) f254_42 rfl ?_
    refine r_bipush (p := 45) f254_43 rfl (pinD rfl rfl) ?_
    have h10 := k_t1 c1 hz h1 (by decide)
    refine r_invI (p := 48) f254_45 rfl rfl rfl (Or.inl h10) hd (Nat.le_of_ble_eq_true rfl) rfl rfl rfl (fun _ => rfl) (fun v10 m10 c10 => ?_)
    have hz10 := z_k c10 hz1
    refine r_ifne (t := 53) (p := 51) f254_48 (by decide) rfl rfl ?_ ?_
    · refine r_iconst (p := 52) f254_51 rfl (pinD rfl rfl) ?_
      exact r_iret1 f254_52
    · refine r_aln0 (p := 54) f254_53 rfl ?_
      have h11 := k_t1 c10 hz1 h10 (by decide)
      refine r_invV (p := 57) f254_54 rfl rfl rfl (Or.inl h11) hd (Nat.le_of_ble_eq_true rfl) rfl rfl rfl (fun _ => rfl) (fun m11 c11 => ?_)
      have hz11 := z_k c11 hz10
      refine r_aln0 (p := 58) f254_57 rfl ?_
      have h12 := k_t1 c11 hz10 h11 (by decide)
      refine r_invI (p := 61) f254_58 rfl rfl rfl (Or.inl h12) hd (Nat.le_of_ble_eq_true rfl) rfl rfl rfl (fun _ => rfl) (fun v12 m12 c12 => ?_)
      have hz12 := z_k c12 hz11
      refine r_isn2 (p := 62) f254_61 rfl rfl ?_
      refine r_iln2 (p := 63) f254_62 rfl ?_
      refine r_ifge (t := 68) (p := 66) f254_63 (by decide) rfl rfl ?_ ?_
      · refine r_iconst (p := 67) f254_66 rfl (pinD rfl rfl) ?_
        exact r_iret1 f254_67
      · refine r_aln0 (p := 69) f254_68 rfl ?_
        have h13 := k_t1 c12 hz11 h12 (by decide)
        refine r_invV (p := 72) f254_69 rfl rfl rfl (Or.inl h13) hd (Nat.le_of_ble_eq_true rfl) rfl rfl rfl (fun _ => rfl) (fun m13 c13 => ?_)
        have hz13 := z_k c13 hz12
        refine r_aln0 (p := 73) f254_72 rfl ?_
        refine r_bipush (p := 75) f254_73 rfl (pinD rfl rfl) ?_
        have h14 := k_t1 c13 hz12 h13 (by decide)
        refine r_invI (p := 78) f254_75 rfl rfl rfl (Or.inl h14) hd (Nat.le_of_ble_eq_true rfl) rfl rfl rfl (fun _ => rfl) (fun v14 m14 c14 => ?_)
        have hz14 := z_k c14 hz13
        refine r_ifne (t := 267) (p := 81) f254_78 (by decide) rfl rfl ?_ ?_
        · refine r_iconst (p := 82) f254_81 rfl (pinD rfl rfl) ?_
          exact r_iret1 f254_82
        · exact le2_refl _
  · refine r_aln0 (p := 84) f254_83 rfl ?_
    have h2 := k_t1 c1 hz h1 (by decide)
    refine r_invI (p := 87) f254_84 rfl rfl rfl (Or.inl h2) hd (Nat.le_of_ble_eq_true rfl) rfl rfl rfl (fun _ => rfl) (fun v2 m2 c2 => ?_)
    have hz2 := z_k c2 hz1
    refine r_bipush (p := 89) f254_87 rfl (pinD rfl rfl) ?_
    refine r_iceq (t := 101) (p := 92) f254_89 (by decide) rfl rfl ?_ ?_
    · refine r_aln0 (p := 102) f254_101 rfl ?_
      have h3 := k_t1 c2 hz1 h2 (by decide)
      refine r_invI (p := 105) f254_102 rfl rfl rfl (Or.inl h3) hd (Nat.le_of_ble_eq_true rfl) rfl rfl rfl (fun _ => rfl) (fun v3 m3 c3 => ?_)
      have hz3 := z_k c3 hz2
      refine r_bipush (p := 107) f254_105 rfl (pinD rfl rfl) ?_
      refine r_icne (t := 114) (p := 110) f254_107 (by decide) rfl rfl ?_ ?_
      · refine r_iconst (p := 111) f254_110 rfl (pinD rfl rfl) ?_
        refine r_goto (p := 115) f254_111 (by decide) rfl ?_
        exact le2_refl _
      · refine r_iconst (p := 115) f254_114 rfl (pinD rfl rfl) ?_
        exact le2_refl _
    · refine r_aln0 (p := 93) f254_92 rfl ?_
      have h4 := k_t1 c2 hz1 h2 (by decide)
      refine r_invI (p := 96) f254_93 rfl rfl rfl (Or.inl h4) hd (Nat.le_of_ble_eq_true rfl) rfl rfl rfl (fun _ => rfl) (fun v4 m4 c4 => ?_)
      have hz4 := z_k c4 hz2
      refine r_bipush (p := 98) f254_96 rfl (pinD rfl rfl) ?_
      refine r_icne (t := 231) (p := 101) f254_98 (by decide) rfl rfl ?_ ?_
      · refine r_aln0 (p := 102) f254_101 rfl ?_
        have h9 := k_t1 c4 hz2 h4 (by decide)
        refine r_invI (p := 105) f254_102 rfl rfl rfl (Or.inl h9) hd (Nat.le_of_ble_eq_true rfl) rfl rfl rfl (fun _ => rfl) (fun v9 m9 c9 => ?_)
        have hz9 := z_k c9 hz4
        refine r_bipush (p := 107) f254_105 rfl (pinD rfl rfl) ?_
        refine r_icne (t := 114) (p := 110) f254_107 (by decide) rfl rfl ?_ ?_
        · refine r_iconst (p := 111) f254_110 rfl (pinD rfl rfl) ?_
          refine r_goto (p := 115) f254_111 (by decide) rfl ?_
          exact le2_refl _
        · refine r_iconst (p := 115) f254_114 rfl (pinD rfl rfl) ?_
          exact le2_refl _
      · refine r_iln1 (p := 232) f254_231 rfl ?_
        refine r_ifeq (t := 246) (p := 235) f254_232 (by decide) rfl rfl ?_ ?_
        · refine r_aln0 (p := 247) f254_246 rfl ?_
          have h5 := k_t1 c4 hz2 h4 (by decide)
          refine r_invI (p := 250) f254_247 rfl rfl rfl (Or.inl h5) hd (Nat.le_of_ble_eq_true rfl) rfl rfl rfl (fun _ => rfl) (fun v5 m5 c5 => ?_)
          have hz5 := z_k c5 hz4
          refine r_isn3 (p := 251) f254_250 rfl rfl ?_
          refine r_iln3 (p := 252) f254_251 rfl ?_
          refine r_ifge (t := 257) (p := 255) f254_252 (by decide) rfl rfl ?_ ?_
          · refine r_iconst (p := 256) f254_255 rfl (pinD rfl rfl) ?_
            exact r_iret1 f254_256
          · refine r_aln0 (p := 258) f254_257 rfl ?_
            have h6 := k_t1 c5 hz4 h5 (by decide)
            refine r_invV (p := 261) f254_258 rfl rfl rfl (Or.inl h6) hd (Nat.le_of_ble_eq_true rfl) rfl rfl rfl (fun _ => rfl) (fun m6 c6 => ?_)
            have hz6 := z_k c6 hz5
            refine r_aln0 (p := 262) f254_261 rfl ?_
            refine r_iln3 (p := 263) f254_262 rfl ?_
            have h7 := k_t1 c6 hz5 h6 (by decide)
            refine r_invI (p := 266) f254_263 rfl rfl rfl (Or.inl h7) hd (Nat.le_of_ble_eq_true rfl) rfl rfl rfl (fun _ => rfl) (fun v7 m7 c7 => ?_)
            have hz7 := z_k c7 hz6
            exact r_iret1 f254_266
        · refine r_aln0 (p := 236) f254_235 rfl ?_
          refine r_aln0 (p := 237) f254_236 rfl ?_
          have h8 := k_t1 c4 hz2 h4 (by decide)
          refine r_gfI (f := 12) (p := 240) f254_237 rfl rfl rfl (Or.inl h8) rfl ?_
          refine r_invI (p := 243) f254_240 rfl rfl rfl (Or.inl h8) hd (Nat.le_of_ble_eq_true rfl) rfl rfl rfl (fun _ => rfl) (fun v8 m8 c8 => ?_)
          have hz8 := z_k c8 hz4
          refine r_pop (p := 244) f254_243 rfl rfl ?_
          refine r_iconst (p := 245) f254_244 rfl (pinD rfl rfl) ?_
          exact r_iret1 f254_245
theorem q254_115 {d : Nat} {m : Mem} {a0 a1 s0 : Int} (hd : 0 < d) (hz : TZ m) : le2 (gd (tg m a0 = 11) <| bI (cl (d - 1) 244 [pR a0, pI s0, pI 0] (mst m a0 12 (w32 ((vl m a0 12) + 1)))) fun v1 m1 => if v1 < 0 then (some (.inl (some (pI (-1))), m1)) else nm (vl m1 a0 12) fun v9 => bV (cl (d - 1) 198 [pR a0] m1) fun m2 => if a1 = 0 then (bI (cl (d - 1) 256 [pR a0] m2) fun v3 m3 => if v3 = 0 then (rn d 254 207 [pR a0, pI a1, pU, pI s0, pI v1, pI v9, pU] [] m3) else bI (cl (d - 1) 251 [pR a0, pI v1, pI 3] m3) fun v4 m4 => if v4 = 0 then (bI (cl (d - 1) 202 [pR a0, pI (vl m4 a0 12)] m4) fun v8 m8 => some (.inl (some (pI (-1))), m8)) else bI (cl (d - 1) 245 [pR a0, pI 45] m4) fun v5 m5 => bV (cl (d - 1) 246 [pR a0, pI v5, pI 2, pI v1] m5) fun m6 => bI (cl (d - 1) 257 [pR a0, pI v5] m6) fun v7 m7 => some (.inl (some (pI v7)), m7)) else rn d 254 207 [pR a0, pI a1, pU, pI s0, pI v1, pI v9, pU] [] m2) (rn d 254 115 [pR a0, pI a1, pU, pU, pU, pU, pU] [pI s0] m) := by
  refine r_isn3 (p := 116) f254_115 rfl rfl ?_
  refine r_aln0 (p := 117) f254_116 rfl ?_
  refine r_dup (p := 118) f254_117 rfl rfl ?_
  refine le2_gd (fun h1 => ?_)
  refine r_gfI (f := 12) (p := 121) f254_118 rfl rfl rfl (Or.inl h1) rfl ?_
  refine r_iconst (p := 122) f254_121 rfl (pinD rfl rfl) ?_
  refine r_iadd (p := 123) f254_122 rfl ?_
  refine r_pfI (f := 12) (p := 126) f254_123 rfl rfl rfl (by decide) (by decide) (Or.inl h1) rfl ?_
  refine r_aln0 (p := 127) f254_126 rfl ?_
  refine r_iln3 (p := 128) f254_127 rfl ?_
  refine r_iconst (p := 129) f254_128 rfl (pinD rfl rfl) ?_
  refine r_invI (p := 132) f254_129 rfl rfl rfl (Or.inl h1) hd (Nat.le_of_ble_eq_true rfl) rfl rfl rfl (fun _ => rfl) (fun v1 m1 c1 => ?_)
  have hz1 := z_k c1 hz
  refine r_isw4 (p := 134) f254_132 rfl rfl ?_
  refine r_ilw4 (p := 136) f254_134 rfl ?_
  refine r_ifge (t := 141) (p := 139) f254_136 (by decide) rfl rfl ?_ ?_
  · refine r_iconst (p := 140) f254_139 rfl (pinD rfl rfl) ?_
    exact r_iret1 f254_140
  · refine r_aln0 (p := 142) f254_141 rfl ?_
    have h2 := k_t1 c1 hz h1 (by decide)
    refine r_gfI (f := 12) (p := 145) f254_142 rfl rfl rfl (Or.inl h2) rfl ?_
    refine r_nmI (fun v9 ev9 => ?_)
    refine r_isw5 (p := 147) f254_145 rfl rfl ?_
    refine r_aln0 (p := 148) f254_147 rfl ?_
    refine r_invV (p := 151) f254_148 rfl rfl rfl (Or.inl h2) hd (Nat.le_of_ble_eq_true rfl) rfl rfl rfl (fun _ => rfl) (fun m2 c2 => ?_)
    have hz2 := z_k c2 hz1
    refine r_iln1 (p := 152) f254_151 rfl ?_
    refine r_ifne (t := 207) (p := 155) f254_152 (by decide) rfl rfl ?_ ?_
    · refine r_aln0 (p := 156) f254_155 rfl ?_
      have h3 := k_t1 c2 hz1 h2 (by decide)
      refine r_invI (p := 159) f254_156 rfl rfl rfl (Or.inl h3) hd (Nat.le_of_ble_eq_true rfl) rfl rfl rfl (fun _ => rfl) (fun v3 m3 c3 => ?_)
      have hz3 := z_k c3 hz2
      refine r_ifeq (t := 207) (p := 162) f254_159 (by decide) rfl rfl ?_ ?_
      · exact le2_refl _
      · refine r_aln0 (p := 163) f254_162 rfl ?_
        refine r_ilw4 (p := 165) f254_163 rfl ?_
        refine r_iconst (p := 166) f254_165 rfl (pinD rfl rfl) ?_
        have h4 := k_t1 c3 hz2 h3 (by decide)
        refine r_invI (p := 169) f254_166 rfl rfl rfl (Or.inl h4) hd (Nat.le_of_ble_eq_true rfl) rfl rfl rfl (fun _ => rfl) (fun v4 m4 c4 => ?_)
        have hz4 := z_k c4 hz3
        refine r_ifne (t := 183) (p := 172) f254_169 (by decide) rfl rfl ?_ ?_
        · refine r_aln0 (p := 173) f254_172 rfl ?_
          refine r_aln0 (p := 174) f254_173 rfl ?_
          have h8 := k_t1 c4 hz3 h4 (by decide)
          refine r_gfI (f := 12) (p := 177) f254_174 rfl rfl rfl (Or.inl h8) rfl ?_
          refine r_invI (p := 180) f254_177 rfl rfl rfl (Or.inl h8) hd (Nat.le_of_ble_eq_true rfl) rfl rfl rfl (fun _ => rfl) (fun v8 m8 c8 => ?_)
          have hz8 := z_k c8 hz4
          refine r_pop (p := 181) f254_180 rfl rfl ?_
          refine r_iconst (p := 182) f254_181 rfl (pinD rfl rfl) ?_
          exact r_iret1 f254_182
        · refine r_aln0 (p := 184) f254_183 rfl ?_
          refine r_bipush (p := 186) f254_184 rfl (pinD rfl rfl) ?_
          have h5 := k_t1 c4 hz3 h4 (by decide)
          refine r_invI (p := 189) f254_186 rfl rfl rfl (Or.inl h5) hd (Nat.le_of_ble_eq_true rfl) rfl rfl rfl (fun _ => rfl) (fun v5 m5 c5 => ?_)
          have hz5 := z_k c5 hz4
          refine r_isw6 (p := 191) f254_189 rfl rfl ?_
          refine r_aln0 (p := 192) f254_191 rfl ?_
          refine r_ilw6 (p := 194) f254_192 rfl ?_
          refine r_iconst (p := 195) f254_194 rfl (pinD rfl rfl) ?_
          refine r_ilw4 (p := 197) f254_195 rfl ?_
          have h6 := k_t1 c5 hz4 h5 (by decide)
          refine r_invV (p := 200) f254_197 rfl rfl rfl (Or.inl h6) hd (Nat.le_of_ble_eq_true rfl) rfl rfl rfl (fun _ => rfl) (fun m6 c6 => ?_)
          have hz6 := z_k c6 hz5
          refine r_aln0 (p := 201) f254_200 rfl ?_
          refine r_ilw6 (p := 203) f254_201 rfl ?_
          have h7 := k_t1 c6 hz5 h6 (by decide)
          refine r_invI (p := 206) f254_203 rfl rfl rfl (Or.inl h7) hd (Nat.le_of_ble_eq_true rfl) rfl rfl rfl (fun _ => rfl) (fun v7 m7 c7 => ?_)
          have hz7 := z_k c7 hz6
          exact r_iret1 f254_206
    · exact le2_refl _
theorem q254_207 {d : Nat} {m : Mem} {a0 a1 a3 a4 a5 : Int} (hd : 0 < d) (hz : TZ m) : le2 (gd (tg m a0 = 11) <| bI (cl (d - 1) 245 [pR a0, pI 34] (mst m a0 12 a5)) fun v1 m1 => bV (cl (d - 1) 246 [pR a0, pI v1, pI 2, pI a4] m1) fun m2 => rn d 254 267 [pR a0, pI a1, pI v1, pI a3, pI a4, pI a5, pU] [] m2) (rn d 254 207 [pR a0, pI a1, pU, pI a3, pI a4, pI a5, pU] [] m) := by
  refine r_aln0 (p := 208) f254_207 rfl ?_
  refine r_ilw5 (p := 210) f254_208 rfl ?_
  refine le2_gd (fun h1 => ?_)
  refine r_pfI (f := 12) (p := 213) f254_210 rfl rfl rfl (by decide) (by decide) (Or.inl h1) rfl ?_
  refine r_aln0 (p := 214) f254_213 rfl ?_
  refine r_bipush (p := 216) f254_214 rfl (pinD rfl rfl) ?_
  refine r_invI (p := 219) f254_216 rfl rfl rfl (Or.inl h1) hd (Nat.le_of_ble_eq_true rfl) rfl rfl rfl (fun _ => rfl) (fun v1 m1 c1 => ?_)
  have hz1 := z_k c1 hz
  refine r_isn2 (p := 220) f254_219 rfl rfl ?_
  refine r_aln0 (p := 221) f254_220 rfl ?_
  refine r_iln2 (p := 222) f254_221 rfl ?_
  refine r_iconst (p := 223) f254_222 rfl (pinD rfl rfl) ?_
  refine r_ilw4 (p := 225) f254_223 rfl ?_
  have h2 := k_t1 c1 hz h1 (by decide)
  refine r_invV (p := 228) f254_225 rfl rfl rfl (Or.inl h2) hd (Nat.le_of_ble_eq_true rfl) rfl rfl rfl (fun _ => rfl) (fun m2 c2 => ?_)
  have hz2 := z_k c2 hz1
  refine r_goto (p := 267) f254_228 (by decide) rfl ?_
  exact le2_refl _
theorem q254_267 {d : Nat} {m : Mem} {a0 a1 a2 : Int} {z3 z4 z5 : PV} (hd : 0 < d) (hz : TZ m) (hcz3 : cat z3 = 1) (hcz4 : cat z4 = 1) (hcz5 : cat z5 = 1) : le2 (if a1 = 0 then (gd (tg m a0 = 11) <| bI (cl (d - 1) 260 [pR a0, pI a2] m) fun v3 m3 => some (.inl (some (pI v3)), m3)) else gd (tg m a0 = 11) <| bI (cl (d - 1) 245 [pR a0, pI 32] m) fun v1 m1 => bV (cl (d - 1) 246 [pR a0, pI v1, pI 2, pI a2] m1) fun m2 => some (.inl (some (pI v1)), m2)) (rn d 254 267 [pR a0, pI a1, pI a2, z3, z4, z5, pU] [] m) := by
  refine r_iln1 (p := 268) f254_267 rfl ?_
  refine r_ifne (t := 277) (p := 271) f254_268 (by decide) rfl rfl ?_ ?_
  · refine r_aln0 (p := 272) f254_271 rfl ?_
    refine r_iln2 (p := 273) f254_272 rfl ?_
    refine le2_gd (fun h3 => ?_)
    refine r_invI (p := 276) f254_273 rfl rfl rfl (Or.inl h3) hd (Nat.le_of_ble_eq_true rfl) rfl rfl rfl (fun _ => rfl) (fun v3 m3 c3 => ?_)
    have hz3 := z_k c3 hz
    exact r_iret1 f254_276
  · refine r_aln0 (p := 278) f254_277 rfl ?_
    refine r_bipush (p := 280) f254_278 rfl (pinD rfl rfl) ?_
    refine le2_gd (fun h1 => ?_)
    refine r_invI (p := 283) f254_280 rfl rfl rfl (Or.inl h1) hd (Nat.le_of_ble_eq_true rfl) rfl rfl rfl (fun _ => rfl) (fun v1 m1 c1 => ?_)
    have hz1 := z_k c1 hz
    refine r_isn3 (p := 284) f254_283 rfl rfl ?_
    refine r_aln0 (p := 285) f254_284 rfl ?_
    refine r_iln3 (p := 286) f254_285 rfl ?_
    refine r_iconst (p := 287) f254_286 rfl (pinD rfl rfl) ?_
    refine r_iln2 (p := 288) f254_287 rfl ?_
    have h2 := k_t1 c1 hz h1 (by decide)
    refine r_invV (p := 291) f254_288 rfl rfl rfl (Or.inl h2) hd (Nat.le_of_ble_eq_true rfl) rfl rfl rfl (fun _ => rfl) (fun m2 c2 => ?_)
    have hz2 := z_k c2 hz1
    refine r_iln3 (p := 292) f254_291 rfl ?_
    exact r_iret1 f254_292
/-! 255 PathStoreModel.shut (I)Z -/
def w255_0 : List UInt8 := [42, 27, 182, 0, 183, 154, 0, 5, 3, 172, 42, 89, 180, 1, 166, 4, 100, 181, 1, 166, 4, 172]
abbrev u255_0 : List UInt8 := w255_0 ++ []
theorem s255_0 : (prog_32_method_64_code).data.toList.drop 0 = u255_0 := by decide +kernel
theorem Fm255 {pc len : Nat} {i : Instr} (h : decode (prog_32_method_64_code) pc = .ok (i, len)) (hl : len = ilen i len) : ft 255 pc = some (11, 4, 0, i, len) := ft_mk rfl h hl
theorem f255_0 : ft 255 0 = some (11, 4, 0, .aload_n 0, 1) := Fm255 (dk_42 (dk_at s255_0 0 rfl rfl)) rfl
theorem f255_1 : ft 255 1 = some (11, 4, 0, .iload_n 1, 1) := Fm255 (dk_27 (dk_at s255_0 1 rfl rfl)) rfl
theorem f255_2 : ft 255 2 = some (11, 4, 0, .invokevirtual 183, 3) := Fm255 (dk_182 0 183 (dk_at s255_0 2 rfl rfl)) rfl
theorem f255_5 : ft 255 5 = some (11, 4, 0, .ifCond .ne 5, 3) := Fm255 (dk_154 0 5 (dk_at s255_0 5 rfl rfl)) rfl
theorem f255_8 : ft 255 8 = some (11, 4, 0, .iconst 0, 1) := Fm255 (dk_3 (dk_at s255_0 8 rfl rfl)) rfl
theorem f255_9 : ft 255 9 = some (11, 4, 0, .ireturn, 1) := Fm255 (dk_172 (dk_at s255_0 9 rfl rfl)) rfl
theorem f255_10 : ft 255 10 = some (11, 4, 0, .aload_n 0, 1) := Fm255 (dk_42 (dk_at s255_0 10 rfl rfl)) rfl
theorem f255_11 : ft 255 11 = some (11, 4, 0, .dup, 1) := Fm255 (dk_89 (dk_at s255_0 11 rfl rfl)) rfl
theorem f255_12 : ft 255 12 = some (11, 4, 0, .getfield 422, 3) := Fm255 (dk_180 1 166 (dk_at s255_0 12 rfl rfl)) rfl
theorem f255_15 : ft 255 15 = some (11, 4, 0, .iconst 1, 1) := Fm255 (dk_4 (dk_at s255_0 15 rfl rfl)) rfl
theorem f255_16 : ft 255 16 = some (11, 4, 0, .isub, 1) := Fm255 (dk_100 (dk_at s255_0 16 rfl rfl)) rfl
theorem f255_17 : ft 255 17 = some (11, 4, 0, .putfield 422, 3) := Fm255 (dk_181 1 166 (dk_at s255_0 17 rfl rfl)) rfl
theorem f255_20 : ft 255 20 = some (11, 4, 0, .iconst 1, 1) := Fm255 (dk_4 (dk_at s255_0 20 rfl rfl)) rfl
theorem f255_21 : ft 255 21 = some (11, 4, 0, .ireturn, 1) := Fm255 (dk_172 (dk_at s255_0 21 rfl rfl)) rfl
theorem q255 {d : Nat} {m : Mem} {a0 a1 : Int} (hd : 0 < d) (hz : TZ m) : le2 (gd (tg m a0 = 11) <| bI (cl (d - 1) 201 [pR a0, pI a1] m) fun v1 m1 => if v1 = 0 then (some (.inl (some (pI 0)), m1)) else some (.inl (some (pI 1)), (mst m1 a0 31 (w32 ((vl m1 a0 31) - 1))))) (cl d 255 [pR a0, pI a1] m) := by
  refine q_in (n := 2) (L := [pR a0, pI a1]) rfl rfl rfl ?_
  refine r_aln0 (p := 1) f255_0 rfl ?_
  refine r_iln1 (p := 2) f255_1 rfl ?_
  refine le2_gd (fun h1 => ?_)
  refine r_invI (p := 5) f255_2 rfl rfl rfl (Or.inl h1) hd (Nat.le_of_ble_eq_true rfl) rfl rfl rfl (fun _ => rfl) (fun v1 m1 c1 => ?_)
  have hz1 := z_k c1 hz
  refine r_ifne (t := 10) (p := 8) f255_5 (by decide) rfl rfl ?_ ?_
  · refine r_iconst (p := 9) f255_8 rfl (pinD rfl rfl) ?_
    exact r_iret4 f255_9 (by decide)
  · refine r_aln0 (p := 11) f255_10 rfl ?_
    refine r_dup (p := 12) f255_11 rfl rfl ?_
    have h2 := k_t1 c1 hz h1 (by decide)
    refine r_gfI (f := 31) (p := 15) f255_12 rfl rfl rfl (Or.inl h2) rfl ?_
    refine r_iconst (p := 16) f255_15 rfl (pinD rfl rfl) ?_
    refine r_isub (p := 17) f255_16 rfl ?_
    refine r_pfI (f := 31) (p := 20) f255_17 rfl rfl rfl (by decide) (by decide) (Or.inl h2) rfl ?_
    refine r_iconst (p := 21) f255_20 rfl (pinD rfl rfl) ?_
    exact r_iret4 f255_21 (by decide)
/-! 256 PathStoreModel.operator ()Z -/
def w256_1 : List UInt8 := [159, 0, 12, 42, 182, 0, 167, 16, 62, 160, 0, 7, 4, 167, 0, 4, 3, 172]
abbrev u256_1 : List UInt8 := w256_1 ++ []
def w256_0 : List UInt8 := [42, 182, 0, 167, 16, 61, 159, 0, 30, 42, 182, 0, 167, 16, 33, 159, 0, 21, 42, 182, 0, 167, 16, 60]
abbrev u256_0 : List UInt8 := w256_0 ++ u256_1
theorem s256_0 : (prog_32_method_74_code).data.toList.drop 0 = u256_0 := by decide +kernel
theorem s256_1 : (prog_32_method_74_code).data.toList.drop 24 = u256_1 := dk_seg s256_0 24 rfl rfl
theorem Fm256 {pc len : Nat} {i : Instr} (h : decode (prog_32_method_74_code) pc = .ok (i, len)) (hl : len = ilen i len) : ft 256 pc = some (11, 4, 0, i, len) := ft_mk rfl h hl
theorem f256_0 : ft 256 0 = some (11, 4, 0, .aload_n 0, 1) := Fm256 (dk_42 (dk_at s256_0 0 rfl rfl)) rfl
theorem f256_1 : ft 256 1 = some (11, 4, 0, .invokevirtual 167, 3) := Fm256 (dk_182 0 167 (dk_at s256_0 1 rfl rfl)) rfl
theorem f256_4 : ft 256 4 = some (11, 4, 0, .bipush 61, 2) := Fm256 (dk_16 61 (dk_at s256_0 4 rfl rfl)) rfl
theorem f256_6 : ft 256 6 = some (11, 4, 0, .if_icmp .eq 30, 3) := Fm256 (dk_159 0 30 (dk_at s256_0 6 rfl rfl)) rfl
theorem f256_9 : ft 256 9 = some (11, 4, 0, .aload_n 0, 1) := Fm256 (dk_42 (dk_at s256_0 9 rfl rfl)) rfl
theorem f256_10 : ft 256 10 = some (11, 4, 0, .invokevirtual 167, 3) := Fm256 (dk_182 0 167 (dk_at s256_0 10 rfl rfl)) rfl
theorem f256_13 : ft 256 13 = some (11, 4, 0, .bipush 33, 2) := Fm256 (dk_16 33 (dk_at s256_0 13 rfl rfl)) rfl
theorem f256_15 : ft 256 15 = some (11, 4, 0, .if_icmp .eq 21, 3) := Fm256 (dk_159 0 21 (dk_at s256_0 15 rfl rfl)) rfl
theorem f256_18 : ft 256 18 = some (11, 4, 0, .aload_n 0, 1) := Fm256 (dk_42 (dk_at s256_0 18 rfl rfl)) rfl
theorem f256_19 : ft 256 19 = some (11, 4, 0, .invokevirtual 167, 3) := Fm256 (dk_182 0 167 (dk_at s256_0 19 rfl rfl)) rfl
theorem f256_22 : ft 256 22 = some (11, 4, 0, .bipush 60, 2) := Fm256 (dk_16 60 (dk_at s256_0 22 rfl rfl)) rfl
theorem f256_24 : ft 256 24 = some (11, 4, 0, .if_icmp .eq 12, 3) := Fm256 (dk_159 0 12 (dk_at s256_1 0 rfl rfl)) rfl
theorem f256_27 : ft 256 27 = some (11, 4, 0, .aload_n 0, 1) := Fm256 (dk_42 (dk_at s256_1 3 rfl rfl)) rfl
theorem f256_28 : ft 256 28 = some (11, 4, 0, .invokevirtual 167, 3) := Fm256 (dk_182 0 167 (dk_at s256_1 4 rfl rfl)) rfl
theorem f256_31 : ft 256 31 = some (11, 4, 0, .bipush 62, 2) := Fm256 (dk_16 62 (dk_at s256_1 7 rfl rfl)) rfl
theorem f256_33 : ft 256 33 = some (11, 4, 0, .if_icmp .ne 7, 3) := Fm256 (dk_160 0 7 (dk_at s256_1 9 rfl rfl)) rfl
theorem f256_36 : ft 256 36 = some (11, 4, 0, .iconst 1, 1) := Fm256 (dk_4 (dk_at s256_1 12 rfl rfl)) rfl
theorem f256_37 : ft 256 37 = some (11, 4, 0, .goto 4, 3) := Fm256 (dk_167 0 4 (dk_at s256_1 13 rfl rfl)) rfl
theorem f256_40 : ft 256 40 = some (11, 4, 0, .iconst 0, 1) := Fm256 (dk_3 (dk_at s256_1 16 rfl rfl)) rfl
theorem f256_41 : ft 256 41 = some (11, 4, 0, .ireturn, 1) := Fm256 (dk_172 (dk_at s256_1 17 rfl rfl)) rfl
theorem q256 {d : Nat} {m : Mem} {a0 : Int} (hd : 0 < d) (hz : TZ m) : le2 (gd (tg m a0 = 11) <| bI (cl (d - 1) 199 [pR a0] m) fun v1 m1 => if v1 = 61 then (some (.inl (some (pI 1)), m1)) else bI (cl (d - 1) 199 [pR a0] m1) fun v2 m2 => if v2 = 33 then (some (.inl (some (pI 1)), m2)) else bI (cl (d - 1) 199 [pR a0] m2) fun v3 m3 => if v3 = 60 then (some (.inl (some (pI 1)), m3)) else bI (cl (d - 1) 199 [pR a0] m3) fun v4 m4 => if v4 = 62 then (some (.inl (some (pI 1)), m4)) else some (.inl (some (pI 0)), m4)) (cl d 256 [pR a0] m) := by
  refine q_in (n := 1) (L := [pR a0]) rfl rfl rfl ?_
  refine r_aln0 (p := 1) f256_0 rfl ?_
  refine le2_gd (fun h1 => ?_)
  refine r_invI (p := 4) f256_1 rfl rfl rfl (Or.inl h1) hd (Nat.le_of_ble_eq_true rfl) rfl rfl rfl (fun _ => rfl) (fun v1 m1 c1 => ?_)
  have hz1 := z_k c1 hz
  refine r_bipush (p := 6) f256_4 rfl (pinD rfl rfl) ?_
  refine r_iceq (t := 36) (p := 9) f256_6 (by decide) rfl rfl ?_ ?_
  · refine r_iconst (p := 37) f256_36 rfl (pinD rfl rfl) ?_
    refine r_goto (p := 41) f256_37 (by decide) rfl ?_
    exact r_iret4 f256_41 (by decide)
  · refine r_aln0 (p := 10) f256_9 rfl ?_
    have h2 := k_t1 c1 hz h1 (by decide)
    refine r_invI (p := 13) f256_10 rfl rfl rfl (Or.inl h2) hd (Nat.le_of_ble_eq_true rfl) rfl rfl rfl (fun _ => rfl) (fun v2 m2 c2 => ?_)
    have hz2 := z_k c2 hz1
    refine r_bipush (p := 15) f256_13 rfl (pinD rfl rfl) ?_
    refine r_iceq (t := 36) (p := 18) f256_15 (by decide) rfl rfl ?_ ?_
    · refine r_iconst (p := 37) f256_36 rfl (pinD rfl rfl) ?_
      refine r_goto (p := 41) f256_37 (by decide) rfl ?_
      exact r_iret4 f256_41 (by decide)
    · refine r_aln0 (p := 19) f256_18 rfl ?_
      have h3 := k_t1 c2 hz1 h2 (by decide)
      refine r_invI (p := 22) f256_19 rfl rfl rfl (Or.inl h3) hd (Nat.le_of_ble_eq_true rfl) rfl rfl rfl (fun _ => rfl) (fun v3 m3 c3 => ?_)
      have hz3 := z_k c3 hz2
      refine r_bipush (p := 24) f256_22 rfl (pinD rfl rfl) ?_
      refine r_iceq (t := 36) (p := 27) f256_24 (by decide) rfl rfl ?_ ?_
      · refine r_iconst (p := 37) f256_36 rfl (pinD rfl rfl) ?_
        refine r_goto (p := 41) f256_37 (by decide) rfl ?_
        exact r_iret4 f256_41 (by decide)
      · refine r_aln0 (p := 28) f256_27 rfl ?_
        have h4 := k_t1 c3 hz2 h3 (by decide)
        refine r_invI (p := 31) f256_28 rfl rfl rfl (Or.inl h4) hd (Nat.le_of_ble_eq_true rfl) rfl rfl rfl (fun _ => rfl) (fun v4 m4 c4 => ?_)
        have hz4 := z_k c4 hz3
        refine r_bipush (p := 33) f256_31 rfl (pinD rfl rfl) ?_
        refine r_icne (t := 40) (p := 36) f256_33 (by decide) rfl rfl ?_ ?_
        · refine r_iconst (p := 37) f256_36 rfl (pinD rfl rfl) ?_
          refine r_goto (p := 41) f256_37 (by decide) rfl ?_
          exact r_iret4 f256_41 (by decide)
        · refine r_iconst (p := 41) f256_40 rfl (pinD rfl rfl) ?_
          exact r_iret4 f256_41 (by decide)
/-! 257 PathStoreModel.comparison (I)I -/
def w257_7 : List UInt8 := [6, 29, 182, 1, 172, 42, 21, 4, 7, 28, 182, 1, 172, 21, 4, 172]
abbrev u257_7 : List UInt8 := w257_7 ++ []
def w257_6 : List UInt8 := [156, 0, 5, 2, 172, 42, 16, 33, 182, 1, 169, 54, 4, 42, 21, 4, 5, 27, 182, 1, 172, 42, 21, 4]
abbrev u257_6 : List UInt8 := w257_6 ++ u257_7
def w257_5 : List UInt8 := [167, 0, 14, 42, 42, 180, 0, 155, 182, 0, 171, 87, 2, 172, 42, 182, 0, 204, 42, 182, 1, 225, 62, 29]
abbrev u257_5 : List UInt8 := w257_5 ++ u257_6
def w257_4 : List UInt8 := [42, 182, 0, 167, 16, 61, 160, 0, 30, 42, 89, 180, 0, 155, 4, 96, 181, 0, 155, 132, 2, 1]
abbrev u257_4 : List UInt8 := w257_4 ++ u257_5
def w257_3 : List UInt8 := [182, 0, 167, 16, 60, 160, 0, 7, 5, 167, 0, 4, 7, 61, 42, 89, 180, 0, 155, 4, 96, 181, 0, 155]
abbrev u257_3 : List UInt8 := w257_3 ++ u257_4
def w257_2 : List UInt8 := [4, 61, 167, 0, 82, 42, 182, 0, 167, 16, 60, 159, 0, 12, 42, 182, 0, 167, 16, 62, 160, 0, 53, 42]
abbrev u257_2 : List UInt8 := w257_2 ++ u257_3
def w257_1 : List UInt8 := [167, 0, 108, 42, 182, 0, 167, 16, 33, 160, 0, 20, 42, 19, 1, 233, 182, 0, 213, 154, 0, 5, 2, 172]
abbrev u257_1 : List UInt8 := w257_1 ++ u257_2
def w257_0 : List UInt8 := [42, 182, 0, 167, 16, 61, 160, 0, 20, 42, 19, 1, 231, 182, 0, 213, 154, 0, 5, 2, 172, 3, 61]
abbrev u257_0 : List UInt8 := w257_0 ++ u257_1
theorem s257_0 : (prog_32_method_75_code).data.toList.drop 0 = u257_0 := by decide +kernel
theorem s257_1 : (prog_32_method_75_code).data.toList.drop 23 = u257_1 := dk_seg s257_0 23 rfl rfl
theorem s257_2 : (prog_32_method_75_code).data.toList.drop 47 = u257_2 := dk_seg s257_1 24 rfl rfl
theorem s257_3 : (prog_32_method_75_code).data.toList.drop 71 = u257_3 := dk_seg s257_2 24 rfl rfl
theorem s257_4 : (prog_32_method_75_code).data.toList.drop 95 = u257_4 := dk_seg s257_3 24 rfl rfl
theorem s257_5 : (prog_32_method_75_code).data.toList.drop 117 = u257_5 := dk_seg s257_4 22 rfl rfl
theorem s257_6 : (prog_32_method_75_code).data.toList.drop 141 = u257_6 := dk_seg s257_5 24 rfl rfl
theorem s257_7 : (prog_32_method_75_code).data.toList.drop 165 = u257_7 := dk_seg s257_6 24 rfl rfl
theorem Fm257 {pc len : Nat} {i : Instr} (h : decode (prog_32_method_75_code) pc = .ok (i, len)) (hl : len = ilen i len) : ft 257 pc = some (11, 1, 0, i, len) := ft_mk rfl h hl
theorem f257_0 : ft 257 0 = some (11, 1, 0, .aload_n 0, 1) := Fm257 (dk_42 (dk_at s257_0 0 rfl rfl)) rfl
theorem f257_1 : ft 257 1 = some (11, 1, 0, .invokevirtual 167, 3) := Fm257 (dk_182 0 167 (dk_at s257_0 1 rfl rfl)) rfl
theorem f257_4 : ft 257 4 = some (11, 1, 0, .bipush 61, 2) := Fm257 (dk_16 61 (dk_at s257_0 4 rfl rfl)) rfl
theorem f257_6 : ft 257 6 = some (11, 1, 0, .if_icmp .ne 20, 3) := Fm257 (dk_160 0 20 (dk_at s257_0 6 rfl rfl)) rfl
theorem f257_9 : ft 257 9 = some (11, 1, 0, .aload_n 0, 1) := Fm257 (dk_42 (dk_at s257_0 9 rfl rfl)) rfl
theorem f257_10 : ft 257 10 = some (11, 1, 0, .ldc_w 487, 3) := Fm257 (dk_19 1 231 (dk_at s257_0 10 rfl rfl)) rfl
theorem f257_13 : ft 257 13 = some (11, 1, 0, .invokevirtual 213, 3) := Fm257 (dk_182 0 213 (dk_at s257_0 13 rfl rfl)) rfl
theorem f257_16 : ft 257 16 = some (11, 1, 0, .ifCond .ne 5, 3) := Fm257 (dk_154 0 5 (dk_at s257_0 16 rfl rfl)) rfl
theorem f257_19 : ft 257 19 = some (11, 1, 0, .iconst (-1), 1) := Fm257 (dk_2 (dk_at s257_0 19 rfl rfl)) rfl
theorem f257_20 : ft 257 20 = some (11, 1, 0, .ireturn, 1) := Fm257 (dk_172 (dk_at s257_0 20 rfl rfl)) rfl
theorem f257_21 : ft 257 21 = some (11, 1, 0, .iconst 0, 1) := Fm257 (dk_3 (dk_at s257_0 21 rfl rfl)) rfl
theorem f257_22 : ft 257 22 = some (11, 1, 0, .istore_n 2, 1) := Fm257 (dk_61 (dk_at s257_0 22 rfl rfl)) rfl
theorem f257_23 : ft 257 23 = some (11, 1, 0, .goto 108, 3) := Fm257 (dk_167 0 108 (dk_at s257_1 0 rfl rfl)) rfl
theorem f257_26 : ft 257 26 = some (11, 1, 0, .aload_n 0, 1) := Fm257 (dk_42 (dk_at s257_1 3 rfl rfl)) rfl
theorem f257_27 : ft 257 27 = some (11, 1, 0, .invokevirtual 167, 3) := Fm257 (dk_182 0 167 (dk_at s257_1 4 rfl rfl)) rfl
theorem f257_30 : ft 257 30 = some (11, 1, 0, .bipush 33, 2) := Fm257 (dk_16 33 (dk_at s257_1 7 rfl rfl)) rfl
theorem f257_32 : ft 257 32 = some (11, 1, 0, .if_icmp .ne 20, 3) := Fm257 (dk_160 0 20 (dk_at s257_1 9 rfl rfl)) rfl
theorem f257_35 : ft 257 35 = some (11, 1, 0, .aload_n 0, 1) := Fm257 (dk_42 (dk_at s257_1 12 rfl rfl)) rfl
theorem f257_36 : ft 257 36 = some (11, 1, 0, .ldc_w 489, 3) := Fm257 (dk_19 1 233 (dk_at s257_1 13 rfl rfl)) rfl
theorem f257_39 : ft 257 39 = some (11, 1, 0, .invokevirtual 213, 3) := Fm257 (dk_182 0 213 (dk_at s257_1 16 rfl rfl)) rfl
theorem f257_42 : ft 257 42 = some (11, 1, 0, .ifCond .ne 5, 3) := Fm257 (dk_154 0 5 (dk_at s257_1 19 rfl rfl)) rfl
theorem f257_45 : ft 257 45 = some (11, 1, 0, .iconst (-1), 1) := Fm257 (dk_2 (dk_at s257_1 22 rfl rfl)) rfl
theorem f257_46 : ft 257 46 = some (11, 1, 0, .ireturn, 1) := Fm257 (dk_172 (dk_at s257_1 23 rfl rfl)) rfl
theorem f257_47 : ft 257 47 = some (11, 1, 0, .iconst 1, 1) := Fm257 (dk_4 (dk_at s257_2 0 rfl rfl)) rfl
theorem f257_48 : ft 257 48 = some (11, 1, 0, .istore_n 2, 1) := Fm257 (dk_61 (dk_at s257_2 1 rfl rfl)) rfl
theorem f257_49 : ft 257 49 = some (11, 1, 0, .goto 82, 3) := Fm257 (dk_167 0 82 (dk_at s257_2 2 rfl rfl)) rfl
theorem f257_52 : ft 257 52 = some (11, 1, 0, .aload_n 0, 1) := Fm257 (dk_42 (dk_at s257_2 5 rfl rfl)) rfl
theorem f257_53 : ft 257 53 = some (11, 1, 0, .invokevirtual 167, 3) := Fm257 (dk_182 0 167 (dk_at s257_2 6 rfl rfl)) rfl
theorem f257_56 : ft 257 56 = some (11, 1, 0, .bipush 60, 2) := Fm257 (dk_16 60 (dk_at s257_2 9 rfl rfl)) rfl
theorem f257_58 : ft 257 58 = some (11, 1, 0, .if_icmp .eq 12, 3) := Fm257 (dk_159 0 12 (dk_at s257_2 11 rfl rfl)) rfl
theorem f257_61 : ft 257 61 = some (11, 1, 0, .aload_n 0, 1) := Fm257 (dk_42 (dk_at s257_2 14 rfl rfl)) rfl
theorem f257_62 : ft 257 62 = some (11, 1, 0, .invokevirtual 167, 3) := Fm257 (dk_182 0 167 (dk_at s257_2 15 rfl rfl)) rfl
theorem f257_65 : ft 257 65 = some (11, 1, 0, .bipush 62, 2) := Fm257 (dk_16 62 (dk_at s257_2 18 rfl rfl)) rfl
theorem f257_67 : ft 257 67 = some (11, 1, 0, .if_icmp .ne 53, 3) := Fm257 (dk_160 0 53 (dk_at s257_2 20 rfl rfl)) rfl
theorem f257_70 : ft 257 70 = some (11, 1, 0, .aload_n 0, 1) := Fm257 (dk_42 (dk_at s257_2 23 rfl rfl)) rfl
theorem f257_71 : ft 257 71 = some (11, 1, 0, .invokevirtual 167, 3) := Fm257 (dk_182 0 167 (dk_at s257_3 0 rfl rfl)) rfl
theorem f257_74 : ft 257 74 = some (11, 1, 0, .bipush 60, 2) := Fm257 (dk_16 60 (dk_at s257_3 3 rfl rfl)) rfl
theorem f257_76 : ft 257 76 = some (11, 1, 0, .if_icmp .ne 7, 3) := Fm257 (dk_160 0 7 (dk_at s257_3 5 rfl rfl)) rfl
theorem f257_79 : ft 257 79 = some (11, 1, 0, .iconst 2, 1) := Fm257 (dk_5 (dk_at s257_3 8 rfl rfl)) rfl
theorem f257_80 : ft 257 80 = some (11, 1, 0, .goto 4, 3) := Fm257 (dk_167 0 4 (dk_at s257_3 9 rfl rfl)) rfl
theorem f257_83 : ft 257 83 = some (11, 1, 0, .iconst 4, 1) := Fm257 (dk_7 (dk_at s257_3 12 rfl rfl)) rfl
theorem f257_84 : ft 257 84 = some (11, 1, 0, .istore_n 2, 1) := Fm257 (dk_61 (dk_at s257_3 13 rfl rfl)) rfl
theorem f257_85 : ft 257 85 = some (11, 1, 0, .aload_n 0, 1) := Fm257 (dk_42 (dk_at s257_3 14 rfl rfl)) rfl
theorem f257_86 : ft 257 86 = some (11, 1, 0, .dup, 1) := Fm257 (dk_89 (dk_at s257_3 15 rfl rfl)) rfl
theorem f257_87 : ft 257 87 = some (11, 1, 0, .getfield 155, 3) := Fm257 (dk_180 0 155 (dk_at s257_3 16 rfl rfl)) rfl
theorem f257_90 : ft 257 90 = some (11, 1, 0, .iconst 1, 1) := Fm257 (dk_4 (dk_at s257_3 19 rfl rfl)) rfl
theorem f257_91 : ft 257 91 = some (11, 1, 0, .iadd, 1) := Fm257 (dk_96 (dk_at s257_3 20 rfl rfl)) rfl
theorem f257_92 : ft 257 92 = some (11, 1, 0, .putfield 155, 3) := Fm257 (dk_181 0 155 (dk_at s257_3 21 rfl rfl)) rfl
theorem f257_95 : ft 257 95 = some (11, 1, 0, .aload_n 0, 1) := Fm257 (dk_42 (dk_at s257_4 0 rfl rfl)) rfl
theorem f257_96 : ft 257 96 = some (11, 1, 0, .invokevirtual 167, 3) := Fm257 (dk_182 0 167 (dk_at s257_4 1 rfl rfl)) rfl
theorem f257_99 : ft 257 99 = some (11, 1, 0, .bipush 61, 2) := Fm257 (dk_16 61 (dk_at s257_4 4 rfl rfl)) rfl
theorem f257_101 : ft 257 101 = some (11, 1, 0, .if_icmp .ne 30, 3) := Fm257 (dk_160 0 30 (dk_at s257_4 6 rfl rfl)) rfl
theorem f257_104 : ft 257 104 = some (11, 1, 0, .aload_n 0, 1) := Fm257 (dk_42 (dk_at s257_4 9 rfl rfl)) rfl
theorem f257_105 : ft 257 105 = some (11, 1, 0, .dup, 1) := Fm257 (dk_89 (dk_at s257_4 10 rfl rfl)) rfl
theorem f257_106 : ft 257 106 = some (11, 1, 0, .getfield 155, 3) := Fm257 (dk_180 0 155 (dk_at s257_4 11 rfl rfl)) rfl
theorem f257_109 : ft 257 109 = some (11, 1, 0, .iconst 1, 1) := Fm257 (dk_4 (dk_at s257_4 14 rfl rfl)) rfl
theorem f257_110 : ft 257 110 = some (11, 1, 0, .iadd, 1) := Fm257 (dk_96 (dk_at s257_4 15 rfl rfl)) rfl
theorem f257_111 : ft 257 111 = some (11, 1, 0, .putfield 155, 3) := Fm257 (dk_181 0 155 (dk_at s257_4 16 rfl rfl)) rfl
theorem f257_114 : ft 257 114 = some (11, 1, 0, .iinc 2 1, 3) := Fm257 (dk_132 2 1 (dk_at s257_4 19 rfl rfl)) rfl
theorem f257_117 : ft 257 117 = some (11, 1, 0, .goto 14, 3) := Fm257 (dk_167 0 14 (dk_at s257_5 0 rfl rfl)) rfl
theorem f257_120 : ft 257 120 = some (11, 1, 0, .aload_n 0, 1) := Fm257 (dk_42 (dk_at s257_5 3 rfl rfl)) rfl
theorem f257_121 : ft 257 121 = some (11, 1, 0, .aload_n 0, 1) := Fm257 (dk_42 (dk_at s257_5 4 rfl rfl)) rfl
theorem f257_122 : ft 257 122 = some (11, 1, 0, .getfield 155, 3) := Fm257 (dk_180 0 155 (dk_at s257_5 5 rfl rfl)) rfl
theorem f257_125 : ft 257 125 = some (11, 1, 0, .invokevirtual 171, 3) := Fm257 (dk_182 0 171 (dk_at s257_5 8 rfl rfl)) rfl
theorem f257_128 : ft 257 128 = some (11, 1, 0, .pop, 1) := Fm257 (dk_87 (dk_at s257_5 11 rfl rfl)) rfl
theorem f257_129 : ft 257 129 = some (11, 1, 0, .iconst (-1), 1) := Fm257 (dk_2 (dk_at s257_5 12 rfl rfl)) rfl
theorem f257_130 : ft 257 130 = some (11, 1, 0, .ireturn, 1) := Fm257 (dk_172 (dk_at s257_5 13 rfl rfl)) rfl
theorem f257_131 : ft 257 131 = some (11, 1, 0, .aload_n 0, 1) := Fm257 (dk_42 (dk_at s257_5 14 rfl rfl)) rfl
theorem f257_132 : ft 257 132 = some (11, 1, 0, .invokevirtual 204, 3) := Fm257 (dk_182 0 204 (dk_at s257_5 15 rfl rfl)) rfl
theorem f257_135 : ft 257 135 = some (11, 1, 0, .aload_n 0, 1) := Fm257 (dk_42 (dk_at s257_5 18 rfl rfl)) rfl
theorem f257_136 : ft 257 136 = some (11, 1, 0, .invokevirtual 481, 3) := Fm257 (dk_182 1 225 (dk_at s257_5 19 rfl rfl)) rfl
theorem f257_139 : ft 257 139 = some (11, 1, 0, .istore_n 3, 1) := Fm257 (dk_62 (dk_at s257_5 22 rfl rfl)) rfl
theorem f257_140 : ft 257 140 = some (11, 1, 0, .iload_n 3, 1) := Fm257 (dk_29 (dk_at s257_5 23 rfl rfl)) rfl
theorem f257_141 : ft 257 141 = some (11, 1, 0, .ifCond .ge 5, 3) := Fm257 (dk_156 0 5 (dk_at s257_6 0 rfl rfl)) rfl
theorem f257_144 : ft 257 144 = some (11, 1, 0, .iconst (-1), 1) := Fm257 (dk_2 (dk_at s257_6 3 rfl rfl)) rfl
theorem f257_145 : ft 257 145 = some (11, 1, 0, .ireturn, 1) := Fm257 (dk_172 (dk_at s257_6 4 rfl rfl)) rfl
theorem f257_146 : ft 257 146 = some (11, 1, 0, .aload_n 0, 1) := Fm257 (dk_42 (dk_at s257_6 5 rfl rfl)) rfl
theorem f257_147 : ft 257 147 = some (11, 1, 0, .bipush 33, 2) := Fm257 (dk_16 33 (dk_at s257_6 6 rfl rfl)) rfl
theorem f257_149 : ft 257 149 = some (11, 1, 0, .invokevirtual 425, 3) := Fm257 (dk_182 1 169 (dk_at s257_6 8 rfl rfl)) rfl
theorem f257_152 : ft 257 152 = some (11, 1, 0, .istore 4, 2) := Fm257 (dk_54 4 (dk_at s257_6 11 rfl rfl)) rfl
theorem f257_154 : ft 257 154 = some (11, 1, 0, .aload_n 0, 1) := Fm257 (dk_42 (dk_at s257_6 13 rfl rfl)) rfl
theorem f257_155 : ft 257 155 = some (11, 1, 0, .iload 4, 2) := Fm257 (dk_21 4 (dk_at s257_6 14 rfl rfl)) rfl
theorem f257_157 : ft 257 157 = some (11, 1, 0, .iconst 2, 1) := Fm257 (dk_5 (dk_at s257_6 16 rfl rfl)) rfl
theorem f257_158 : ft 257 158 = some (11, 1, 0, .iload_n 1, 1) := Fm257 (dk_27 (dk_at s257_6 17 rfl rfl)) rfl
theorem f257_159 : ft 257 159 = some (11, 1, 0, .invokevirtual 428, 3) := Fm257 (dk_182 1 172 (dk_at s257_6 18 rfl rfl)) rfl
theorem f257_162 : ft 257 162 = some (11, 1, 0, .aload_n 0, 1) := Fm257 (dk_42 (dk_at s257_6 21 rfl rfl)) rfl
theorem f257_163 : ft 257 163 = some (11, 1, 0, .iload 4, 2) := Fm257 (dk_21 4 (dk_at s257_6 22 rfl rfl)) rfl
theorem f257_165 : ft 257 165 = some (11, 1, 0, .iconst 3, 1) := Fm257 (dk_6 (dk_at s257_7 0 rfl rfl)) rfl
theorem f257_166 : ft 257 166 = some (11, 1, 0, .iload_n 3, 1) := Fm257 (dk_29 (dk_at s257_7 1 rfl rfl)) rfl
theorem f257_167 : ft 257 167 = some (11, 1, 0, .invokevirtual 428, 3) := Fm257 (dk_182 1 172 (dk_at s257_7 2 rfl rfl)) rfl
theorem f257_170 : ft 257 170 = some (11, 1, 0, .aload_n 0, 1) := Fm257 (dk_42 (dk_at s257_7 5 rfl rfl)) rfl
theorem f257_171 : ft 257 171 = some (11, 1, 0, .iload 4, 2) := Fm257 (dk_21 4 (dk_at s257_7 6 rfl rfl)) rfl
theorem f257_173 : ft 257 173 = some (11, 1, 0, .iconst 4, 1) := Fm257 (dk_7 (dk_at s257_7 8 rfl rfl)) rfl
theorem f257_174 : ft 257 174 = some (11, 1, 0, .iload_n 2, 1) := Fm257 (dk_28 (dk_at s257_7 9 rfl rfl)) rfl
theorem f257_175 : ft 257 175 = some (11, 1, 0, .invokevirtual 428, 3) := Fm257 (dk_182 1 172 (dk_at s257_7 10 rfl rfl)) rfl
theorem f257_178 : ft 257 178 = some (11, 1, 0, .iload 4, 2) := Fm257 (dk_21 4 (dk_at s257_7 13 rfl rfl)) rfl
theorem f257_180 : ft 257 180 = some (11, 1, 0, .ireturn, 1) := Fm257 (dk_172 (dk_at s257_7 15 rfl rfl)) rfl
theorem q257 {d : Nat} {m : Mem} {a0 a1 : Int} (hd : 0 < d) (hz : TZ m) : le2 (gd (tg m a0 = 11) <| bI (cl (d - 1) 199 [pR a0] m) fun v1 m1 => if v1 = 61 then (bI (cl (d - 1) 200 [pR a0, pR 80] m1) fun v9 m9 => if v9 = 0 then (some (.inl (some (pI (-1))), m9)) else rn d 257 131 [pR a0, pI a1, pI 0, pU, pU] [] m9) else bI (cl (d - 1) 199 [pR a0] m1) fun v2 m2 => if v2 = 33 then (bI (cl (d - 1) 200 [pR a0, pR 82] m2) fun v8 m8 => if v8 = 0 then (some (.inl (some (pI (-1))), m8)) else rn d 257 131 [pR a0, pI a1, pI 1, pU, pU] [] m8) else bI (cl (d - 1) 199 [pR a0] m2) fun v3 m3 => if v3 = 60 then (bI (cl (d - 1) 199 [pR a0] m3) fun v4 m4 => if v4 = 60 then (rn d 257 84 [pR a0, pI a1, pU, pU, pU] [pI 2] m4) else rn d 257 84 [pR a0, pI a1, pU, pU, pU] [pI 4] m4) else bI (cl (d - 1) 199 [pR a0] m3) fun v5 m5 => if v5 = 62 then (bI (cl (d - 1) 199 [pR a0] m5) fun v7 m7 => if v7 = 60 then (rn d 257 84 [pR a0, pI a1, pU, pU, pU] [pI 2] m7) else rn d 257 84 [pR a0, pI a1, pU, pU, pU] [pI 4] m7) else bI (cl (d - 1) 202 [pR a0, pI (vl m5 a0 12)] m5) fun v6 m6 => some (.inl (some (pI (-1))), m6)) (cl d 257 [pR a0, pI a1] m) := by
  refine q_in (n := 5) (L := [pR a0, pI a1, pU, pU, pU]) rfl rfl rfl ?_
  refine r_aln0 (p := 1) f257_0 rfl ?_
  refine le2_gd (fun h1 => ?_)
  refine r_invI (p := 4) f257_1 rfl rfl rfl (Or.inl h1) hd (Nat.le_of_ble_eq_true rfl) rfl rfl rfl (fun _ => rfl) (fun v1 m1 c1 => ?_)
  have hz1 := z_k c1 hz
  refine r_bipush (p := 6) f257_4 rfl (pinD rfl rfl) ?_
  refine r_icne (t := 26) (p := 9) f257_6 (by decide) rfl rfl ?_ ?_
  · refine r_aln0 (p := 10) f257_9 rfl ?_
    refine r_ldc_wR (p := 13) f257_10 rfl rfl ?_
    have h9 := k_t1 c1 hz h1 (by decide)
    refine r_invI (p := 16) f257_13 rfl rfl rfl (Or.inl h9) hd (Nat.le_of_ble_eq_true rfl) rfl rfl rfl (fun _ => rfl) (fun v9 m9 c9 => ?_)
    have hz9 := z_k c9 hz1
    refine r_ifne (t := 21) (p := 19) f257_16 (by decide) rfl rfl ?_ ?_
    · refine r_iconst (p := 20) f257_19 rfl (pinD rfl rfl) ?_
      exact r_iret1 f257_20
    · refine r_iconst (p := 22) f257_21 rfl (pinD rfl rfl) ?_
      refine r_isn2 (p := 23) f257_22 rfl rfl ?_
      refine r_goto (p := 131) f257_23 (by decide) rfl ?_
      exact le2_refl _
  · refine r_aln0 (p := 27) f257_26 rfl ?_
    have h2 := k_t1 c1 hz h1 (by decide)
    refine r_invI (p := 30) f257_27 rfl rfl rfl (Or.inl h2) hd (Nat.le_of_ble_eq_true rfl) rfl rfl rfl (fun _ => rfl) (fun v2 m2 c2 => ?_)
    have hz2 := z_k c2 hz1
    refine r_bipush (p := 32) f257_30 rfl (pinD rfl rfl) ?_
    refine r_icne (t := 52) (p := 35) f257_32 (by decide) rfl rfl ?_ ?_
    · refine r_aln0 (p := 36) f257_35 rfl ?_
      refine r_ldc_wR (p := 39) f257_36 rfl rfl ?_
      have h8 := k_t1 c2 hz1 h2 (by decide)
      refine r_invI (p := 42) f257_39 rfl rfl rfl (Or.inl h8) hd (Nat.le_of_ble_eq_true rfl) rfl rfl rfl (fun _ => rfl) (fun v8 m8 c8 => ?_)
      have hz8 := z_k c8 hz2
      refine r_ifne (t := 47) (p := 45) f257_42 (by decide) rfl rfl ?_ ?_
      · refine r_iconst (p := 46) f257_45 rfl (pinD rfl rfl) ?_
        exact r_iret1 f257_46
      · refine r_iconst (p := 48) f257_47 rfl (pinD rfl rfl) ?_
        refine r_isn2 (p := 49) f257_48 rfl rfl ?_
        refine r_goto (p := 131) f257_49 (by decide) rfl ?_
        exact le2_refl _
    · refine r_aln0 (p := 53) f257_52 rfl ?_
      have h3 := k_t1 c2 hz1 h2 (by decide)
      refine r_invI (p := 56) f257_53 rfl rfl rfl (Or.inl h3) hd (Nat.le_of_ble_eq_true rfl) rfl rfl rfl (fun _ => rfl) (fun v3 m3 c3 => ?_)
      have hz3 := z_k c3 hz2
      refine r_bipush (p := 58) f257_56 rfl (pinD rfl rfl) ?_
      refine r_iceq (t := 70) (p := 61) f257_58 (by decide) rfl rfl ?_ ?_
      · refine r_aln0 (p := 71) f257_70 rfl ?_
        have h4 := k_t1 c3 hz2 h3 (by decide)
        refine r_invI (p := 74) f257_71 rfl rfl rfl (Or.inl h4) hd (Nat.le_of_ble_eq_true rfl) rfl rfl rfl (fun _ => rfl) (fun v4 m4 c4 => ?_)
        have hz4 := z_k c4 hz3
        refine r_bipush (p := 76) f257_74 rfl (pinD rfl rfl) ?_
        refine r_icne (t := 83) (p := 79) f257_76 (by decide) rfl rfl ?_ ?_
        · refine r_iconst (p := 80) f257_79 rfl (pinD rfl rfl) ?_
          refine r_goto (p := 84) f257_80 (by decide) rfl ?_
          exact le2_refl _
        · refine r_iconst (p := 84) f257_83 rfl (pinD rfl rfl) ?_
          exact le2_refl _
      · refine r_aln0 (p := 62) f257_61 rfl ?_
        have h5 := k_t1 c3 hz2 h3 (by decide)
        refine r_invI (p := 65) f257_62 rfl rfl rfl (Or.inl h5) hd (Nat.le_of_ble_eq_true rfl) rfl rfl rfl (fun _ => rfl) (fun v5 m5 c5 => ?_)
        have hz5 := z_k c5 hz3
        refine r_bipush (p := 67) f257_65 rfl (pinD rfl rfl) ?_
        refine r_icne (t := 120) (p := 70) f257_67 (by decide) rfl rfl ?_ ?_
        · refine r_aln0 (p := 71) f257_70 rfl ?_
          have h7 := k_t1 c5 hz3 h5 (by decide)
          refine r_invI (p := 74) f257_71 rfl rfl rfl (Or.inl h7) hd (Nat.le_of_ble_eq_true rfl) rfl rfl rfl (fun _ => rfl) (fun v7 m7 c7 => ?_)
          have hz7 := z_k c7 hz5
          refine r_bipush (p := 76) f257_74 rfl (pinD rfl rfl) ?_
          refine r_icne (t := 83) (p := 79) f257_76 (by decide) rfl rfl ?_ ?_
          · refine r_iconst (p := 80) f257_79 rfl (pinD rfl rfl) ?_
            refine r_goto (p := 84) f257_80 (by decide) rfl ?_
            exact le2_refl _
          · refine r_iconst (p := 84) f257_83 rfl (pinD rfl rfl) ?_
            exact le2_refl _
        · refine r_aln0 (p := 121) f257_120 rfl ?_
          refine r_aln0 (p := 122) f257_121 rfl ?_
          have h6 := k_t1 c5 hz3 h5 (by decide)
          refine r_gfI (f := 12) (p := 125) f257_122 rfl rfl rfl (Or.inl h6) rfl ?_
          refine r_invI (p := 128) f257_125 rfl rfl rfl (Or.inl h6) hd (Nat.le_of_ble_eq_true rfl) rfl rfl rfl (fun _ => rfl) (fun v6 m6 c6 => ?_)
          have hz6 := z_k c6 hz5
          refine r_pop (p := 129) f257_128 rfl rfl ?_
          refine r_iconst (p := 130) f257_129 rfl (pinD rfl rfl) ?_
          exact r_iret1 f257_130
theorem q257_84 {d : Nat} {m : Mem} {a0 a1 s0 : Int} (hd : 0 < d) (hz : TZ m) : le2 (gd (tg m a0 = 11) <| bI (cl (d - 1) 199 [pR a0] (mst m a0 12 (w32 ((vl m a0 12) + 1)))) fun v1 m1 => if v1 = 61 then (rn d 257 131 [pR a0, pI a1, pI (w32 (s0 + 1)), pU, pU] [] (mst m1 a0 12 (w32 ((vl m1 a0 12) + 1)))) else rn d 257 131 [pR a0, pI a1, pI s0, pU, pU] [] m1) (rn d 257 84 [pR a0, pI a1, pU, pU, pU] [pI s0] m) := by
  refine r_isn2 (p := 85) f257_84 rfl rfl ?_
  refine r_aln0 (p := 86) f257_85 rfl ?_
  refine r_dup (p := 87) f257_86 rfl rfl ?_
  refine le2_gd (fun h1 => ?_)
  refine r_gfI (f := 12) (p := 90) f257_87 rfl rfl rfl (Or.inl h1) rfl ?_
  refine r_iconst (p := 91) f257_90 rfl (pinD rfl rfl) ?_
  refine r_iadd (p := 92) f257_91 rfl ?_
  refine r_pfI (f := 12) (p := 95) f257_92 rfl rfl rfl (by decide) (by decide) (Or.inl h1) rfl ?_
  refine r_aln0 (p := 96) f257_95 rfl ?_
  refine r_invI (p := 99) f257_96 rfl rfl rfl (Or.inl h1) hd (Nat.le_of_ble_eq_true rfl) rfl rfl rfl (fun _ => rfl) (fun v1 m1 c1 => ?_)
  have hz1 := z_k c1 hz
  refine r_bipush (p := 101) f257_99 rfl (pinD rfl rfl) ?_
  refine r_icne (t := 131) (p := 104) f257_101 (by decide) rfl rfl ?_ ?_
  · refine r_aln0 (p := 105) f257_104 rfl ?_
    refine r_dup (p := 106) f257_105 rfl rfl ?_
    have h2 := k_t1 c1 hz h1 (by decide)
    refine r_gfI (f := 12) (p := 109) f257_106 rfl rfl rfl (Or.inl h2) rfl ?_
    refine r_iconst (p := 110) f257_109 rfl (pinD rfl rfl) ?_
    refine r_iadd (p := 111) f257_110 rfl ?_
    refine r_pfI (f := 12) (p := 114) f257_111 rfl rfl rfl (by decide) (by decide) (Or.inl h2) rfl ?_
    refine r_iinc2 (p := 117) f257_114 rfl rfl ?_
    refine r_goto (p := 131) f257_117 (by decide) rfl ?_
    exact le2_refl _
  · exact le2_refl _
theorem q257_131 {d : Nat} {m : Mem} {a0 a1 a2 : Int} (hd : 0 < d) (hz : TZ m) : le2 (gd (tg m a0 = 11) <| bV (cl (d - 1) 198 [pR a0] m) fun m1 => bI (cl (d - 1) 258 [pR a0] m1) fun v2 m2 => if v2 < 0 then (some (.inl (some (pI (-1))), m2)) else bI (cl (d - 1) 245 [pR a0, pI 33] m2) fun v3 m3 => bV (cl (d - 1) 246 [pR a0, pI v3, pI 2, pI a1] m3) fun m4 => bV (cl (d - 1) 246 [pR a0, pI v3, pI 3, pI v2] m4) fun m5 => bV (cl (d - 1) 246 [pR a0, pI v3, pI 4, pI a2] m5) fun m6 => some (.inl (some (pI v3)), m6)) (rn d 257 131 [pR a0, pI a1, pI a2, pU, pU] [] m) := by
  refine r_aln0 (p := 132) f257_131 rfl ?_
  refine le2_gd (fun h1 => ?_)
  refine r_invV (p := 135) f257_132 rfl rfl rfl (Or.inl h1) hd (Nat.le_of_ble_eq_true rfl) rfl rfl rfl (fun _ => rfl) (fun m1 c1 => ?_)
  have hz1 := z_k c1 hz
  refine r_aln0 (p := 136) f257_135 rfl ?_
  have h2 := k_t1 c1 hz h1 (by decide)
  refine r_invI (p := 139) f257_136 rfl rfl rfl (Or.inl h2) hd (Nat.le_of_ble_eq_true rfl) rfl rfl rfl (fun _ => rfl) (fun v2 m2 c2 => ?_)
  have hz2 := z_k c2 hz1
  refine r_isn3 (p := 140) f257_139 rfl rfl ?_
  refine r_iln3 (p := 141) f257_140 rfl ?_
  refine r_ifge (t := 146) (p := 144) f257_141 (by decide) rfl rfl ?_ ?_
  · refine r_iconst (p := 145) f257_144 rfl (pinD rfl rfl) ?_
    exact r_iret1 f257_145
  · refine r_aln0 (p := 147) f257_146 rfl ?_
    refine r_bipush (p := 149) f257_147 rfl (pinD rfl rfl) ?_
    have h3 := k_t1 c2 hz1 h2 (by decide)
    refine r_invI (p := 152) f257_149 rfl rfl rfl (Or.inl h3) hd (Nat.le_of_ble_eq_true rfl) rfl rfl rfl (fun _ => rfl) (fun v3 m3 c3 => ?_)
    have hz3 := z_k c3 hz2
    refine r_isw4 (p := 154) f257_152 rfl rfl ?_
    refine r_aln0 (p := 155) f257_154 rfl ?_
    refine r_ilw4 (p := 157) f257_155 rfl ?_
    refine r_iconst (p := 158) f257_157 rfl (pinD rfl rfl) ?_
    refine r_iln1 (p := 159) f257_158 rfl ?_
    have h4 := k_t1 c3 hz2 h3 (by decide)
    refine r_invV (p := 162) f257_159 rfl rfl rfl (Or.inl h4) hd (Nat.le_of_ble_eq_true rfl) rfl rfl rfl (fun _ => rfl) (fun m4 c4 => ?_)
    have hz4 := z_k c4 hz3
    refine r_aln0 (p := 163) f257_162 rfl ?_
    refine r_ilw4 (p := 165) f257_163 rfl ?_
    refine r_iconst (p := 166) f257_165 rfl (pinD rfl rfl) ?_
    refine r_iln3 (p := 167) f257_166 rfl ?_
    have h5 := k_t1 c4 hz3 h4 (by decide)
    refine r_invV (p := 170) f257_167 rfl rfl rfl (Or.inl h5) hd (Nat.le_of_ble_eq_true rfl) rfl rfl rfl (fun _ => rfl) (fun m5 c5 => ?_)
    have hz5 := z_k c5 hz4
    refine r_aln0 (p := 171) f257_170 rfl ?_
    refine r_ilw4 (p := 173) f257_171 rfl ?_
    refine r_iconst (p := 174) f257_173 rfl (pinD rfl rfl) ?_
    refine r_iln2 (p := 175) f257_174 rfl ?_
    have h6 := k_t1 c5 hz4 h5 (by decide)
    refine r_invV (p := 178) f257_175 rfl rfl rfl (Or.inl h6) hd (Nat.le_of_ble_eq_true rfl) rfl rfl rfl (fun _ => rfl) (fun m6 c6 => ?_)
    have hz6 := z_k c6 hz5
    refine r_ilw4 (p := 180) f257_178 rfl ?_
    exact r_iret1 f257_180
/-! 258 PathStoreModel.comparable ()I -/
def w258_20 : List UInt8 := [153, 0, 7, 28, 167, 0, 4, 2, 172]
abbrev u258_20 : List UInt8 := w258_20 ++ []
def w258_19 : List UInt8 := [172, 29, 156, 0, 5, 2, 172, 42, 28, 5, 29, 182, 1, 172, 42, 182, 0, 204, 42, 16, 41, 182, 1, 196]
abbrev u258_19 : List UInt8 := w258_19 ++ u258_20
def w258_18 : List UInt8 := [181, 0, 155, 42, 21, 4, 3, 182, 1, 215, 62, 167, 0, 14, 42, 42, 180, 0, 155, 182, 0, 171, 87, 2]
abbrev u258_18 : List UInt8 := w258_18 ++ u258_19
def w258_17 : List UInt8 := [182, 0, 167, 16, 36, 160, 0, 7, 4, 167, 0, 4, 3, 54, 4, 42, 89, 180, 0, 155, 4, 96]
abbrev u258_17 : List UInt8 := w258_17 ++ u258_18
def w258_16 : List UInt8 := [62, 167, 0, 69, 42, 182, 0, 167, 16, 64, 159, 0, 12, 42, 182, 0, 167, 16, 36, 160, 0, 40, 42]
abbrev u258_16 : List UInt8 := w258_16 ++ u258_17
def w258_15 : List UInt8 := [160, 0, 8, 16, 47, 167, 0, 5, 16, 48, 182, 1, 169, 61, 27, 16, 108, 160, 0, 11, 42, 182, 1, 225]
abbrev u258_15 : List UInt8 := w258_15 ++ u258_16
def w258_14 : List UInt8 := [154, 0, 5, 2, 172, 42, 182, 0, 204, 42, 27, 16, 108, 160, 0, 8, 16, 46, 167, 0, 16, 27, 16, 99]
abbrev u258_14 : List UInt8 := w258_14 ++ u258_15
def w258_13 : List UInt8 := [160, 0, 9, 19, 1, 236, 167, 0, 6, 19, 1, 137, 182, 0, 213, 153, 0, 12, 42, 16, 40, 182, 1, 189]
abbrev u258_13 : List UInt8 := w258_13 ++ u258_14
def w258_12 : List UInt8 := [182, 0, 171, 87, 2, 172, 42, 27, 16, 108, 160, 0, 9, 19, 1, 235, 167, 0, 18, 27, 16, 99]
abbrev u258_12 : List UInt8 := w258_12 ++ u258_13
def w258_11 : List UInt8 := [16, 108, 159, 0, 26, 27, 16, 99, 159, 0, 20, 27, 16, 118, 159, 0, 14, 42, 42, 180, 0, 155]
abbrev u258_11 : List UInt8 := w258_11 ++ u258_12
def w258_10 : List UInt8 := [160, 0, 23, 42, 18, 207, 182, 0, 213, 153, 0, 12, 42, 16, 44, 182, 1, 169, 167, 0, 4, 2, 172, 27]
abbrev u258_10 : List UInt8 := w258_10 ++ u258_11
def w258_9 : List UInt8 := [18, 211, 182, 0, 213, 153, 0, 12, 42, 16, 43, 182, 1, 169, 167, 0, 4, 2, 172, 27, 16, 110]
abbrev u258_9 : List UInt8 := w258_9 ++ u258_10
def w258_8 : List UInt8 := [182, 0, 213, 153, 0, 12, 42, 16, 42, 182, 1, 169, 167, 0, 4, 2, 172, 27, 16, 102, 160, 0, 23, 42]
abbrev u258_8 : List UInt8 := w258_8 ++ u258_9
def w258_7 : List UInt8 := [182, 1, 169, 62, 42, 29, 5, 28, 182, 1, 172, 29, 172, 27, 16, 116, 160, 0, 23, 42, 18, 209]
abbrev u258_7 : List UInt8 := w258_7 ++ u258_8
def w258_6 : List UInt8 := [160, 0, 7, 4, 167, 0, 4, 3, 4, 182, 1, 215, 61, 28, 156, 0, 5, 2, 172, 42, 16, 45]
abbrev u258_6 : List UInt8 := w258_6 ++ u258_7
def w258_5 : List UInt8 := [159, 0, 9, 27, 16, 36, 160, 0, 52, 42, 89, 180, 0, 155, 4, 96, 181, 0, 155, 42, 27, 16, 36]
abbrev u258_5 : List UInt8 := w258_5 ++ u258_6
def w258_4 : List UInt8 := [28, 6, 42, 180, 0, 127, 180, 0, 224, 42, 28, 5, 182, 1, 186, 100, 182, 1, 172, 28, 172, 27, 16, 64]
abbrev u258_4 : List UInt8 := w258_4 ++ u258_5
def w258_3 : List UInt8 := [180, 0, 127, 180, 0, 224, 182, 1, 172, 42, 27, 42, 180, 0, 127, 182, 0, 220, 154, 0, 5, 2, 172, 42]
abbrev u258_3 : List UInt8 := w258_3 ++ u258_4
def w258_2 : List UInt8 := [16, 39, 159, 0, 9, 27, 16, 34, 160, 0, 59, 42, 16, 41, 182, 1, 169, 61, 42, 28, 5, 42]
abbrev u258_2 : List UInt8 := w258_2 ++ u258_3
def w258_1 : List UInt8 := [61, 42, 28, 5, 3, 182, 1, 172, 42, 28, 3, 182, 1, 202, 153, 0, 7, 28, 167, 0, 4, 2, 172, 27]
abbrev u258_1 : List UInt8 := w258_1 ++ u258_2
def w258_0 : List UInt8 := [42, 182, 0, 167, 60, 27, 16, 45, 159, 0, 10, 27, 184, 0, 186, 153, 0, 32, 42, 16, 40, 182, 1, 169]
abbrev u258_0 : List UInt8 := w258_0 ++ u258_1
theorem s258_0 : (prog_32_method_76_code).data.toList.drop 0 = u258_0 := by decide +kernel
theorem s258_1 : (prog_32_method_76_code).data.toList.drop 24 = u258_1 := dk_seg s258_0 24 rfl rfl
theorem s258_2 : (prog_32_method_76_code).data.toList.drop 48 = u258_2 := dk_seg s258_1 24 rfl rfl
theorem s258_3 : (prog_32_method_76_code).data.toList.drop 70 = u258_3 := dk_seg s258_2 22 rfl rfl
theorem s258_4 : (prog_32_method_76_code).data.toList.drop 94 = u258_4 := dk_seg s258_3 24 rfl rfl
theorem s258_5 : (prog_32_method_76_code).data.toList.drop 118 = u258_5 := dk_seg s258_4 24 rfl rfl
theorem s258_6 : (prog_32_method_76_code).data.toList.drop 141 = u258_6 := dk_seg s258_5 23 rfl rfl
theorem s258_7 : (prog_32_method_76_code).data.toList.drop 163 = u258_7 := dk_seg s258_6 22 rfl rfl
theorem s258_8 : (prog_32_method_76_code).data.toList.drop 185 = u258_8 := dk_seg s258_7 22 rfl rfl
theorem s258_9 : (prog_32_method_76_code).data.toList.drop 209 = u258_9 := dk_seg s258_8 24 rfl rfl
theorem s258_10 : (prog_32_method_76_code).data.toList.drop 231 = u258_10 := dk_seg s258_9 22 rfl rfl
theorem s258_11 : (prog_32_method_76_code).data.toList.drop 255 = u258_11 := dk_seg s258_10 24 rfl rfl
theorem s258_12 : (prog_32_method_76_code).data.toList.drop 277 = u258_12 := dk_seg s258_11 22 rfl rfl
theorem s258_13 : (prog_32_method_76_code).data.toList.drop 299 = u258_13 := dk_seg s258_12 22 rfl rfl
theorem s258_14 : (prog_32_method_76_code).data.toList.drop 323 = u258_14 := dk_seg s258_13 24 rfl rfl
theorem s258_15 : (prog_32_method_76_code).data.toList.drop 347 = u258_15 := dk_seg s258_14 24 rfl rfl
theorem s258_16 : (prog_32_method_76_code).data.toList.drop 371 = u258_16 := dk_seg s258_15 24 rfl rfl
theorem s258_17 : (prog_32_method_76_code).data.toList.drop 394 = u258_17 := dk_seg s258_16 23 rfl rfl
theorem s258_18 : (prog_32_method_76_code).data.toList.drop 416 = u258_18 := dk_seg s258_17 22 rfl rfl
theorem s258_19 : (prog_32_method_76_code).data.toList.drop 440 = u258_19 := dk_seg s258_18 24 rfl rfl
theorem s258_20 : (prog_32_method_76_code).data.toList.drop 464 = u258_20 := dk_seg s258_19 24 rfl rfl
theorem Fm258 {pc len : Nat} {i : Instr} (h : decode (prog_32_method_76_code) pc = .ok (i, len)) (hl : len = ilen i len) : ft 258 pc = some (11, 1, 0, i, len) := ft_mk rfl h hl
theorem f258_0 : ft 258 0 = some (11, 1, 0, .aload_n 0, 1) := Fm258 (dk_42 (dk_at s258_0 0 rfl rfl)) rfl
theorem f258_1 : ft 258 1 = some (11, 1, 0, .invokevirtual 167, 3) := Fm258 (dk_182 0 167 (dk_at s258_0 1 rfl rfl)) rfl
theorem f258_4 : ft 258 4 = some (11, 1, 0, .istore_n 1, 1) := Fm258 (dk_60 (dk_at s258_0 4 rfl rfl)) rfl
theorem f258_5 : ft 258 5 = some (11, 1, 0, .iload_n 1, 1) := Fm258 (dk_27 (dk_at s258_0 5 rfl rfl)) rfl
theorem f258_6 : ft 258 6 = some (11, 1, 0, .bipush 45, 2) := Fm258 (dk_16 45 (dk_at s258_0 6 rfl rfl)) rfl
theorem f258_8 : ft 258 8 = some (11, 1, 0, .if_icmp .eq 10, 3) := Fm258 (dk_159 0 10 (dk_at s258_0 8 rfl rfl)) rfl
theorem f258_11 : ft 258 11 = some (11, 1, 0, .iload_n 1, 1) := Fm258 (dk_27 (dk_at s258_0 11 rfl rfl)) rfl
theorem f258_12 : ft 258 12 = some (11, 1, 0, .invokestatic 186, 3) := Fm258 (dk_184 0 186 (dk_at s258_0 12 rfl rfl)) rfl
theorem f258_15 : ft 258 15 = some (11, 1, 0, .ifCond .eq 32, 3) := Fm258 (dk_153 0 32 (dk_at s258_0 15 rfl rfl)) rfl
theorem f258_18 : ft 258 18 = some (11, 1, 0, .aload_n 0, 1) := Fm258 (dk_42 (dk_at s258_0 18 rfl rfl)) rfl
theorem f258_19 : ft 258 19 = some (11, 1, 0, .bipush 40, 2) := Fm258 (dk_16 40 (dk_at s258_0 19 rfl rfl)) rfl
theorem f258_21 : ft 258 21 = some (11, 1, 0, .invokevirtual 425, 3) := Fm258 (dk_182 1 169 (dk_at s258_0 21 rfl rfl)) rfl
theorem f258_24 : ft 258 24 = some (11, 1, 0, .istore_n 2, 1) := Fm258 (dk_61 (dk_at s258_1 0 rfl rfl)) rfl
theorem f258_25 : ft 258 25 = some (11, 1, 0, .aload_n 0, 1) := Fm258 (dk_42 (dk_at s258_1 1 rfl rfl)) rfl
theorem f258_26 : ft 258 26 = some (11, 1, 0, .iload_n 2, 1) := Fm258 (dk_28 (dk_at s258_1 2 rfl rfl)) rfl
theorem f258_27 : ft 258 27 = some (11, 1, 0, .iconst 2, 1) := Fm258 (dk_5 (dk_at s258_1 3 rfl rfl)) rfl
theorem f258_28 : ft 258 28 = some (11, 1, 0, .iconst 0, 1) := Fm258 (dk_3 (dk_at s258_1 4 rfl rfl)) rfl
theorem f258_29 : ft 258 29 = some (11, 1, 0, .invokevirtual 428, 3) := Fm258 (dk_182 1 172 (dk_at s258_1 5 rfl rfl)) rfl
theorem f258_32 : ft 258 32 = some (11, 1, 0, .aload_n 0, 1) := Fm258 (dk_42 (dk_at s258_1 8 rfl rfl)) rfl
theorem f258_33 : ft 258 33 = some (11, 1, 0, .iload_n 2, 1) := Fm258 (dk_28 (dk_at s258_1 9 rfl rfl)) rfl
theorem f258_34 : ft 258 34 = some (11, 1, 0, .iconst 0, 1) := Fm258 (dk_3 (dk_at s258_1 10 rfl rfl)) rfl
theorem f258_35 : ft 258 35 = some (11, 1, 0, .invokevirtual 458, 3) := Fm258 (dk_182 1 202 (dk_at s258_1 11 rfl rfl)) rfl
theorem f258_38 : ft 258 38 = some (11, 1, 0, .ifCond .eq 7, 3) := Fm258 (dk_153 0 7 (dk_at s258_1 14 rfl rfl)) rfl
theorem f258_41 : ft 258 41 = some (11, 1, 0, .iload_n 2, 1) := Fm258 (dk_28 (dk_at s258_1 17 rfl rfl)) rfl
theorem f258_42 : ft 258 42 = some (11, 1, 0, .goto 4, 3) := Fm258 (dk_167 0 4 (dk_at s258_1 18 rfl rfl)) rfl
theorem f258_45 : ft 258 45 = some (11, 1, 0, .iconst (-1), 1) := Fm258 (dk_2 (dk_at s258_1 21 rfl rfl)) rfl
theorem f258_46 : ft 258 46 = some (11, 1, 0, .ireturn, 1) := Fm258 (dk_172 (dk_at s258_1 22 rfl rfl)) rfl
theorem f258_47 : ft 258 47 = some (11, 1, 0, .iload_n 1, 1) := Fm258 (dk_27 (dk_at s258_1 23 rfl rfl)) rfl
theorem f258_48 : ft 258 48 = some (11, 1, 0, .bipush 39, 2) := Fm258 (dk_16 39 (dk_at s258_2 0 rfl rfl)) rfl
theorem f258_50 : ft 258 50 = some (11, 1, 0, .if_icmp .eq 9, 3) := Fm258 (dk_159 0 9 (dk_at s258_2 2 rfl rfl)) rfl
theorem f258_53 : ft 258 53 = some (11, 1, 0, .iload_n 1, 1) := Fm258 (dk_27 (dk_at s258_2 5 rfl rfl)) rfl
theorem f258_54 : ft 258 54 = some (11, 1, 0, .bipush 34, 2) := Fm258 (dk_16 34 (dk_at s258_2 6 rfl rfl)) rfl
theorem f258_56 : ft 258 56 = some (11, 1, 0, .if_icmp .ne 59, 3) := Fm258 (dk_160 0 59 (dk_at s258_2 8 rfl rfl)) rfl
theorem f258_59 : ft 258 59 = some (11, 1, 0, .aload_n 0, 1) := Fm258 (dk_42 (dk_at s258_2 11 rfl rfl)) rfl
theorem f258_60 : ft 258 60 = some (11, 1, 0, .bipush 41, 2) := Fm258 (dk_16 41 (dk_at s258_2 12 rfl rfl)) rfl
theorem f258_62 : ft 258 62 = some (11, 1, 0, .invokevirtual 425, 3) := Fm258 (dk_182 1 169 (dk_at s258_2 14 rfl rfl)) rfl
theorem f258_65 : ft 258 65 = some (11, 1, 0, .istore_n 2, 1) := Fm258 (dk_61 (dk_at s258_2 17 rfl rfl)) rfl
theorem f258_66 : ft 258 66 = some (11, 1, 0, .aload_n 0, 1) := Fm258 (dk_42 (dk_at s258_2 18 rfl rfl)) rfl
theorem f258_67 : ft 258 67 = some (11, 1, 0, .iload_n 2, 1) := Fm258 (dk_28 (dk_at s258_2 19 rfl rfl)) rfl
theorem f258_68 : ft 258 68 = some (11, 1, 0, .iconst 2, 1) := Fm258 (dk_5 (dk_at s258_2 20 rfl rfl)) rfl
theorem f258_69 : ft 258 69 = some (11, 1, 0, .aload_n 0, 1) := Fm258 (dk_42 (dk_at s258_2 21 rfl rfl)) rfl
theorem f258_70 : ft 258 70 = some (11, 1, 0, .getfield 127, 3) := Fm258 (dk_180 0 127 (dk_at s258_3 0 rfl rfl)) rfl
theorem f258_73 : ft 258 73 = some (11, 1, 0, .getfield 224, 3) := Fm258 (dk_180 0 224 (dk_at s258_3 3 rfl rfl)) rfl
theorem f258_76 : ft 258 76 = some (11, 1, 0, .invokevirtual 428, 3) := Fm258 (dk_182 1 172 (dk_at s258_3 6 rfl rfl)) rfl
theorem f258_79 : ft 258 79 = some (11, 1, 0, .aload_n 0, 1) := Fm258 (dk_42 (dk_at s258_3 9 rfl rfl)) rfl
theorem f258_80 : ft 258 80 = some (11, 1, 0, .iload_n 1, 1) := Fm258 (dk_27 (dk_at s258_3 10 rfl rfl)) rfl
theorem f258_81 : ft 258 81 = some (11, 1, 0, .aload_n 0, 1) := Fm258 (dk_42 (dk_at s258_3 11 rfl rfl)) rfl
theorem f258_82 : ft 258 82 = some (11, 1, 0, .getfield 127, 3) := Fm258 (dk_180 0 127 (dk_at s258_3 12 rfl rfl)) rfl
theorem f258_85 : ft 258 85 = some (11, 1, 0, .invokevirtual 220, 3) := Fm258 (dk_182 0 220 (dk_at s258_3 15 rfl rfl)) rfl
theorem f258_88 : ft 258 88 = some (11, 1, 0, .ifCond .ne 5, 3) := Fm258 (dk_154 0 5 (dk_at s258_3 18 rfl rfl)) rfl
theorem f258_91 : ft 258 91 = some (11, 1, 0, .iconst (-1), 1) := Fm258 (dk_2 (dk_at s258_3 21 rfl rfl)) rfl
theorem f258_92 : ft 258 92 = some (11, 1, 0, .ireturn, 1) := Fm258 (dk_172 (dk_at s258_3 22 rfl rfl)) rfl
theorem f258_93 : ft 258 93 = some (11, 1, 0, .aload_n 0, 1) := Fm258 (dk_42 (dk_at s258_3 23 rfl rfl)) rfl
theorem f258_94 : ft 258 94 = some (11, 1, 0, .iload_n 2, 1) := Fm258 (dk_28 (dk_at s258_4 0 rfl rfl)) rfl
theorem f258_95 : ft 258 95 = some (11, 1, 0, .iconst 3, 1) := Fm258 (dk_6 (dk_at s258_4 1 rfl rfl)) rfl
theorem f258_96 : ft 258 96 = some (11, 1, 0, .aload_n 0, 1) := Fm258 (dk_42 (dk_at s258_4 2 rfl rfl)) rfl
theorem f258_97 : ft 258 97 = some (11, 1, 0, .getfield 127, 3) := Fm258 (dk_180 0 127 (dk_at s258_4 3 rfl rfl)) rfl
theorem f258_100 : ft 258 100 = some (11, 1, 0, .getfield 224, 3) := Fm258 (dk_180 0 224 (dk_at s258_4 6 rfl rfl)) rfl
theorem f258_103 : ft 258 103 = some (11, 1, 0, .aload_n 0, 1) := Fm258 (dk_42 (dk_at s258_4 9 rfl rfl)) rfl
theorem f258_104 : ft 258 104 = some (11, 1, 0, .iload_n 2, 1) := Fm258 (dk_28 (dk_at s258_4 10 rfl rfl)) rfl
theorem f258_105 : ft 258 105 = some (11, 1, 0, .iconst 2, 1) := Fm258 (dk_5 (dk_at s258_4 11 rfl rfl)) rfl
theorem f258_106 : ft 258 106 = some (11, 1, 0, .invokevirtual 442, 3) := Fm258 (dk_182 1 186 (dk_at s258_4 12 rfl rfl)) rfl
theorem f258_109 : ft 258 109 = some (11, 1, 0, .isub, 1) := Fm258 (dk_100 (dk_at s258_4 15 rfl rfl)) rfl
theorem f258_110 : ft 258 110 = some (11, 1, 0, .invokevirtual 428, 3) := Fm258 (dk_182 1 172 (dk_at s258_4 16 rfl rfl)) rfl
theorem f258_113 : ft 258 113 = some (11, 1, 0, .iload_n 2, 1) := Fm258 (dk_28 (dk_at s258_4 19 rfl rfl)) rfl
theorem f258_114 : ft 258 114 = some (11, 1, 0, .ireturn, 1) := Fm258 (dk_172 (dk_at s258_4 20 rfl rfl)) rfl
theorem f258_115 : ft 258 115 = some (11, 1, 0, .iload_n 1, 1) := Fm258 (dk_27 (dk_at s258_4 21 rfl rfl)) rfl
theorem f258_116 : ft 258 116 = some (11, 1, 0, .bipush 64, 2) := Fm258 (dk_16 64 (dk_at s258_4 22 rfl rfl)) rfl
theorem f258_118 : ft 258 118 = some (11, 1, 0, .if_icmp .eq 9, 3) := Fm258 (dk_159 0 9 (dk_at s258_5 0 rfl rfl)) rfl
theorem f258_121 : ft 258 121 = some (11, 1, 0, .iload_n 1, 1) := Fm258 (dk_27 (dk_at s258_5 3 rfl rfl)) rfl
theorem f258_122 : ft 258 122 = some (11, 1, 0, .bipush 36, 2) := Fm258 (dk_16 36 (dk_at s258_5 4 rfl rfl)) rfl
theorem f258_124 : ft 258 124 = some (11, 1, 0, .if_icmp .ne 52, 3) := Fm258 (dk_160 0 52 (dk_at s258_5 6 rfl rfl)) rfl
theorem f258_127 : ft 258 127 = some (11, 1, 0, .aload_n 0, 1) := Fm258 (dk_42 (dk_at s258_5 9 rfl rfl)) rfl
theorem f258_128 : ft 258 128 = some (11, 1, 0, .dup, 1) := Fm258 (dk_89 (dk_at s258_5 10 rfl rfl)) rfl
theorem f258_129 : ft 258 129 = some (11, 1, 0, .getfield 155, 3) := Fm258 (dk_180 0 155 (dk_at s258_5 11 rfl rfl)) rfl
theorem f258_132 : ft 258 132 = some (11, 1, 0, .iconst 1, 1) := Fm258 (dk_4 (dk_at s258_5 14 rfl rfl)) rfl
theorem f258_133 : ft 258 133 = some (11, 1, 0, .iadd, 1) := Fm258 (dk_96 (dk_at s258_5 15 rfl rfl)) rfl
theorem f258_134 : ft 258 134 = some (11, 1, 0, .putfield 155, 3) := Fm258 (dk_181 0 155 (dk_at s258_5 16 rfl rfl)) rfl
theorem f258_137 : ft 258 137 = some (11, 1, 0, .aload_n 0, 1) := Fm258 (dk_42 (dk_at s258_5 19 rfl rfl)) rfl
theorem f258_138 : ft 258 138 = some (11, 1, 0, .iload_n 1, 1) := Fm258 (dk_27 (dk_at s258_5 20 rfl rfl)) rfl
theorem f258_139 : ft 258 139 = some (11, 1, 0, .bipush 36, 2) := Fm258 (dk_16 36 (dk_at s258_5 21 rfl rfl)) rfl
theorem f258_141 : ft 258 141 = some (11, 1, 0, .if_icmp .ne 7, 3) := Fm258 (dk_160 0 7 (dk_at s258_6 0 rfl rfl)) rfl
theorem f258_144 : ft 258 144 = some (11, 1, 0, .iconst 1, 1) := Fm258 (dk_4 (dk_at s258_6 3 rfl rfl)) rfl
theorem f258_145 : ft 258 145 = some (11, 1, 0, .goto 4, 3) := Fm258 (dk_167 0 4 (dk_at s258_6 4 rfl rfl)) rfl
theorem f258_148 : ft 258 148 = some (11, 1, 0, .iconst 0, 1) := Fm258 (dk_3 (dk_at s258_6 7 rfl rfl)) rfl
theorem f258_149 : ft 258 149 = some (11, 1, 0, .iconst 1, 1) := Fm258 (dk_4 (dk_at s258_6 8 rfl rfl)) rfl
theorem f258_150 : ft 258 150 = some (11, 1, 0, .invokevirtual 471, 3) := Fm258 (dk_182 1 215 (dk_at s258_6 9 rfl rfl)) rfl
theorem f258_153 : ft 258 153 = some (11, 1, 0, .istore_n 2, 1) := Fm258 (dk_61 (dk_at s258_6 12 rfl rfl)) rfl
theorem f258_154 : ft 258 154 = some (11, 1, 0, .iload_n 2, 1) := Fm258 (dk_28 (dk_at s258_6 13 rfl rfl)) rfl
theorem f258_155 : ft 258 155 = some (11, 1, 0, .ifCond .ge 5, 3) := Fm258 (dk_156 0 5 (dk_at s258_6 14 rfl rfl)) rfl
theorem f258_158 : ft 258 158 = some (11, 1, 0, .iconst (-1), 1) := Fm258 (dk_2 (dk_at s258_6 17 rfl rfl)) rfl
theorem f258_159 : ft 258 159 = some (11, 1, 0, .ireturn, 1) := Fm258 (dk_172 (dk_at s258_6 18 rfl rfl)) rfl
theorem f258_160 : ft 258 160 = some (11, 1, 0, .aload_n 0, 1) := Fm258 (dk_42 (dk_at s258_6 19 rfl rfl)) rfl
theorem f258_161 : ft 258 161 = some (11, 1, 0, .bipush 45, 2) := Fm258 (dk_16 45 (dk_at s258_6 20 rfl rfl)) rfl
theorem f258_163 : ft 258 163 = some (11, 1, 0, .invokevirtual 425, 3) := Fm258 (dk_182 1 169 (dk_at s258_7 0 rfl rfl)) rfl
theorem f258_166 : ft 258 166 = some (11, 1, 0, .istore_n 3, 1) := Fm258 (dk_62 (dk_at s258_7 3 rfl rfl)) rfl
theorem f258_167 : ft 258 167 = some (11, 1, 0, .aload_n 0, 1) := Fm258 (dk_42 (dk_at s258_7 4 rfl rfl)) rfl
theorem f258_168 : ft 258 168 = some (11, 1, 0, .iload_n 3, 1) := Fm258 (dk_29 (dk_at s258_7 5 rfl rfl)) rfl
theorem f258_169 : ft 258 169 = some (11, 1, 0, .iconst 2, 1) := Fm258 (dk_5 (dk_at s258_7 6 rfl rfl)) rfl
theorem f258_170 : ft 258 170 = some (11, 1, 0, .iload_n 2, 1) := Fm258 (dk_28 (dk_at s258_7 7 rfl rfl)) rfl
theorem f258_171 : ft 258 171 = some (11, 1, 0, .invokevirtual 428, 3) := Fm258 (dk_182 1 172 (dk_at s258_7 8 rfl rfl)) rfl
theorem f258_174 : ft 258 174 = some (11, 1, 0, .iload_n 3, 1) := Fm258 (dk_29 (dk_at s258_7 11 rfl rfl)) rfl
theorem f258_175 : ft 258 175 = some (11, 1, 0, .ireturn, 1) := Fm258 (dk_172 (dk_at s258_7 12 rfl rfl)) rfl
theorem f258_176 : ft 258 176 = some (11, 1, 0, .iload_n 1, 1) := Fm258 (dk_27 (dk_at s258_7 13 rfl rfl)) rfl
theorem f258_177 : ft 258 177 = some (11, 1, 0, .bipush 116, 2) := Fm258 (dk_16 116 (dk_at s258_7 14 rfl rfl)) rfl
theorem f258_179 : ft 258 179 = some (11, 1, 0, .if_icmp .ne 23, 3) := Fm258 (dk_160 0 23 (dk_at s258_7 16 rfl rfl)) rfl
theorem f258_182 : ft 258 182 = some (11, 1, 0, .aload_n 0, 1) := Fm258 (dk_42 (dk_at s258_7 19 rfl rfl)) rfl
theorem f258_183 : ft 258 183 = some (11, 1, 0, .ldc 209, 2) := Fm258 (dk_18 209 (dk_at s258_7 20 rfl rfl)) rfl
theorem f258_185 : ft 258 185 = some (11, 1, 0, .invokevirtual 213, 3) := Fm258 (dk_182 0 213 (dk_at s258_8 0 rfl rfl)) rfl
theorem f258_188 : ft 258 188 = some (11, 1, 0, .ifCond .eq 12, 3) := Fm258 (dk_153 0 12 (dk_at s258_8 3 rfl rfl)) rfl
theorem f258_191 : ft 258 191 = some (11, 1, 0, .aload_n 0, 1) := Fm258 (dk_42 (dk_at s258_8 6 rfl rfl)) rfl
theorem f258_192 : ft 258 192 = some (11, 1, 0, .bipush 42, 2) := Fm258 (dk_16 42 (dk_at s258_8 7 rfl rfl)) rfl
theorem f258_194 : ft 258 194 = some (11, 1, 0, .invokevirtual 425, 3) := Fm258 (dk_182 1 169 (dk_at s258_8 9 rfl rfl)) rfl
theorem f258_197 : ft 258 197 = some (11, 1, 0, .goto 4, 3) := Fm258 (dk_167 0 4 (dk_at s258_8 12 rfl rfl)) rfl
theorem f258_200 : ft 258 200 = some (11, 1, 0, .iconst (-1), 1) := Fm258 (dk_2 (dk_at s258_8 15 rfl rfl)) rfl
theorem f258_201 : ft 258 201 = some (11, 1, 0, .ireturn, 1) := Fm258 (dk_172 (dk_at s258_8 16 rfl rfl)) rfl
theorem f258_202 : ft 258 202 = some (11, 1, 0, .iload_n 1, 1) := Fm258 (dk_27 (dk_at s258_8 17 rfl rfl)) rfl
theorem f258_203 : ft 258 203 = some (11, 1, 0, .bipush 102, 2) := Fm258 (dk_16 102 (dk_at s258_8 18 rfl rfl)) rfl
theorem f258_205 : ft 258 205 = some (11, 1, 0, .if_icmp .ne 23, 3) := Fm258 (dk_160 0 23 (dk_at s258_8 20 rfl rfl)) rfl
theorem f258_208 : ft 258 208 = some (11, 1, 0, .aload_n 0, 1) := Fm258 (dk_42 (dk_at s258_8 23 rfl rfl)) rfl
theorem f258_209 : ft 258 209 = some (11, 1, 0, .ldc 211, 2) := Fm258 (dk_18 211 (dk_at s258_9 0 rfl rfl)) rfl
theorem f258_211 : ft 258 211 = some (11, 1, 0, .invokevirtual 213, 3) := Fm258 (dk_182 0 213 (dk_at s258_9 2 rfl rfl)) rfl
theorem f258_214 : ft 258 214 = some (11, 1, 0, .ifCond .eq 12, 3) := Fm258 (dk_153 0 12 (dk_at s258_9 5 rfl rfl)) rfl
theorem f258_217 : ft 258 217 = some (11, 1, 0, .aload_n 0, 1) := Fm258 (dk_42 (dk_at s258_9 8 rfl rfl)) rfl
theorem f258_218 : ft 258 218 = some (11, 1, 0, .bipush 43, 2) := Fm258 (dk_16 43 (dk_at s258_9 9 rfl rfl)) rfl
theorem f258_220 : ft 258 220 = some (11, 1, 0, .invokevirtual 425, 3) := Fm258 (dk_182 1 169 (dk_at s258_9 11 rfl rfl)) rfl
theorem f258_223 : ft 258 223 = some (11, 1, 0, .goto 4, 3) := Fm258 (dk_167 0 4 (dk_at s258_9 14 rfl rfl)) rfl
theorem f258_226 : ft 258 226 = some (11, 1, 0, .iconst (-1), 1) := Fm258 (dk_2 (dk_at s258_9 17 rfl rfl)) rfl
theorem f258_227 : ft 258 227 = some (11, 1, 0, .ireturn, 1) := Fm258 (dk_172 (dk_at s258_9 18 rfl rfl)) rfl
theorem f258_228 : ft 258 228 = some (11, 1, 0, .iload_n 1, 1) := Fm258 (dk_27 (dk_at s258_9 19 rfl rfl)) rfl
theorem f258_229 : ft 258 229 = some (11, 1, 0, .bipush 110, 2) := Fm258 (dk_16 110 (dk_at s258_9 20 rfl rfl)) rfl
theorem f258_231 : ft 258 231 = some (11, 1, 0, .if_icmp .ne 23, 3) := Fm258 (dk_160 0 23 (dk_at s258_10 0 rfl rfl)) rfl
theorem f258_234 : ft 258 234 = some (11, 1, 0, .aload_n 0, 1) := Fm258 (dk_42 (dk_at s258_10 3 rfl rfl)) rfl
theorem f258_235 : ft 258 235 = some (11, 1, 0, .ldc 207, 2) := Fm258 (dk_18 207 (dk_at s258_10 4 rfl rfl)) rfl
theorem f258_237 : ft 258 237 = some (11, 1, 0, .invokevirtual 213, 3) := Fm258 (dk_182 0 213 (dk_at s258_10 6 rfl rfl)) rfl
theorem f258_240 : ft 258 240 = some (11, 1, 0, .ifCond .eq 12, 3) := Fm258 (dk_153 0 12 (dk_at s258_10 9 rfl rfl)) rfl
theorem f258_243 : ft 258 243 = some (11, 1, 0, .aload_n 0, 1) := Fm258 (dk_42 (dk_at s258_10 12 rfl rfl)) rfl
theorem f258_244 : ft 258 244 = some (11, 1, 0, .bipush 44, 2) := Fm258 (dk_16 44 (dk_at s258_10 13 rfl rfl)) rfl
theorem f258_246 : ft 258 246 = some (11, 1, 0, .invokevirtual 425, 3) := Fm258 (dk_182 1 169 (dk_at s258_10 15 rfl rfl)) rfl
theorem f258_249 : ft 258 249 = some (11, 1, 0, .goto 4, 3) := Fm258 (dk_167 0 4 (dk_at s258_10 18 rfl rfl)) rfl
theorem f258_252 : ft 258 252 = some (11, 1, 0, .iconst (-1), 1) := Fm258 (dk_2 (dk_at s258_10 21 rfl rfl)) rfl
theorem f258_253 : ft 258 253 = some (11, 1, 0, .ireturn, 1) := Fm258 (dk_172 (dk_at s258_10 22 rfl rfl)) rfl
theorem f258_254 : ft 258 254 = some (11, 1, 0, .iload_n 1, 1) := Fm258 (dk_27 (dk_at s258_10 23 rfl rfl)) rfl
theorem f258_255 : ft 258 255 = some (11, 1, 0, .bipush 108, 2) := Fm258 (dk_16 108 (dk_at s258_11 0 rfl rfl)) rfl
theorem f258_257 : ft 258 257 = some (11, 1, 0, .if_icmp .eq 26, 3) := Fm258 (dk_159 0 26 (dk_at s258_11 2 rfl rfl)) rfl
theorem f258_260 : ft 258 260 = some (11, 1, 0, .iload_n 1, 1) := Fm258 (dk_27 (dk_at s258_11 5 rfl rfl)) rfl
theorem f258_261 : ft 258 261 = some (11, 1, 0, .bipush 99, 2) := Fm258 (dk_16 99 (dk_at s258_11 6 rfl rfl)) rfl
theorem f258_263 : ft 258 263 = some (11, 1, 0, .if_icmp .eq 20, 3) := Fm258 (dk_159 0 20 (dk_at s258_11 8 rfl rfl)) rfl
theorem f258_266 : ft 258 266 = some (11, 1, 0, .iload_n 1, 1) := Fm258 (dk_27 (dk_at s258_11 11 rfl rfl)) rfl
theorem f258_267 : ft 258 267 = some (11, 1, 0, .bipush 118, 2) := Fm258 (dk_16 118 (dk_at s258_11 12 rfl rfl)) rfl
theorem f258_269 : ft 258 269 = some (11, 1, 0, .if_icmp .eq 14, 3) := Fm258 (dk_159 0 14 (dk_at s258_11 14 rfl rfl)) rfl
theorem f258_272 : ft 258 272 = some (11, 1, 0, .aload_n 0, 1) := Fm258 (dk_42 (dk_at s258_11 17 rfl rfl)) rfl
theorem f258_273 : ft 258 273 = some (11, 1, 0, .aload_n 0, 1) := Fm258 (dk_42 (dk_at s258_11 18 rfl rfl)) rfl
theorem f258_274 : ft 258 274 = some (11, 1, 0, .getfield 155, 3) := Fm258 (dk_180 0 155 (dk_at s258_11 19 rfl rfl)) rfl
theorem f258_277 : ft 258 277 = some (11, 1, 0, .invokevirtual 171, 3) := Fm258 (dk_182 0 171 (dk_at s258_12 0 rfl rfl)) rfl
theorem f258_280 : ft 258 280 = some (11, 1, 0, .pop, 1) := Fm258 (dk_87 (dk_at s258_12 3 rfl rfl)) rfl
theorem f258_281 : ft 258 281 = some (11, 1, 0, .iconst (-1), 1) := Fm258 (dk_2 (dk_at s258_12 4 rfl rfl)) rfl
theorem f258_282 : ft 258 282 = some (11, 1, 0, .ireturn, 1) := Fm258 (dk_172 (dk_at s258_12 5 rfl rfl)) rfl
theorem f258_283 : ft 258 283 = some (11, 1, 0, .aload_n 0, 1) := Fm258 (dk_42 (dk_at s258_12 6 rfl rfl)) rfl
theorem f258_284 : ft 258 284 = some (11, 1, 0, .iload_n 1, 1) := Fm258 (dk_27 (dk_at s258_12 7 rfl rfl)) rfl
theorem f258_285 : ft 258 285 = some (11, 1, 0, .bipush 108, 2) := Fm258 (dk_16 108 (dk_at s258_12 8 rfl rfl)) rfl
theorem f258_287 : ft 258 287 = some (11, 1, 0, .if_icmp .ne 9, 3) := Fm258 (dk_160 0 9 (dk_at s258_12 10 rfl rfl)) rfl
theorem f258_290 : ft 258 290 = some (11, 1, 0, .ldc_w 491, 3) := Fm258 (dk_19 1 235 (dk_at s258_12 13 rfl rfl)) rfl
theorem f258_293 : ft 258 293 = some (11, 1, 0, .goto 18, 3) := Fm258 (dk_167 0 18 (dk_at s258_12 16 rfl rfl)) rfl
theorem f258_296 : ft 258 296 = some (11, 1, 0, .iload_n 1, 1) := Fm258 (dk_27 (dk_at s258_12 19 rfl rfl)) rfl
theorem f258_297 : ft 258 297 = some (11, 1, 0, .bipush 99, 2) := Fm258 (dk_16 99 (dk_at s258_12 20 rfl rfl)) rfl
theorem f258_299 : ft 258 299 = some (11, 1, 0, .if_icmp .ne 9, 3) := Fm258 (dk_160 0 9 (dk_at s258_13 0 rfl rfl)) rfl
theorem f258_302 : ft 258 302 = some (11, 1, 0, .ldc_w 492, 3) := Fm258 (dk_19 1 236 (dk_at s258_13 3 rfl rfl)) rfl
theorem f258_305 : ft 258 305 = some (11, 1, 0, .goto 6, 3) := Fm258 (dk_167 0 6 (dk_at s258_13 6 rfl rfl)) rfl
theorem f258_308 : ft 258 308 = some (11, 1, 0, .ldc_w 393, 3) := Fm258 (dk_19 1 137 (dk_at s258_13 9 rfl rfl)) rfl
theorem f258_311 : ft 258 311 = some (11, 1, 0, .invokevirtual 213, 3) := Fm258 (dk_182 0 213 (dk_at s258_13 12 rfl rfl)) rfl
theorem f258_314 : ft 258 314 = some (11, 1, 0, .ifCond .eq 12, 3) := Fm258 (dk_153 0 12 (dk_at s258_13 15 rfl rfl)) rfl
theorem f258_317 : ft 258 317 = some (11, 1, 0, .aload_n 0, 1) := Fm258 (dk_42 (dk_at s258_13 18 rfl rfl)) rfl
theorem f258_318 : ft 258 318 = some (11, 1, 0, .bipush 40, 2) := Fm258 (dk_16 40 (dk_at s258_13 19 rfl rfl)) rfl
theorem f258_320 : ft 258 320 = some (11, 1, 0, .invokevirtual 445, 3) := Fm258 (dk_182 1 189 (dk_at s258_13 21 rfl rfl)) rfl
theorem f258_323 : ft 258 323 = some (11, 1, 0, .ifCond .ne 5, 3) := Fm258 (dk_154 0 5 (dk_at s258_14 0 rfl rfl)) rfl
theorem f258_326 : ft 258 326 = some (11, 1, 0, .iconst (-1), 1) := Fm258 (dk_2 (dk_at s258_14 3 rfl rfl)) rfl
theorem f258_327 : ft 258 327 = some (11, 1, 0, .ireturn, 1) := Fm258 (dk_172 (dk_at s258_14 4 rfl rfl)) rfl
theorem f258_328 : ft 258 328 = some (11, 1, 0, .aload_n 0, 1) := Fm258 (dk_42 (dk_at s258_14 5 rfl rfl)) rfl
theorem f258_329 : ft 258 329 = some (11, 1, 0, .invokevirtual 204, 3) := Fm258 (dk_182 0 204 (dk_at s258_14 6 rfl rfl)) rfl
theorem f258_332 : ft 258 332 = some (11, 1, 0, .aload_n 0, 1) := Fm258 (dk_42 (dk_at s258_14 9 rfl rfl)) rfl
theorem f258_333 : ft 258 333 = some (11, 1, 0, .iload_n 1, 1) := Fm258 (dk_27 (dk_at s258_14 10 rfl rfl)) rfl
theorem f258_334 : ft 258 334 = some (11, 1, 0, .bipush 108, 2) := Fm258 (dk_16 108 (dk_at s258_14 11 rfl rfl)) rfl
theorem f258_336 : ft 258 336 = some (11, 1, 0, .if_icmp .ne 8, 3) := Fm258 (dk_160 0 8 (dk_at s258_14 13 rfl rfl)) rfl
theorem f258_339 : ft 258 339 = some (11, 1, 0, .bipush 46, 2) := Fm258 (dk_16 46 (dk_at s258_14 16 rfl rfl)) rfl
theorem f258_341 : ft 258 341 = some (11, 1, 0, .goto 16, 3) := Fm258 (dk_167 0 16 (dk_at s258_14 18 rfl rfl)) rfl
theorem f258_344 : ft 258 344 = some (11, 1, 0, .iload_n 1, 1) := Fm258 (dk_27 (dk_at s258_14 21 rfl rfl)) rfl
theorem f258_345 : ft 258 345 = some (11, 1, 0, .bipush 99, 2) := Fm258 (dk_16 99 (dk_at s258_14 22 rfl rfl)) rfl
theorem f258_347 : ft 258 347 = some (11, 1, 0, .if_icmp .ne 8, 3) := Fm258 (dk_160 0 8 (dk_at s258_15 0 rfl rfl)) rfl
theorem f258_350 : ft 258 350 = some (11, 1, 0, .bipush 47, 2) := Fm258 (dk_16 47 (dk_at s258_15 3 rfl rfl)) rfl
theorem f258_352 : ft 258 352 = some (11, 1, 0, .goto 5, 3) := Fm258 (dk_167 0 5 (dk_at s258_15 5 rfl rfl)) rfl
theorem f258_355 : ft 258 355 = some (11, 1, 0, .bipush 48, 2) := Fm258 (dk_16 48 (dk_at s258_15 8 rfl rfl)) rfl
theorem f258_357 : ft 258 357 = some (11, 1, 0, .invokevirtual 425, 3) := Fm258 (dk_182 1 169 (dk_at s258_15 10 rfl rfl)) rfl
theorem f258_360 : ft 258 360 = some (11, 1, 0, .istore_n 2, 1) := Fm258 (dk_61 (dk_at s258_15 13 rfl rfl)) rfl
theorem f258_361 : ft 258 361 = some (11, 1, 0, .iload_n 1, 1) := Fm258 (dk_27 (dk_at s258_15 14 rfl rfl)) rfl
theorem f258_362 : ft 258 362 = some (11, 1, 0, .bipush 108, 2) := Fm258 (dk_16 108 (dk_at s258_15 15 rfl rfl)) rfl
theorem f258_364 : ft 258 364 = some (11, 1, 0, .if_icmp .ne 11, 3) := Fm258 (dk_160 0 11 (dk_at s258_15 17 rfl rfl)) rfl
theorem f258_367 : ft 258 367 = some (11, 1, 0, .aload_n 0, 1) := Fm258 (dk_42 (dk_at s258_15 20 rfl rfl)) rfl
theorem f258_368 : ft 258 368 = some (11, 1, 0, .invokevirtual 481, 3) := Fm258 (dk_182 1 225 (dk_at s258_15 21 rfl rfl)) rfl
theorem f258_371 : ft 258 371 = some (11, 1, 0, .istore_n 3, 1) := Fm258 (dk_62 (dk_at s258_16 0 rfl rfl)) rfl
theorem f258_372 : ft 258 372 = some (11, 1, 0, .goto 69, 3) := Fm258 (dk_167 0 69 (dk_at s258_16 1 rfl rfl)) rfl
theorem f258_375 : ft 258 375 = some (11, 1, 0, .aload_n 0, 1) := Fm258 (dk_42 (dk_at s258_16 4 rfl rfl)) rfl
theorem f258_376 : ft 258 376 = some (11, 1, 0, .invokevirtual 167, 3) := Fm258 (dk_182 0 167 (dk_at s258_16 5 rfl rfl)) rfl
theorem f258_379 : ft 258 379 = some (11, 1, 0, .bipush 64, 2) := Fm258 (dk_16 64 (dk_at s258_16 8 rfl rfl)) rfl
theorem f258_381 : ft 258 381 = some (11, 1, 0, .if_icmp .eq 12, 3) := Fm258 (dk_159 0 12 (dk_at s258_16 10 rfl rfl)) rfl
theorem f258_384 : ft 258 384 = some (11, 1, 0, .aload_n 0, 1) := Fm258 (dk_42 (dk_at s258_16 13 rfl rfl)) rfl
theorem f258_385 : ft 258 385 = some (11, 1, 0, .invokevirtual 167, 3) := Fm258 (dk_182 0 167 (dk_at s258_16 14 rfl rfl)) rfl
theorem f258_388 : ft 258 388 = some (11, 1, 0, .bipush 36, 2) := Fm258 (dk_16 36 (dk_at s258_16 17 rfl rfl)) rfl
theorem f258_390 : ft 258 390 = some (11, 1, 0, .if_icmp .ne 40, 3) := Fm258 (dk_160 0 40 (dk_at s258_16 19 rfl rfl)) rfl
theorem f258_393 : ft 258 393 = some (11, 1, 0, .aload_n 0, 1) := Fm258 (dk_42 (dk_at s258_16 22 rfl rfl)) rfl
theorem f258_394 : ft 258 394 = some (11, 1, 0, .invokevirtual 167, 3) := Fm258 (dk_182 0 167 (dk_at s258_17 0 rfl rfl)) rfl
theorem f258_397 : ft 258 397 = some (11, 1, 0, .bipush 36, 2) := Fm258 (dk_16 36 (dk_at s258_17 3 rfl rfl)) rfl
theorem f258_399 : ft 258 399 = some (11, 1, 0, .if_icmp .ne 7, 3) := Fm258 (dk_160 0 7 (dk_at s258_17 5 rfl rfl)) rfl
theorem f258_402 : ft 258 402 = some (11, 1, 0, .iconst 1, 1) := Fm258 (dk_4 (dk_at s258_17 8 rfl rfl)) rfl
theorem f258_403 : ft 258 403 = some (11, 1, 0, .goto 4, 3) := Fm258 (dk_167 0 4 (dk_at s258_17 9 rfl rfl)) rfl
theorem f258_406 : ft 258 406 = some (11, 1, 0, .iconst 0, 1) := Fm258 (dk_3 (dk_at s258_17 12 rfl rfl)) rfl
theorem f258_407 : ft 258 407 = some (11, 1, 0, .istore 4, 2) := Fm258 (dk_54 4 (dk_at s258_17 13 rfl rfl)) rfl
theorem f258_409 : ft 258 409 = some (11, 1, 0, .aload_n 0, 1) := Fm258 (dk_42 (dk_at s258_17 15 rfl rfl)) rfl
theorem f258_410 : ft 258 410 = some (11, 1, 0, .dup, 1) := Fm258 (dk_89 (dk_at s258_17 16 rfl rfl)) rfl
theorem f258_411 : ft 258 411 = some (11, 1, 0, .getfield 155, 3) := Fm258 (dk_180 0 155 (dk_at s258_17 17 rfl rfl)) rfl
theorem f258_414 : ft 258 414 = some (11, 1, 0, .iconst 1, 1) := Fm258 (dk_4 (dk_at s258_17 20 rfl rfl)) rfl
theorem f258_415 : ft 258 415 = some (11, 1, 0, .iadd, 1) := Fm258 (dk_96 (dk_at s258_17 21 rfl rfl)) rfl
theorem f258_416 : ft 258 416 = some (11, 1, 0, .putfield 155, 3) := Fm258 (dk_181 0 155 (dk_at s258_18 0 rfl rfl)) rfl
theorem f258_419 : ft 258 419 = some (11, 1, 0, .aload_n 0, 1) := Fm258 (dk_42 (dk_at s258_18 3 rfl rfl)) rfl
theorem f258_420 : ft 258 420 = some (11, 1, 0, .iload 4, 2) := Fm258 (dk_21 4 (dk_at s258_18 4 rfl rfl)) rfl
theorem f258_422 : ft 258 422 = some (11, 1, 0, .iconst 0, 1) := Fm258 (dk_3 (dk_at s258_18 6 rfl rfl)) rfl
theorem f258_423 : ft 258 423 = some (11, 1, 0, .invokevirtual 471, 3) := Fm258 (dk_182 1 215 (dk_at s258_18 7 rfl rfl)) rfl
theorem f258_426 : ft 258 426 = some (11, 1, 0, .istore_n 3, 1) := Fm258 (dk_62 (dk_at s258_18 10 rfl rfl)) rfl
theorem f258_427 : ft 258 427 = some (11, 1, 0, .goto 14, 3) := Fm258 (dk_167 0 14 (dk_at s258_18 11 rfl rfl)) rfl
theorem f258_430 : ft 258 430 = some (11, 1, 0, .aload_n 0, 1) := Fm258 (dk_42 (dk_at s258_18 14 rfl rfl)) rfl
theorem f258_431 : ft 258 431 = some (11, 1, 0, .aload_n 0, 1) := Fm258 (dk_42 (dk_at s258_18 15 rfl rfl)) rfl
theorem f258_432 : ft 258 432 = some (11, 1, 0, .getfield 155, 3) := Fm258 (dk_180 0 155 (dk_at s258_18 16 rfl rfl)) rfl
theorem f258_435 : ft 258 435 = some (11, 1, 0, .invokevirtual 171, 3) := Fm258 (dk_182 0 171 (dk_at s258_18 19 rfl rfl)) rfl
theorem f258_438 : ft 258 438 = some (11, 1, 0, .pop, 1) := Fm258 (dk_87 (dk_at s258_18 22 rfl rfl)) rfl
theorem f258_439 : ft 258 439 = some (11, 1, 0, .iconst (-1), 1) := Fm258 (dk_2 (dk_at s258_18 23 rfl rfl)) rfl
theorem f258_440 : ft 258 440 = some (11, 1, 0, .ireturn, 1) := Fm258 (dk_172 (dk_at s258_19 0 rfl rfl)) rfl
theorem f258_441 : ft 258 441 = some (11, 1, 0, .iload_n 3, 1) := Fm258 (dk_29 (dk_at s258_19 1 rfl rfl)) rfl
theorem f258_442 : ft 258 442 = some (11, 1, 0, .ifCond .ge 5, 3) := Fm258 (dk_156 0 5 (dk_at s258_19 2 rfl rfl)) rfl
theorem f258_445 : ft 258 445 = some (11, 1, 0, .iconst (-1), 1) := Fm258 (dk_2 (dk_at s258_19 5 rfl rfl)) rfl
theorem f258_446 : ft 258 446 = some (11, 1, 0, .ireturn, 1) := Fm258 (dk_172 (dk_at s258_19 6 rfl rfl)) rfl
theorem f258_447 : ft 258 447 = some (11, 1, 0, .aload_n 0, 1) := Fm258 (dk_42 (dk_at s258_19 7 rfl rfl)) rfl
theorem f258_448 : ft 258 448 = some (11, 1, 0, .iload_n 2, 1) := Fm258 (dk_28 (dk_at s258_19 8 rfl rfl)) rfl
theorem f258_449 : ft 258 449 = some (11, 1, 0, .iconst 2, 1) := Fm258 (dk_5 (dk_at s258_19 9 rfl rfl)) rfl
theorem f258_450 : ft 258 450 = some (11, 1, 0, .iload_n 3, 1) := Fm258 (dk_29 (dk_at s258_19 10 rfl rfl)) rfl
theorem f258_451 : ft 258 451 = some (11, 1, 0, .invokevirtual 428, 3) := Fm258 (dk_182 1 172 (dk_at s258_19 11 rfl rfl)) rfl
theorem f258_454 : ft 258 454 = some (11, 1, 0, .aload_n 0, 1) := Fm258 (dk_42 (dk_at s258_19 14 rfl rfl)) rfl
theorem f258_455 : ft 258 455 = some (11, 1, 0, .invokevirtual 204, 3) := Fm258 (dk_182 0 204 (dk_at s258_19 15 rfl rfl)) rfl
theorem f258_458 : ft 258 458 = some (11, 1, 0, .aload_n 0, 1) := Fm258 (dk_42 (dk_at s258_19 18 rfl rfl)) rfl
theorem f258_459 : ft 258 459 = some (11, 1, 0, .bipush 41, 2) := Fm258 (dk_16 41 (dk_at s258_19 19 rfl rfl)) rfl
theorem f258_461 : ft 258 461 = some (11, 1, 0, .invokevirtual 452, 3) := Fm258 (dk_182 1 196 (dk_at s258_19 21 rfl rfl)) rfl
theorem f258_464 : ft 258 464 = some (11, 1, 0, .ifCond .eq 7, 3) := Fm258 (dk_153 0 7 (dk_at s258_20 0 rfl rfl)) rfl
theorem f258_467 : ft 258 467 = some (11, 1, 0, .iload_n 2, 1) := Fm258 (dk_28 (dk_at s258_20 3 rfl rfl)) rfl
theorem f258_468 : ft 258 468 = some (11, 1, 0, .goto 4, 3) := Fm258 (dk_167 0 4 (dk_at s258_20 4 rfl rfl)) rfl
theorem f258_471 : ft 258 471 = some (11, 1, 0, .iconst (-1), 1) := Fm258 (dk_2 (dk_at s258_20 7 rfl rfl)) rfl
theorem f258_472 : ft 258 472 = some (11, 1, 0, .ireturn, 1) := Fm258 (dk_172 (dk_at s258_20 8 rfl rfl)) rfl
theorem q258 {d : Nat} {m : Mem} {a0 : Int} (hd : 0 < d) (hz : TZ m) : le2 (gd (tg m a0 = 11) <| bI (cl (d - 1) 199 [pR a0] m) fun v1 m1 => if v1 = 45 then (rn d 258 18 [pR a0, pI v1, pU, pU, pU] [] m1) else bI (cl (d - 1) 206 [pI v1] m1) fun v2 m2 => if v2 = 0 then (if v1 = 39 then (rn d 258 59 [pR a0, pI v1, pU, pU, pU] [] m2) else if v1 = 34 then (rn d 258 59 [pR a0, pI v1, pU, pU, pU] [] m2) else if v1 = 64 then (rn d 258 127 [pR a0, pI v1, pU, pU, pU] [] m2) else if v1 = 36 then (rn d 258 127 [pR a0, pI v1, pU, pU, pU] [] m2) else if v1 = 116 then (bI (cl (d - 1) 200 [pR a0, pR 48] m2) fun v8 m8 => if v8 = 0 then (some (.inl (some (pI (-1))), m8)) else bI (cl (d - 1) 245 [pR a0, pI 42] m8) fun v9 m9 => some (.inl (some (pI v9)), m9)) else if v1 = 102 then (bI (cl (d - 1) 200 [pR a0, pR 50] m2) fun v6 m6 => if v6 = 0 then (some (.inl (some (pI (-1))), m6)) else bI (cl (d - 1) 245 [pR a0, pI 43] m6) fun v7 m7 => some (.inl (some (pI v7)), m7)) else if v1 = 110 then (bI (cl (d - 1) 200 [pR a0, pR 46] m2) fun v4 m4 => if v4 = 0 then (some (.inl (some (pI (-1))), m4)) else bI (cl (d - 1) 245 [pR a0, pI 44] m4) fun v5 m5 => some (.inl (some (pI v5)), m5)) else if v1 = 108 then (rn d 258 283 [pR a0, pI v1, pU, pU, pU] [] m2) else if v1 = 99 then (rn d 258 283 [pR a0, pI v1, pU, pU, pU] [] m2) else if v1 = 118 then (rn d 258 283 [pR a0, pI v1, pU, pU, pU] [] m2) else bI (cl (d - 1) 202 [pR a0, pI (vl m2 a0 12)] m2) fun v3 m3 => some (.inl (some (pI (-1))), m3)) else rn d 258 18 [pR a0, pI v1, pU, pU, pU] [] m2) (cl d 258 [pR a0] m) := by
  refine q_in (n := 5) (L := [pR a0, pU, pU, pU, pU]) rfl rfl rfl ?_
  refine r_aln0 (p := 1) f258_0 rfl ?_
  refine le2_gd (fun h1 => ?_)
  refine r_invI (p := 4) f258_1 rfl rfl rfl (Or.inl h1) hd (Nat.le_of_ble_eq_true rfl) rfl rfl rfl (fun _ => rfl) (fun v1 m1 c1 => ?_)
  have hz1 := z_k c1 hz
  refine r_isn1 (p := 5) f258_4 rfl rfl ?_
  refine r_iln1 (p := 6) f258_5 rfl ?_
  refine r_bipush (p := 8) f258_6 rfl (pinD rfl rfl) ?_
  refine r_iceq (t := 18) (p := 11) f258_8 (by decide) rfl rfl ?_ ?_
  · exact le2_refl _
  · refine r_iln1 (p := 12) f258_11 rfl ?_
    refine r_istI (p := 15) f258_12 rfl rfl rfl hd (Nat.le_of_ble_eq_true rfl) rfl rfl rfl (fun _ => rfl) (fun v2 m2 c2 => ?_)
    have hz2 := z_k c2 hz1
    refine r_ifeq (t := 47) (p := 18) f258_15 (by decide) rfl rfl ?_ ?_
    · refine r_iln1 (p := 48) f258_47 rfl ?_
      refine r_bipush (p := 50) f258_48 rfl (pinD rfl rfl) ?_
      refine r_iceq (t := 59) (p := 53) f258_50 (by decide) rfl rfl ?_ ?_
      · exact le2_refl _
      · refine r_iln1 (p := 54) f258_53 rfl ?_
        refine r_bipush (p := 56) f258_54 rfl (pinD rfl rfl) ?_
        refine r_icne (t := 115) (p := 59) f258_56 (by decide) rfl rfl ?_ ?_
        · exact le2_refl _
        · refine r_iln1 (p := 116) f258_115 rfl ?_
          refine r_bipush (p := 118) f258_116 rfl (pinD rfl rfl) ?_
          refine r_iceq (t := 127) (p := 121) f258_118 (by decide) rfl rfl ?_ ?_
          · exact le2_refl _
          · refine r_iln1 (p := 122) f258_121 rfl ?_
            refine r_bipush (p := 124) f258_122 rfl (pinD rfl rfl) ?_
            refine r_icne (t := 176) (p := 127) f258_124 (by decide) rfl rfl ?_ ?_
            · exact le2_refl _
            · refine r_iln1 (p := 177) f258_176 rfl ?_
              refine r_bipush (p := 179) f258_177 rfl (pinD rfl rfl) ?_
              refine r_icne (t := 202) (p := 182) f258_179 (by decide) rfl rfl ?_ ?_
              · refine r_aln0 (p := 183) f258_182 rfl ?_
                refine r_ldcR (p := 185) f258_183 rfl rfl ?_
                have h10 := k_t1 c1 hz h1 (by decide)
                have h11 := k_t1 c2 hz1 h10 (by decide)
                refine r_invI (p := 188) f258_185 rfl rfl rfl (Or.inl h11) hd (Nat.le_of_ble_eq_true rfl) rfl rfl rfl (fun _ => rfl) (fun v8 m8 c8 => ?_)
                have hz8 := z_k c8 hz2
                refine r_ifeq (t := 200) (p := 191) f258_188 (by decide) rfl rfl ?_ ?_
                · refine r_iconst (p := 201) f258_200 rfl (pinD rfl rfl) ?_
                  exact r_iret1 f258_201
                · refine r_aln0 (p := 192) f258_191 rfl ?_
                  refine r_bipush (p := 194) f258_192 rfl (pinD rfl rfl) ?_
                  have h12 := k_t1 c8 hz2 h11 (by decide)
                  refine r_invI (p := 197) f258_194 rfl rfl rfl (Or.inl h12) hd (Nat.le_of_ble_eq_true rfl) rfl rfl rfl (fun _ => rfl) (fun v9 m9 c9 => ?_)
                  have hz9 := z_k c9 hz8
                  refine r_goto (p := 201) f258_197 (by decide) rfl ?_
                  exact r_iret1 f258_201
              · refine r_iln1 (p := 203) f258_202 rfl ?_
                refine r_bipush (p := 205) f258_203 rfl (pinD rfl rfl) ?_
                refine r_icne (t := 228) (p := 208) f258_205 (by decide) rfl rfl ?_ ?_
                · refine r_aln0 (p := 209) f258_208 rfl ?_
                  refine r_ldcR (p := 211) f258_209 rfl rfl ?_
                  have h7 := k_t1 c1 hz h1 (by decide)
                  have h8 := k_t1 c2 hz1 h7 (by decide)
                  refine r_invI (p := 214) f258_211 rfl rfl rfl (Or.inl h8) hd (Nat.le_of_ble_eq_true rfl) rfl rfl rfl (fun _ => rfl) (fun v6 m6 c6 => ?_)
                  have hz6 := z_k c6 hz2
                  refine r_ifeq (t := 226) (p := 217) f258_214 (by decide) rfl rfl ?_ ?_
                  · refine r_iconst (p := 227) f258_226 rfl (pinD rfl rfl) ?_
                    exact r_iret1 f258_227
                  · refine r_aln0 (p := 218) f258_217 rfl ?_
                    refine r_bipush (p := 220) f258_218 rfl (pinD rfl rfl) ?_
                    have h9 := k_t1 c6 hz2 h8 (by decide)
                    refine r_invI (p := 223) f258_220 rfl rfl rfl (Or.inl h9) hd (Nat.le_of_ble_eq_true rfl) rfl rfl rfl (fun _ => rfl) (fun v7 m7 c7 => ?_)
                    have hz7 := z_k c7 hz6
                    refine r_goto (p := 227) f258_223 (by decide) rfl ?_
                    exact r_iret1 f258_227
                · refine r_iln1 (p := 229) f258_228 rfl ?_
                  refine r_bipush (p := 231) f258_229 rfl (pinD rfl rfl) ?_
                  refine r_icne (t := 254) (p := 234) f258_231 (by decide) rfl rfl ?_ ?_
                  · refine r_aln0 (p := 235) f258_234 rfl ?_
                    refine r_ldcR (p := 237) f258_235 rfl rfl ?_
                    have h4 := k_t1 c1 hz h1 (by decide)
                    have h5 := k_t1 c2 hz1 h4 (by decide)
                    refine r_invI (p := 240) f258_237 rfl rfl rfl (Or.inl h5) hd (Nat.le_of_ble_eq_true rfl) rfl rfl rfl (fun _ => rfl) (fun v4 m4 c4 => ?_)
                    have hz4 := z_k c4 hz2
                    refine r_ifeq (t := 252) (p := 243) f258_240 (by decide) rfl rfl ?_ ?_
                    · refine r_iconst (p := 253) f258_252 rfl (pinD rfl rfl) ?_
                      exact r_iret1 f258_253
                    · refine r_aln0 (p := 244) f258_243 rfl ?_
                      refine r_bipush (p := 246) f258_244 rfl (pinD rfl rfl) ?_
                      have h6 := k_t1 c4 hz2 h5 (by decide)
                      refine r_invI (p := 249) f258_246 rfl rfl rfl (Or.inl h6) hd (Nat.le_of_ble_eq_true rfl) rfl rfl rfl (fun _ => rfl) (fun v5 m5 c5 => ?_)
                      have hz5 := z_k c5 hz4
                      refine r_goto (p := 253) f258_249 (by decide) rfl ?_
                      exact r_iret1 f258_253
                  · refine r_iln1 (p := 255) f258_254 rfl ?_
                    refine r_bipush (p := 257) f258_255 rfl (pinD rfl rfl) ?_
                    refine r_iceq (t := 283) (p := 260) f258_257 (by decide) rfl rfl ?_ ?_
                    · exact le2_refl _
                    · refine r_iln1 (p := 261) f258_260 rfl ?_
                      refine r_bipush (p := 263) f258_261 rfl (pinD rfl rfl) ?_
                      refine r_iceq (t := 283) (p := 266) f258_263 (by decide) rfl rfl ?_ ?_
                      · exact le2_refl _
                      · refine r_iln1 (p := 267) f258_266 rfl ?_
                        refine r_bipush (p := 269) f258_267 rfl (pinD rfl rfl) ?_
                        refine r_iceq (t := 283) (p := 272) f258_269 (by decide) rfl rfl ?_ ?_
                        · exact le2_refl _
                        · refine r_aln0 (p := 273) f258_272 rfl ?_
                          refine r_aln0 (p := 274) f258_273 rfl ?_
                          have h2 := k_t1 c1 hz h1 (by decide)
                          have h3 := k_t1 c2 hz1 h2 (by decide)
                          refine r_gfI (f := 12) (p := 277) f258_274 rfl rfl rfl (Or.inl h3) rfl ?_
                          refine r_invI (p := 280) f258_277 rfl rfl rfl (Or.inl h3) hd (Nat.le_of_ble_eq_true rfl) rfl rfl rfl (fun _ => rfl) (fun v3 m3 c3 => ?_)
                          have hz3 := z_k c3 hz2
                          refine r_pop (p := 281) f258_280 rfl rfl ?_
                          refine r_iconst (p := 282) f258_281 rfl (pinD rfl rfl) ?_
                          exact r_iret1 f258_282
    · exact le2_refl _
theorem q258_18 {d : Nat} {m : Mem} {a0 a1 : Int} (hd : 0 < d) (hz : TZ m) : le2 (gd (tg m a0 = 11) <| bI (cl (d - 1) 245 [pR a0, pI 40] m) fun v1 m1 => bV (cl (d - 1) 246 [pR a0, pI v1, pI 2, pI 0] m1) fun m2 => bI (cl (d - 1) 259 [pR a0, pI v1, pI 0] m2) fun v3 m3 => if v3 = 0 then (some (.inl (some (pI (-1))), m3)) else some (.inl (some (pI v1)), m3)) (rn d 258 18 [pR a0, pI a1, pU, pU, pU] [] m) := by
  refine r_aln0 (p := 19) f258_18 rfl ?_
  refine r_bipush (p := 21) f258_19 rfl (pinD rfl rfl) ?_
  refine le2_gd (fun h1 => ?_)
  refine r_invI (p := 24) f258_21 rfl rfl rfl (Or.inl h1) hd (Nat.le_of_ble_eq_true rfl) rfl rfl rfl (fun _ => rfl) (fun v1 m1 c1 => ?_)
  have hz1 := z_k c1 hz
  refine r_isn2 (p := 25) f258_24 rfl rfl ?_
  refine r_aln0 (p := 26) f258_25 rfl ?_
  refine r_iln2 (p := 27) f258_26 rfl ?_
  refine r_iconst (p := 28) f258_27 rfl (pinD rfl rfl) ?_
  refine r_iconst (p := 29) f258_28 rfl (pinD rfl rfl) ?_
  have h2 := k_t1 c1 hz h1 (by decide)
  refine r_invV (p := 32) f258_29 rfl rfl rfl (Or.inl h2) hd (Nat.le_of_ble_eq_true rfl) rfl rfl rfl (fun _ => rfl) (fun m2 c2 => ?_)
  have hz2 := z_k c2 hz1
  refine r_aln0 (p := 33) f258_32 rfl ?_
  refine r_iln2 (p := 34) f258_33 rfl ?_
  refine r_iconst (p := 35) f258_34 rfl (pinD rfl rfl) ?_
  have h3 := k_t1 c2 hz1 h2 (by decide)
  refine r_invI (p := 38) f258_35 rfl rfl rfl (Or.inl h3) hd (Nat.le_of_ble_eq_true rfl) rfl rfl rfl (fun _ => rfl) (fun v3 m3 c3 => ?_)
  have hz3 := z_k c3 hz2
  refine r_ifeq (t := 45) (p := 41) f258_38 (by decide) rfl rfl ?_ ?_
  · refine r_iconst (p := 46) f258_45 rfl (pinD rfl rfl) ?_
    exact r_iret1 f258_46
  · refine r_iln2 (p := 42) f258_41 rfl ?_
    refine r_goto (p := 46) f258_42 (by decide) rfl ?_
    exact r_iret1 f258_46
theorem q258_59 {d : Nat} {m : Mem} {a0 a1 : Int} (hd : 0 < d) (hz : TZ m) : le2 (gd (tg m a0 = 11) <| bI (cl (d - 1) 245 [pR a0, pI 41] m) fun v1 m1 => nm (vl m1 a0 30) fun v6 => gd (tg m1 v6 = 13) <| bV (cl (d - 1) 246 [pR a0, pI v1, pI 2, pI (vl m1 v6 12)] m1) fun m2 => bI (cl (d - 1) 203 [pR a0, pI a1, pR (vl m2 a0 30)] m2) fun v3 m3 => if v3 = 0 then (some (.inl (some (pI (-1))), m3)) else nm (vl m3 a0 30) fun v7 => gd (tg m3 v7 = 13) <| bI (cl (d - 1) 251 [pR a0, pI v1, pI 2] m3) fun v4 m4 => bV (cl (d - 1) 246 [pR a0, pI v1, pI 3, pI (w32 ((vl m3 v7 12) - v4))] m4) fun m5 => some (.inl (some (pI v1)), m5)) (rn d 258 59 [pR a0, pI a1, pU, pU, pU] [] m) := by
  refine r_aln0 (p := 60) f258_59 rfl ?_
  refine r_bipush (p := 62) f258_60 rfl (pinD rfl rfl) ?_
  refine le2_gd (fun h1 => ?_)
  refine r_invI (p := 65) f258_62 rfl rfl rfl (Or.inl h1) hd (Nat.le_of_ble_eq_true rfl) rfl rfl rfl (fun _ => rfl) (fun v1 m1 c1 => ?_)
  have hz1 := z_k c1 hz
  refine r_isn2 (p := 66) f258_65 rfl rfl ?_
  refine r_aln0 (p := 67) f258_66 rfl ?_
  refine r_iln2 (p := 68) f258_67 rfl ?_
  refine r_iconst (p := 69) f258_68 rfl (pinD rfl rfl) ?_
  refine r_aln0 (p := 70) f258_69 rfl ?_
  have h2 := k_t1 c1 hz h1 (by decide)
  refine r_gfR (f := 30) (p := 73) f258_70 rfl rfl rfl (Or.inl h2) rfl ?_
  refine r_nmR (fun v6 ev6 => ?_)
  refine le2_gd (fun h3 => ?_)
  refine r_gfI (f := 12) (p := 76) f258_73 rfl rfl rfl (Or.inl h3) rfl ?_
  refine r_invV (p := 79) f258_76 rfl rfl rfl (Or.inl h2) hd (Nat.le_of_ble_eq_true rfl) rfl rfl rfl (fun _ => rfl) (fun m2 c2 => ?_)
  have hz2 := z_k c2 hz1
  refine r_aln0 (p := 80) f258_79 rfl ?_
  refine r_iln1 (p := 81) f258_80 rfl ?_
  refine r_aln0 (p := 82) f258_81 rfl ?_
  have h4 := k_t1 c2 hz1 h2 (by decide)
  refine r_gfR (f := 30) (p := 85) f258_82 rfl rfl rfl (Or.inl h4) rfl ?_
  refine r_invI (p := 88) f258_85 rfl rfl rfl (Or.inl h4) hd (Nat.le_of_ble_eq_true rfl) rfl rfl rfl (fun _ => rfl) (fun v3 m3 c3 => ?_)
  have hz3 := z_k c3 hz2
  refine r_ifne (t := 93) (p := 91) f258_88 (by decide) rfl rfl ?_ ?_
  · refine r_iconst (p := 92) f258_91 rfl (pinD rfl rfl) ?_
    exact r_iret1 f258_92
  · refine r_aln0 (p := 94) f258_93 rfl ?_
    refine r_iln2 (p := 95) f258_94 rfl ?_
    refine r_iconst (p := 96) f258_95 rfl (pinD rfl rfl) ?_
    refine r_aln0 (p := 97) f258_96 rfl ?_
    have h5 := k_t1 c3 hz2 h4 (by decide)
    refine r_gfR (f := 30) (p := 100) f258_97 rfl rfl rfl (Or.inl h5) rfl ?_
    refine r_nmR (fun v7 ev7 => ?_)
    refine le2_gd (fun h6 => ?_)
    refine r_gfI (f := 12) (p := 103) f258_100 rfl rfl rfl (Or.inl h6) rfl ?_
    refine r_aln0 (p := 104) f258_103 rfl ?_
    refine r_iln2 (p := 105) f258_104 rfl ?_
    refine r_iconst (p := 106) f258_105 rfl (pinD rfl rfl) ?_
    refine r_invI (p := 109) f258_106 rfl rfl rfl (Or.inl h5) hd (Nat.le_of_ble_eq_true rfl) rfl rfl rfl (fun _ => rfl) (fun v4 m4 c4 => ?_)
    have hz4 := z_k c4 hz3
    refine r_isub (p := 110) f258_109 rfl ?_
    have h7 := k_t1 c4 hz3 h5 (by decide)
    refine r_invV (p := 113) f258_110 rfl rfl rfl (Or.inl h7) hd (Nat.le_of_ble_eq_true rfl) rfl rfl rfl (fun _ => rfl) (fun m5 c5 => ?_)
    have hz5 := z_k c5 hz4
    refine r_iln2 (p := 114) f258_113 rfl ?_
    exact r_iret1 f258_114
theorem q258_127 {d : Nat} {m : Mem} {a0 a1 : Int} (hz : TZ m) : le2 (gd (tg m a0 = 11) <| if a1 = 36 then (rn d 258 149 [pR a0, pI a1, pU, pU, pU] [pI 1, pR a0] (mst m a0 12 (w32 ((vl m a0 12) + 1)))) else rn d 258 149 [pR a0, pI a1, pU, pU, pU] [pI 0, pR a0] (mst m a0 12 (w32 ((vl m a0 12) + 1)))) (rn d 258 127 [pR a0, pI a1, pU, pU, pU] [] m) := by
  refine r_aln0 (p := 128) f258_127 rfl ?_
  refine r_dup (p := 129) f258_128 rfl rfl ?_
  refine le2_gd (fun h1 => ?_)
  refine r_gfI (f := 12) (p := 132) f258_129 rfl rfl rfl (Or.inl h1) rfl ?_
  refine r_iconst (p := 133) f258_132 rfl (pinD rfl rfl) ?_
  refine r_iadd (p := 134) f258_133 rfl ?_
  refine r_pfI (f := 12) (p := 137) f258_134 rfl rfl rfl (by decide) (by decide) (Or.inl h1) rfl ?_
  refine r_aln0 (p := 138) f258_137 rfl ?_
  refine r_iln1 (p := 139) f258_138 rfl ?_
  refine r_bipush (p := 141) f258_139 rfl (pinD rfl rfl) ?_
  refine r_icne (t := 148) (p := 144) f258_141 (by decide) rfl rfl ?_ ?_
  · refine r_iconst (p := 145) f258_144 rfl (pinD rfl rfl) ?_
    refine r_goto (p := 149) f258_145 (by decide) rfl ?_
    exact le2_refl _
  · refine r_iconst (p := 149) f258_148 rfl (pinD rfl rfl) ?_
    exact le2_refl _
theorem q258_149 {d : Nat} {m : Mem} {a0 a1 s1 s0 : Int} (hd : 0 < d) (hz : TZ m) : le2 (gd (tg m s0 = 11) <| bI (cl (d - 1) 244 [pR s0, pI s1, pI 1] m) fun v1 m1 => if v1 < 0 then (some (.inl (some (pI (-1))), m1)) else gd (tg m1 a0 = 11) <| bI (cl (d - 1) 245 [pR a0, pI 45] m1) fun v2 m2 => bV (cl (d - 1) 246 [pR a0, pI v2, pI 2, pI v1] m2) fun m3 => some (.inl (some (pI v2)), m3)) (rn d 258 149 [pR a0, pI a1, pU, pU, pU] [pI s1, pR s0] m) := by
  refine r_iconst (p := 150) f258_149 rfl (pinD rfl rfl) ?_
  refine le2_gd (fun h1 => ?_)
  refine r_invI (p := 153) f258_150 rfl rfl rfl (Or.inl h1) hd (Nat.le_of_ble_eq_true rfl) rfl rfl rfl (fun _ => rfl) (fun v1 m1 c1 => ?_)
  have hz1 := z_k c1 hz
  refine r_isn2 (p := 154) f258_153 rfl rfl ?_
  refine r_iln2 (p := 155) f258_154 rfl ?_
  refine r_ifge (t := 160) (p := 158) f258_155 (by decide) rfl rfl ?_ ?_
  · refine r_iconst (p := 159) f258_158 rfl (pinD rfl rfl) ?_
    exact r_iret1 f258_159
  · refine r_aln0 (p := 161) f258_160 rfl ?_
    refine r_bipush (p := 163) f258_161 rfl (pinD rfl rfl) ?_
    refine le2_gd (fun h2 => ?_)
    refine r_invI (p := 166) f258_163 rfl rfl rfl (Or.inl h2) hd (Nat.le_of_ble_eq_true rfl) rfl rfl rfl (fun _ => rfl) (fun v2 m2 c2 => ?_)
    have hz2 := z_k c2 hz1
    refine r_isn3 (p := 167) f258_166 rfl rfl ?_
    refine r_aln0 (p := 168) f258_167 rfl ?_
    refine r_iln3 (p := 169) f258_168 rfl ?_
    refine r_iconst (p := 170) f258_169 rfl (pinD rfl rfl) ?_
    refine r_iln2 (p := 171) f258_170 rfl ?_
    have h3 := k_t1 c2 hz1 h2 (by decide)
    refine r_invV (p := 174) f258_171 rfl rfl rfl (Or.inl h3) hd (Nat.le_of_ble_eq_true rfl) rfl rfl rfl (fun _ => rfl) (fun m3 c3 => ?_)
    have hz3 := z_k c3 hz2
    refine r_iln3 (p := 175) f258_174 rfl ?_
    exact r_iret1 f258_175
theorem q258_283 {d : Nat} {m : Mem} {a0 a1 : Int} (hz : TZ m) : le2 (if a1 = 108 then (rn d 258 311 [pR a0, pI a1, pU, pU, pU] [pR 84, pR a0] m) else if a1 = 99 then (rn d 258 311 [pR a0, pI a1, pU, pU, pU] [pR 86, pR a0] m) else rn d 258 311 [pR a0, pI a1, pU, pU, pU] [pR 72, pR a0] m) (rn d 258 283 [pR a0, pI a1, pU, pU, pU] [] m) := by
  refine r_aln0 (p := 284) f258_283 rfl ?_
  refine r_iln1 (p := 285) f258_284 rfl ?_
  refine r_bipush (p := 287) f258_285 rfl (pinD rfl rfl) ?_
  refine r_icne (t := 296) (p := 290) f258_287 (by decide) rfl rfl ?_ ?_
  · refine r_ldc_wR (p := 293) f258_290 rfl rfl ?_
    refine r_goto (p := 311) f258_293 (by decide) rfl ?_
    exact le2_refl _
  · refine r_iln1 (p := 297) f258_296 rfl ?_
    refine r_bipush (p := 299) f258_297 rfl (pinD rfl rfl) ?_
    refine r_icne (t := 308) (p := 302) f258_299 (by decide) rfl rfl ?_ ?_
    · refine r_ldc_wR (p := 305) f258_302 rfl rfl ?_
      refine r_goto (p := 311) f258_305 (by decide) rfl ?_
      exact le2_refl _
    · refine r_ldc_wR (p := 311) f258_308 rfl rfl ?_
      exact le2_refl _
theorem q258_311 {d : Nat} {m : Mem} {a0 a1 s1 s0 : Int} (hd : 0 < d) (hz : TZ m) : le2 (gd (tg m s0 = 11) <| bI (cl (d - 1) 200 [pR s0, pR s1] m) fun v1 m1 => if v1 = 0 then (some (.inl (some (pI (-1))), m1)) else gd (tg m1 a0 = 11) <| bI (cl (d - 1) 249 [pR a0, pI 40] m1) fun v2 m2 => if v2 = 0 then (some (.inl (some (pI (-1))), m2)) else bV (cl (d - 1) 198 [pR a0] m2) fun m3 => if a1 = 108 then (rn d 258 357 [pR a0, pI a1, pU, pU, pU] [pI 46, pR a0] m3) else if a1 = 99 then (rn d 258 357 [pR a0, pI a1, pU, pU, pU] [pI 47, pR a0] m3) else rn d 258 357 [pR a0, pI a1, pU, pU, pU] [pI 48, pR a0] m3) (rn d 258 311 [pR a0, pI a1, pU, pU, pU] [pR s1, pR s0] m) := by
  refine le2_gd (fun h1 => ?_)
  refine r_invI (p := 314) f258_311 rfl rfl rfl (Or.inl h1) hd (Nat.le_of_ble_eq_true rfl) rfl rfl rfl (fun _ => rfl) (fun v1 m1 c1 => ?_)
  have hz1 := z_k c1 hz
  refine r_ifeq (t := 326) (p := 317) f258_314 (by decide) rfl rfl ?_ ?_
  · refine r_iconst (p := 327) f258_326 rfl (pinD rfl rfl) ?_
    exact r_iret1 f258_327
  · refine r_aln0 (p := 318) f258_317 rfl ?_
    refine r_bipush (p := 320) f258_318 rfl (pinD rfl rfl) ?_
    refine le2_gd (fun h2 => ?_)
    refine r_invI (p := 323) f258_320 rfl rfl rfl (Or.inl h2) hd (Nat.le_of_ble_eq_true rfl) rfl rfl rfl (fun _ => rfl) (fun v2 m2 c2 => ?_)
    have hz2 := z_k c2 hz1
    refine r_ifne (t := 328) (p := 326) f258_323 (by decide) rfl rfl ?_ ?_
    · refine r_iconst (p := 327) f258_326 rfl (pinD rfl rfl) ?_
      exact r_iret1 f258_327
    · refine r_aln0 (p := 329) f258_328 rfl ?_
      have h3 := k_t1 c2 hz1 h2 (by decide)
      refine r_invV (p := 332) f258_329 rfl rfl rfl (Or.inl h3) hd (Nat.le_of_ble_eq_true rfl) rfl rfl rfl (fun _ => rfl) (fun m3 c3 => ?_)
      have hz3 := z_k c3 hz2
      refine r_aln0 (p := 333) f258_332 rfl ?_
      refine r_iln1 (p := 334) f258_333 rfl ?_
      refine r_bipush (p := 336) f258_334 rfl (pinD rfl rfl) ?_
      refine r_icne (t := 344) (p := 339) f258_336 (by decide) rfl rfl ?_ ?_
      · refine r_bipush (p := 341) f258_339 rfl (pinD rfl rfl) ?_
        refine r_goto (p := 357) f258_341 (by decide) rfl ?_
        exact le2_refl _
      · refine r_iln1 (p := 345) f258_344 rfl ?_
        refine r_bipush (p := 347) f258_345 rfl (pinD rfl rfl) ?_
        refine r_icne (t := 355) (p := 350) f258_347 (by decide) rfl rfl ?_ ?_
        · refine r_bipush (p := 352) f258_350 rfl (pinD rfl rfl) ?_
          refine r_goto (p := 357) f258_352 (by decide) rfl ?_
          exact le2_refl _
        · refine r_bipush (p := 357) f258_355 rfl (pinD rfl rfl) ?_
          exact le2_refl _
theorem q258_357 {d : Nat} {m : Mem} {a0 a1 s1 s0 : Int} (hd : 0 < d) (hz : TZ m) : le2 (gd (tg m s0 = 11) <| bI (cl (d - 1) 245 [pR s0, pI s1] m) fun v1 m1 => if a1 = 108 then (gd (tg m1 a0 = 11) <| bI (cl (d - 1) 258 [pR a0] m1) fun v7 m7 => rn d 258 441 [pR a0, pI a1, pI v1, pI v7, pU] [] m7) else gd (tg m1 a0 = 11) <| bI (cl (d - 1) 199 [pR a0] m1) fun v2 m2 => if v2 = 64 then (bI (cl (d - 1) 199 [pR a0] m2) fun v3 m3 => if v3 = 36 then (rn d 258 407 [pR a0, pI a1, pI v1, pU, pU] [pI 1] m3) else rn d 258 407 [pR a0, pI a1, pI v1, pU, pU] [pI 0] m3) else bI (cl (d - 1) 199 [pR a0] m2) fun v4 m4 => if v4 = 36 then (bI (cl (d - 1) 199 [pR a0] m4) fun v6 m6 => if v6 = 36 then (rn d 258 407 [pR a0, pI a1, pI v1, pU, pU] [pI 1] m6) else rn d 258 407 [pR a0, pI a1, pI v1, pU, pU] [pI 0] m6) else bI (cl (d - 1) 202 [pR a0, pI (vl m4 a0 12)] m4) fun v5 m5 => some (.inl (some (pI (-1))), m5)) (rn d 258 357 [pR a0, pI a1, pU, pU, pU] [pI s1, pR s0] m) := by
  refine le2_gd (fun h1 => ?_)
  refine r_invI (p := 360) f258_357 rfl rfl rfl (Or.inl h1) hd (Nat.le_of_ble_eq_true rfl) rfl rfl rfl (fun _ => rfl) (fun v1 m1 c1 => ?_)
  have hz1 := z_k c1 hz
  refine r_isn2 (p := 361) f258_360 rfl rfl ?_
  refine r_iln1 (p := 362) f258_361 rfl ?_
  refine r_bipush (p := 364) f258_362 rfl (pinD rfl rfl) ?_
  refine r_icne (t := 375) (p := 367) f258_364 (by decide) rfl rfl ?_ ?_
  · refine r_aln0 (p := 368) f258_367 rfl ?_
    refine le2_gd (fun h7 => ?_)
    refine r_invI (p := 371) f258_368 rfl rfl rfl (Or.inl h7) hd (Nat.le_of_ble_eq_true rfl) rfl rfl rfl (fun _ => rfl) (fun v7 m7 c7 => ?_)
    have hz7 := z_k c7 hz1
    refine r_isn3 (p := 372) f258_371 rfl rfl ?_
    refine r_goto (p := 441) f258_372 (by decide) rfl ?_
    exact le2_refl _
  · refine r_aln0 (p := 376) f258_375 rfl ?_
    refine le2_gd (fun h2 => ?_)
    refine r_invI (p := 379) f258_376 rfl rfl rfl (Or.inl h2) hd (Nat.le_of_ble_eq_true rfl) rfl rfl rfl (fun _ => rfl) (fun v2 m2 c2 => ?_)
    have hz2 := z_k c2 hz1
    refine r_bipush (p := 381) f258_379 rfl (pinD rfl rfl) ?_
    refine r_iceq (t := 393) (p := 384) f258_381 (by decide) rfl rfl ?_ ?_
    · refine r_aln0 (p := 394) f258_393 rfl ?_
      have h3 := k_t1 c2 hz1 h2 (by decide)
      refine r_invI (p := 397) f258_394 rfl rfl rfl (Or.inl h3) hd (Nat.le_of_ble_eq_true rfl) rfl rfl rfl (fun _ => rfl) (fun v3 m3 c3 => ?_)
      have hz3 := z_k c3 hz2
      refine r_bipush (p := 399) f258_397 rfl (pinD rfl rfl) ?_
      refine r_icne (t := 406) (p := 402) f258_399 (by decide) rfl rfl ?_ ?_
      · refine r_iconst (p := 403) f258_402 rfl (pinD rfl rfl) ?_
        refine r_goto (p := 407) f258_403 (by decide) rfl ?_
        exact le2_refl _
      · refine r_iconst (p := 407) f258_406 rfl (pinD rfl rfl) ?_
        exact le2_refl _
    · refine r_aln0 (p := 385) f258_384 rfl ?_
      have h4 := k_t1 c2 hz1 h2 (by decide)
      refine r_invI (p := 388) f258_385 rfl rfl rfl (Or.inl h4) hd (Nat.le_of_ble_eq_true rfl) rfl rfl rfl (fun _ => rfl) (fun v4 m4 c4 => ?_)
      have hz4 := z_k c4 hz2
      refine r_bipush (p := 390) f258_388 rfl (pinD rfl rfl) ?_
      refine r_icne (t := 430) (p := 393) f258_390 (by decide) rfl rfl ?_ ?_
      · refine r_aln0 (p := 394) f258_393 rfl ?_
        have h6 := k_t1 c4 hz2 h4 (by decide)
        refine r_invI (p := 397) f258_394 rfl rfl rfl (Or.inl h6) hd (Nat.le_of_ble_eq_true rfl) rfl rfl rfl (fun _ => rfl) (fun v6 m6 c6 => ?_)
        have hz6 := z_k c6 hz4
        refine r_bipush (p := 399) f258_397 rfl (pinD rfl rfl) ?_
        refine r_icne (t := 406) (p := 402) f258_399 (by decide) rfl rfl ?_ ?_
        · refine r_iconst (p := 403) f258_402 rfl (pinD rfl rfl) ?_
          refine r_goto (p := 407) f258_403 (by decide) rfl ?_
          exact le2_refl _
        · refine r_iconst (p := 407) f258_406 rfl (pinD rfl rfl) ?_
          exact le2_refl _
      · refine r_aln0 (p := 431) f258_430 rfl ?_
        refine r_aln0 (p := 432) f258_431 rfl ?_
        have h5 := k_t1 c4 hz2 h4 (by decide)
        refine r_gfI (f := 12) (p := 435) f258_432 rfl rfl rfl (Or.inl h5) rfl ?_
        refine r_invI (p := 438) f258_435 rfl rfl rfl (Or.inl h5) hd (Nat.le_of_ble_eq_true rfl) rfl rfl rfl (fun _ => rfl) (fun v5 m5 c5 => ?_)
        have hz5 := z_k c5 hz4
        refine r_pop (p := 439) f258_438 rfl rfl ?_
        refine r_iconst (p := 440) f258_439 rfl (pinD rfl rfl) ?_
        exact r_iret1 f258_440
theorem q258_407 {d : Nat} {m : Mem} {a0 a1 a2 s0 : Int} (hd : 0 < d) (hz : TZ m) : le2 (gd (tg m a0 = 11) <| bI (cl (d - 1) 244 [pR a0, pI s0, pI 0] (mst m a0 12 (w32 ((vl m a0 12) + 1)))) fun v1 m1 => rn d 258 441 [pR a0, pI a1, pI a2, pI v1, pI s0] [] m1) (rn d 258 407 [pR a0, pI a1, pI a2, pU, pU] [pI s0] m) := by
  refine r_isw4 (p := 409) f258_407 rfl rfl ?_
  refine r_aln0 (p := 410) f258_409 rfl ?_
  refine r_dup (p := 411) f258_410 rfl rfl ?_
  refine le2_gd (fun h1 => ?_)
  refine r_gfI (f := 12) (p := 414) f258_411 rfl rfl rfl (Or.inl h1) rfl ?_
  refine r_iconst (p := 415) f258_414 rfl (pinD rfl rfl) ?_
  refine r_iadd (p := 416) f258_415 rfl ?_
  refine r_pfI (f := 12) (p := 419) f258_416 rfl rfl rfl (by decide) (by decide) (Or.inl h1) rfl ?_
  refine r_aln0 (p := 420) f258_419 rfl ?_
  refine r_ilw4 (p := 422) f258_420 rfl ?_
  refine r_iconst (p := 423) f258_422 rfl (pinD rfl rfl) ?_
  refine r_invI (p := 426) f258_423 rfl rfl rfl (Or.inl h1) hd (Nat.le_of_ble_eq_true rfl) rfl rfl rfl (fun _ => rfl) (fun v1 m1 c1 => ?_)
  have hz1 := z_k c1 hz
  refine r_isn3 (p := 427) f258_426 rfl rfl ?_
  refine r_goto (p := 441) f258_427 (by decide) rfl ?_
  exact le2_refl _
theorem q258_441 {d : Nat} {m : Mem} {a0 a1 a2 a3 : Int} {z4 : PV} (hd : 0 < d) (hz : TZ m) (hcz4 : cat z4 = 1) : le2 (if a3 < 0 then (some (.inl (some (pI (-1))), m)) else gd (tg m a0 = 11) <| bV (cl (d - 1) 246 [pR a0, pI a2, pI 2, pI a3] m) fun m1 => bV (cl (d - 1) 198 [pR a0] m1) fun m2 => bI (cl (d - 1) 255 [pR a0, pI 41] m2) fun v3 m3 => if v3 = 0 then (some (.inl (some (pI (-1))), m3)) else some (.inl (some (pI a2)), m3)) (rn d 258 441 [pR a0, pI a1, pI a2, pI a3, z4] [] m) := by
  refine r_iln3 (p := 442) f258_441 rfl ?_
  refine r_ifge (t := 447) (p := 445) f258_442 (by decide) rfl rfl ?_ ?_
  · refine r_iconst (p := 446) f258_445 rfl (pinD rfl rfl) ?_
    exact r_iret1 f258_446
  · refine r_aln0 (p := 448) f258_447 rfl ?_
    refine r_iln2 (p := 449) f258_448 rfl ?_
    refine r_iconst (p := 450) f258_449 rfl (pinD rfl rfl) ?_
    refine r_iln3 (p := 451) f258_450 rfl ?_
    refine le2_gd (fun h1 => ?_)
    refine r_invV (p := 454) f258_451 rfl rfl rfl (Or.inl h1) hd (Nat.le_of_ble_eq_true rfl) rfl rfl rfl (fun _ => rfl) (fun m1 c1 => ?_)
    have hz1 := z_k c1 hz
    refine r_aln0 (p := 455) f258_454 rfl ?_
    have h2 := k_t1 c1 hz h1 (by decide)
    refine r_invV (p := 458) f258_455 rfl rfl rfl (Or.inl h2) hd (Nat.le_of_ble_eq_true rfl) rfl rfl rfl (fun _ => rfl) (fun m2 c2 => ?_)
    have hz2 := z_k c2 hz1
    refine r_aln0 (p := 459) f258_458 rfl ?_
    refine r_bipush (p := 461) f258_459 rfl (pinD rfl rfl) ?_
    have h3 := k_t1 c2 hz1 h2 (by decide)
    refine r_invI (p := 464) f258_461 rfl rfl rfl (Or.inl h3) hd (Nat.le_of_ble_eq_true rfl) rfl rfl rfl (fun _ => rfl) (fun v3 m3 c3 => ?_)
    have hz3 := z_k c3 hz2
    refine r_ifeq (t := 471) (p := 467) f258_464 (by decide) rfl rfl ?_ ?_
    · refine r_iconst (p := 472) f258_471 rfl (pinD rfl rfl) ?_
      exact r_iret1 f258_472
    · refine r_iln2 (p := 468) f258_467 rfl ?_
      refine r_goto (p := 472) f258_468 (by decide) rfl ?_
      exact r_iret1 f258_472
/-! 259 PathStoreModel.whole (II)Z -/
def w259_8 : List UInt8 := [182, 1, 186, 4, 28, 120, 128, 182, 1, 172, 4, 172]
abbrev u259_8 : List UInt8 := w259_8 ++ []
def w259_7 : List UInt8 := [104, 28, 96, 21, 4, 153, 0, 9, 22, 5, 117, 167, 0, 5, 22, 5, 80, 42, 27, 5, 42, 27, 5]
abbrev u259_7 : List UInt8 := w259_7 ++ u259_8
def w259_6 : List UInt8 := [167, 255, 209, 22, 5, 20, 0, 235, 148, 158, 0, 9, 42, 29, 182, 0, 171, 172, 42, 180, 0, 124, 6, 27]
abbrev u259_6 : List UInt8 := w259_6 ++ u259_7
def w259_5 : List UInt8 := [105, 42, 182, 0, 167, 133, 97, 20, 0, 239, 101, 55, 5, 42, 89, 180, 0, 155, 4, 96, 181, 0, 155]
abbrev u259_5 : List UInt8 := w259_5 ++ u259_6
def w259_4 : List UInt8 := [42, 182, 0, 167, 184, 0, 186, 153, 0, 43, 22, 5, 20, 0, 235, 148, 157, 0, 21, 20, 0, 237, 22, 5]
abbrev u259_4 : List UInt8 := w259_4 ++ u259_5
def w259_3 : List UInt8 := [55, 5, 42, 182, 0, 167, 16, 48, 160, 0, 16, 42, 89, 180, 0, 155, 4, 96, 181, 0, 155, 167, 0, 53]
abbrev u259_3 : List UInt8 := w259_3 ++ u259_4
def w259_2 : List UInt8 := [21, 4, 153, 0, 21, 42, 182, 0, 167, 16, 48, 160, 0, 12, 42, 42, 180, 0, 155, 182, 0, 171, 172, 9]
abbrev u259_2 : List UInt8 := w259_2 ++ u259_3
def w259_1 : List UInt8 := [153, 0, 13, 42, 89, 180, 0, 155, 4, 96, 181, 0, 155, 42, 182, 0, 167, 184, 0, 186, 153, 0, 17]
abbrev u259_1 : List UInt8 := w259_1 ++ u259_2
def w259_0 : List UInt8 := [42, 180, 0, 155, 62, 42, 182, 0, 167, 16, 45, 160, 0, 7, 4, 167, 0, 4, 3, 54, 4, 21, 4]
abbrev u259_0 : List UInt8 := w259_0 ++ u259_1
theorem s259_0 : (prog_32_method_69_code).data.toList.drop 0 = u259_0 := by decide +kernel
theorem s259_1 : (prog_32_method_69_code).data.toList.drop 23 = u259_1 := dk_seg s259_0 23 rfl rfl
theorem s259_2 : (prog_32_method_69_code).data.toList.drop 46 = u259_2 := dk_seg s259_1 23 rfl rfl
theorem s259_3 : (prog_32_method_69_code).data.toList.drop 70 = u259_3 := dk_seg s259_2 24 rfl rfl
theorem s259_4 : (prog_32_method_69_code).data.toList.drop 94 = u259_4 := dk_seg s259_3 24 rfl rfl
theorem s259_5 : (prog_32_method_69_code).data.toList.drop 118 = u259_5 := dk_seg s259_4 24 rfl rfl
theorem s259_6 : (prog_32_method_69_code).data.toList.drop 141 = u259_6 := dk_seg s259_5 23 rfl rfl
theorem s259_7 : (prog_32_method_69_code).data.toList.drop 165 = u259_7 := dk_seg s259_6 24 rfl rfl
theorem s259_8 : (prog_32_method_69_code).data.toList.drop 188 = u259_8 := dk_seg s259_7 23 rfl rfl
theorem Fm259 {pc len : Nat} {i : Instr} (h : decode (prog_32_method_69_code) pc = .ok (i, len)) (hl : len = ilen i len) : ft 259 pc = some (11, 4, 0, i, len) := ft_mk rfl h hl
theorem f259_0 : ft 259 0 = some (11, 4, 0, .aload_n 0, 1) := Fm259 (dk_42 (dk_at s259_0 0 rfl rfl)) rfl
theorem f259_1 : ft 259 1 = some (11, 4, 0, .getfield 155, 3) := Fm259 (dk_180 0 155 (dk_at s259_0 1 rfl rfl)) rfl
theorem f259_4 : ft 259 4 = some (11, 4, 0, .istore_n 3, 1) := Fm259 (dk_62 (dk_at s259_0 4 rfl rfl)) rfl
theorem f259_5 : ft 259 5 = some (11, 4, 0, .aload_n 0, 1) := Fm259 (dk_42 (dk_at s259_0 5 rfl rfl)) rfl
theorem f259_6 : ft 259 6 = some (11, 4, 0, .invokevirtual 167, 3) := Fm259 (dk_182 0 167 (dk_at s259_0 6 rfl rfl)) rfl
theorem f259_9 : ft 259 9 = some (11, 4, 0, .bipush 45, 2) := Fm259 (dk_16 45 (dk_at s259_0 9 rfl rfl)) rfl
theorem f259_11 : ft 259 11 = some (11, 4, 0, .if_icmp .ne 7, 3) := Fm259 (dk_160 0 7 (dk_at s259_0 11 rfl rfl)) rfl
theorem f259_14 : ft 259 14 = some (11, 4, 0, .iconst 1, 1) := Fm259 (dk_4 (dk_at s259_0 14 rfl rfl)) rfl
theorem f259_15 : ft 259 15 = some (11, 4, 0, .goto 4, 3) := Fm259 (dk_167 0 4 (dk_at s259_0 15 rfl rfl)) rfl
theorem f259_18 : ft 259 18 = some (11, 4, 0, .iconst 0, 1) := Fm259 (dk_3 (dk_at s259_0 18 rfl rfl)) rfl
theorem f259_19 : ft 259 19 = some (11, 4, 0, .istore 4, 2) := Fm259 (dk_54 4 (dk_at s259_0 19 rfl rfl)) rfl
theorem f259_21 : ft 259 21 = some (11, 4, 0, .iload 4, 2) := Fm259 (dk_21 4 (dk_at s259_0 21 rfl rfl)) rfl
theorem f259_23 : ft 259 23 = some (11, 4, 0, .ifCond .eq 13, 3) := Fm259 (dk_153 0 13 (dk_at s259_1 0 rfl rfl)) rfl
theorem f259_26 : ft 259 26 = some (11, 4, 0, .aload_n 0, 1) := Fm259 (dk_42 (dk_at s259_1 3 rfl rfl)) rfl
theorem f259_27 : ft 259 27 = some (11, 4, 0, .dup, 1) := Fm259 (dk_89 (dk_at s259_1 4 rfl rfl)) rfl
theorem f259_28 : ft 259 28 = some (11, 4, 0, .getfield 155, 3) := Fm259 (dk_180 0 155 (dk_at s259_1 5 rfl rfl)) rfl
theorem f259_31 : ft 259 31 = some (11, 4, 0, .iconst 1, 1) := Fm259 (dk_4 (dk_at s259_1 8 rfl rfl)) rfl
theorem f259_32 : ft 259 32 = some (11, 4, 0, .iadd, 1) := Fm259 (dk_96 (dk_at s259_1 9 rfl rfl)) rfl
theorem f259_33 : ft 259 33 = some (11, 4, 0, .putfield 155, 3) := Fm259 (dk_181 0 155 (dk_at s259_1 10 rfl rfl)) rfl
theorem f259_36 : ft 259 36 = some (11, 4, 0, .aload_n 0, 1) := Fm259 (dk_42 (dk_at s259_1 13 rfl rfl)) rfl
theorem f259_37 : ft 259 37 = some (11, 4, 0, .invokevirtual 167, 3) := Fm259 (dk_182 0 167 (dk_at s259_1 14 rfl rfl)) rfl
theorem f259_40 : ft 259 40 = some (11, 4, 0, .invokestatic 186, 3) := Fm259 (dk_184 0 186 (dk_at s259_1 17 rfl rfl)) rfl
theorem f259_43 : ft 259 43 = some (11, 4, 0, .ifCond .eq 17, 3) := Fm259 (dk_153 0 17 (dk_at s259_1 20 rfl rfl)) rfl
theorem f259_46 : ft 259 46 = some (11, 4, 0, .iload 4, 2) := Fm259 (dk_21 4 (dk_at s259_2 0 rfl rfl)) rfl
theorem f259_48 : ft 259 48 = some (11, 4, 0, .ifCond .eq 21, 3) := Fm259 (dk_153 0 21 (dk_at s259_2 2 rfl rfl)) rfl
theorem f259_51 : ft 259 51 = some (11, 4, 0, .aload_n 0, 1) := Fm259 (dk_42 (dk_at s259_2 5 rfl rfl)) rfl
theorem f259_52 : ft 259 52 = some (11, 4, 0, .invokevirtual 167, 3) := Fm259 (dk_182 0 167 (dk_at s259_2 6 rfl rfl)) rfl
theorem f259_55 : ft 259 55 = some (11, 4, 0, .bipush 48, 2) := Fm259 (dk_16 48 (dk_at s259_2 9 rfl rfl)) rfl
theorem f259_57 : ft 259 57 = some (11, 4, 0, .if_icmp .ne 12, 3) := Fm259 (dk_160 0 12 (dk_at s259_2 11 rfl rfl)) rfl
theorem f259_60 : ft 259 60 = some (11, 4, 0, .aload_n 0, 1) := Fm259 (dk_42 (dk_at s259_2 14 rfl rfl)) rfl
theorem f259_61 : ft 259 61 = some (11, 4, 0, .aload_n 0, 1) := Fm259 (dk_42 (dk_at s259_2 15 rfl rfl)) rfl
theorem f259_62 : ft 259 62 = some (11, 4, 0, .getfield 155, 3) := Fm259 (dk_180 0 155 (dk_at s259_2 16 rfl rfl)) rfl
theorem f259_65 : ft 259 65 = some (11, 4, 0, .invokevirtual 171, 3) := Fm259 (dk_182 0 171 (dk_at s259_2 19 rfl rfl)) rfl
theorem f259_68 : ft 259 68 = some (11, 4, 0, .ireturn, 1) := Fm259 (dk_172 (dk_at s259_2 22 rfl rfl)) rfl
theorem f259_69 : ft 259 69 = some (11, 4, 0, .lconst 0, 1) := Fm259 (dk_9 (dk_at s259_2 23 rfl rfl)) rfl
theorem f259_70 : ft 259 70 = some (11, 4, 0, .lstore 5, 2) := Fm259 (dk_55 5 (dk_at s259_3 0 rfl rfl)) rfl
theorem f259_72 : ft 259 72 = some (11, 4, 0, .aload_n 0, 1) := Fm259 (dk_42 (dk_at s259_3 2 rfl rfl)) rfl
theorem f259_73 : ft 259 73 = some (11, 4, 0, .invokevirtual 167, 3) := Fm259 (dk_182 0 167 (dk_at s259_3 3 rfl rfl)) rfl
theorem f259_76 : ft 259 76 = some (11, 4, 0, .bipush 48, 2) := Fm259 (dk_16 48 (dk_at s259_3 6 rfl rfl)) rfl
theorem f259_78 : ft 259 78 = some (11, 4, 0, .if_icmp .ne 16, 3) := Fm259 (dk_160 0 16 (dk_at s259_3 8 rfl rfl)) rfl
theorem f259_81 : ft 259 81 = some (11, 4, 0, .aload_n 0, 1) := Fm259 (dk_42 (dk_at s259_3 11 rfl rfl)) rfl
theorem f259_82 : ft 259 82 = some (11, 4, 0, .dup, 1) := Fm259 (dk_89 (dk_at s259_3 12 rfl rfl)) rfl
theorem f259_83 : ft 259 83 = some (11, 4, 0, .getfield 155, 3) := Fm259 (dk_180 0 155 (dk_at s259_3 13 rfl rfl)) rfl
theorem f259_86 : ft 259 86 = some (11, 4, 0, .iconst 1, 1) := Fm259 (dk_4 (dk_at s259_3 16 rfl rfl)) rfl
theorem f259_87 : ft 259 87 = some (11, 4, 0, .iadd, 1) := Fm259 (dk_96 (dk_at s259_3 17 rfl rfl)) rfl
theorem f259_88 : ft 259 88 = some (11, 4, 0, .putfield 155, 3) := Fm259 (dk_181 0 155 (dk_at s259_3 18 rfl rfl)) rfl
theorem f259_91 : ft 259 91 = some (11, 4, 0, .goto 53, 3) := Fm259 (dk_167 0 53 (dk_at s259_3 21 rfl rfl)) rfl
theorem f259_94 : ft 259 94 = some (11, 4, 0, .aload_n 0, 1) := Fm259 (dk_42 (dk_at s259_4 0 rfl rfl)) rfl
theorem f259_95 : ft 259 95 = some (11, 4, 0, .invokevirtual 167, 3) := Fm259 (dk_182 0 167 (dk_at s259_4 1 rfl rfl)) rfl
theorem f259_98 : ft 259 98 = some (11, 4, 0, .invokestatic 186, 3) := Fm259 (dk_184 0 186 (dk_at s259_4 4 rfl rfl)) rfl
theorem f259_101 : ft 259 101 = some (11, 4, 0, .ifCond .eq 43, 3) := Fm259 (dk_153 0 43 (dk_at s259_4 7 rfl rfl)) rfl
theorem f259_104 : ft 259 104 = some (11, 4, 0, .lload 5, 2) := Fm259 (dk_22 5 (dk_at s259_4 10 rfl rfl)) rfl
theorem f259_106 : ft 259 106 = some (11, 4, 0, .ldc2_w 235, 3) := Fm259 (dk_20 0 235 (dk_at s259_4 12 rfl rfl)) rfl
theorem f259_109 : ft 259 109 = some (11, 4, 0, .lcmp, 1) := Fm259 (dk_148 (dk_at s259_4 15 rfl rfl)) rfl
theorem f259_110 : ft 259 110 = some (11, 4, 0, .ifCond .gt 21, 3) := Fm259 (dk_157 0 21 (dk_at s259_4 16 rfl rfl)) rfl
theorem f259_113 : ft 259 113 = some (11, 4, 0, .ldc2_w 237, 3) := Fm259 (dk_20 0 237 (dk_at s259_4 19 rfl rfl)) rfl
theorem f259_116 : ft 259 116 = some (11, 4, 0, .lload 5, 2) := Fm259 (dk_22 5 (dk_at s259_4 22 rfl rfl)) rfl
theorem f259_118 : ft 259 118 = some (11, 4, 0, .lmul, 1) := Fm259 (dk_105 (dk_at s259_5 0 rfl rfl)) rfl
theorem f259_119 : ft 259 119 = some (11, 4, 0, .aload_n 0, 1) := Fm259 (dk_42 (dk_at s259_5 1 rfl rfl)) rfl
theorem f259_120 : ft 259 120 = some (11, 4, 0, .invokevirtual 167, 3) := Fm259 (dk_182 0 167 (dk_at s259_5 2 rfl rfl)) rfl
theorem f259_123 : ft 259 123 = some (11, 4, 0, .i2l, 1) := Fm259 (dk_133 (dk_at s259_5 5 rfl rfl)) rfl
theorem f259_124 : ft 259 124 = some (11, 4, 0, .ladd, 1) := Fm259 (dk_97 (dk_at s259_5 6 rfl rfl)) rfl
theorem f259_125 : ft 259 125 = some (11, 4, 0, .ldc2_w 239, 3) := Fm259 (dk_20 0 239 (dk_at s259_5 7 rfl rfl)) rfl
theorem f259_128 : ft 259 128 = some (11, 4, 0, .lsub, 1) := Fm259 (dk_101 (dk_at s259_5 10 rfl rfl)) rfl
theorem f259_129 : ft 259 129 = some (11, 4, 0, .lstore 5, 2) := Fm259 (dk_55 5 (dk_at s259_5 11 rfl rfl)) rfl
theorem f259_131 : ft 259 131 = some (11, 4, 0, .aload_n 0, 1) := Fm259 (dk_42 (dk_at s259_5 13 rfl rfl)) rfl
theorem f259_132 : ft 259 132 = some (11, 4, 0, .dup, 1) := Fm259 (dk_89 (dk_at s259_5 14 rfl rfl)) rfl
theorem f259_133 : ft 259 133 = some (11, 4, 0, .getfield 155, 3) := Fm259 (dk_180 0 155 (dk_at s259_5 15 rfl rfl)) rfl
theorem f259_136 : ft 259 136 = some (11, 4, 0, .iconst 1, 1) := Fm259 (dk_4 (dk_at s259_5 18 rfl rfl)) rfl
theorem f259_137 : ft 259 137 = some (11, 4, 0, .iadd, 1) := Fm259 (dk_96 (dk_at s259_5 19 rfl rfl)) rfl
theorem f259_138 : ft 259 138 = some (11, 4, 0, .putfield 155, 3) := Fm259 (dk_181 0 155 (dk_at s259_5 20 rfl rfl)) rfl
theorem f259_141 : ft 259 141 = some (11, 4, 0, .goto (-47), 3) := Fm259 (dk_167 255 209 (dk_at s259_6 0 rfl rfl)) rfl
theorem f259_144 : ft 259 144 = some (11, 4, 0, .lload 5, 2) := Fm259 (dk_22 5 (dk_at s259_6 3 rfl rfl)) rfl
theorem f259_146 : ft 259 146 = some (11, 4, 0, .ldc2_w 235, 3) := Fm259 (dk_20 0 235 (dk_at s259_6 5 rfl rfl)) rfl
theorem f259_149 : ft 259 149 = some (11, 4, 0, .lcmp, 1) := Fm259 (dk_148 (dk_at s259_6 8 rfl rfl)) rfl
theorem f259_150 : ft 259 150 = some (11, 4, 0, .ifCond .le 9, 3) := Fm259 (dk_158 0 9 (dk_at s259_6 9 rfl rfl)) rfl
theorem f259_153 : ft 259 153 = some (11, 4, 0, .aload_n 0, 1) := Fm259 (dk_42 (dk_at s259_6 12 rfl rfl)) rfl
theorem f259_154 : ft 259 154 = some (11, 4, 0, .iload_n 3, 1) := Fm259 (dk_29 (dk_at s259_6 13 rfl rfl)) rfl
theorem f259_155 : ft 259 155 = some (11, 4, 0, .invokevirtual 171, 3) := Fm259 (dk_182 0 171 (dk_at s259_6 14 rfl rfl)) rfl
theorem f259_158 : ft 259 158 = some (11, 4, 0, .ireturn, 1) := Fm259 (dk_172 (dk_at s259_6 17 rfl rfl)) rfl
theorem f259_159 : ft 259 159 = some (11, 4, 0, .aload_n 0, 1) := Fm259 (dk_42 (dk_at s259_6 18 rfl rfl)) rfl
theorem f259_160 : ft 259 160 = some (11, 4, 0, .getfield 124, 3) := Fm259 (dk_180 0 124 (dk_at s259_6 19 rfl rfl)) rfl
theorem f259_163 : ft 259 163 = some (11, 4, 0, .iconst 3, 1) := Fm259 (dk_6 (dk_at s259_6 22 rfl rfl)) rfl
theorem f259_164 : ft 259 164 = some (11, 4, 0, .iload_n 1, 1) := Fm259 (dk_27 (dk_at s259_6 23 rfl rfl)) rfl
theorem f259_165 : ft 259 165 = some (11, 4, 0, .imul, 1) := Fm259 (dk_104 (dk_at s259_7 0 rfl rfl)) rfl
theorem f259_166 : ft 259 166 = some (11, 4, 0, .iload_n 2, 1) := Fm259 (dk_28 (dk_at s259_7 1 rfl rfl)) rfl
theorem f259_167 : ft 259 167 = some (11, 4, 0, .iadd, 1) := Fm259 (dk_96 (dk_at s259_7 2 rfl rfl)) rfl
theorem f259_168 : ft 259 168 = some (11, 4, 0, .iload 4, 2) := Fm259 (dk_21 4 (dk_at s259_7 3 rfl rfl)) rfl
theorem f259_170 : ft 259 170 = some (11, 4, 0, .ifCond .eq 9, 3) := Fm259 (dk_153 0 9 (dk_at s259_7 5 rfl rfl)) rfl
theorem f259_173 : ft 259 173 = some (11, 4, 0, .lload 5, 2) := Fm259 (dk_22 5 (dk_at s259_7 8 rfl rfl)) rfl
theorem f259_175 : ft 259 175 = some (11, 4, 0, .lneg, 1) := Fm259 (dk_117 (dk_at s259_7 10 rfl rfl)) rfl
theorem f259_176 : ft 259 176 = some (11, 4, 0, .goto 5, 3) := Fm259 (dk_167 0 5 (dk_at s259_7 11 rfl rfl)) rfl
theorem f259_179 : ft 259 179 = some (11, 4, 0, .lload 5, 2) := Fm259 (dk_22 5 (dk_at s259_7 14 rfl rfl)) rfl
theorem f259_181 : ft 259 181 = some (11, 4, 0, .lastore, 1) := Fm259 (dk_80 (dk_at s259_7 16 rfl rfl)) rfl
theorem f259_182 : ft 259 182 = some (11, 4, 0, .aload_n 0, 1) := Fm259 (dk_42 (dk_at s259_7 17 rfl rfl)) rfl
theorem f259_183 : ft 259 183 = some (11, 4, 0, .iload_n 1, 1) := Fm259 (dk_27 (dk_at s259_7 18 rfl rfl)) rfl
theorem f259_184 : ft 259 184 = some (11, 4, 0, .iconst 2, 1) := Fm259 (dk_5 (dk_at s259_7 19 rfl rfl)) rfl
theorem f259_185 : ft 259 185 = some (11, 4, 0, .aload_n 0, 1) := Fm259 (dk_42 (dk_at s259_7 20 rfl rfl)) rfl
theorem f259_186 : ft 259 186 = some (11, 4, 0, .iload_n 1, 1) := Fm259 (dk_27 (dk_at s259_7 21 rfl rfl)) rfl
theorem f259_187 : ft 259 187 = some (11, 4, 0, .iconst 2, 1) := Fm259 (dk_5 (dk_at s259_7 22 rfl rfl)) rfl
theorem f259_188 : ft 259 188 = some (11, 4, 0, .invokevirtual 442, 3) := Fm259 (dk_182 1 186 (dk_at s259_8 0 rfl rfl)) rfl
theorem f259_191 : ft 259 191 = some (11, 4, 0, .iconst 1, 1) := Fm259 (dk_4 (dk_at s259_8 3 rfl rfl)) rfl
theorem f259_192 : ft 259 192 = some (11, 4, 0, .iload_n 2, 1) := Fm259 (dk_28 (dk_at s259_8 4 rfl rfl)) rfl
theorem f259_193 : ft 259 193 = some (11, 4, 0, .ishl, 1) := Fm259 (dk_120 (dk_at s259_8 5 rfl rfl)) rfl
theorem f259_194 : ft 259 194 = some (11, 4, 0, .ior, 1) := Fm259 (dk_128 (dk_at s259_8 6 rfl rfl)) rfl
theorem f259_195 : ft 259 195 = some (11, 4, 0, .invokevirtual 428, 3) := Fm259 (dk_182 1 172 (dk_at s259_8 7 rfl rfl)) rfl
theorem f259_198 : ft 259 198 = some (11, 4, 0, .iconst 1, 1) := Fm259 (dk_4 (dk_at s259_8 10 rfl rfl)) rfl
theorem f259_199 : ft 259 199 = some (11, 4, 0, .ireturn, 1) := Fm259 (dk_172 (dk_at s259_8 11 rfl rfl)) rfl
theorem q259 {d : Nat} {m : Mem} {a0 a1 a2 : Int} (hd : 0 < d) (hz : TZ m) : le2 (gd (tg m a0 = 11) <| nm (vl m a0 12) fun v2 => bI (cl (d - 1) 199 [pR a0] m) fun v1 m1 => if v1 = 45 then (if (1 : Int) = 0 then (rn d 259 36 [pR a0, pI a1, pI a2, pI v2, pI 1, pU, pU] [] m1) else rn d 259 36 [pR a0, pI a1, pI a2, pI v2, pI 1, pU, pU] [] (mst m1 a0 12 (w32 ((vl m1 a0 12) + 1)))) else if (0 : Int) = 0 then (rn d 259 36 [pR a0, pI a1, pI a2, pI v2, pI 0, pU, pU] [] m1) else rn d 259 36 [pR a0, pI a1, pI a2, pI v2, pI 0, pU, pU] [] (mst m1 a0 12 (w32 ((vl m1 a0 12) + 1)))) (cl d 259 [pR a0, pI a1, pI a2] m) := by
  refine q_in (n := 7) (L := [pR a0, pI a1, pI a2, pU, pU, pU, pU]) rfl rfl rfl ?_
  refine r_aln0 (p := 1) f259_0 rfl ?_
  refine le2_gd (fun h1 => ?_)
  refine r_gfI (f := 12) (p := 4) f259_1 rfl rfl rfl (Or.inl h1) rfl ?_
  refine r_nmI (fun v2 ev2 => ?_)
  refine r_isn3 (p := 5) f259_4 rfl rfl ?_
  refine r_aln0 (p := 6) f259_5 rfl ?_
  refine r_invI (p := 9) f259_6 rfl rfl rfl (Or.inl h1) hd (Nat.le_of_ble_eq_true rfl) rfl rfl rfl (fun _ => rfl) (fun v1 m1 c1 => ?_)
  have hz1 := z_k c1 hz
  refine r_bipush (p := 11) f259_9 rfl (pinD rfl rfl) ?_
  refine r_icne (t := 18) (p := 14) f259_11 (by decide) rfl rfl ?_ ?_
  · refine r_iconst (p := 15) f259_14 rfl (pinD rfl rfl) ?_
    refine r_goto (p := 19) f259_15 (by decide) rfl ?_
    refine r_isw4 (p := 21) f259_19 rfl rfl ?_
    refine r_ilw4 (p := 23) f259_21 rfl ?_
    refine r_ifeq (t := 36) (p := 26) f259_23 (by decide) rfl rfl ?_ ?_
    · exact le2_refl _
    · refine r_aln0 (p := 27) f259_26 rfl ?_
      refine r_dup (p := 28) f259_27 rfl rfl ?_
      have h3 := k_t1 c1 hz h1 (by decide)
      refine r_gfI (f := 12) (p := 31) f259_28 rfl rfl rfl (Or.inl h3) rfl ?_
      refine r_iconst (p := 32) f259_31 rfl (pinD rfl rfl) ?_
      refine r_iadd (p := 33) f259_32 rfl ?_
      refine r_pfI (f := 12) (p := 36) f259_33 rfl rfl rfl (by decide) (by decide) (Or.inl h3) rfl ?_
      exact le2_refl _
  · refine r_iconst (p := 19) f259_18 rfl (pinD rfl rfl) ?_
    refine r_isw4 (p := 21) f259_19 rfl rfl ?_
    refine r_ilw4 (p := 23) f259_21 rfl ?_
    refine r_ifeq (t := 36) (p := 26) f259_23 (by decide) rfl rfl ?_ ?_
    · exact le2_refl _
    · refine r_aln0 (p := 27) f259_26 rfl ?_
      refine r_dup (p := 28) f259_27 rfl rfl ?_
      have h2 := k_t1 c1 hz h1 (by decide)
      refine r_gfI (f := 12) (p := 31) f259_28 rfl rfl rfl (Or.inl h2) rfl ?_
      refine r_iconst (p := 32) f259_31 rfl (pinD rfl rfl) ?_
      refine r_iadd (p := 33) f259_32 rfl ?_
      refine r_pfI (f := 12) (p := 36) f259_33 rfl rfl rfl (by decide) (by decide) (Or.inl h2) rfl ?_
      exact le2_refl _
theorem q259_36 {d : Nat} {m : Mem} {a0 a1 a2 a3 a4 : Int} (hd : 0 < d) (hz : TZ m) : le2 (gd (tg m a0 = 11) <| bI (cl (d - 1) 199 [pR a0] m) fun v1 m1 => bI (cl (d - 1) 206 [pI v1] m1) fun v2 m2 => if v2 = 0 then (bI (cl (d - 1) 202 [pR a0, pI (vl m2 a0 12)] m2) fun v3 m3 => gd (v3 = 0 ∨ v3 = 1) <| some (.inl (some (pI v3)), m3)) else if a4 = 0 then (rn d 259 69 [pR a0, pI a1, pI a2, pI a3, pI a4, pU, pU] [] m2) else bI (cl (d - 1) 199 [pR a0] m2) fun v4 m4 => if v4 = 48 then (bI (cl (d - 1) 202 [pR a0, pI (vl m4 a0 12)] m4) fun v5 m5 => gd (v5 = 0 ∨ v5 = 1) <| some (.inl (some (pI v5)), m5)) else rn d 259 69 [pR a0, pI a1, pI a2, pI a3, pI a4, pU, pU] [] m4) (rn d 259 36 [pR a0, pI a1, pI a2, pI a3, pI a4, pU, pU] [] m) := by
  refine r_aln0 (p := 37) f259_36 rfl ?_
  refine le2_gd (fun h1 => ?_)
  refine r_invI (p := 40) f259_37 rfl rfl rfl (Or.inl h1) hd (Nat.le_of_ble_eq_true rfl) rfl rfl rfl (fun _ => rfl) (fun v1 m1 c1 => ?_)
  have hz1 := z_k c1 hz
  refine r_istI (p := 43) f259_40 rfl rfl rfl hd (Nat.le_of_ble_eq_true rfl) rfl rfl rfl (fun _ => rfl) (fun v2 m2 c2 => ?_)
  have hz2 := z_k c2 hz1
  refine r_ifeq (t := 60) (p := 46) f259_43 (by decide) rfl rfl ?_ ?_
  · refine r_aln0 (p := 61) f259_60 rfl ?_
    refine r_aln0 (p := 62) f259_61 rfl ?_
    have h2 := k_t1 c1 hz h1 (by decide)
    have h3 := k_t1 c2 hz1 h2 (by decide)
    refine r_gfI (f := 12) (p := 65) f259_62 rfl rfl rfl (Or.inl h3) rfl ?_
    refine r_invI (p := 68) f259_65 rfl rfl rfl (Or.inl h3) hd (Nat.le_of_ble_eq_true rfl) rfl rfl rfl (fun _ => rfl) (fun v3 m3 c3 => ?_)
    have hz3 := z_k c3 hz2
    refine le2_gd (fun h4 => ?_)
    exact r_iret4 f259_68 h4
  · refine r_ilw4 (p := 48) f259_46 rfl ?_
    refine r_ifeq (t := 69) (p := 51) f259_48 (by decide) rfl rfl ?_ ?_
    · exact le2_refl _
    · refine r_aln0 (p := 52) f259_51 rfl ?_
      have h5 := k_t1 c1 hz h1 (by decide)
      have h6 := k_t1 c2 hz1 h5 (by decide)
      refine r_invI (p := 55) f259_52 rfl rfl rfl (Or.inl h6) hd (Nat.le_of_ble_eq_true rfl) rfl rfl rfl (fun _ => rfl) (fun v4 m4 c4 => ?_)
      have hz4 := z_k c4 hz2
      refine r_bipush (p := 57) f259_55 rfl (pinD rfl rfl) ?_
      refine r_icne (t := 69) (p := 60) f259_57 (by decide) rfl rfl ?_ ?_
      · refine r_aln0 (p := 61) f259_60 rfl ?_
        refine r_aln0 (p := 62) f259_61 rfl ?_
        have h7 := k_t1 c4 hz2 h6 (by decide)
        refine r_gfI (f := 12) (p := 65) f259_62 rfl rfl rfl (Or.inl h7) rfl ?_
        refine r_invI (p := 68) f259_65 rfl rfl rfl (Or.inl h7) hd (Nat.le_of_ble_eq_true rfl) rfl rfl rfl (fun _ => rfl) (fun v5 m5 c5 => ?_)
        have hz5 := z_k c5 hz4
        refine le2_gd (fun h8 => ?_)
        exact r_iret4 f259_68 h8
      · exact le2_refl _
theorem q259_69 {d : Nat} {m : Mem} {a0 a1 a2 a3 a4 : Int} (hd : 0 < d) (hz : TZ m) : le2 (gd (tg m a0 = 11) <| bI (cl (d - 1) 199 [pR a0] m) fun v1 m1 => if v1 = 48 then (rn d 259 144 [pR a0, pI a1, pI a2, pI a3, pI a4, pL 0, pU] [] (mst m1 a0 12 (w32 ((vl m1 a0 12) + 1)))) else rn d 259 94 [pR a0, pI a1, pI a2, pI a3, pI a4, pL 0, pU] [] m1) (rn d 259 69 [pR a0, pI a1, pI a2, pI a3, pI a4, pU, pU] [] m) := by
  refine r_lconst0 (p := 70) f259_69 rfl ?_
  refine r_lsw5 (p := 72) f259_70 rfl rfl ?_
  refine r_aln0 (p := 73) f259_72 rfl ?_
  refine le2_gd (fun h1 => ?_)
  refine r_invI (p := 76) f259_73 rfl rfl rfl (Or.inl h1) hd (Nat.le_of_ble_eq_true rfl) rfl rfl rfl (fun _ => rfl) (fun v1 m1 c1 => ?_)
  have hz1 := z_k c1 hz
  refine r_bipush (p := 78) f259_76 rfl (pinD rfl rfl) ?_
  refine r_icne (t := 94) (p := 81) f259_78 (by decide) rfl rfl ?_ ?_
  · refine r_aln0 (p := 82) f259_81 rfl ?_
    refine r_dup (p := 83) f259_82 rfl rfl ?_
    have h2 := k_t1 c1 hz h1 (by decide)
    refine r_gfI (f := 12) (p := 86) f259_83 rfl rfl rfl (Or.inl h2) rfl ?_
    refine r_iconst (p := 87) f259_86 rfl (pinD rfl rfl) ?_
    refine r_iadd (p := 88) f259_87 rfl ?_
    refine r_pfI (f := 12) (p := 91) f259_88 rfl rfl rfl (by decide) (by decide) (Or.inl h2) rfl ?_
    refine r_goto (p := 144) f259_91 (by decide) rfl ?_
    exact le2_refl _
  · exact le2_refl _
theorem q259_94 {d : Nat} {m : Mem} {a0 a1 a2 a3 a4 a5 : Int} (hd : 0 < d) (hz : TZ m) : le2 (gd (tg m a0 = 11) <| bI (cl (d - 1) 199 [pR a0] m) fun v1 m1 => bI (cl (d - 1) 206 [pI v1] m1) fun v2 m2 => if v2 = 0 then (rn d 259 144 [pR a0, pI a1, pI a2, pI a3, pI a4, pL a5, pU] [] m2) else if 9007199254740991 < a5 then (rn d 259 94 [pR a0, pI a1, pI a2, pI a3, pI a4, pL a5, pU] [] (mst m2 a0 12 (w32 ((vl m2 a0 12) + 1)))) else bI (cl (d - 1) 199 [pR a0] m2) fun v3 m3 => rn d 259 94 [pR a0, pI a1, pI a2, pI a3, pI a4, pL (w64 ((w64 ((w64 (10 * a5)) + v3)) - 48)), pU] [] (mst m3 a0 12 (w32 ((vl m3 a0 12) + 1)))) (rn d 259 94 [pR a0, pI a1, pI a2, pI a3, pI a4, pL a5, pU] [] m) := by
  refine r_aln0 (p := 95) f259_94 rfl ?_
  refine le2_gd (fun h1 => ?_)
  refine r_invI (p := 98) f259_95 rfl rfl rfl (Or.inl h1) hd (Nat.le_of_ble_eq_true rfl) rfl rfl rfl (fun _ => rfl) (fun v1 m1 c1 => ?_)
  have hz1 := z_k c1 hz
  refine r_istI (p := 101) f259_98 rfl rfl rfl hd (Nat.le_of_ble_eq_true rfl) rfl rfl rfl (fun _ => rfl) (fun v2 m2 c2 => ?_)
  have hz2 := z_k c2 hz1
  refine r_ifeq (t := 144) (p := 104) f259_101 (by decide) rfl rfl ?_ ?_
  · exact le2_refl _
  · refine r_llw5 (p := 106) f259_104 rfl ?_
    refine r_ldc2 (p := 109) f259_106 rfl rfl (pinD rfl rfl) ?_
    refine r_lcgt (p1 := 110) (t := 131) (p := 113) f259_109 rfl f259_110 (by decide) rfl rfl ?_ ?_
    · refine r_aln0 (p := 132) f259_131 rfl ?_
      refine r_dup (p := 133) f259_132 rfl rfl ?_
      have h2 := k_t1 c1 hz h1 (by decide)
      have h3 := k_t1 c2 hz1 h2 (by decide)
      refine r_gfI (f := 12) (p := 136) f259_133 rfl rfl rfl (Or.inl h3) rfl ?_
      refine r_iconst (p := 137) f259_136 rfl (pinD rfl rfl) ?_
      refine r_iadd (p := 138) f259_137 rfl ?_
      refine r_pfI (f := 12) (p := 141) f259_138 rfl rfl rfl (by decide) (by decide) (Or.inl h3) rfl ?_
      refine r_goto (p := 94) f259_141 (by decide) rfl ?_
      exact le2_refl _
    · refine r_ldc2 (p := 116) f259_113 rfl rfl (pinD rfl rfl) ?_
      refine r_llw5 (p := 118) f259_116 rfl ?_
      refine r_lmul (p := 119) f259_118 rfl ?_
      refine r_aln0 (p := 120) f259_119 rfl ?_
      have h4 := k_t1 c1 hz h1 (by decide)
      have h5 := k_t1 c2 hz1 h4 (by decide)
      refine r_invI (p := 123) f259_120 rfl rfl rfl (Or.inl h5) hd (Nat.le_of_ble_eq_true rfl) rfl rfl rfl (fun _ => rfl) (fun v3 m3 c3 => ?_)
      have hz3 := z_k c3 hz2
      refine r_i2l (p := 124) f259_123 rfl ?_
      refine r_ladd (p := 125) f259_124 rfl ?_
      refine r_ldc2 (p := 128) f259_125 rfl rfl (pinD rfl rfl) ?_
      refine r_lsub (p := 129) f259_128 rfl ?_
      refine r_lsw5 (p := 131) f259_129 rfl rfl ?_
      refine r_aln0 (p := 132) f259_131 rfl ?_
      refine r_dup (p := 133) f259_132 rfl rfl ?_
      have h6 := k_t1 c3 hz2 h5 (by decide)
      refine r_gfI (f := 12) (p := 136) f259_133 rfl rfl rfl (Or.inl h6) rfl ?_
      refine r_iconst (p := 137) f259_136 rfl (pinD rfl rfl) ?_
      refine r_iadd (p := 138) f259_137 rfl ?_
      refine r_pfI (f := 12) (p := 141) f259_138 rfl rfl rfl (by decide) (by decide) (Or.inl h6) rfl ?_
      refine r_goto (p := 94) f259_141 (by decide) rfl ?_
      exact le2_refl _
theorem q259_144 {d : Nat} {m : Mem} {a0 a1 a2 a3 a4 a5 : Int} (hd : 0 < d) (hz : TZ m) : le2 (if 9007199254740991 < a5 then (gd (tg m a0 = 11) <| bI (cl (d - 1) 202 [pR a0, pI a3] m) fun v1 m1 => gd (v1 = 0 ∨ v1 = 1) <| some (.inl (some (pI v1)), m1)) else gd (tg m a0 = 11) <| nm (vl m a0 28) fun v2 => nm (w32 ((w32 (3 * a1)) + a2)) fun v3 => if a4 = 0 then (rn d 259 181 [pR a0, pI a1, pI a2, pI a3, pI a4, pL a5, pU] [pL a5, pI v3, pR v2] m) else rn d 259 181 [pR a0, pI a1, pI a2, pI a3, pI a4, pL a5, pU] [pL (w64 (-a5)), pI v3, pR v2] m) (rn d 259 144 [pR a0, pI a1, pI a2, pI a3, pI a4, pL a5, pU] [] m) := by
  refine r_llw5 (p := 146) f259_144 rfl ?_
  refine r_ldc2 (p := 149) f259_146 rfl rfl (pinD rfl rfl) ?_
  refine r_lcle (p1 := 150) (t := 159) (p := 153) f259_149 rfl f259_150 (by decide) rfl rfl ?_ ?_
  · refine r_aln0 (p := 154) f259_153 rfl ?_
    refine r_iln3 (p := 155) f259_154 rfl ?_
    refine le2_gd (fun h2 => ?_)
    refine r_invI (p := 158) f259_155 rfl rfl rfl (Or.inl h2) hd (Nat.le_of_ble_eq_true rfl) rfl rfl rfl (fun _ => rfl) (fun v1 m1 c1 => ?_)
    have hz1 := z_k c1 hz
    refine le2_gd (fun h3 => ?_)
    exact r_iret4 f259_158 h3
  · refine r_aln0 (p := 160) f259_159 rfl ?_
    refine le2_gd (fun h1 => ?_)
    refine r_gfR (f := 28) (p := 163) f259_160 rfl rfl rfl (Or.inl h1) rfl ?_
    refine r_nmR (fun v2 ev2 => ?_)
    refine r_iconst (p := 164) f259_163 rfl (pinD rfl rfl) ?_
    refine r_iln1 (p := 165) f259_164 rfl ?_
    refine r_imul (p := 166) f259_165 rfl ?_
    refine r_iln2 (p := 167) f259_166 rfl ?_
    refine r_iadd (p := 168) f259_167 rfl ?_
    refine r_nmI (fun v3 ev3 => ?_)
    refine r_ilw4 (p := 170) f259_168 rfl ?_
    refine r_ifeq (t := 179) (p := 173) f259_170 (by decide) rfl rfl ?_ ?_
    · refine r_llw5 (p := 181) f259_179 rfl ?_
      exact le2_refl _
    · refine r_llw5 (p := 175) f259_173 rfl ?_
      refine r_lneg (p := 176) f259_175 rfl ?_
      refine r_goto (p := 181) f259_176 (by decide) rfl ?_
      exact le2_refl _
theorem q259_181 {d : Nat} {m : Mem} {a0 a1 a2 a3 a4 a5 s2 s1 s0 : Int} (hd : 0 < d) (hz : TZ m) : le2 (gd (tg m s0 = 186102 ∨ tg m s0 = 246102) <| gd ((0 : Int) ≤ s1 ∧ s1 < ln m s0) <| gd (tg m a0 = 11) <| bI (cl (d - 1) 251 [pR a0, pI a1, pI 2] (mst m s0 s1 s2)) fun v1 m1 => bV (cl (d - 1) 246 [pR a0, pI a1, pI 2, pI (pOr v1 (pShl 1 a2))] m1) fun m2 => some (.inl (some (pI 1)), m2)) (rn d 259 181 [pR a0, pI a1, pI a2, pI a3, pI a4, pL a5, pU] [pL s2, pI s1, pR s0] m) := by
  refine le2_gd (fun h1 => ?_)
  refine le2_gd (fun h2 => ?_)
  refine r_lastore (p := 182) f259_181 rfl (dj2 (fun x => 1000 ≤ x ∧ x % 1000 = 102 ∧ Nat.testBit (eM 259) (bix x 0) = true) h1 (by decide) (by decide)) h2 ?_
  refine r_aln0 (p := 183) f259_182 rfl ?_
  refine r_iln1 (p := 184) f259_183 rfl ?_
  refine r_iconst (p := 185) f259_184 rfl (pinD rfl rfl) ?_
  refine r_aln0 (p := 186) f259_185 rfl ?_
  refine r_iln1 (p := 187) f259_186 rfl ?_
  refine r_iconst (p := 188) f259_187 rfl (pinD rfl rfl) ?_
  refine le2_gd (fun h3 => ?_)
  refine r_invI (p := 191) f259_188 rfl rfl rfl (Or.inl h3) hd (Nat.le_of_ble_eq_true rfl) rfl rfl rfl (fun _ => rfl) (fun v1 m1 c1 => ?_)
  have hz1 := z_k c1 hz
  refine r_iconst (p := 192) f259_191 rfl (pinD rfl rfl) ?_
  refine r_iln2 (p := 193) f259_192 rfl ?_
  refine r_ishl (p := 194) f259_193 rfl ?_
  refine r_ior (p := 195) f259_194 rfl ?_
  have h4 := k_t1 c1 hz h3 (by decide)
  refine r_invV (p := 198) f259_195 rfl rfl rfl (Or.inl h4) hd (Nat.le_of_ble_eq_true rfl) rfl rfl rfl (fun _ => rfl) (fun m2 c2 => ?_)
  have hz2 := z_k c2 hz1
  refine r_iconst (p := 199) f259_198 rfl (pinD rfl rfl) ?_
  exact r_iret4 f259_199 (by decide)
/-! 260 PathStoreModel.wrap (I)I -/
def w260_0 : List UInt8 := [42, 16, 35, 182, 1, 169, 61, 42, 28, 5, 27, 182, 1, 172, 28, 172]
abbrev u260_0 : List UInt8 := w260_0 ++ []
theorem s260_0 : (prog_32_method_73_code).data.toList.drop 0 = u260_0 := by decide +kernel
theorem Fm260 {pc len : Nat} {i : Instr} (h : decode (prog_32_method_73_code) pc = .ok (i, len)) (hl : len = ilen i len) : ft 260 pc = some (11, 1, 0, i, len) := ft_mk rfl h hl
theorem f260_0 : ft 260 0 = some (11, 1, 0, .aload_n 0, 1) := Fm260 (dk_42 (dk_at s260_0 0 rfl rfl)) rfl
theorem f260_1 : ft 260 1 = some (11, 1, 0, .bipush 35, 2) := Fm260 (dk_16 35 (dk_at s260_0 1 rfl rfl)) rfl
theorem f260_3 : ft 260 3 = some (11, 1, 0, .invokevirtual 425, 3) := Fm260 (dk_182 1 169 (dk_at s260_0 3 rfl rfl)) rfl
theorem f260_6 : ft 260 6 = some (11, 1, 0, .istore_n 2, 1) := Fm260 (dk_61 (dk_at s260_0 6 rfl rfl)) rfl
theorem f260_7 : ft 260 7 = some (11, 1, 0, .aload_n 0, 1) := Fm260 (dk_42 (dk_at s260_0 7 rfl rfl)) rfl
theorem f260_8 : ft 260 8 = some (11, 1, 0, .iload_n 2, 1) := Fm260 (dk_28 (dk_at s260_0 8 rfl rfl)) rfl
theorem f260_9 : ft 260 9 = some (11, 1, 0, .iconst 2, 1) := Fm260 (dk_5 (dk_at s260_0 9 rfl rfl)) rfl
theorem f260_10 : ft 260 10 = some (11, 1, 0, .iload_n 1, 1) := Fm260 (dk_27 (dk_at s260_0 10 rfl rfl)) rfl
theorem f260_11 : ft 260 11 = some (11, 1, 0, .invokevirtual 428, 3) := Fm260 (dk_182 1 172 (dk_at s260_0 11 rfl rfl)) rfl
theorem f260_14 : ft 260 14 = some (11, 1, 0, .iload_n 2, 1) := Fm260 (dk_28 (dk_at s260_0 14 rfl rfl)) rfl
theorem f260_15 : ft 260 15 = some (11, 1, 0, .ireturn, 1) := Fm260 (dk_172 (dk_at s260_0 15 rfl rfl)) rfl
theorem q260 {d : Nat} {m : Mem} {a0 a1 : Int} (hd : 0 < d) (hz : TZ m) : le2 (gd (tg m a0 = 11) <| bI (cl (d - 1) 245 [pR a0, pI 35] m) fun v1 m1 => bV (cl (d - 1) 246 [pR a0, pI v1, pI 2, pI a1] m1) fun m2 => some (.inl (some (pI v1)), m2)) (cl d 260 [pR a0, pI a1] m) := by
  refine q_in (n := 3) (L := [pR a0, pI a1, pU]) rfl rfl rfl ?_
  refine r_aln0 (p := 1) f260_0 rfl ?_
  refine r_bipush (p := 3) f260_1 rfl (pinD rfl rfl) ?_
  refine le2_gd (fun h1 => ?_)
  refine r_invI (p := 6) f260_3 rfl rfl rfl (Or.inl h1) hd (Nat.le_of_ble_eq_true rfl) rfl rfl rfl (fun _ => rfl) (fun v1 m1 c1 => ?_)
  have hz1 := z_k c1 hz
  refine r_isn2 (p := 7) f260_6 rfl rfl ?_
  refine r_aln0 (p := 8) f260_7 rfl ?_
  refine r_iln2 (p := 9) f260_8 rfl ?_
  refine r_iconst (p := 10) f260_9 rfl (pinD rfl rfl) ?_
  refine r_iln1 (p := 11) f260_10 rfl ?_
  have h2 := k_t1 c1 hz h1 (by decide)
  refine r_invV (p := 14) f260_11 rfl rfl rfl (Or.inl h2) hd (Nat.le_of_ble_eq_true rfl) rfl rfl rfl (fun _ => rfl) (fun m2 c2 => ?_)
  have hz2 := z_k c2 hz1
  refine r_iln2 (p := 15) f260_14 rfl ?_
  exact r_iret1 f260_15
/-! 261 PathStoreModel.letter (I)Z -/
def w261_1 : List UInt8 := [26, 16, 95, 160, 0, 7, 4, 167, 0, 4, 3, 172]
abbrev u261_1 : List UInt8 := w261_1 ++ []
def w261_0 : List UInt8 := [26, 16, 97, 161, 0, 9, 26, 16, 122, 164, 0, 21, 26, 16, 65, 161, 0, 9, 26, 16, 90, 164, 0, 9]
abbrev u261_0 : List UInt8 := w261_0 ++ u261_1
theorem s261_0 : (prog_32_method_62_code).data.toList.drop 0 = u261_0 := by decide +kernel
theorem s261_1 : (prog_32_method_62_code).data.toList.drop 24 = u261_1 := dk_seg s261_0 24 rfl rfl
theorem Fm261 {pc len : Nat} {i : Instr} (h : decode (prog_32_method_62_code) pc = .ok (i, len)) (hl : len = ilen i len) : ft 261 pc = some (11, 4, 0, i, len) := ft_mk rfl h hl
theorem f261_0 : ft 261 0 = some (11, 4, 0, .iload_n 0, 1) := Fm261 (dk_26 (dk_at s261_0 0 rfl rfl)) rfl
theorem f261_1 : ft 261 1 = some (11, 4, 0, .bipush 97, 2) := Fm261 (dk_16 97 (dk_at s261_0 1 rfl rfl)) rfl
theorem f261_3 : ft 261 3 = some (11, 4, 0, .if_icmp .lt 9, 3) := Fm261 (dk_161 0 9 (dk_at s261_0 3 rfl rfl)) rfl
theorem f261_6 : ft 261 6 = some (11, 4, 0, .iload_n 0, 1) := Fm261 (dk_26 (dk_at s261_0 6 rfl rfl)) rfl
theorem f261_7 : ft 261 7 = some (11, 4, 0, .bipush 122, 2) := Fm261 (dk_16 122 (dk_at s261_0 7 rfl rfl)) rfl
theorem f261_9 : ft 261 9 = some (11, 4, 0, .if_icmp .le 21, 3) := Fm261 (dk_164 0 21 (dk_at s261_0 9 rfl rfl)) rfl
theorem f261_12 : ft 261 12 = some (11, 4, 0, .iload_n 0, 1) := Fm261 (dk_26 (dk_at s261_0 12 rfl rfl)) rfl
theorem f261_13 : ft 261 13 = some (11, 4, 0, .bipush 65, 2) := Fm261 (dk_16 65 (dk_at s261_0 13 rfl rfl)) rfl
theorem f261_15 : ft 261 15 = some (11, 4, 0, .if_icmp .lt 9, 3) := Fm261 (dk_161 0 9 (dk_at s261_0 15 rfl rfl)) rfl
theorem f261_18 : ft 261 18 = some (11, 4, 0, .iload_n 0, 1) := Fm261 (dk_26 (dk_at s261_0 18 rfl rfl)) rfl
theorem f261_19 : ft 261 19 = some (11, 4, 0, .bipush 90, 2) := Fm261 (dk_16 90 (dk_at s261_0 19 rfl rfl)) rfl
theorem f261_21 : ft 261 21 = some (11, 4, 0, .if_icmp .le 9, 3) := Fm261 (dk_164 0 9 (dk_at s261_0 21 rfl rfl)) rfl
theorem f261_24 : ft 261 24 = some (11, 4, 0, .iload_n 0, 1) := Fm261 (dk_26 (dk_at s261_1 0 rfl rfl)) rfl
theorem f261_25 : ft 261 25 = some (11, 4, 0, .bipush 95, 2) := Fm261 (dk_16 95 (dk_at s261_1 1 rfl rfl)) rfl
theorem f261_27 : ft 261 27 = some (11, 4, 0, .if_icmp .ne 7, 3) := Fm261 (dk_160 0 7 (dk_at s261_1 3 rfl rfl)) rfl
theorem f261_30 : ft 261 30 = some (11, 4, 0, .iconst 1, 1) := Fm261 (dk_4 (dk_at s261_1 6 rfl rfl)) rfl
theorem f261_31 : ft 261 31 = some (11, 4, 0, .goto 4, 3) := Fm261 (dk_167 0 4 (dk_at s261_1 7 rfl rfl)) rfl
theorem f261_34 : ft 261 34 = some (11, 4, 0, .iconst 0, 1) := Fm261 (dk_3 (dk_at s261_1 10 rfl rfl)) rfl
theorem f261_35 : ft 261 35 = some (11, 4, 0, .ireturn, 1) := Fm261 (dk_172 (dk_at s261_1 11 rfl rfl)) rfl
theorem q261 {d : Nat} {m : Mem} {a0 : Int} (hz : TZ m) : le2 (if a0 < 97 then (rn d 261 12 [pI a0] [] m) else if 122 < a0 then (rn d 261 12 [pI a0] [] m) else some (.inl (some (pI 1)), m)) (cl d 261 [pI a0] m) := by
  refine q_in (n := 1) (L := [pI a0]) rfl rfl rfl ?_
  refine r_iln0 (p := 1) f261_0 rfl ?_
  refine r_bipush (p := 3) f261_1 rfl (pinD rfl rfl) ?_
  refine r_iclt (t := 12) (p := 6) f261_3 (by decide) rfl rfl ?_ ?_
  · exact le2_refl _
  · refine r_iln0 (p := 7) f261_6 rfl ?_
    refine r_bipush (p := 9) f261_7 rfl (pinD rfl rfl) ?_
    refine r_icle (t := 30) (p := 12) f261_9 (by decide) rfl rfl ?_ ?_
    · exact le2_refl _
    · refine r_iconst (p := 31) f261_30 rfl (pinD rfl rfl) ?_
      refine r_goto (p := 35) f261_31 (by decide) rfl ?_
      exact r_iret4 f261_35 (by decide)
theorem q261_12 {d : Nat} {m : Mem} {a0 : Int} (hz : TZ m) : le2 (if a0 < 65 then (if a0 = 95 then (some (.inl (some (pI 1)), m)) else some (.inl (some (pI 0)), m)) else if 90 < a0 then (if a0 = 95 then (some (.inl (some (pI 1)), m)) else some (.inl (some (pI 0)), m)) else some (.inl (some (pI 1)), m)) (rn d 261 12 [pI a0] [] m) := by
  refine r_iln0 (p := 13) f261_12 rfl ?_
  refine r_bipush (p := 15) f261_13 rfl (pinD rfl rfl) ?_
  refine r_iclt (t := 24) (p := 18) f261_15 (by decide) rfl rfl ?_ ?_
  · refine r_iln0 (p := 25) f261_24 rfl ?_
    refine r_bipush (p := 27) f261_25 rfl (pinD rfl rfl) ?_
    refine r_icne (t := 34) (p := 30) f261_27 (by decide) rfl rfl ?_ ?_
    · refine r_iconst (p := 31) f261_30 rfl (pinD rfl rfl) ?_
      refine r_goto (p := 35) f261_31 (by decide) rfl ?_
      exact r_iret4 f261_35 (by decide)
    · refine r_iconst (p := 35) f261_34 rfl (pinD rfl rfl) ?_
      exact r_iret4 f261_35 (by decide)
  · refine r_iln0 (p := 19) f261_18 rfl ?_
    refine r_bipush (p := 21) f261_19 rfl (pinD rfl rfl) ?_
    refine r_icle (t := 30) (p := 24) f261_21 (by decide) rfl rfl ?_ ?_
    · refine r_iln0 (p := 25) f261_24 rfl ?_
      refine r_bipush (p := 27) f261_25 rfl (pinD rfl rfl) ?_
      refine r_icne (t := 34) (p := 30) f261_27 (by decide) rfl rfl ?_ ?_
      · refine r_iconst (p := 31) f261_30 rfl (pinD rfl rfl) ?_
        refine r_goto (p := 35) f261_31 (by decide) rfl ?_
        exact r_iret4 f261_35 (by decide)
      · refine r_iconst (p := 35) f261_34 rfl (pinD rfl rfl) ?_
        exact r_iret4 f261_35 (by decide)
    · refine r_iconst (p := 31) f261_30 rfl (pinD rfl rfl) ?_
      refine r_goto (p := 35) f261_31 (by decide) rfl ?_
      exact r_iret4 f261_35 (by decide)
