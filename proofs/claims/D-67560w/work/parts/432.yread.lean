/-! what methods do, written by wip/D-67560w/tools/gen_parts.py -/
set_option maxRecDepth 100000
set_option maxHeartbeats 4000000
/-! 185 PathStoreModel.<init> ()V -/
def w185_8 : List UInt8 := [42, 180, 0, 88, 27, 187, 0, 81, 89, 183, 0, 83, 83, 132, 1, 1, 167, 255, 234, 177]
abbrev u185_8 : List UInt8 := w185_8 ++ []
def w185_7 : List UInt8 := [188, 10, 181, 0, 130, 42, 187, 0, 2, 89, 183, 0, 101, 181, 0, 133, 3, 60, 27, 16, 8, 162, 0, 22]
abbrev u185_7 : List UInt8 := w185_7 ++ u185_8
def w185_6 : List UInt8 := [17, 0, 192, 188, 11, 181, 0, 124, 42, 187, 0, 2, 89, 183, 0, 101, 181, 0, 127, 42, 17, 78, 132]
abbrev u185_6 : List UInt8 := w185_6 ++ u185_7
def w185_5 : List UInt8 := [181, 0, 115, 42, 187, 0, 2, 89, 183, 0, 101, 181, 0, 118, 42, 17, 2, 0, 188, 10, 181, 0, 121, 42]
abbrev u185_5 : List UInt8 := w185_5 ++ u185_6
def w185_4 : List UInt8 := [17, 1, 224, 188, 8, 181, 0, 109, 42, 17, 64, 1, 188, 10, 181, 0, 112, 42, 17, 64, 1, 188, 10]
abbrev u185_4 : List UInt8 := w185_4 ++ u185_5
def w185_3 : List UInt8 := [187, 0, 2, 89, 183, 0, 101, 181, 0, 102, 42, 187, 0, 2, 89, 183, 0, 101, 181, 0, 106, 42]
abbrev u185_3 : List UInt8 := w185_3 ++ u185_4
def w185_2 : List UInt8 := [189, 0, 81, 181, 0, 88, 42, 7, 189, 0, 92, 181, 0, 93, 42, 18, 97, 188, 8, 181, 0, 98, 42]
abbrev u185_2 : List UInt8 := w185_2 ++ u185_3
def w185_1 : List UInt8 := [181, 0, 74, 42, 2, 181, 0, 78, 42, 187, 0, 81, 89, 183, 0, 83, 181, 0, 84, 42, 16, 8]
abbrev u185_1 : List UInt8 := w185_1 ++ u185_2
def w185_0 : List UInt8 := [42, 183, 0, 60, 42, 17, 64, 0, 188, 8, 181, 0, 66, 42, 18, 70, 188, 8, 181, 0, 71, 42, 2]
abbrev u185_0 : List UInt8 := w185_0 ++ u185_1
theorem s185_0 : (prog_32_method_4_code).data.toList.drop 0 = u185_0 := by decide +kernel
theorem s185_1 : (prog_32_method_4_code).data.toList.drop 23 = u185_1 := dk_seg s185_0 23 rfl rfl
theorem s185_2 : (prog_32_method_4_code).data.toList.drop 45 = u185_2 := dk_seg s185_1 22 rfl rfl
theorem s185_3 : (prog_32_method_4_code).data.toList.drop 68 = u185_3 := dk_seg s185_2 23 rfl rfl
theorem s185_4 : (prog_32_method_4_code).data.toList.drop 90 = u185_4 := dk_seg s185_3 22 rfl rfl
theorem s185_5 : (prog_32_method_4_code).data.toList.drop 113 = u185_5 := dk_seg s185_4 23 rfl rfl
theorem s185_6 : (prog_32_method_4_code).data.toList.drop 137 = u185_6 := dk_seg s185_5 24 rfl rfl
theorem s185_7 : (prog_32_method_4_code).data.toList.drop 160 = u185_7 := dk_seg s185_6 23 rfl rfl
theorem s185_8 : (prog_32_method_4_code).data.toList.drop 184 = u185_8 := dk_seg s185_7 24 rfl rfl
theorem Fm185 {pc len : Nat} {i : Instr} (h : decode (prog_32_method_4_code) pc = .ok (i, len)) (hl : len = ilen i len) : ft 185 pc = some (11, 0, 1, i, len) := ft_mk rfl h hl
theorem f185_0 : ft 185 0 = some (11, 0, 1, .aload_n 0, 1) := Fm185 (dk_42 (dk_at s185_0 0 rfl rfl)) rfl
theorem f185_1 : ft 185 1 = some (11, 0, 1, .invokespecial 60, 3) := Fm185 (dk_183 0 60 (dk_at s185_0 1 rfl rfl)) rfl
theorem f185_4 : ft 185 4 = some (11, 0, 1, .aload_n 0, 1) := Fm185 (dk_42 (dk_at s185_0 4 rfl rfl)) rfl
theorem f185_5 : ft 185 5 = some (11, 0, 1, .sipush 16384, 3) := Fm185 (dk_17 64 0 (dk_at s185_0 5 rfl rfl)) rfl
theorem f185_8 : ft 185 8 = some (11, 0, 1, .newarray .byte, 2) := Fm185 (dk_188_8 (dk_at s185_0 8 rfl rfl)) rfl
theorem f185_10 : ft 185 10 = some (11, 0, 1, .putfield 66, 3) := Fm185 (dk_181 0 66 (dk_at s185_0 10 rfl rfl)) rfl
theorem f185_13 : ft 185 13 = some (11, 0, 1, .aload_n 0, 1) := Fm185 (dk_42 (dk_at s185_0 13 rfl rfl)) rfl
theorem f185_14 : ft 185 14 = some (11, 0, 1, .ldc 70, 2) := Fm185 (dk_18 70 (dk_at s185_0 14 rfl rfl)) rfl
theorem f185_16 : ft 185 16 = some (11, 0, 1, .newarray .byte, 2) := Fm185 (dk_188_8 (dk_at s185_0 16 rfl rfl)) rfl
theorem f185_18 : ft 185 18 = some (11, 0, 1, .putfield 71, 3) := Fm185 (dk_181 0 71 (dk_at s185_0 18 rfl rfl)) rfl
theorem f185_21 : ft 185 21 = some (11, 0, 1, .aload_n 0, 1) := Fm185 (dk_42 (dk_at s185_0 21 rfl rfl)) rfl
theorem f185_22 : ft 185 22 = some (11, 0, 1, .iconst (-1), 1) := Fm185 (dk_2 (dk_at s185_0 22 rfl rfl)) rfl
theorem f185_23 : ft 185 23 = some (11, 0, 1, .putfield 74, 3) := Fm185 (dk_181 0 74 (dk_at s185_1 0 rfl rfl)) rfl
theorem f185_26 : ft 185 26 = some (11, 0, 1, .aload_n 0, 1) := Fm185 (dk_42 (dk_at s185_1 3 rfl rfl)) rfl
theorem f185_27 : ft 185 27 = some (11, 0, 1, .iconst (-1), 1) := Fm185 (dk_2 (dk_at s185_1 4 rfl rfl)) rfl
theorem f185_28 : ft 185 28 = some (11, 0, 1, .putfield 78, 3) := Fm185 (dk_181 0 78 (dk_at s185_1 5 rfl rfl)) rfl
theorem f185_31 : ft 185 31 = some (11, 0, 1, .aload_n 0, 1) := Fm185 (dk_42 (dk_at s185_1 8 rfl rfl)) rfl
theorem f185_32 : ft 185 32 = some (11, 0, 1, .new 81, 3) := Fm185 (dk_187 0 81 (dk_at s185_1 9 rfl rfl)) rfl
theorem f185_35 : ft 185 35 = some (11, 0, 1, .dup, 1) := Fm185 (dk_89 (dk_at s185_1 12 rfl rfl)) rfl
theorem f185_36 : ft 185 36 = some (11, 0, 1, .invokespecial 83, 3) := Fm185 (dk_183 0 83 (dk_at s185_1 13 rfl rfl)) rfl
theorem f185_39 : ft 185 39 = some (11, 0, 1, .putfield 84, 3) := Fm185 (dk_181 0 84 (dk_at s185_1 16 rfl rfl)) rfl
theorem f185_42 : ft 185 42 = some (11, 0, 1, .aload_n 0, 1) := Fm185 (dk_42 (dk_at s185_1 19 rfl rfl)) rfl
theorem f185_43 : ft 185 43 = some (11, 0, 1, .bipush 8, 2) := Fm185 (dk_16 8 (dk_at s185_1 20 rfl rfl)) rfl
theorem f185_45 : ft 185 45 = some (11, 0, 1, .anewarray 81, 3) := Fm185 (dk_189 0 81 (dk_at s185_2 0 rfl rfl)) rfl
theorem f185_48 : ft 185 48 = some (11, 0, 1, .putfield 88, 3) := Fm185 (dk_181 0 88 (dk_at s185_2 3 rfl rfl)) rfl
theorem f185_51 : ft 185 51 = some (11, 0, 1, .aload_n 0, 1) := Fm185 (dk_42 (dk_at s185_2 6 rfl rfl)) rfl
theorem f185_52 : ft 185 52 = some (11, 0, 1, .iconst 4, 1) := Fm185 (dk_7 (dk_at s185_2 7 rfl rfl)) rfl
theorem f185_53 : ft 185 53 = some (11, 0, 1, .anewarray 92, 3) := Fm185 (dk_189 0 92 (dk_at s185_2 8 rfl rfl)) rfl
theorem f185_56 : ft 185 56 = some (11, 0, 1, .putfield 93, 3) := Fm185 (dk_181 0 93 (dk_at s185_2 11 rfl rfl)) rfl
theorem f185_59 : ft 185 59 = some (11, 0, 1, .aload_n 0, 1) := Fm185 (dk_42 (dk_at s185_2 14 rfl rfl)) rfl
theorem f185_60 : ft 185 60 = some (11, 0, 1, .ldc 97, 2) := Fm185 (dk_18 97 (dk_at s185_2 15 rfl rfl)) rfl
theorem f185_62 : ft 185 62 = some (11, 0, 1, .newarray .byte, 2) := Fm185 (dk_188_8 (dk_at s185_2 17 rfl rfl)) rfl
theorem f185_64 : ft 185 64 = some (11, 0, 1, .putfield 98, 3) := Fm185 (dk_181 0 98 (dk_at s185_2 19 rfl rfl)) rfl
theorem f185_67 : ft 185 67 = some (11, 0, 1, .aload_n 0, 1) := Fm185 (dk_42 (dk_at s185_2 22 rfl rfl)) rfl
theorem f185_68 : ft 185 68 = some (11, 0, 1, .new 2, 3) := Fm185 (dk_187 0 2 (dk_at s185_3 0 rfl rfl)) rfl
theorem f185_71 : ft 185 71 = some (11, 0, 1, .dup, 1) := Fm185 (dk_89 (dk_at s185_3 3 rfl rfl)) rfl
theorem f185_72 : ft 185 72 = some (11, 0, 1, .invokespecial 101, 3) := Fm185 (dk_183 0 101 (dk_at s185_3 4 rfl rfl)) rfl
theorem f185_75 : ft 185 75 = some (11, 0, 1, .putfield 102, 3) := Fm185 (dk_181 0 102 (dk_at s185_3 7 rfl rfl)) rfl
theorem f185_78 : ft 185 78 = some (11, 0, 1, .aload_n 0, 1) := Fm185 (dk_42 (dk_at s185_3 10 rfl rfl)) rfl
theorem f185_79 : ft 185 79 = some (11, 0, 1, .new 2, 3) := Fm185 (dk_187 0 2 (dk_at s185_3 11 rfl rfl)) rfl
theorem f185_82 : ft 185 82 = some (11, 0, 1, .dup, 1) := Fm185 (dk_89 (dk_at s185_3 14 rfl rfl)) rfl
theorem f185_83 : ft 185 83 = some (11, 0, 1, .invokespecial 101, 3) := Fm185 (dk_183 0 101 (dk_at s185_3 15 rfl rfl)) rfl
theorem f185_86 : ft 185 86 = some (11, 0, 1, .putfield 106, 3) := Fm185 (dk_181 0 106 (dk_at s185_3 18 rfl rfl)) rfl
theorem f185_89 : ft 185 89 = some (11, 0, 1, .aload_n 0, 1) := Fm185 (dk_42 (dk_at s185_3 21 rfl rfl)) rfl
theorem f185_90 : ft 185 90 = some (11, 0, 1, .sipush 480, 3) := Fm185 (dk_17 1 224 (dk_at s185_4 0 rfl rfl)) rfl
theorem f185_93 : ft 185 93 = some (11, 0, 1, .newarray .byte, 2) := Fm185 (dk_188_8 (dk_at s185_4 3 rfl rfl)) rfl
theorem f185_95 : ft 185 95 = some (11, 0, 1, .putfield 109, 3) := Fm185 (dk_181 0 109 (dk_at s185_4 5 rfl rfl)) rfl
theorem f185_98 : ft 185 98 = some (11, 0, 1, .aload_n 0, 1) := Fm185 (dk_42 (dk_at s185_4 8 rfl rfl)) rfl
theorem f185_99 : ft 185 99 = some (11, 0, 1, .sipush 16385, 3) := Fm185 (dk_17 64 1 (dk_at s185_4 9 rfl rfl)) rfl
theorem f185_102 : ft 185 102 = some (11, 0, 1, .newarray .int, 2) := Fm185 (dk_188_10 (dk_at s185_4 12 rfl rfl)) rfl
theorem f185_104 : ft 185 104 = some (11, 0, 1, .putfield 112, 3) := Fm185 (dk_181 0 112 (dk_at s185_4 14 rfl rfl)) rfl
theorem f185_107 : ft 185 107 = some (11, 0, 1, .aload_n 0, 1) := Fm185 (dk_42 (dk_at s185_4 17 rfl rfl)) rfl
theorem f185_108 : ft 185 108 = some (11, 0, 1, .sipush 16385, 3) := Fm185 (dk_17 64 1 (dk_at s185_4 18 rfl rfl)) rfl
theorem f185_111 : ft 185 111 = some (11, 0, 1, .newarray .int, 2) := Fm185 (dk_188_10 (dk_at s185_4 21 rfl rfl)) rfl
theorem f185_113 : ft 185 113 = some (11, 0, 1, .putfield 115, 3) := Fm185 (dk_181 0 115 (dk_at s185_5 0 rfl rfl)) rfl
theorem f185_116 : ft 185 116 = some (11, 0, 1, .aload_n 0, 1) := Fm185 (dk_42 (dk_at s185_5 3 rfl rfl)) rfl
theorem f185_117 : ft 185 117 = some (11, 0, 1, .new 2, 3) := Fm185 (dk_187 0 2 (dk_at s185_5 4 rfl rfl)) rfl
theorem f185_120 : ft 185 120 = some (11, 0, 1, .dup, 1) := Fm185 (dk_89 (dk_at s185_5 7 rfl rfl)) rfl
theorem f185_121 : ft 185 121 = some (11, 0, 1, .invokespecial 101, 3) := Fm185 (dk_183 0 101 (dk_at s185_5 8 rfl rfl)) rfl
theorem f185_124 : ft 185 124 = some (11, 0, 1, .putfield 118, 3) := Fm185 (dk_181 0 118 (dk_at s185_5 11 rfl rfl)) rfl
theorem f185_127 : ft 185 127 = some (11, 0, 1, .aload_n 0, 1) := Fm185 (dk_42 (dk_at s185_5 14 rfl rfl)) rfl
theorem f185_128 : ft 185 128 = some (11, 0, 1, .sipush 512, 3) := Fm185 (dk_17 2 0 (dk_at s185_5 15 rfl rfl)) rfl
theorem f185_131 : ft 185 131 = some (11, 0, 1, .newarray .int, 2) := Fm185 (dk_188_10 (dk_at s185_5 18 rfl rfl)) rfl
theorem f185_133 : ft 185 133 = some (11, 0, 1, .putfield 121, 3) := Fm185 (dk_181 0 121 (dk_at s185_5 20 rfl rfl)) rfl
theorem f185_136 : ft 185 136 = some (11, 0, 1, .aload_n 0, 1) := Fm185 (dk_42 (dk_at s185_5 23 rfl rfl)) rfl
theorem f185_137 : ft 185 137 = some (11, 0, 1, .sipush 192, 3) := Fm185 (dk_17 0 192 (dk_at s185_6 0 rfl rfl)) rfl
theorem f185_140 : ft 185 140 = some (11, 0, 1, .newarray .long, 2) := Fm185 (dk_188_11 (dk_at s185_6 3 rfl rfl)) rfl
theorem f185_142 : ft 185 142 = some (11, 0, 1, .putfield 124, 3) := Fm185 (dk_181 0 124 (dk_at s185_6 5 rfl rfl)) rfl
theorem f185_145 : ft 185 145 = some (11, 0, 1, .aload_n 0, 1) := Fm185 (dk_42 (dk_at s185_6 8 rfl rfl)) rfl
theorem f185_146 : ft 185 146 = some (11, 0, 1, .new 2, 3) := Fm185 (dk_187 0 2 (dk_at s185_6 9 rfl rfl)) rfl
theorem f185_149 : ft 185 149 = some (11, 0, 1, .dup, 1) := Fm185 (dk_89 (dk_at s185_6 12 rfl rfl)) rfl
theorem f185_150 : ft 185 150 = some (11, 0, 1, .invokespecial 101, 3) := Fm185 (dk_183 0 101 (dk_at s185_6 13 rfl rfl)) rfl
theorem f185_153 : ft 185 153 = some (11, 0, 1, .putfield 127, 3) := Fm185 (dk_181 0 127 (dk_at s185_6 16 rfl rfl)) rfl
theorem f185_156 : ft 185 156 = some (11, 0, 1, .aload_n 0, 1) := Fm185 (dk_42 (dk_at s185_6 19 rfl rfl)) rfl
theorem f185_157 : ft 185 157 = some (11, 0, 1, .sipush 20100, 3) := Fm185 (dk_17 78 132 (dk_at s185_6 20 rfl rfl)) rfl
theorem f185_160 : ft 185 160 = some (11, 0, 1, .newarray .int, 2) := Fm185 (dk_188_10 (dk_at s185_7 0 rfl rfl)) rfl
theorem f185_162 : ft 185 162 = some (11, 0, 1, .putfield 130, 3) := Fm185 (dk_181 0 130 (dk_at s185_7 2 rfl rfl)) rfl
theorem f185_165 : ft 185 165 = some (11, 0, 1, .aload_n 0, 1) := Fm185 (dk_42 (dk_at s185_7 5 rfl rfl)) rfl
theorem f185_166 : ft 185 166 = some (11, 0, 1, .new 2, 3) := Fm185 (dk_187 0 2 (dk_at s185_7 6 rfl rfl)) rfl
theorem f185_169 : ft 185 169 = some (11, 0, 1, .dup, 1) := Fm185 (dk_89 (dk_at s185_7 9 rfl rfl)) rfl
theorem f185_170 : ft 185 170 = some (11, 0, 1, .invokespecial 101, 3) := Fm185 (dk_183 0 101 (dk_at s185_7 10 rfl rfl)) rfl
theorem f185_173 : ft 185 173 = some (11, 0, 1, .putfield 133, 3) := Fm185 (dk_181 0 133 (dk_at s185_7 13 rfl rfl)) rfl
theorem f185_176 : ft 185 176 = some (11, 0, 1, .iconst 0, 1) := Fm185 (dk_3 (dk_at s185_7 16 rfl rfl)) rfl
theorem f185_177 : ft 185 177 = some (11, 0, 1, .istore_n 1, 1) := Fm185 (dk_60 (dk_at s185_7 17 rfl rfl)) rfl
theorem f185_178 : ft 185 178 = some (11, 0, 1, .iload_n 1, 1) := Fm185 (dk_27 (dk_at s185_7 18 rfl rfl)) rfl
theorem f185_179 : ft 185 179 = some (11, 0, 1, .bipush 8, 2) := Fm185 (dk_16 8 (dk_at s185_7 19 rfl rfl)) rfl
theorem f185_181 : ft 185 181 = some (11, 0, 1, .if_icmp .ge 22, 3) := Fm185 (dk_162 0 22 (dk_at s185_7 21 rfl rfl)) rfl
theorem f185_184 : ft 185 184 = some (11, 0, 1, .aload_n 0, 1) := Fm185 (dk_42 (dk_at s185_8 0 rfl rfl)) rfl
theorem f185_185 : ft 185 185 = some (11, 0, 1, .getfield 88, 3) := Fm185 (dk_180 0 88 (dk_at s185_8 1 rfl rfl)) rfl
theorem f185_188 : ft 185 188 = some (11, 0, 1, .iload_n 1, 1) := Fm185 (dk_27 (dk_at s185_8 4 rfl rfl)) rfl
theorem f185_189 : ft 185 189 = some (11, 0, 1, .new 81, 3) := Fm185 (dk_187 0 81 (dk_at s185_8 5 rfl rfl)) rfl
theorem f185_192 : ft 185 192 = some (11, 0, 1, .dup, 1) := Fm185 (dk_89 (dk_at s185_8 8 rfl rfl)) rfl
theorem f185_193 : ft 185 193 = some (11, 0, 1, .invokespecial 83, 3) := Fm185 (dk_183 0 83 (dk_at s185_8 9 rfl rfl)) rfl
theorem f185_196 : ft 185 196 = some (11, 0, 1, .aastore, 1) := Fm185 (dk_83 (dk_at s185_8 12 rfl rfl)) rfl
theorem f185_197 : ft 185 197 = some (11, 0, 1, .iinc 1 1, 3) := Fm185 (dk_132 1 1 (dk_at s185_8 13 rfl rfl)) rfl
theorem f185_200 : ft 185 200 = some (11, 0, 1, .goto (-22), 3) := Fm185 (dk_167 255 234 (dk_at s185_8 16 rfl rfl)) rfl
theorem f185_203 : ft 185 203 = some (11, 0, 1, .return_, 1) := Fm185 (dk_177 (dk_at s185_8 19 rfl rfl)) rfl
theorem q185 {d : Nat} {m : Mem} {a0 : Int} (hd : 0 < d) (hz : TZ m) : le2 (gd (tg m a0 = 11) <| nw (nx m) (mal m 186103 16384) fun o1 m1 => nw (nx (mst m1 a0 0 o1)) (mal (mst m1 a0 0 o1) 186103 32768) fun o2 m2 => nw (nx (mst (mst (mst m2 a0 2 o2) a0 5 (-1)) a0 7 (-1))) (mal (mst (mst (mst m2 a0 2 o2) a0 5 (-1)) a0 7 (-1)) 12 5) fun o3 m3 => bV (cl (d - 1) 277 [pR o3] m3) fun m4 => nw (nx (mst m4 a0 8 o3)) (mal (mst m4 a0 8 o3) 186117 8) fun o5 m5 => nw (nx (mst m5 a0 9 o5)) (mal (mst m5 a0 9 o5) 186118 4) fun o6 m6 => nw (nx (mst m6 a0 10 o6)) (mal (mst m6 a0 10 o6) 186103 32776) fun o7 m7 => nw (nx (mst m7 a0 15 o7)) (mal (mst m7 a0 15 o7) 13 13) fun o8 m8 => bV (cl (d - 1) 283 [pR o8] m8) fun m9 => nw (nx (mst m9 a0 18 o8)) (mal (mst m9 a0 18 o8) 13 13) fun o10 m10 => bV (cl (d - 1) 283 [pR o10] m10) fun m11 => nw (nx (mst m11 a0 19 o10)) (mal (mst m11 a0 19 o10) 186103 480) fun o12 m12 => nw (nx (mst m12 a0 20 o12)) (mal (mst m12 a0 20 o12) 186101 16385) fun o13 m13 => nw (nx (mst m13 a0 22 o13)) (mal (mst m13 a0 22 o13) 186101 16385) fun o14 m14 => nw (nx (mst m14 a0 23 o14)) (mal (mst m14 a0 23 o14) 13 13) fun o15 m15 => bV (cl (d - 1) 283 [pR o15] m15) fun m16 => nw (nx (mst m16 a0 25 o15)) (mal (mst m16 a0 25 o15) 186101 512) fun o17 m17 => nw (nx (mst m17 a0 27 o17)) (mal (mst m17 a0 27 o17) 186102 192) fun o18 m18 => nw (nx (mst m18 a0 28 o18)) (mal (mst m18 a0 28 o18) 13 13) fun o19 m19 => bV (cl (d - 1) 283 [pR o19] m19) fun m20 => nw (nx (mst m20 a0 30 o19)) (mal (mst m20 a0 30 o19) 186101 20100) fun o21 m21 => nw (nx (mst m21 a0 32 o21)) (mal (mst m21 a0 32 o21) 13 13) fun o22 m22 => bV (cl (d - 1) 283 [pR o22] m22) fun m23 => rn d 185 178 [pR a0, pI 0] [] (mst m23 a0 37 o22)) (cl d 185 [pR a0] m) := by
  refine q_in (n := 2) (L := [pR a0, pU]) rfl rfl rfl ?_
  refine r_aln0 (p := 1) f185_0 rfl ?_
  refine le2_gd (fun h1 => ?_)
  refine r_objinit (p := 4) f185_1 rfl rfl (dj1 (fun x => 0 < x ∧ x < 100) h1 (by decide)) (Nat.le_of_ble_eq_true rfl) ?_
  refine r_aln0 (p := 5) f185_4 rfl ?_
  refine r_sipush (p := 8) f185_5 rfl (pinD rfl rfl) ?_
  refine r_newa (t1 := 186103) (p := 10) f185_8 rfl rfl (pinE rfl rfl) rfl rfl (fun o1 m1 h2 k1 => ?_)
  have hz1 := z_k k1 hz
  have h3 := k_t1 k1 hz h1 (by decide)
  refine r_pfR (f := 0) (p := 13) f185_10 rfl rfl rfl (by decide) (by decide) (Or.inl h3) rfl ?_
  refine r_aln0 (p := 14) f185_13 rfl ?_
  refine r_ldcI (p := 16) f185_14 rfl rfl (pinD rfl rfl) ?_
  refine r_newa (t1 := 186103) (p := 18) f185_16 rfl rfl (pinE rfl rfl) rfl rfl (fun o2 m2 h4 k2 => ?_)
  have hz2 := z_k k2 hz1
  have h5 := k_t1 k2 hz1 h3 (by decide)
  refine r_pfR (f := 2) (p := 21) f185_18 rfl rfl rfl (by decide) (by decide) (Or.inl h5) rfl ?_
  refine r_aln0 (p := 22) f185_21 rfl ?_
  refine r_iconst (p := 23) f185_22 rfl (pinD rfl rfl) ?_
  refine r_pfI (f := 5) (p := 26) f185_23 rfl rfl rfl (by decide) (by decide) (Or.inl h5) rfl ?_
  refine r_aln0 (p := 27) f185_26 rfl ?_
  refine r_iconst (p := 28) f185_27 rfl (pinD rfl rfl) ?_
  refine r_pfI (f := 7) (p := 31) f185_28 rfl rfl rfl (by decide) (by decide) (Or.inl h5) rfl ?_
  refine r_aln0 (p := 32) f185_31 rfl ?_
  refine r_new (t1 := 12) (f1 := 5) (p := 35) f185_32 rfl rfl rfl rfl rfl (fun o3 m3 h6 k3 => ?_)
  have hz3 := z_k k3 hz2
  refine r_dup (p := 36) f185_35 rfl rfl ?_
  refine r_ispV (p := 39) f185_36 rfl rfl rfl (Or.inl h6) hd (Nat.le_of_ble_eq_true rfl) rfl rfl rfl (fun _ => rfl) (fun m4 c4 => ?_)
  have hz4 := z_k c4 hz3
  have h7 := k_t1 k3 hz2 h5 (by decide)
  have h8 := k_t1 c4 hz3 h7 (by decide)
  refine r_pfR (f := 8) (p := 42) f185_39 rfl rfl rfl (by decide) (by decide) (Or.inl h8) rfl ?_
  refine r_aln0 (p := 43) f185_42 rfl ?_
  refine r_bipush (p := 45) f185_43 rfl (pinD rfl rfl) ?_
  refine r_anewa (t1 := 186117) (p := 48) f185_45 rfl rfl (pinE rfl rfl) rfl rfl (fun o5 m5 h9 k5 => ?_)
  have hz5 := z_k k5 hz4
  have h10 := k_t1 k5 hz4 h8 (by decide)
  refine r_pfR (f := 9) (p := 51) f185_48 rfl rfl rfl (by decide) (by decide) (Or.inl h10) rfl ?_
  refine r_aln0 (p := 52) f185_51 rfl ?_
  refine r_iconst (p := 53) f185_52 rfl (pinD rfl rfl) ?_
  refine r_anewa (t1 := 186118) (p := 56) f185_53 rfl rfl (pinE rfl rfl) rfl rfl (fun o6 m6 h11 k6 => ?_)
  have hz6 := z_k k6 hz5
  have h12 := k_t1 k6 hz5 h10 (by decide)
  refine r_pfR (f := 10) (p := 59) f185_56 rfl rfl rfl (by decide) (by decide) (Or.inl h12) rfl ?_
  refine r_aln0 (p := 60) f185_59 rfl ?_
  refine r_ldcI (p := 62) f185_60 rfl rfl (pinD rfl rfl) ?_
  refine r_newa (t1 := 186103) (p := 64) f185_62 rfl rfl (pinE rfl rfl) rfl rfl (fun o7 m7 h13 k7 => ?_)
  have hz7 := z_k k7 hz6
  have h14 := k_t1 k7 hz6 h12 (by decide)
  refine r_pfR (f := 15) (p := 67) f185_64 rfl rfl rfl (by decide) (by decide) (Or.inl h14) rfl ?_
  refine r_aln0 (p := 68) f185_67 rfl ?_
  refine r_new (t1 := 13) (f1 := 13) (p := 71) f185_68 rfl rfl rfl rfl rfl (fun o8 m8 h15 k8 => ?_)
  have hz8 := z_k k8 hz7
  refine r_dup (p := 72) f185_71 rfl rfl ?_
  refine r_ispV (p := 75) f185_72 rfl rfl rfl (Or.inl h15) hd (Nat.le_of_ble_eq_true rfl) rfl rfl rfl (fun _ => rfl) (fun m9 c9 => ?_)
  have hz9 := z_k c9 hz8
  have h16 := k_t1 k8 hz7 h14 (by decide)
  have h17 := k_t1 c9 hz8 h16 (by decide)
  refine r_pfR (f := 18) (p := 78) f185_75 rfl rfl rfl (by decide) (by decide) (Or.inl h17) rfl ?_
  refine r_aln0 (p := 79) f185_78 rfl ?_
  refine r_new (t1 := 13) (f1 := 13) (p := 82) f185_79 rfl rfl rfl rfl rfl (fun o10 m10 h18 k10 => ?_)
  have hz10 := z_k k10 hz9
  refine r_dup (p := 83) f185_82 rfl rfl ?_
  refine r_ispV (p := 86) f185_83 rfl rfl rfl (Or.inl h18) hd (Nat.le_of_ble_eq_true rfl) rfl rfl rfl (fun _ => rfl) (fun m11 c11 => ?_)
  have hz11 := z_k c11 hz10
  have h19 := k_t1 k10 hz9 h17 (by decide)
  have h20 := k_t1 c11 hz10 h19 (by decide)
  refine r_pfR (f := 19) (p := 89) f185_86 rfl rfl rfl (by decide) (by decide) (Or.inl h20) rfl ?_
  refine r_aln0 (p := 90) f185_89 rfl ?_
  refine r_sipush (p := 93) f185_90 rfl (pinD rfl rfl) ?_
  refine r_newa (t1 := 186103) (p := 95) f185_93 rfl rfl (pinE rfl rfl) rfl rfl (fun o12 m12 h21 k12 => ?_)
  have hz12 := z_k k12 hz11
  have h22 := k_t1 k12 hz11 h20 (by decide)
  refine r_pfR (f := 20) (p := 98) f185_95 rfl rfl rfl (by decide) (by decide) (Or.inl h22) rfl ?_
  refine r_aln0 (p := 99) f185_98 rfl ?_
  refine r_sipush (p := 102) f185_99 rfl (pinD rfl rfl) ?_
  refine r_newa (t1 := 186101) (p := 104) f185_102 rfl rfl (pinE rfl rfl) rfl rfl (fun o13 m13 h23 k13 => ?_)
  have hz13 := z_k k13 hz12
  have h24 := k_t1 k13 hz12 h22 (by decide)
  refine r_pfR (f := 22) (p := 107) f185_104 rfl rfl rfl (by decide) (by decide) (Or.inl h24) rfl ?_
  refine r_aln0 (p := 108) f185_107 rfl ?_
  refine r_sipush (p := 111) f185_108 rfl (pinD rfl rfl) ?_
  refine r_newa (t1 := 186101) (p := 113) f185_111 rfl rfl (pinE rfl rfl) rfl rfl (fun o14 m14 h25 k14 => ?_)
  have hz14 := z_k k14 hz13
  have h26 := k_t1 k14 hz13 h24 (by decide)
  refine r_pfR (f := 23) (p := 116) f185_113 rfl rfl rfl (by decide) (by decide) (Or.inl h26) rfl ?_
  refine r_aln0 (p := 117) f185_116 rfl ?_
  refine r_new (t1 := 13) (f1 := 13) (p := 120) f185_117 rfl rfl rfl rfl rfl (fun o15 m15 h27 k15 => ?_)
  have hz15 := z_k k15 hz14
  refine r_dup (p := 121) f185_120 rfl rfl ?_
  refine r_ispV (p := 124) f185_121 rfl rfl rfl (Or.inl h27) hd (Nat.le_of_ble_eq_true rfl) rfl rfl rfl (fun _ => rfl) (fun m16 c16 => ?_)
  have hz16 := z_k c16 hz15
  have h28 := k_t1 k15 hz14 h26 (by decide)
  have h29 := k_t1 c16 hz15 h28 (by decide)
  refine r_pfR (f := 25) (p := 127) f185_124 rfl rfl rfl (by decide) (by decide) (Or.inl h29) rfl ?_
  refine r_aln0 (p := 128) f185_127 rfl ?_
  refine r_sipush (p := 131) f185_128 rfl (pinD rfl rfl) ?_
  refine r_newa (t1 := 186101) (p := 133) f185_131 rfl rfl (pinE rfl rfl) rfl rfl (fun o17 m17 h30 k17 => ?_)
  have hz17 := z_k k17 hz16
  have h31 := k_t1 k17 hz16 h29 (by decide)
  refine r_pfR (f := 27) (p := 136) f185_133 rfl rfl rfl (by decide) (by decide) (Or.inl h31) rfl ?_
  refine r_aln0 (p := 137) f185_136 rfl ?_
  refine r_sipush (p := 140) f185_137 rfl (pinD rfl rfl) ?_
  refine r_newa (t1 := 186102) (p := 142) f185_140 rfl rfl (pinE rfl rfl) rfl rfl (fun o18 m18 h32 k18 => ?_)
  have hz18 := z_k k18 hz17
  have h33 := k_t1 k18 hz17 h31 (by decide)
  refine r_pfR (f := 28) (p := 145) f185_142 rfl rfl rfl (by decide) (by decide) (Or.inl h33) rfl ?_
  refine r_aln0 (p := 146) f185_145 rfl ?_
  refine r_new (t1 := 13) (f1 := 13) (p := 149) f185_146 rfl rfl rfl rfl rfl (fun o19 m19 h34 k19 => ?_)
  have hz19 := z_k k19 hz18
  refine r_dup (p := 150) f185_149 rfl rfl ?_
  refine r_ispV (p := 153) f185_150 rfl rfl rfl (Or.inl h34) hd (Nat.le_of_ble_eq_true rfl) rfl rfl rfl (fun _ => rfl) (fun m20 c20 => ?_)
  have hz20 := z_k c20 hz19
  have h35 := k_t1 k19 hz18 h33 (by decide)
  have h36 := k_t1 c20 hz19 h35 (by decide)
  refine r_pfR (f := 30) (p := 156) f185_153 rfl rfl rfl (by decide) (by decide) (Or.inl h36) rfl ?_
  refine r_aln0 (p := 157) f185_156 rfl ?_
  refine r_sipush (p := 160) f185_157 rfl (pinD rfl rfl) ?_
  refine r_newa (t1 := 186101) (p := 162) f185_160 rfl rfl (pinE rfl rfl) rfl rfl (fun o21 m21 h37 k21 => ?_)
  have hz21 := z_k k21 hz20
  have h38 := k_t1 k21 hz20 h36 (by decide)
  refine r_pfR (f := 32) (p := 165) f185_162 rfl rfl rfl (by decide) (by decide) (Or.inl h38) rfl ?_
  refine r_aln0 (p := 166) f185_165 rfl ?_
  refine r_new (t1 := 13) (f1 := 13) (p := 169) f185_166 rfl rfl rfl rfl rfl (fun o22 m22 h39 k22 => ?_)
  have hz22 := z_k k22 hz21
  refine r_dup (p := 170) f185_169 rfl rfl ?_
  refine r_ispV (p := 173) f185_170 rfl rfl rfl (Or.inl h39) hd (Nat.le_of_ble_eq_true rfl) rfl rfl rfl (fun _ => rfl) (fun m23 c23 => ?_)
  have hz23 := z_k c23 hz22
  have h40 := k_t1 k22 hz21 h38 (by decide)
  have h41 := k_t1 c23 hz22 h40 (by decide)
  refine r_pfR (f := 37) (p := 176) f185_173 rfl rfl rfl (by decide) (by decide) (Or.inl h41) rfl ?_
  refine r_iconst (p := 177) f185_176 rfl (pinD rfl rfl) ?_
  refine r_isn1 (p := 178) f185_177 rfl rfl ?_
  exact le2_refl _
theorem q185_178 {d : Nat} {m : Mem} {a0 a1 : Int} (hd : 0 < d) (hz : TZ m) : le2 (if a1 < 8 then (gd (tg m a0 = 11) <| nm (vl m a0 9) fun v3 => nw (nx m) (mal m 12 5) fun o1 m1 => bV (cl (d - 1) 277 [pR o1] m1) fun m2 => gd (tg m2 v3 = 186117) <| gd ((0 : Int) ≤ a1 ∧ a1 < ln m2 v3) <| gd (aOk (tg m2 v3 % 1000) (tg m2 o1) = true) <| rn d 185 178 [pR a0, pI (w32 (a1 + 1))] [] (mst m2 v3 a1 o1)) else some (.inl none, m)) (rn d 185 178 [pR a0, pI a1] [] m) := by
  refine r_iln1 (p := 179) f185_178 rfl ?_
  refine r_bipush (p := 181) f185_179 rfl (pinD rfl rfl) ?_
  refine r_icge (t := 203) (p := 184) f185_181 (by decide) rfl rfl ?_ ?_
  · refine r_aln0 (p := 185) f185_184 rfl ?_
    refine le2_gd (fun h1 => ?_)
    refine r_gfR (f := 9) (p := 188) f185_185 rfl rfl rfl (Or.inl h1) rfl ?_
    refine r_nmR (fun v3 ev3 => ?_)
    refine r_iln1 (p := 189) f185_188 rfl ?_
    refine r_new (t1 := 12) (f1 := 5) (p := 192) f185_189 rfl rfl rfl rfl rfl (fun o1 m1 h2 k1 => ?_)
    have hz1 := z_k k1 hz
    refine r_dup (p := 193) f185_192 rfl rfl ?_
    refine r_ispV (p := 196) f185_193 rfl rfl rfl (Or.inl h2) hd (Nat.le_of_ble_eq_true rfl) rfl rfl rfl (fun _ => rfl) (fun m2 c2 => ?_)
    have hz2 := z_k c2 hz1
    refine le2_gd (fun h3 => ?_)
    refine le2_gd (fun h4 => ?_)
    refine le2_gd (fun h5 => ?_)
    refine r_aastore (p := 197) f185_196 rfl (dj1 (fun x => 1000 ≤ x ∧ (110 < x % 1000 ∧ x % 1000 < 119) ∧ Nat.testBit (eM 185) (bix x 0) = true) h3 (by decide)) h4 h5 ?_
    refine r_iinc1 (p := 200) f185_197 rfl rfl ?_
    refine r_goto (p := 178) f185_200 (by decide) rfl ?_
    exact le2_refl _
  · exact r_ret f185_203
/-! 186 PathStoreModel.thrown ()I -/
theorem Fm186 {pc len : Nat} {i : Instr} (h : decode (prog_32_method_5_code) pc = .ok (i, len)) (hl : len = ilen i len) : ft 186 pc = some (11, 1, 0, i, len) := ft_mk rfl h hl
theorem f186_0 : ft 186 0 = some (11, 1, 0, .aload_n 0, 1) := Fm186 (by decide +kernel) rfl
theorem f186_1 : ft 186 1 = some (11, 1, 0, .getfield 136, 3) := Fm186 (by decide +kernel) rfl
theorem f186_4 : ft 186 4 = some (11, 1, 0, .ireturn, 1) := Fm186 (by decide +kernel) rfl
theorem q186 {d : Nat} {m : Mem} {a0 : Int} (hz : TZ m) : le2 (gd (tg m a0 = 11) <| some (.inl (some (pI (vl m a0 4))), m)) (cl d 186 [pR a0] m) := by
  refine q_in (n := 1) (L := [pR a0]) rfl rfl rfl ?_
  refine r_aln0 (p := 1) f186_0 rfl ?_
  refine le2_gd (fun h1 => ?_)
  refine r_gfI (f := 4) (p := 4) f186_1 rfl rfl rfl (Or.inl h1) rfl ?_
  exact r_iret1 f186_4
/-! 187 PathStoreModel.feed (IIIII)I -/
def w187_2 : List UInt8 := [182, 0, 146, 42, 21, 5, 182, 0, 146, 42, 180, 0, 139, 172]
abbrev u187_2 : List UInt8 := w187_2 ++ []
def w187_1 : List UInt8 := [154, 0, 5, 3, 172, 42, 27, 182, 0, 146, 42, 28, 182, 0, 146, 42, 29, 182, 0, 146, 42, 21, 4]
abbrev u187_1 : List UInt8 := w187_1 ++ u187_2
def w187_0 : List UInt8 := [42, 42, 180, 0, 139, 16, 20, 96, 17, 64, 0, 163, 0, 7, 4, 167, 0, 4, 3, 4, 182, 0, 142]
abbrev u187_0 : List UInt8 := w187_0 ++ u187_1
theorem s187_0 : (prog_32_method_7_code).data.toList.drop 0 = u187_0 := by decide +kernel
theorem s187_1 : (prog_32_method_7_code).data.toList.drop 23 = u187_1 := dk_seg s187_0 23 rfl rfl
theorem s187_2 : (prog_32_method_7_code).data.toList.drop 46 = u187_2 := dk_seg s187_1 23 rfl rfl
theorem Fm187 {pc len : Nat} {i : Instr} (h : decode (prog_32_method_7_code) pc = .ok (i, len)) (hl : len = ilen i len) : ft 187 pc = some (11, 1, 0, i, len) := ft_mk rfl h hl
theorem f187_0 : ft 187 0 = some (11, 1, 0, .aload_n 0, 1) := Fm187 (dk_42 (dk_at s187_0 0 rfl rfl)) rfl
theorem f187_1 : ft 187 1 = some (11, 1, 0, .aload_n 0, 1) := Fm187 (dk_42 (dk_at s187_0 1 rfl rfl)) rfl
theorem f187_2 : ft 187 2 = some (11, 1, 0, .getfield 139, 3) := Fm187 (dk_180 0 139 (dk_at s187_0 2 rfl rfl)) rfl
theorem f187_5 : ft 187 5 = some (11, 1, 0, .bipush 20, 2) := Fm187 (dk_16 20 (dk_at s187_0 5 rfl rfl)) rfl
theorem f187_7 : ft 187 7 = some (11, 1, 0, .iadd, 1) := Fm187 (dk_96 (dk_at s187_0 7 rfl rfl)) rfl
theorem f187_8 : ft 187 8 = some (11, 1, 0, .sipush 16384, 3) := Fm187 (dk_17 64 0 (dk_at s187_0 8 rfl rfl)) rfl
theorem f187_11 : ft 187 11 = some (11, 1, 0, .if_icmp .gt 7, 3) := Fm187 (dk_163 0 7 (dk_at s187_0 11 rfl rfl)) rfl
theorem f187_14 : ft 187 14 = some (11, 1, 0, .iconst 1, 1) := Fm187 (dk_4 (dk_at s187_0 14 rfl rfl)) rfl
theorem f187_15 : ft 187 15 = some (11, 1, 0, .goto 4, 3) := Fm187 (dk_167 0 4 (dk_at s187_0 15 rfl rfl)) rfl
theorem f187_18 : ft 187 18 = some (11, 1, 0, .iconst 0, 1) := Fm187 (dk_3 (dk_at s187_0 18 rfl rfl)) rfl
theorem f187_19 : ft 187 19 = some (11, 1, 0, .iconst 1, 1) := Fm187 (dk_4 (dk_at s187_0 19 rfl rfl)) rfl
theorem f187_20 : ft 187 20 = some (11, 1, 0, .invokevirtual 142, 3) := Fm187 (dk_182 0 142 (dk_at s187_0 20 rfl rfl)) rfl
theorem f187_23 : ft 187 23 = some (11, 1, 0, .ifCond .ne 5, 3) := Fm187 (dk_154 0 5 (dk_at s187_1 0 rfl rfl)) rfl
theorem f187_26 : ft 187 26 = some (11, 1, 0, .iconst 0, 1) := Fm187 (dk_3 (dk_at s187_1 3 rfl rfl)) rfl
theorem f187_27 : ft 187 27 = some (11, 1, 0, .ireturn, 1) := Fm187 (dk_172 (dk_at s187_1 4 rfl rfl)) rfl
theorem f187_28 : ft 187 28 = some (11, 1, 0, .aload_n 0, 1) := Fm187 (dk_42 (dk_at s187_1 5 rfl rfl)) rfl
theorem f187_29 : ft 187 29 = some (11, 1, 0, .iload_n 1, 1) := Fm187 (dk_27 (dk_at s187_1 6 rfl rfl)) rfl
theorem f187_30 : ft 187 30 = some (11, 1, 0, .invokevirtual 146, 3) := Fm187 (dk_182 0 146 (dk_at s187_1 7 rfl rfl)) rfl
theorem f187_33 : ft 187 33 = some (11, 1, 0, .aload_n 0, 1) := Fm187 (dk_42 (dk_at s187_1 10 rfl rfl)) rfl
theorem f187_34 : ft 187 34 = some (11, 1, 0, .iload_n 2, 1) := Fm187 (dk_28 (dk_at s187_1 11 rfl rfl)) rfl
theorem f187_35 : ft 187 35 = some (11, 1, 0, .invokevirtual 146, 3) := Fm187 (dk_182 0 146 (dk_at s187_1 12 rfl rfl)) rfl
theorem f187_38 : ft 187 38 = some (11, 1, 0, .aload_n 0, 1) := Fm187 (dk_42 (dk_at s187_1 15 rfl rfl)) rfl
theorem f187_39 : ft 187 39 = some (11, 1, 0, .iload_n 3, 1) := Fm187 (dk_29 (dk_at s187_1 16 rfl rfl)) rfl
theorem f187_40 : ft 187 40 = some (11, 1, 0, .invokevirtual 146, 3) := Fm187 (dk_182 0 146 (dk_at s187_1 17 rfl rfl)) rfl
theorem f187_43 : ft 187 43 = some (11, 1, 0, .aload_n 0, 1) := Fm187 (dk_42 (dk_at s187_1 20 rfl rfl)) rfl
theorem f187_44 : ft 187 44 = some (11, 1, 0, .iload 4, 2) := Fm187 (dk_21 4 (dk_at s187_1 21 rfl rfl)) rfl
theorem f187_46 : ft 187 46 = some (11, 1, 0, .invokevirtual 146, 3) := Fm187 (dk_182 0 146 (dk_at s187_2 0 rfl rfl)) rfl
theorem f187_49 : ft 187 49 = some (11, 1, 0, .aload_n 0, 1) := Fm187 (dk_42 (dk_at s187_2 3 rfl rfl)) rfl
theorem f187_50 : ft 187 50 = some (11, 1, 0, .iload 5, 2) := Fm187 (dk_21 5 (dk_at s187_2 4 rfl rfl)) rfl
theorem f187_52 : ft 187 52 = some (11, 1, 0, .invokevirtual 146, 3) := Fm187 (dk_182 0 146 (dk_at s187_2 6 rfl rfl)) rfl
theorem f187_55 : ft 187 55 = some (11, 1, 0, .aload_n 0, 1) := Fm187 (dk_42 (dk_at s187_2 9 rfl rfl)) rfl
theorem f187_56 : ft 187 56 = some (11, 1, 0, .getfield 139, 3) := Fm187 (dk_180 0 139 (dk_at s187_2 10 rfl rfl)) rfl
theorem f187_59 : ft 187 59 = some (11, 1, 0, .ireturn, 1) := Fm187 (dk_172 (dk_at s187_2 13 rfl rfl)) rfl
theorem q187 {d : Nat} {m : Mem} {a0 a1 a2 a3 a4 a5 : Int} (hz : TZ m) : le2 (gd (tg m a0 = 11) <| if 16384 < (w32 ((vl m a0 1) + 20)) then (rn d 187 19 [pR a0, pI a1, pI a2, pI a3, pI a4, pI a5] [pI 0, pR a0] m) else rn d 187 19 [pR a0, pI a1, pI a2, pI a3, pI a4, pI a5] [pI 1, pR a0] m) (cl d 187 [pR a0, pI a1, pI a2, pI a3, pI a4, pI a5] m) := by
  refine q_in (n := 6) (L := [pR a0, pI a1, pI a2, pI a3, pI a4, pI a5]) rfl rfl rfl ?_
  refine r_aln0 (p := 1) f187_0 rfl ?_
  refine r_aln0 (p := 2) f187_1 rfl ?_
  refine le2_gd (fun h1 => ?_)
  refine r_gfI (f := 1) (p := 5) f187_2 rfl rfl rfl (Or.inl h1) rfl ?_
  refine r_bipush (p := 7) f187_5 rfl (pinD rfl rfl) ?_
  refine r_iadd (p := 8) f187_7 rfl ?_
  refine r_sipush (p := 11) f187_8 rfl (pinD rfl rfl) ?_
  refine r_icgt (t := 18) (p := 14) f187_11 (by decide) rfl rfl ?_ ?_
  · refine r_iconst (p := 19) f187_18 rfl (pinD rfl rfl) ?_
    exact le2_refl _
  · refine r_iconst (p := 15) f187_14 rfl (pinD rfl rfl) ?_
    refine r_goto (p := 19) f187_15 (by decide) rfl ?_
    exact le2_refl _
theorem q187_19 {d : Nat} {m : Mem} {a0 a1 a2 a3 a4 a5 s1 s0 : Int} (hd : 0 < d) (hz : TZ m) : le2 (gd (tg m s0 = 11) <| bI (cl (d - 1) 188 [pR s0, pI s1, pI 1] m) fun v1 m1 => if v1 = 0 then (some (.inl (some (pI 0)), m1)) else gd (tg m1 a0 = 11) <| bV (cl (d - 1) 189 [pR a0, pI a1] m1) fun m2 => bV (cl (d - 1) 189 [pR a0, pI a2] m2) fun m3 => bV (cl (d - 1) 189 [pR a0, pI a3] m3) fun m4 => bV (cl (d - 1) 189 [pR a0, pI a4] m4) fun m5 => bV (cl (d - 1) 189 [pR a0, pI a5] m5) fun m6 => some (.inl (some (pI (vl m6 a0 1))), m6)) (rn d 187 19 [pR a0, pI a1, pI a2, pI a3, pI a4, pI a5] [pI s1, pR s0] m) := by
  refine r_iconst (p := 20) f187_19 rfl (pinD rfl rfl) ?_
  refine le2_gd (fun h1 => ?_)
  refine r_invI (p := 23) f187_20 rfl rfl rfl (Or.inl h1) hd (Nat.le_of_ble_eq_true rfl) rfl rfl rfl (fun _ => rfl) (fun v1 m1 c1 => ?_)
  have hz1 := z_k c1 hz
  refine r_ifne (t := 28) (p := 26) f187_23 (by decide) rfl rfl ?_ ?_
  · refine r_iconst (p := 27) f187_26 rfl (pinD rfl rfl) ?_
    exact r_iret1 f187_27
  · refine r_aln0 (p := 29) f187_28 rfl ?_
    refine r_iln1 (p := 30) f187_29 rfl ?_
    refine le2_gd (fun h2 => ?_)
    refine r_invV (p := 33) f187_30 rfl rfl rfl (Or.inl h2) hd (Nat.le_of_ble_eq_true rfl) rfl rfl rfl (fun _ => rfl) (fun m2 c2 => ?_)
    have hz2 := z_k c2 hz1
    refine r_aln0 (p := 34) f187_33 rfl ?_
    refine r_iln2 (p := 35) f187_34 rfl ?_
    have h3 := k_t1 c2 hz1 h2 (by decide)
    refine r_invV (p := 38) f187_35 rfl rfl rfl (Or.inl h3) hd (Nat.le_of_ble_eq_true rfl) rfl rfl rfl (fun _ => rfl) (fun m3 c3 => ?_)
    have hz3 := z_k c3 hz2
    refine r_aln0 (p := 39) f187_38 rfl ?_
    refine r_iln3 (p := 40) f187_39 rfl ?_
    have h4 := k_t1 c3 hz2 h3 (by decide)
    refine r_invV (p := 43) f187_40 rfl rfl rfl (Or.inl h4) hd (Nat.le_of_ble_eq_true rfl) rfl rfl rfl (fun _ => rfl) (fun m4 c4 => ?_)
    have hz4 := z_k c4 hz3
    refine r_aln0 (p := 44) f187_43 rfl ?_
    refine r_ilw4 (p := 46) f187_44 rfl ?_
    have h5 := k_t1 c4 hz3 h4 (by decide)
    refine r_invV (p := 49) f187_46 rfl rfl rfl (Or.inl h5) hd (Nat.le_of_ble_eq_true rfl) rfl rfl rfl (fun _ => rfl) (fun m5 c5 => ?_)
    have hz5 := z_k c5 hz4
    refine r_aln0 (p := 50) f187_49 rfl ?_
    refine r_ilw5 (p := 52) f187_50 rfl ?_
    have h6 := k_t1 c5 hz4 h5 (by decide)
    refine r_invV (p := 55) f187_52 rfl rfl rfl (Or.inl h6) hd (Nat.le_of_ble_eq_true rfl) rfl rfl rfl (fun _ => rfl) (fun m6 c6 => ?_)
    have hz6 := z_k c6 hz5
    refine r_aln0 (p := 56) f187_55 rfl ?_
    have h7 := k_t1 c6 hz5 h6 (by decide)
    refine r_gfI (f := 1) (p := 59) f187_56 rfl rfl rfl (Or.inl h7) rfl ?_
    exact r_iret1 f187_59
/-! 188 PathStoreModel.good (ZI)Z -/
def w188_0 : List UInt8 := [42, 27, 153, 0, 7, 3, 167, 0, 4, 28, 181, 0, 136, 27, 172]
abbrev u188_0 : List UInt8 := w188_0 ++ []
theorem s188_0 : (prog_32_method_6_code).data.toList.drop 0 = u188_0 := by decide +kernel
theorem Fm188 {pc len : Nat} {i : Instr} (h : decode (prog_32_method_6_code) pc = .ok (i, len)) (hl : len = ilen i len) : ft 188 pc = some (11, 4, 0, i, len) := ft_mk rfl h hl
theorem f188_0 : ft 188 0 = some (11, 4, 0, .aload_n 0, 1) := Fm188 (dk_42 (dk_at s188_0 0 rfl rfl)) rfl
theorem f188_1 : ft 188 1 = some (11, 4, 0, .iload_n 1, 1) := Fm188 (dk_27 (dk_at s188_0 1 rfl rfl)) rfl
theorem f188_2 : ft 188 2 = some (11, 4, 0, .ifCond .eq 7, 3) := Fm188 (dk_153 0 7 (dk_at s188_0 2 rfl rfl)) rfl
theorem f188_5 : ft 188 5 = some (11, 4, 0, .iconst 0, 1) := Fm188 (dk_3 (dk_at s188_0 5 rfl rfl)) rfl
theorem f188_6 : ft 188 6 = some (11, 4, 0, .goto 4, 3) := Fm188 (dk_167 0 4 (dk_at s188_0 6 rfl rfl)) rfl
theorem f188_9 : ft 188 9 = some (11, 4, 0, .iload_n 2, 1) := Fm188 (dk_28 (dk_at s188_0 9 rfl rfl)) rfl
theorem f188_10 : ft 188 10 = some (11, 4, 0, .putfield 136, 3) := Fm188 (dk_181 0 136 (dk_at s188_0 10 rfl rfl)) rfl
theorem f188_13 : ft 188 13 = some (11, 4, 0, .iload_n 1, 1) := Fm188 (dk_27 (dk_at s188_0 13 rfl rfl)) rfl
theorem f188_14 : ft 188 14 = some (11, 4, 0, .ireturn, 1) := Fm188 (dk_172 (dk_at s188_0 14 rfl rfl)) rfl
theorem q188 {d : Nat} {m : Mem} {a0 a1 a2 : Int} (hz : TZ m) : le2 (if a1 = 0 then (gd (tg m a0 = 11) <| gd (a1 = 0 ∨ a1 = 1) <| some (.inl (some (pI a1)), (mst m a0 4 a2))) else gd (tg m a0 = 11) <| gd (a1 = 0 ∨ a1 = 1) <| some (.inl (some (pI a1)), (mst m a0 4 0))) (cl d 188 [pR a0, pI a1, pI a2] m) := by
  refine q_in (n := 3) (L := [pR a0, pI a1, pI a2]) rfl rfl rfl ?_
  refine r_aln0 (p := 1) f188_0 rfl ?_
  refine r_iln1 (p := 2) f188_1 rfl ?_
  refine r_ifeq (t := 9) (p := 5) f188_2 (by decide) rfl rfl ?_ ?_
  · refine r_iln2 (p := 10) f188_9 rfl ?_
    refine le2_gd (fun h1 => ?_)
    refine r_pfI (f := 4) (p := 13) f188_10 rfl rfl rfl (by decide) (by decide) (Or.inl h1) rfl ?_
    refine r_iln1 (p := 14) f188_13 rfl ?_
    refine le2_gd (fun h2 => ?_)
    exact r_iret4 f188_14 h2
  · refine r_iconst (p := 6) f188_5 rfl (pinD rfl rfl) ?_
    refine r_goto (p := 10) f188_6 (by decide) rfl ?_
    refine le2_gd (fun h3 => ?_)
    refine r_pfI (f := 4) (p := 13) f188_10 rfl rfl rfl (by decide) (by decide) (Or.inl h3) rfl ?_
    refine r_iln1 (p := 14) f188_13 rfl ?_
    refine le2_gd (fun h4 => ?_)
    exact r_iret4 f188_14 h4
/-! 189 PathStoreModel.four (I)V -/
def w189_1 : List UInt8 := [180, 0, 139, 4, 96, 181, 0, 139, 132, 2, 248, 167, 255, 226, 177]
abbrev u189_1 : List UInt8 := w189_1 ++ []
def w189_0 : List UInt8 := [16, 24, 61, 28, 155, 0, 32, 42, 180, 0, 66, 42, 180, 0, 139, 27, 28, 122, 145, 84, 42, 89]
abbrev u189_0 : List UInt8 := w189_0 ++ u189_1
theorem s189_0 : (prog_32_method_8_code).data.toList.drop 0 = u189_0 := by decide +kernel
theorem s189_1 : (prog_32_method_8_code).data.toList.drop 22 = u189_1 := dk_seg s189_0 22 rfl rfl
theorem Fm189 {pc len : Nat} {i : Instr} (h : decode (prog_32_method_8_code) pc = .ok (i, len)) (hl : len = ilen i len) : ft 189 pc = some (11, 0, 0, i, len) := ft_mk rfl h hl
theorem f189_0 : ft 189 0 = some (11, 0, 0, .bipush 24, 2) := Fm189 (dk_16 24 (dk_at s189_0 0 rfl rfl)) rfl
theorem f189_2 : ft 189 2 = some (11, 0, 0, .istore_n 2, 1) := Fm189 (dk_61 (dk_at s189_0 2 rfl rfl)) rfl
theorem f189_3 : ft 189 3 = some (11, 0, 0, .iload_n 2, 1) := Fm189 (dk_28 (dk_at s189_0 3 rfl rfl)) rfl
theorem f189_4 : ft 189 4 = some (11, 0, 0, .ifCond .lt 32, 3) := Fm189 (dk_155 0 32 (dk_at s189_0 4 rfl rfl)) rfl
theorem f189_7 : ft 189 7 = some (11, 0, 0, .aload_n 0, 1) := Fm189 (dk_42 (dk_at s189_0 7 rfl rfl)) rfl
theorem f189_8 : ft 189 8 = some (11, 0, 0, .getfield 66, 3) := Fm189 (dk_180 0 66 (dk_at s189_0 8 rfl rfl)) rfl
theorem f189_11 : ft 189 11 = some (11, 0, 0, .aload_n 0, 1) := Fm189 (dk_42 (dk_at s189_0 11 rfl rfl)) rfl
theorem f189_12 : ft 189 12 = some (11, 0, 0, .getfield 139, 3) := Fm189 (dk_180 0 139 (dk_at s189_0 12 rfl rfl)) rfl
theorem f189_15 : ft 189 15 = some (11, 0, 0, .iload_n 1, 1) := Fm189 (dk_27 (dk_at s189_0 15 rfl rfl)) rfl
theorem f189_16 : ft 189 16 = some (11, 0, 0, .iload_n 2, 1) := Fm189 (dk_28 (dk_at s189_0 16 rfl rfl)) rfl
theorem f189_17 : ft 189 17 = some (11, 0, 0, .ishr, 1) := Fm189 (dk_122 (dk_at s189_0 17 rfl rfl)) rfl
theorem f189_18 : ft 189 18 = some (11, 0, 0, .i2b, 1) := Fm189 (dk_145 (dk_at s189_0 18 rfl rfl)) rfl
theorem f189_19 : ft 189 19 = some (11, 0, 0, .bastore, 1) := Fm189 (dk_84 (dk_at s189_0 19 rfl rfl)) rfl
theorem f189_20 : ft 189 20 = some (11, 0, 0, .aload_n 0, 1) := Fm189 (dk_42 (dk_at s189_0 20 rfl rfl)) rfl
theorem f189_21 : ft 189 21 = some (11, 0, 0, .dup, 1) := Fm189 (dk_89 (dk_at s189_0 21 rfl rfl)) rfl
theorem f189_22 : ft 189 22 = some (11, 0, 0, .getfield 139, 3) := Fm189 (dk_180 0 139 (dk_at s189_1 0 rfl rfl)) rfl
theorem f189_25 : ft 189 25 = some (11, 0, 0, .iconst 1, 1) := Fm189 (dk_4 (dk_at s189_1 3 rfl rfl)) rfl
theorem f189_26 : ft 189 26 = some (11, 0, 0, .iadd, 1) := Fm189 (dk_96 (dk_at s189_1 4 rfl rfl)) rfl
theorem f189_27 : ft 189 27 = some (11, 0, 0, .putfield 139, 3) := Fm189 (dk_181 0 139 (dk_at s189_1 5 rfl rfl)) rfl
theorem f189_30 : ft 189 30 = some (11, 0, 0, .iinc 2 (-8), 3) := Fm189 (dk_132 2 248 (dk_at s189_1 8 rfl rfl)) rfl
theorem f189_33 : ft 189 33 = some (11, 0, 0, .goto (-30), 3) := Fm189 (dk_167 255 226 (dk_at s189_1 11 rfl rfl)) rfl
theorem f189_36 : ft 189 36 = some (11, 0, 0, .return_, 1) := Fm189 (dk_177 (dk_at s189_1 14 rfl rfl)) rfl
theorem q189 {d : Nat} {m : Mem} {a0 a1 : Int} (hz : TZ m) : le2 (rn d 189 3 [pR a0, pI a1, pI 24] [] m) (cl d 189 [pR a0, pI a1] m) := by
  refine q_in (n := 3) (L := [pR a0, pI a1, pU]) rfl rfl rfl ?_
  refine r_bipush (p := 2) f189_0 rfl (pinD rfl rfl) ?_
  refine r_isn2 (p := 3) f189_2 rfl rfl ?_
  exact le2_refl _
theorem q189_3 {d : Nat} {m : Mem} {a0 a1 a2 : Int} (hz : TZ m) : le2 (if a2 < 0 then (some (.inl none, m)) else gd (tg m a0 = 11) <| nm (vl m a0 0) fun v1 => nm (vl m a0 1) fun v2 => gd (tg m v1 = 186103) <| gd ((0 : Int) ≤ v2 ∧ v2 < ln m v1) <| rn d 189 3 [pR a0, pI a1, pI (w32 (a2 + (-8)))] [] (mst (mst m v1 v2 (w8 (w8 (pShr a1 a2)))) a0 1 (w32 (v2 + 1)))) (rn d 189 3 [pR a0, pI a1, pI a2] [] m) := by
  refine r_iln2 (p := 4) f189_3 rfl ?_
  refine r_iflt (t := 36) (p := 7) f189_4 (by decide) rfl rfl ?_ ?_
  · exact r_ret f189_36
  · refine r_aln0 (p := 8) f189_7 rfl ?_
    refine le2_gd (fun h1 => ?_)
    refine r_gfR (f := 0) (p := 11) f189_8 rfl rfl rfl (Or.inl h1) rfl ?_
    refine r_nmR (fun v1 ev1 => ?_)
    refine r_aln0 (p := 12) f189_11 rfl ?_
    refine r_gfI (f := 1) (p := 15) f189_12 rfl rfl rfl (Or.inl h1) rfl ?_
    refine r_nmI (fun v2 ev2 => ?_)
    refine r_iln1 (p := 16) f189_15 rfl ?_
    refine r_iln2 (p := 17) f189_16 rfl ?_
    refine r_ishr (p := 18) f189_17 rfl ?_
    refine r_i2b (p := 19) f189_18 rfl ?_
    refine le2_gd (fun h2 => ?_)
    refine le2_gd (fun h3 => ?_)
    refine r_bastore (p := 20) f189_19 rfl (dj1 (fun x => 1000 ≤ x ∧ x % 1000 = 103 ∧ Nat.testBit (eM 189) (bix x 0) = true) h2 (by decide)) h3 ?_
    refine r_aln0 (p := 21) f189_20 rfl ?_
    refine r_dup (p := 22) f189_21 rfl rfl ?_
    refine r_gfI (f := 1) (p := 25) f189_22 rfl rfl rfl (Or.inl h1) (Eq.trans (sk_o (ne_oa (dj1 (fun x => x < 100) h1 (by decide)) (dj1 (fun x => ¬ x < 100) h2 (by decide)))) ev2.symm) ?_
    refine r_iconst (p := 26) f189_25 rfl (pinD rfl rfl) ?_
    refine r_iadd (p := 27) f189_26 rfl ?_
    refine r_pfI (f := 1) (p := 30) f189_27 rfl rfl rfl (by decide) (by decide) (Or.inl h1) rfl ?_
    refine r_iinc2 (p := 33) f189_30 rfl rfl ?_
    refine r_goto (p := 3) f189_33 (by decide) rfl ?_
    exact le2_refl _
/-! 190 PathStoreModel.end (I)I -/
def w190_1 : List UInt8 := [154, 0, 5, 3, 172, 42, 27, 181, 0, 139, 27, 172]
abbrev u190_1 : List UInt8 := w190_1 ++ []
def w190_0 : List UInt8 := [42, 27, 155, 0, 15, 27, 42, 180, 0, 139, 163, 0, 7, 4, 167, 0, 4, 3, 4, 182, 0, 142]
abbrev u190_0 : List UInt8 := w190_0 ++ u190_1
theorem s190_0 : (prog_32_method_9_code).data.toList.drop 0 = u190_0 := by decide +kernel
theorem s190_1 : (prog_32_method_9_code).data.toList.drop 22 = u190_1 := dk_seg s190_0 22 rfl rfl
theorem Fm190 {pc len : Nat} {i : Instr} (h : decode (prog_32_method_9_code) pc = .ok (i, len)) (hl : len = ilen i len) : ft 190 pc = some (11, 1, 0, i, len) := ft_mk rfl h hl
theorem f190_0 : ft 190 0 = some (11, 1, 0, .aload_n 0, 1) := Fm190 (dk_42 (dk_at s190_0 0 rfl rfl)) rfl
theorem f190_1 : ft 190 1 = some (11, 1, 0, .iload_n 1, 1) := Fm190 (dk_27 (dk_at s190_0 1 rfl rfl)) rfl
theorem f190_2 : ft 190 2 = some (11, 1, 0, .ifCond .lt 15, 3) := Fm190 (dk_155 0 15 (dk_at s190_0 2 rfl rfl)) rfl
theorem f190_5 : ft 190 5 = some (11, 1, 0, .iload_n 1, 1) := Fm190 (dk_27 (dk_at s190_0 5 rfl rfl)) rfl
theorem f190_6 : ft 190 6 = some (11, 1, 0, .aload_n 0, 1) := Fm190 (dk_42 (dk_at s190_0 6 rfl rfl)) rfl
theorem f190_7 : ft 190 7 = some (11, 1, 0, .getfield 139, 3) := Fm190 (dk_180 0 139 (dk_at s190_0 7 rfl rfl)) rfl
theorem f190_10 : ft 190 10 = some (11, 1, 0, .if_icmp .gt 7, 3) := Fm190 (dk_163 0 7 (dk_at s190_0 10 rfl rfl)) rfl
theorem f190_13 : ft 190 13 = some (11, 1, 0, .iconst 1, 1) := Fm190 (dk_4 (dk_at s190_0 13 rfl rfl)) rfl
theorem f190_14 : ft 190 14 = some (11, 1, 0, .goto 4, 3) := Fm190 (dk_167 0 4 (dk_at s190_0 14 rfl rfl)) rfl
theorem f190_17 : ft 190 17 = some (11, 1, 0, .iconst 0, 1) := Fm190 (dk_3 (dk_at s190_0 17 rfl rfl)) rfl
theorem f190_18 : ft 190 18 = some (11, 1, 0, .iconst 1, 1) := Fm190 (dk_4 (dk_at s190_0 18 rfl rfl)) rfl
theorem f190_19 : ft 190 19 = some (11, 1, 0, .invokevirtual 142, 3) := Fm190 (dk_182 0 142 (dk_at s190_0 19 rfl rfl)) rfl
theorem f190_22 : ft 190 22 = some (11, 1, 0, .ifCond .ne 5, 3) := Fm190 (dk_154 0 5 (dk_at s190_1 0 rfl rfl)) rfl
theorem f190_25 : ft 190 25 = some (11, 1, 0, .iconst 0, 1) := Fm190 (dk_3 (dk_at s190_1 3 rfl rfl)) rfl
theorem f190_26 : ft 190 26 = some (11, 1, 0, .ireturn, 1) := Fm190 (dk_172 (dk_at s190_1 4 rfl rfl)) rfl
theorem f190_27 : ft 190 27 = some (11, 1, 0, .aload_n 0, 1) := Fm190 (dk_42 (dk_at s190_1 5 rfl rfl)) rfl
theorem f190_28 : ft 190 28 = some (11, 1, 0, .iload_n 1, 1) := Fm190 (dk_27 (dk_at s190_1 6 rfl rfl)) rfl
theorem f190_29 : ft 190 29 = some (11, 1, 0, .putfield 139, 3) := Fm190 (dk_181 0 139 (dk_at s190_1 7 rfl rfl)) rfl
theorem f190_32 : ft 190 32 = some (11, 1, 0, .iload_n 1, 1) := Fm190 (dk_27 (dk_at s190_1 10 rfl rfl)) rfl
theorem f190_33 : ft 190 33 = some (11, 1, 0, .ireturn, 1) := Fm190 (dk_172 (dk_at s190_1 11 rfl rfl)) rfl
theorem q190 {d : Nat} {m : Mem} {a0 a1 : Int} (hz : TZ m) : le2 (if a1 < 0 then (rn d 190 18 [pR a0, pI a1] [pI 0, pR a0] m) else gd (tg m a0 = 11) <| if (vl m a0 1) < a1 then (rn d 190 18 [pR a0, pI a1] [pI 0, pR a0] m) else rn d 190 18 [pR a0, pI a1] [pI 1, pR a0] m) (cl d 190 [pR a0, pI a1] m) := by
  refine q_in (n := 2) (L := [pR a0, pI a1]) rfl rfl rfl ?_
  refine r_aln0 (p := 1) f190_0 rfl ?_
  refine r_iln1 (p := 2) f190_1 rfl ?_
  refine r_iflt (t := 17) (p := 5) f190_2 (by decide) rfl rfl ?_ ?_
  · refine r_iconst (p := 18) f190_17 rfl (pinD rfl rfl) ?_
    exact le2_refl _
  · refine r_iln1 (p := 6) f190_5 rfl ?_
    refine r_aln0 (p := 7) f190_6 rfl ?_
    refine le2_gd (fun h1 => ?_)
    refine r_gfI (f := 1) (p := 10) f190_7 rfl rfl rfl (Or.inl h1) rfl ?_
    refine r_icgt (t := 17) (p := 13) f190_10 (by decide) rfl rfl ?_ ?_
    · refine r_iconst (p := 18) f190_17 rfl (pinD rfl rfl) ?_
      exact le2_refl _
    · refine r_iconst (p := 14) f190_13 rfl (pinD rfl rfl) ?_
      refine r_goto (p := 18) f190_14 (by decide) rfl ?_
      exact le2_refl _
theorem q190_18 {d : Nat} {m : Mem} {a0 a1 s1 s0 : Int} (hd : 0 < d) (hz : TZ m) : le2 (gd (tg m s0 = 11) <| bI (cl (d - 1) 188 [pR s0, pI s1, pI 1] m) fun v1 m1 => if v1 = 0 then (some (.inl (some (pI 0)), m1)) else gd (tg m1 a0 = 11) <| some (.inl (some (pI a1)), (mst m1 a0 1 a1))) (rn d 190 18 [pR a0, pI a1] [pI s1, pR s0] m) := by
  refine r_iconst (p := 19) f190_18 rfl (pinD rfl rfl) ?_
  refine le2_gd (fun h1 => ?_)
  refine r_invI (p := 22) f190_19 rfl rfl rfl (Or.inl h1) hd (Nat.le_of_ble_eq_true rfl) rfl rfl rfl (fun _ => rfl) (fun v1 m1 c1 => ?_)
  have hz1 := z_k c1 hz
  refine r_ifne (t := 27) (p := 25) f190_22 (by decide) rfl rfl ?_ ?_
  · refine r_iconst (p := 26) f190_25 rfl (pinD rfl rfl) ?_
    exact r_iret1 f190_26
  · refine r_aln0 (p := 28) f190_27 rfl ?_
    refine r_iln1 (p := 29) f190_28 rfl ?_
    refine le2_gd (fun h2 => ?_)
    refine r_pfI (f := 1) (p := 32) f190_29 rfl rfl rfl (by decide) (by decide) (Or.inl h2) rfl ?_
    refine r_iln1 (p := 33) f190_32 rfl ?_
    exact r_iret1 f190_33
/-! 191 PathStoreModel.word (I)J -/
def w191_3 : List UInt8 := [9, 129, 65, 132, 4, 1, 167, 255, 213, 32, 173]
abbrev u191_3 : List UInt8 := w191_3 ++ []
def w191_2 : List UInt8 := [21, 4, 42, 180, 0, 150, 162, 0, 18, 42, 180, 0, 71, 21, 4, 51, 133, 20, 0, 153, 127, 167, 0, 4]
abbrev u191_2 : List UInt8 := w191_2 ++ u191_3
def w191_1 : List UInt8 := [154, 0, 5, 9, 173, 9, 65, 27, 54, 4, 21, 4, 27, 16, 8, 96, 162, 0, 40, 32, 16, 8, 121]
abbrev u191_1 : List UInt8 := w191_1 ++ u191_2
def w191_0 : List UInt8 := [42, 27, 155, 0, 15, 27, 42, 180, 0, 150, 162, 0, 7, 4, 167, 0, 4, 3, 4, 182, 0, 142]
abbrev u191_0 : List UInt8 := w191_0 ++ u191_1
theorem s191_0 : (prog_32_method_10_code).data.toList.drop 0 = u191_0 := by decide +kernel
theorem s191_1 : (prog_32_method_10_code).data.toList.drop 22 = u191_1 := dk_seg s191_0 22 rfl rfl
theorem s191_2 : (prog_32_method_10_code).data.toList.drop 45 = u191_2 := dk_seg s191_1 23 rfl rfl
theorem s191_3 : (prog_32_method_10_code).data.toList.drop 69 = u191_3 := dk_seg s191_2 24 rfl rfl
theorem Fm191 {pc len : Nat} {i : Instr} (h : decode (prog_32_method_10_code) pc = .ok (i, len)) (hl : len = ilen i len) : ft 191 pc = some (11, 2, 0, i, len) := ft_mk rfl h hl
theorem f191_0 : ft 191 0 = some (11, 2, 0, .aload_n 0, 1) := Fm191 (dk_42 (dk_at s191_0 0 rfl rfl)) rfl
theorem f191_1 : ft 191 1 = some (11, 2, 0, .iload_n 1, 1) := Fm191 (dk_27 (dk_at s191_0 1 rfl rfl)) rfl
theorem f191_2 : ft 191 2 = some (11, 2, 0, .ifCond .lt 15, 3) := Fm191 (dk_155 0 15 (dk_at s191_0 2 rfl rfl)) rfl
theorem f191_5 : ft 191 5 = some (11, 2, 0, .iload_n 1, 1) := Fm191 (dk_27 (dk_at s191_0 5 rfl rfl)) rfl
theorem f191_6 : ft 191 6 = some (11, 2, 0, .aload_n 0, 1) := Fm191 (dk_42 (dk_at s191_0 6 rfl rfl)) rfl
theorem f191_7 : ft 191 7 = some (11, 2, 0, .getfield 150, 3) := Fm191 (dk_180 0 150 (dk_at s191_0 7 rfl rfl)) rfl
theorem f191_10 : ft 191 10 = some (11, 2, 0, .if_icmp .ge 7, 3) := Fm191 (dk_162 0 7 (dk_at s191_0 10 rfl rfl)) rfl
theorem f191_13 : ft 191 13 = some (11, 2, 0, .iconst 1, 1) := Fm191 (dk_4 (dk_at s191_0 13 rfl rfl)) rfl
theorem f191_14 : ft 191 14 = some (11, 2, 0, .goto 4, 3) := Fm191 (dk_167 0 4 (dk_at s191_0 14 rfl rfl)) rfl
theorem f191_17 : ft 191 17 = some (11, 2, 0, .iconst 0, 1) := Fm191 (dk_3 (dk_at s191_0 17 rfl rfl)) rfl
theorem f191_18 : ft 191 18 = some (11, 2, 0, .iconst 1, 1) := Fm191 (dk_4 (dk_at s191_0 18 rfl rfl)) rfl
theorem f191_19 : ft 191 19 = some (11, 2, 0, .invokevirtual 142, 3) := Fm191 (dk_182 0 142 (dk_at s191_0 19 rfl rfl)) rfl
theorem f191_22 : ft 191 22 = some (11, 2, 0, .ifCond .ne 5, 3) := Fm191 (dk_154 0 5 (dk_at s191_1 0 rfl rfl)) rfl
theorem f191_25 : ft 191 25 = some (11, 2, 0, .lconst 0, 1) := Fm191 (dk_9 (dk_at s191_1 3 rfl rfl)) rfl
theorem f191_26 : ft 191 26 = some (11, 2, 0, .lreturn, 1) := Fm191 (dk_173 (dk_at s191_1 4 rfl rfl)) rfl
theorem f191_27 : ft 191 27 = some (11, 2, 0, .lconst 0, 1) := Fm191 (dk_9 (dk_at s191_1 5 rfl rfl)) rfl
theorem f191_28 : ft 191 28 = some (11, 2, 0, .lstore_n 2, 1) := Fm191 (dk_65 (dk_at s191_1 6 rfl rfl)) rfl
theorem f191_29 : ft 191 29 = some (11, 2, 0, .iload_n 1, 1) := Fm191 (dk_27 (dk_at s191_1 7 rfl rfl)) rfl
theorem f191_30 : ft 191 30 = some (11, 2, 0, .istore 4, 2) := Fm191 (dk_54 4 (dk_at s191_1 8 rfl rfl)) rfl
theorem f191_32 : ft 191 32 = some (11, 2, 0, .iload 4, 2) := Fm191 (dk_21 4 (dk_at s191_1 10 rfl rfl)) rfl
theorem f191_34 : ft 191 34 = some (11, 2, 0, .iload_n 1, 1) := Fm191 (dk_27 (dk_at s191_1 12 rfl rfl)) rfl
theorem f191_35 : ft 191 35 = some (11, 2, 0, .bipush 8, 2) := Fm191 (dk_16 8 (dk_at s191_1 13 rfl rfl)) rfl
theorem f191_37 : ft 191 37 = some (11, 2, 0, .iadd, 1) := Fm191 (dk_96 (dk_at s191_1 15 rfl rfl)) rfl
theorem f191_38 : ft 191 38 = some (11, 2, 0, .if_icmp .ge 40, 3) := Fm191 (dk_162 0 40 (dk_at s191_1 16 rfl rfl)) rfl
theorem f191_41 : ft 191 41 = some (11, 2, 0, .lload_n 2, 1) := Fm191 (dk_32 (dk_at s191_1 19 rfl rfl)) rfl
theorem f191_42 : ft 191 42 = some (11, 2, 0, .bipush 8, 2) := Fm191 (dk_16 8 (dk_at s191_1 20 rfl rfl)) rfl
theorem f191_44 : ft 191 44 = some (11, 2, 0, .lshl, 1) := Fm191 (dk_121 (dk_at s191_1 22 rfl rfl)) rfl
theorem f191_45 : ft 191 45 = some (11, 2, 0, .iload 4, 2) := Fm191 (dk_21 4 (dk_at s191_2 0 rfl rfl)) rfl
theorem f191_47 : ft 191 47 = some (11, 2, 0, .aload_n 0, 1) := Fm191 (dk_42 (dk_at s191_2 2 rfl rfl)) rfl
theorem f191_48 : ft 191 48 = some (11, 2, 0, .getfield 150, 3) := Fm191 (dk_180 0 150 (dk_at s191_2 3 rfl rfl)) rfl
theorem f191_51 : ft 191 51 = some (11, 2, 0, .if_icmp .ge 18, 3) := Fm191 (dk_162 0 18 (dk_at s191_2 6 rfl rfl)) rfl
theorem f191_54 : ft 191 54 = some (11, 2, 0, .aload_n 0, 1) := Fm191 (dk_42 (dk_at s191_2 9 rfl rfl)) rfl
theorem f191_55 : ft 191 55 = some (11, 2, 0, .getfield 71, 3) := Fm191 (dk_180 0 71 (dk_at s191_2 10 rfl rfl)) rfl
theorem f191_58 : ft 191 58 = some (11, 2, 0, .iload 4, 2) := Fm191 (dk_21 4 (dk_at s191_2 13 rfl rfl)) rfl
theorem f191_60 : ft 191 60 = some (11, 2, 0, .baload, 1) := Fm191 (dk_51 (dk_at s191_2 15 rfl rfl)) rfl
theorem f191_61 : ft 191 61 = some (11, 2, 0, .i2l, 1) := Fm191 (dk_133 (dk_at s191_2 16 rfl rfl)) rfl
theorem f191_62 : ft 191 62 = some (11, 2, 0, .ldc2_w 153, 3) := Fm191 (dk_20 0 153 (dk_at s191_2 17 rfl rfl)) rfl
theorem f191_65 : ft 191 65 = some (11, 2, 0, .land, 1) := Fm191 (dk_127 (dk_at s191_2 20 rfl rfl)) rfl
theorem f191_66 : ft 191 66 = some (11, 2, 0, .goto 4, 3) := Fm191 (dk_167 0 4 (dk_at s191_2 21 rfl rfl)) rfl
theorem f191_69 : ft 191 69 = some (11, 2, 0, .lconst 0, 1) := Fm191 (dk_9 (dk_at s191_3 0 rfl rfl)) rfl
theorem f191_70 : ft 191 70 = some (11, 2, 0, .lor, 1) := Fm191 (dk_129 (dk_at s191_3 1 rfl rfl)) rfl
theorem f191_71 : ft 191 71 = some (11, 2, 0, .lstore_n 2, 1) := Fm191 (dk_65 (dk_at s191_3 2 rfl rfl)) rfl
theorem f191_72 : ft 191 72 = some (11, 2, 0, .iinc 4 1, 3) := Fm191 (dk_132 4 1 (dk_at s191_3 3 rfl rfl)) rfl
theorem f191_75 : ft 191 75 = some (11, 2, 0, .goto (-43), 3) := Fm191 (dk_167 255 213 (dk_at s191_3 6 rfl rfl)) rfl
theorem f191_78 : ft 191 78 = some (11, 2, 0, .lload_n 2, 1) := Fm191 (dk_32 (dk_at s191_3 9 rfl rfl)) rfl
theorem f191_79 : ft 191 79 = some (11, 2, 0, .lreturn, 1) := Fm191 (dk_173 (dk_at s191_3 10 rfl rfl)) rfl
theorem q191 {d : Nat} {m : Mem} {a0 a1 : Int} (hz : TZ m) : le2 (if a1 < 0 then (rn d 191 18 [pR a0, pI a1, pU, pU, pU] [pI 0, pR a0] m) else gd (tg m a0 = 11) <| if a1 < (vl m a0 3) then (rn d 191 18 [pR a0, pI a1, pU, pU, pU] [pI 1, pR a0] m) else rn d 191 18 [pR a0, pI a1, pU, pU, pU] [pI 0, pR a0] m) (cl d 191 [pR a0, pI a1] m) := by
  refine q_in (n := 5) (L := [pR a0, pI a1, pU, pU, pU]) rfl rfl rfl ?_
  refine r_aln0 (p := 1) f191_0 rfl ?_
  refine r_iln1 (p := 2) f191_1 rfl ?_
  refine r_iflt (t := 17) (p := 5) f191_2 (by decide) rfl rfl ?_ ?_
  · refine r_iconst (p := 18) f191_17 rfl (pinD rfl rfl) ?_
    exact le2_refl _
  · refine r_iln1 (p := 6) f191_5 rfl ?_
    refine r_aln0 (p := 7) f191_6 rfl ?_
    refine le2_gd (fun h1 => ?_)
    refine r_gfI (f := 3) (p := 10) f191_7 rfl rfl rfl (Or.inl h1) rfl ?_
    refine r_icge (t := 17) (p := 13) f191_10 (by decide) rfl rfl ?_ ?_
    · refine r_iconst (p := 14) f191_13 rfl (pinD rfl rfl) ?_
      refine r_goto (p := 18) f191_14 (by decide) rfl ?_
      exact le2_refl _
    · refine r_iconst (p := 18) f191_17 rfl (pinD rfl rfl) ?_
      exact le2_refl _
theorem q191_18 {d : Nat} {m : Mem} {a0 a1 s1 s0 : Int} (hd : 0 < d) (hz : TZ m) : le2 (gd (tg m s0 = 11) <| bI (cl (d - 1) 188 [pR s0, pI s1, pI 1] m) fun v1 m1 => if v1 = 0 then (some (.inl (some (pL 0)), m1)) else rn d 191 32 [pR a0, pI a1, pL 0, pU, pI a1] [] m1) (rn d 191 18 [pR a0, pI a1, pU, pU, pU] [pI s1, pR s0] m) := by
  refine r_iconst (p := 19) f191_18 rfl (pinD rfl rfl) ?_
  refine le2_gd (fun h1 => ?_)
  refine r_invI (p := 22) f191_19 rfl rfl rfl (Or.inl h1) hd (Nat.le_of_ble_eq_true rfl) rfl rfl rfl (fun _ => rfl) (fun v1 m1 c1 => ?_)
  have hz1 := z_k c1 hz
  refine r_ifne (t := 27) (p := 25) f191_22 (by decide) rfl rfl ?_ ?_
  · refine r_lconst0 (p := 26) f191_25 rfl ?_
    exact r_lret f191_26
  · refine r_lconst0 (p := 28) f191_27 rfl ?_
    refine r_lsn2 (p := 29) f191_28 rfl rfl ?_
    refine r_iln1 (p := 30) f191_29 rfl ?_
    refine r_isw4 (p := 32) f191_30 rfl rfl ?_
    exact le2_refl _
theorem q191_32 {d : Nat} {m : Mem} {a0 a1 a2 a4 : Int} (hz : TZ m) : le2 (if a4 < (w32 (a1 + 8)) then (nm (qShl a2 8) fun v1 => gd (tg m a0 = 11) <| if a4 < (vl m a0 3) then (nm (vl m a0 2) fun v2 => gd (tg m v2 = 186103) <| gd ((0 : Int) ≤ a4 ∧ a4 < ln m v2) <| rn d 191 32 [pR a0, pI a1, pL (qOr v1 (qAnd (vl m v2 a4) 255)), pU, pI (w32 (a4 + 1))] [] m) else rn d 191 32 [pR a0, pI a1, pL (qOr v1 0), pU, pI (w32 (a4 + 1))] [] m) else some (.inl (some (pL a2)), m)) (rn d 191 32 [pR a0, pI a1, pL a2, pU, pI a4] [] m) := by
  refine r_ilw4 (p := 34) f191_32 rfl ?_
  refine r_iln1 (p := 35) f191_34 rfl ?_
  refine r_bipush (p := 37) f191_35 rfl (pinD rfl rfl) ?_
  refine r_iadd (p := 38) f191_37 rfl ?_
  refine r_icge (t := 78) (p := 41) f191_38 (by decide) rfl rfl ?_ ?_
  · refine r_lln2 (p := 42) f191_41 rfl ?_
    refine r_bipush (p := 44) f191_42 rfl (pinD rfl rfl) ?_
    refine r_lshl (p := 45) f191_44 rfl ?_
    refine r_nmJ (fun v1 ev1 => ?_)
    refine r_ilw4 (p := 47) f191_45 rfl ?_
    refine r_aln0 (p := 48) f191_47 rfl ?_
    refine le2_gd (fun h1 => ?_)
    refine r_gfI (f := 3) (p := 51) f191_48 rfl rfl rfl (Or.inl h1) rfl ?_
    refine r_icge (t := 69) (p := 54) f191_51 (by decide) rfl rfl ?_ ?_
    · refine r_aln0 (p := 55) f191_54 rfl ?_
      refine r_gfR (f := 2) (p := 58) f191_55 rfl rfl rfl (Or.inl h1) rfl ?_
      refine r_nmR (fun v2 ev2 => ?_)
      refine r_ilw4 (p := 60) f191_58 rfl ?_
      refine le2_gd (fun h2 => ?_)
      refine le2_gd (fun h3 => ?_)
      refine r_baload (p := 61) f191_60 rfl (dj1 (fun x => x % 1000 = 103 ∨ x % 1000 = 105) h2 (by decide)) h3 rfl ?_
      refine r_i2l (p := 62) f191_61 rfl ?_
      refine r_ldc2 (p := 65) f191_62 rfl rfl (pinD rfl rfl) ?_
      refine r_land (p := 66) f191_65 rfl ?_
      refine r_goto (p := 70) f191_66 (by decide) rfl ?_
      refine r_lor (p := 71) f191_70 rfl ?_
      refine r_lsn2 (p := 72) f191_71 rfl rfl ?_
      refine r_iinc4 (p := 75) f191_72 rfl rfl ?_
      refine r_goto (p := 32) f191_75 (by decide) rfl ?_
      exact le2_refl _
    · refine r_lconst0 (p := 70) f191_69 rfl ?_
      refine r_lor (p := 71) f191_70 rfl ?_
      refine r_lsn2 (p := 72) f191_71 rfl rfl ?_
      refine r_iinc4 (p := 75) f191_72 rfl rfl ?_
      refine r_goto (p := 32) f191_75 (by decide) rfl ?_
      exact le2_refl _
  · refine r_lln2 (p := 79) f191_78 rfl ?_
    exact r_lret f191_79
/-! 192 PathStoreModel.count (I)I -/
def w192_2 : List UInt8 := [5, 160, 0, 10, 42, 180, 0, 74, 167, 0, 4, 3, 172]
abbrev u192_2 : List UInt8 := w192_2 ++ []
def w192_1 : List UInt8 := [27, 154, 0, 10, 42, 180, 0, 139, 167, 0, 28, 27, 4, 160, 0, 10, 42, 180, 0, 150, 167, 0, 16, 27]
abbrev u192_1 : List UInt8 := w192_1 ++ u192_2
def w192_0 : List UInt8 := [42, 27, 155, 0, 12, 27, 6, 163, 0, 7, 4, 167, 0, 4, 3, 4, 182, 0, 142, 154, 0, 5, 3, 172]
abbrev u192_0 : List UInt8 := w192_0 ++ u192_1
theorem s192_0 : (prog_32_method_11_code).data.toList.drop 0 = u192_0 := by decide +kernel
theorem s192_1 : (prog_32_method_11_code).data.toList.drop 24 = u192_1 := dk_seg s192_0 24 rfl rfl
theorem s192_2 : (prog_32_method_11_code).data.toList.drop 48 = u192_2 := dk_seg s192_1 24 rfl rfl
theorem Fm192 {pc len : Nat} {i : Instr} (h : decode (prog_32_method_11_code) pc = .ok (i, len)) (hl : len = ilen i len) : ft 192 pc = some (11, 1, 0, i, len) := ft_mk rfl h hl
theorem f192_0 : ft 192 0 = some (11, 1, 0, .aload_n 0, 1) := Fm192 (dk_42 (dk_at s192_0 0 rfl rfl)) rfl
theorem f192_1 : ft 192 1 = some (11, 1, 0, .iload_n 1, 1) := Fm192 (dk_27 (dk_at s192_0 1 rfl rfl)) rfl
theorem f192_2 : ft 192 2 = some (11, 1, 0, .ifCond .lt 12, 3) := Fm192 (dk_155 0 12 (dk_at s192_0 2 rfl rfl)) rfl
theorem f192_5 : ft 192 5 = some (11, 1, 0, .iload_n 1, 1) := Fm192 (dk_27 (dk_at s192_0 5 rfl rfl)) rfl
theorem f192_6 : ft 192 6 = some (11, 1, 0, .iconst 3, 1) := Fm192 (dk_6 (dk_at s192_0 6 rfl rfl)) rfl
theorem f192_7 : ft 192 7 = some (11, 1, 0, .if_icmp .gt 7, 3) := Fm192 (dk_163 0 7 (dk_at s192_0 7 rfl rfl)) rfl
theorem f192_10 : ft 192 10 = some (11, 1, 0, .iconst 1, 1) := Fm192 (dk_4 (dk_at s192_0 10 rfl rfl)) rfl
theorem f192_11 : ft 192 11 = some (11, 1, 0, .goto 4, 3) := Fm192 (dk_167 0 4 (dk_at s192_0 11 rfl rfl)) rfl
theorem f192_14 : ft 192 14 = some (11, 1, 0, .iconst 0, 1) := Fm192 (dk_3 (dk_at s192_0 14 rfl rfl)) rfl
theorem f192_15 : ft 192 15 = some (11, 1, 0, .iconst 1, 1) := Fm192 (dk_4 (dk_at s192_0 15 rfl rfl)) rfl
theorem f192_16 : ft 192 16 = some (11, 1, 0, .invokevirtual 142, 3) := Fm192 (dk_182 0 142 (dk_at s192_0 16 rfl rfl)) rfl
theorem f192_19 : ft 192 19 = some (11, 1, 0, .ifCond .ne 5, 3) := Fm192 (dk_154 0 5 (dk_at s192_0 19 rfl rfl)) rfl
theorem f192_22 : ft 192 22 = some (11, 1, 0, .iconst 0, 1) := Fm192 (dk_3 (dk_at s192_0 22 rfl rfl)) rfl
theorem f192_23 : ft 192 23 = some (11, 1, 0, .ireturn, 1) := Fm192 (dk_172 (dk_at s192_0 23 rfl rfl)) rfl
theorem f192_24 : ft 192 24 = some (11, 1, 0, .iload_n 1, 1) := Fm192 (dk_27 (dk_at s192_1 0 rfl rfl)) rfl
theorem f192_25 : ft 192 25 = some (11, 1, 0, .ifCond .ne 10, 3) := Fm192 (dk_154 0 10 (dk_at s192_1 1 rfl rfl)) rfl
theorem f192_28 : ft 192 28 = some (11, 1, 0, .aload_n 0, 1) := Fm192 (dk_42 (dk_at s192_1 4 rfl rfl)) rfl
theorem f192_29 : ft 192 29 = some (11, 1, 0, .getfield 139, 3) := Fm192 (dk_180 0 139 (dk_at s192_1 5 rfl rfl)) rfl
theorem f192_32 : ft 192 32 = some (11, 1, 0, .goto 28, 3) := Fm192 (dk_167 0 28 (dk_at s192_1 8 rfl rfl)) rfl
theorem f192_35 : ft 192 35 = some (11, 1, 0, .iload_n 1, 1) := Fm192 (dk_27 (dk_at s192_1 11 rfl rfl)) rfl
theorem f192_36 : ft 192 36 = some (11, 1, 0, .iconst 1, 1) := Fm192 (dk_4 (dk_at s192_1 12 rfl rfl)) rfl
theorem f192_37 : ft 192 37 = some (11, 1, 0, .if_icmp .ne 10, 3) := Fm192 (dk_160 0 10 (dk_at s192_1 13 rfl rfl)) rfl
theorem f192_40 : ft 192 40 = some (11, 1, 0, .aload_n 0, 1) := Fm192 (dk_42 (dk_at s192_1 16 rfl rfl)) rfl
theorem f192_41 : ft 192 41 = some (11, 1, 0, .getfield 150, 3) := Fm192 (dk_180 0 150 (dk_at s192_1 17 rfl rfl)) rfl
theorem f192_44 : ft 192 44 = some (11, 1, 0, .goto 16, 3) := Fm192 (dk_167 0 16 (dk_at s192_1 20 rfl rfl)) rfl
theorem f192_47 : ft 192 47 = some (11, 1, 0, .iload_n 1, 1) := Fm192 (dk_27 (dk_at s192_1 23 rfl rfl)) rfl
theorem f192_48 : ft 192 48 = some (11, 1, 0, .iconst 2, 1) := Fm192 (dk_5 (dk_at s192_2 0 rfl rfl)) rfl
theorem f192_49 : ft 192 49 = some (11, 1, 0, .if_icmp .ne 10, 3) := Fm192 (dk_160 0 10 (dk_at s192_2 1 rfl rfl)) rfl
theorem f192_52 : ft 192 52 = some (11, 1, 0, .aload_n 0, 1) := Fm192 (dk_42 (dk_at s192_2 4 rfl rfl)) rfl
theorem f192_53 : ft 192 53 = some (11, 1, 0, .getfield 74, 3) := Fm192 (dk_180 0 74 (dk_at s192_2 5 rfl rfl)) rfl
theorem f192_56 : ft 192 56 = some (11, 1, 0, .goto 4, 3) := Fm192 (dk_167 0 4 (dk_at s192_2 8 rfl rfl)) rfl
theorem f192_59 : ft 192 59 = some (11, 1, 0, .iconst 0, 1) := Fm192 (dk_3 (dk_at s192_2 11 rfl rfl)) rfl
theorem f192_60 : ft 192 60 = some (11, 1, 0, .ireturn, 1) := Fm192 (dk_172 (dk_at s192_2 12 rfl rfl)) rfl
theorem q192 {d : Nat} {m : Mem} {a0 a1 : Int} (hz : TZ m) : le2 (if a1 < 0 then (rn d 192 15 [pR a0, pI a1] [pI 0, pR a0] m) else if 3 < a1 then (rn d 192 15 [pR a0, pI a1] [pI 0, pR a0] m) else rn d 192 15 [pR a0, pI a1] [pI 1, pR a0] m) (cl d 192 [pR a0, pI a1] m) := by
  refine q_in (n := 2) (L := [pR a0, pI a1]) rfl rfl rfl ?_
  refine r_aln0 (p := 1) f192_0 rfl ?_
  refine r_iln1 (p := 2) f192_1 rfl ?_
  refine r_iflt (t := 14) (p := 5) f192_2 (by decide) rfl rfl ?_ ?_
  · refine r_iconst (p := 15) f192_14 rfl (pinD rfl rfl) ?_
    exact le2_refl _
  · refine r_iln1 (p := 6) f192_5 rfl ?_
    refine r_iconst (p := 7) f192_6 rfl (pinD rfl rfl) ?_
    refine r_icgt (t := 14) (p := 10) f192_7 (by decide) rfl rfl ?_ ?_
    · refine r_iconst (p := 15) f192_14 rfl (pinD rfl rfl) ?_
      exact le2_refl _
    · refine r_iconst (p := 11) f192_10 rfl (pinD rfl rfl) ?_
      refine r_goto (p := 15) f192_11 (by decide) rfl ?_
      exact le2_refl _
theorem q192_15 {d : Nat} {m : Mem} {a0 a1 s1 s0 : Int} (hd : 0 < d) (hz : TZ m) : le2 (gd (tg m s0 = 11) <| bI (cl (d - 1) 188 [pR s0, pI s1, pI 1] m) fun v1 m1 => if v1 = 0 then (some (.inl (some (pI 0)), m1)) else if a1 = 0 then (gd (tg m1 a0 = 11) <| some (.inl (some (pI (vl m1 a0 1))), m1)) else if a1 = 1 then (gd (tg m1 a0 = 11) <| some (.inl (some (pI (vl m1 a0 3))), m1)) else if a1 = 2 then (gd (tg m1 a0 = 11) <| some (.inl (some (pI (vl m1 a0 5))), m1)) else some (.inl (some (pI 0)), m1)) (rn d 192 15 [pR a0, pI a1] [pI s1, pR s0] m) := by
  refine r_iconst (p := 16) f192_15 rfl (pinD rfl rfl) ?_
  refine le2_gd (fun h1 => ?_)
  refine r_invI (p := 19) f192_16 rfl rfl rfl (Or.inl h1) hd (Nat.le_of_ble_eq_true rfl) rfl rfl rfl (fun _ => rfl) (fun v1 m1 c1 => ?_)
  have hz1 := z_k c1 hz
  refine r_ifne (t := 24) (p := 22) f192_19 (by decide) rfl rfl ?_ ?_
  · refine r_iconst (p := 23) f192_22 rfl (pinD rfl rfl) ?_
    exact r_iret1 f192_23
  · refine r_iln1 (p := 25) f192_24 rfl ?_
    refine r_ifne (t := 35) (p := 28) f192_25 (by decide) rfl rfl ?_ ?_
    · refine r_aln0 (p := 29) f192_28 rfl ?_
      refine le2_gd (fun h4 => ?_)
      refine r_gfI (f := 1) (p := 32) f192_29 rfl rfl rfl (Or.inl h4) rfl ?_
      refine r_goto (p := 60) f192_32 (by decide) rfl ?_
      exact r_iret1 f192_60
    · refine r_iln1 (p := 36) f192_35 rfl ?_
      refine r_iconst (p := 37) f192_36 rfl (pinD rfl rfl) ?_
      refine r_icne (t := 47) (p := 40) f192_37 (by decide) rfl rfl ?_ ?_
      · refine r_aln0 (p := 41) f192_40 rfl ?_
        refine le2_gd (fun h3 => ?_)
        refine r_gfI (f := 3) (p := 44) f192_41 rfl rfl rfl (Or.inl h3) rfl ?_
        refine r_goto (p := 60) f192_44 (by decide) rfl ?_
        exact r_iret1 f192_60
      · refine r_iln1 (p := 48) f192_47 rfl ?_
        refine r_iconst (p := 49) f192_48 rfl (pinD rfl rfl) ?_
        refine r_icne (t := 59) (p := 52) f192_49 (by decide) rfl rfl ?_ ?_
        · refine r_aln0 (p := 53) f192_52 rfl ?_
          refine le2_gd (fun h2 => ?_)
          refine r_gfI (f := 5) (p := 56) f192_53 rfl rfl rfl (Or.inl h2) rfl ?_
          refine r_goto (p := 60) f192_56 (by decide) rfl ?_
          exact r_iret1 f192_60
        · refine r_iconst (p := 60) f192_59 rfl (pinD rfl rfl) ?_
          exact r_iret1 f192_60
/-! 193 PathStoreModel.put (I)I -/
def w193_8 : List UInt8 := [172]
abbrev u193_8 : List UInt8 := w193_8 ++ []
def w193_7 : List UInt8 := [180, 0, 252, 182, 1, 57, 42, 182, 1, 61, 153, 0, 13, 42, 180, 0, 84, 180, 1, 51, 167, 0, 4, 3]
abbrev u193_7 : List UInt8 := w193_7 ++ u193_8
def w193_6 : List UInt8 := [154, 0, 5, 3, 172, 42, 182, 1, 54, 153, 0, 19, 42, 180, 0, 84, 27, 42, 180, 0, 98, 42]
abbrev u193_6 : List UInt8 := w193_6 ++ u193_7
def w193_5 : List UInt8 := [156, 0, 15, 42, 180, 0, 84, 180, 1, 51, 16, 100, 162, 0, 7, 4, 167, 0, 4, 3, 7, 182, 0, 142]
abbrev u193_5 : List UInt8 := w193_5 ++ u193_6
def w193_4 : List UInt8 := [180, 0, 255, 154, 0, 40, 42, 180, 0, 252, 17, 1, 224, 163, 0, 30, 42, 180, 0, 84, 27, 182, 1, 49]
abbrev u193_4 : List UInt8 := w193_4 ++ u193_5
def w193_3 : List UInt8 := [42, 6, 181, 0, 136, 3, 172, 42, 182, 1, 46, 42, 42, 180, 0, 106, 29, 182, 1, 23, 42, 42]
abbrev u193_3 : List UInt8 := w193_3 ++ u193_4
def w193_2 : List UInt8 := [180, 0, 66, 28, 42, 180, 0, 106, 182, 1, 42, 62, 29, 156, 0, 18, 42, 42, 180, 0, 164, 181, 0, 74]
abbrev u193_2 : List UInt8 := w193_2 ++ u193_3
def w193_1 : List UInt8 := [154, 0, 7, 4, 167, 0, 4, 3, 5, 182, 0, 142, 154, 0, 5, 3, 172, 42, 2, 181, 0, 74, 42, 42]
abbrev u193_1 : List UInt8 := w193_1 ++ u193_2
def w193_0 : List UInt8 := [42, 27, 184, 1, 37, 4, 182, 0, 142, 154, 0, 5, 3, 172, 42, 182, 1, 40, 61, 42, 42, 180, 1, 27]
abbrev u193_0 : List UInt8 := w193_0 ++ u193_1
theorem s193_0 : (prog_32_method_37_code).data.toList.drop 0 = u193_0 := by decide +kernel
theorem s193_1 : (prog_32_method_37_code).data.toList.drop 24 = u193_1 := dk_seg s193_0 24 rfl rfl
theorem s193_2 : (prog_32_method_37_code).data.toList.drop 48 = u193_2 := dk_seg s193_1 24 rfl rfl
theorem s193_3 : (prog_32_method_37_code).data.toList.drop 72 = u193_3 := dk_seg s193_2 24 rfl rfl
theorem s193_4 : (prog_32_method_37_code).data.toList.drop 94 = u193_4 := dk_seg s193_3 22 rfl rfl
theorem s193_5 : (prog_32_method_37_code).data.toList.drop 118 = u193_5 := dk_seg s193_4 24 rfl rfl
theorem s193_6 : (prog_32_method_37_code).data.toList.drop 142 = u193_6 := dk_seg s193_5 24 rfl rfl
theorem s193_7 : (prog_32_method_37_code).data.toList.drop 164 = u193_7 := dk_seg s193_6 22 rfl rfl
theorem s193_8 : (prog_32_method_37_code).data.toList.drop 188 = u193_8 := dk_seg s193_7 24 rfl rfl
theorem Fm193 {pc len : Nat} {i : Instr} (h : decode (prog_32_method_37_code) pc = .ok (i, len)) (hl : len = ilen i len) : ft 193 pc = some (11, 1, 0, i, len) := ft_mk rfl h hl
theorem f193_0 : ft 193 0 = some (11, 1, 0, .aload_n 0, 1) := Fm193 (dk_42 (dk_at s193_0 0 rfl rfl)) rfl
theorem f193_1 : ft 193 1 = some (11, 1, 0, .iload_n 1, 1) := Fm193 (dk_27 (dk_at s193_0 1 rfl rfl)) rfl
theorem f193_2 : ft 193 2 = some (11, 1, 0, .invokestatic 293, 3) := Fm193 (dk_184 1 37 (dk_at s193_0 2 rfl rfl)) rfl
theorem f193_5 : ft 193 5 = some (11, 1, 0, .iconst 1, 1) := Fm193 (dk_4 (dk_at s193_0 5 rfl rfl)) rfl
theorem f193_6 : ft 193 6 = some (11, 1, 0, .invokevirtual 142, 3) := Fm193 (dk_182 0 142 (dk_at s193_0 6 rfl rfl)) rfl
theorem f193_9 : ft 193 9 = some (11, 1, 0, .ifCond .ne 5, 3) := Fm193 (dk_154 0 5 (dk_at s193_0 9 rfl rfl)) rfl
theorem f193_12 : ft 193 12 = some (11, 1, 0, .iconst 0, 1) := Fm193 (dk_3 (dk_at s193_0 12 rfl rfl)) rfl
theorem f193_13 : ft 193 13 = some (11, 1, 0, .ireturn, 1) := Fm193 (dk_172 (dk_at s193_0 13 rfl rfl)) rfl
theorem f193_14 : ft 193 14 = some (11, 1, 0, .aload_n 0, 1) := Fm193 (dk_42 (dk_at s193_0 14 rfl rfl)) rfl
theorem f193_15 : ft 193 15 = some (11, 1, 0, .invokevirtual 296, 3) := Fm193 (dk_182 1 40 (dk_at s193_0 15 rfl rfl)) rfl
theorem f193_18 : ft 193 18 = some (11, 1, 0, .istore_n 2, 1) := Fm193 (dk_61 (dk_at s193_0 18 rfl rfl)) rfl
theorem f193_19 : ft 193 19 = some (11, 1, 0, .aload_n 0, 1) := Fm193 (dk_42 (dk_at s193_0 19 rfl rfl)) rfl
theorem f193_20 : ft 193 20 = some (11, 1, 0, .aload_n 0, 1) := Fm193 (dk_42 (dk_at s193_0 20 rfl rfl)) rfl
theorem f193_21 : ft 193 21 = some (11, 1, 0, .getfield 283, 3) := Fm193 (dk_180 1 27 (dk_at s193_0 21 rfl rfl)) rfl
theorem f193_24 : ft 193 24 = some (11, 1, 0, .ifCond .ne 7, 3) := Fm193 (dk_154 0 7 (dk_at s193_1 0 rfl rfl)) rfl
theorem f193_27 : ft 193 27 = some (11, 1, 0, .iconst 1, 1) := Fm193 (dk_4 (dk_at s193_1 3 rfl rfl)) rfl
theorem f193_28 : ft 193 28 = some (11, 1, 0, .goto 4, 3) := Fm193 (dk_167 0 4 (dk_at s193_1 4 rfl rfl)) rfl
theorem f193_31 : ft 193 31 = some (11, 1, 0, .iconst 0, 1) := Fm193 (dk_3 (dk_at s193_1 7 rfl rfl)) rfl
theorem f193_32 : ft 193 32 = some (11, 1, 0, .iconst 2, 1) := Fm193 (dk_5 (dk_at s193_1 8 rfl rfl)) rfl
theorem f193_33 : ft 193 33 = some (11, 1, 0, .invokevirtual 142, 3) := Fm193 (dk_182 0 142 (dk_at s193_1 9 rfl rfl)) rfl
theorem f193_36 : ft 193 36 = some (11, 1, 0, .ifCond .ne 5, 3) := Fm193 (dk_154 0 5 (dk_at s193_1 12 rfl rfl)) rfl
theorem f193_39 : ft 193 39 = some (11, 1, 0, .iconst 0, 1) := Fm193 (dk_3 (dk_at s193_1 15 rfl rfl)) rfl
theorem f193_40 : ft 193 40 = some (11, 1, 0, .ireturn, 1) := Fm193 (dk_172 (dk_at s193_1 16 rfl rfl)) rfl
theorem f193_41 : ft 193 41 = some (11, 1, 0, .aload_n 0, 1) := Fm193 (dk_42 (dk_at s193_1 17 rfl rfl)) rfl
theorem f193_42 : ft 193 42 = some (11, 1, 0, .iconst (-1), 1) := Fm193 (dk_2 (dk_at s193_1 18 rfl rfl)) rfl
theorem f193_43 : ft 193 43 = some (11, 1, 0, .putfield 74, 3) := Fm193 (dk_181 0 74 (dk_at s193_1 19 rfl rfl)) rfl
theorem f193_46 : ft 193 46 = some (11, 1, 0, .aload_n 0, 1) := Fm193 (dk_42 (dk_at s193_1 22 rfl rfl)) rfl
theorem f193_47 : ft 193 47 = some (11, 1, 0, .aload_n 0, 1) := Fm193 (dk_42 (dk_at s193_1 23 rfl rfl)) rfl
theorem f193_48 : ft 193 48 = some (11, 1, 0, .getfield 66, 3) := Fm193 (dk_180 0 66 (dk_at s193_2 0 rfl rfl)) rfl
theorem f193_51 : ft 193 51 = some (11, 1, 0, .iload_n 2, 1) := Fm193 (dk_28 (dk_at s193_2 3 rfl rfl)) rfl
theorem f193_52 : ft 193 52 = some (11, 1, 0, .aload_n 0, 1) := Fm193 (dk_42 (dk_at s193_2 4 rfl rfl)) rfl
theorem f193_53 : ft 193 53 = some (11, 1, 0, .getfield 106, 3) := Fm193 (dk_180 0 106 (dk_at s193_2 5 rfl rfl)) rfl
theorem f193_56 : ft 193 56 = some (11, 1, 0, .invokevirtual 298, 3) := Fm193 (dk_182 1 42 (dk_at s193_2 8 rfl rfl)) rfl
theorem f193_59 : ft 193 59 = some (11, 1, 0, .istore_n 3, 1) := Fm193 (dk_62 (dk_at s193_2 11 rfl rfl)) rfl
theorem f193_60 : ft 193 60 = some (11, 1, 0, .iload_n 3, 1) := Fm193 (dk_29 (dk_at s193_2 12 rfl rfl)) rfl
theorem f193_61 : ft 193 61 = some (11, 1, 0, .ifCond .ge 18, 3) := Fm193 (dk_156 0 18 (dk_at s193_2 13 rfl rfl)) rfl
theorem f193_64 : ft 193 64 = some (11, 1, 0, .aload_n 0, 1) := Fm193 (dk_42 (dk_at s193_2 16 rfl rfl)) rfl
theorem f193_65 : ft 193 65 = some (11, 1, 0, .aload_n 0, 1) := Fm193 (dk_42 (dk_at s193_2 17 rfl rfl)) rfl
theorem f193_66 : ft 193 66 = some (11, 1, 0, .getfield 164, 3) := Fm193 (dk_180 0 164 (dk_at s193_2 18 rfl rfl)) rfl
theorem f193_69 : ft 193 69 = some (11, 1, 0, .putfield 74, 3) := Fm193 (dk_181 0 74 (dk_at s193_2 21 rfl rfl)) rfl
theorem f193_72 : ft 193 72 = some (11, 1, 0, .aload_n 0, 1) := Fm193 (dk_42 (dk_at s193_3 0 rfl rfl)) rfl
theorem f193_73 : ft 193 73 = some (11, 1, 0, .iconst 3, 1) := Fm193 (dk_6 (dk_at s193_3 1 rfl rfl)) rfl
theorem f193_74 : ft 193 74 = some (11, 1, 0, .putfield 136, 3) := Fm193 (dk_181 0 136 (dk_at s193_3 2 rfl rfl)) rfl
theorem f193_77 : ft 193 77 = some (11, 1, 0, .iconst 0, 1) := Fm193 (dk_3 (dk_at s193_3 5 rfl rfl)) rfl
theorem f193_78 : ft 193 78 = some (11, 1, 0, .ireturn, 1) := Fm193 (dk_172 (dk_at s193_3 6 rfl rfl)) rfl
theorem f193_79 : ft 193 79 = some (11, 1, 0, .aload_n 0, 1) := Fm193 (dk_42 (dk_at s193_3 7 rfl rfl)) rfl
theorem f193_80 : ft 193 80 = some (11, 1, 0, .invokevirtual 302, 3) := Fm193 (dk_182 1 46 (dk_at s193_3 8 rfl rfl)) rfl
theorem f193_83 : ft 193 83 = some (11, 1, 0, .aload_n 0, 1) := Fm193 (dk_42 (dk_at s193_3 11 rfl rfl)) rfl
theorem f193_84 : ft 193 84 = some (11, 1, 0, .aload_n 0, 1) := Fm193 (dk_42 (dk_at s193_3 12 rfl rfl)) rfl
theorem f193_85 : ft 193 85 = some (11, 1, 0, .getfield 106, 3) := Fm193 (dk_180 0 106 (dk_at s193_3 13 rfl rfl)) rfl
theorem f193_88 : ft 193 88 = some (11, 1, 0, .iload_n 3, 1) := Fm193 (dk_29 (dk_at s193_3 16 rfl rfl)) rfl
theorem f193_89 : ft 193 89 = some (11, 1, 0, .invokevirtual 279, 3) := Fm193 (dk_182 1 23 (dk_at s193_3 17 rfl rfl)) rfl
theorem f193_92 : ft 193 92 = some (11, 1, 0, .aload_n 0, 1) := Fm193 (dk_42 (dk_at s193_3 20 rfl rfl)) rfl
theorem f193_93 : ft 193 93 = some (11, 1, 0, .aload_n 0, 1) := Fm193 (dk_42 (dk_at s193_3 21 rfl rfl)) rfl
theorem f193_94 : ft 193 94 = some (11, 1, 0, .getfield 255, 3) := Fm193 (dk_180 0 255 (dk_at s193_4 0 rfl rfl)) rfl
theorem f193_97 : ft 193 97 = some (11, 1, 0, .ifCond .ne 40, 3) := Fm193 (dk_154 0 40 (dk_at s193_4 3 rfl rfl)) rfl
theorem f193_100 : ft 193 100 = some (11, 1, 0, .aload_n 0, 1) := Fm193 (dk_42 (dk_at s193_4 6 rfl rfl)) rfl
theorem f193_101 : ft 193 101 = some (11, 1, 0, .getfield 252, 3) := Fm193 (dk_180 0 252 (dk_at s193_4 7 rfl rfl)) rfl
theorem f193_104 : ft 193 104 = some (11, 1, 0, .sipush 480, 3) := Fm193 (dk_17 1 224 (dk_at s193_4 10 rfl rfl)) rfl
theorem f193_107 : ft 193 107 = some (11, 1, 0, .if_icmp .gt 30, 3) := Fm193 (dk_163 0 30 (dk_at s193_4 13 rfl rfl)) rfl
theorem f193_110 : ft 193 110 = some (11, 1, 0, .aload_n 0, 1) := Fm193 (dk_42 (dk_at s193_4 16 rfl rfl)) rfl
theorem f193_111 : ft 193 111 = some (11, 1, 0, .getfield 84, 3) := Fm193 (dk_180 0 84 (dk_at s193_4 17 rfl rfl)) rfl
theorem f193_114 : ft 193 114 = some (11, 1, 0, .iload_n 1, 1) := Fm193 (dk_27 (dk_at s193_4 20 rfl rfl)) rfl
theorem f193_115 : ft 193 115 = some (11, 1, 0, .invokevirtual 305, 3) := Fm193 (dk_182 1 49 (dk_at s193_4 21 rfl rfl)) rfl
theorem f193_118 : ft 193 118 = some (11, 1, 0, .ifCond .ge 15, 3) := Fm193 (dk_156 0 15 (dk_at s193_5 0 rfl rfl)) rfl
theorem f193_121 : ft 193 121 = some (11, 1, 0, .aload_n 0, 1) := Fm193 (dk_42 (dk_at s193_5 3 rfl rfl)) rfl
theorem f193_122 : ft 193 122 = some (11, 1, 0, .getfield 84, 3) := Fm193 (dk_180 0 84 (dk_at s193_5 4 rfl rfl)) rfl
theorem f193_125 : ft 193 125 = some (11, 1, 0, .getfield 307, 3) := Fm193 (dk_180 1 51 (dk_at s193_5 7 rfl rfl)) rfl
theorem f193_128 : ft 193 128 = some (11, 1, 0, .bipush 100, 2) := Fm193 (dk_16 100 (dk_at s193_5 10 rfl rfl)) rfl
theorem f193_130 : ft 193 130 = some (11, 1, 0, .if_icmp .ge 7, 3) := Fm193 (dk_162 0 7 (dk_at s193_5 12 rfl rfl)) rfl
theorem f193_133 : ft 193 133 = some (11, 1, 0, .iconst 1, 1) := Fm193 (dk_4 (dk_at s193_5 15 rfl rfl)) rfl
theorem f193_134 : ft 193 134 = some (11, 1, 0, .goto 4, 3) := Fm193 (dk_167 0 4 (dk_at s193_5 16 rfl rfl)) rfl
theorem f193_137 : ft 193 137 = some (11, 1, 0, .iconst 0, 1) := Fm193 (dk_3 (dk_at s193_5 19 rfl rfl)) rfl
theorem f193_138 : ft 193 138 = some (11, 1, 0, .iconst 4, 1) := Fm193 (dk_7 (dk_at s193_5 20 rfl rfl)) rfl
theorem f193_139 : ft 193 139 = some (11, 1, 0, .invokevirtual 142, 3) := Fm193 (dk_182 0 142 (dk_at s193_5 21 rfl rfl)) rfl
theorem f193_142 : ft 193 142 = some (11, 1, 0, .ifCond .ne 5, 3) := Fm193 (dk_154 0 5 (dk_at s193_6 0 rfl rfl)) rfl
theorem f193_145 : ft 193 145 = some (11, 1, 0, .iconst 0, 1) := Fm193 (dk_3 (dk_at s193_6 3 rfl rfl)) rfl
theorem f193_146 : ft 193 146 = some (11, 1, 0, .ireturn, 1) := Fm193 (dk_172 (dk_at s193_6 4 rfl rfl)) rfl
theorem f193_147 : ft 193 147 = some (11, 1, 0, .aload_n 0, 1) := Fm193 (dk_42 (dk_at s193_6 5 rfl rfl)) rfl
theorem f193_148 : ft 193 148 = some (11, 1, 0, .invokevirtual 310, 3) := Fm193 (dk_182 1 54 (dk_at s193_6 6 rfl rfl)) rfl
theorem f193_151 : ft 193 151 = some (11, 1, 0, .ifCond .eq 19, 3) := Fm193 (dk_153 0 19 (dk_at s193_6 9 rfl rfl)) rfl
theorem f193_154 : ft 193 154 = some (11, 1, 0, .aload_n 0, 1) := Fm193 (dk_42 (dk_at s193_6 12 rfl rfl)) rfl
theorem f193_155 : ft 193 155 = some (11, 1, 0, .getfield 84, 3) := Fm193 (dk_180 0 84 (dk_at s193_6 13 rfl rfl)) rfl
theorem f193_158 : ft 193 158 = some (11, 1, 0, .iload_n 1, 1) := Fm193 (dk_27 (dk_at s193_6 16 rfl rfl)) rfl
theorem f193_159 : ft 193 159 = some (11, 1, 0, .aload_n 0, 1) := Fm193 (dk_42 (dk_at s193_6 17 rfl rfl)) rfl
theorem f193_160 : ft 193 160 = some (11, 1, 0, .getfield 98, 3) := Fm193 (dk_180 0 98 (dk_at s193_6 18 rfl rfl)) rfl
theorem f193_163 : ft 193 163 = some (11, 1, 0, .aload_n 0, 1) := Fm193 (dk_42 (dk_at s193_6 21 rfl rfl)) rfl
theorem f193_164 : ft 193 164 = some (11, 1, 0, .getfield 252, 3) := Fm193 (dk_180 0 252 (dk_at s193_7 0 rfl rfl)) rfl
theorem f193_167 : ft 193 167 = some (11, 1, 0, .invokevirtual 313, 3) := Fm193 (dk_182 1 57 (dk_at s193_7 3 rfl rfl)) rfl
theorem f193_170 : ft 193 170 = some (11, 1, 0, .aload_n 0, 1) := Fm193 (dk_42 (dk_at s193_7 6 rfl rfl)) rfl
theorem f193_171 : ft 193 171 = some (11, 1, 0, .invokevirtual 317, 3) := Fm193 (dk_182 1 61 (dk_at s193_7 7 rfl rfl)) rfl
theorem f193_174 : ft 193 174 = some (11, 1, 0, .ifCond .eq 13, 3) := Fm193 (dk_153 0 13 (dk_at s193_7 10 rfl rfl)) rfl
theorem f193_177 : ft 193 177 = some (11, 1, 0, .aload_n 0, 1) := Fm193 (dk_42 (dk_at s193_7 13 rfl rfl)) rfl
theorem f193_178 : ft 193 178 = some (11, 1, 0, .getfield 84, 3) := Fm193 (dk_180 0 84 (dk_at s193_7 14 rfl rfl)) rfl
theorem f193_181 : ft 193 181 = some (11, 1, 0, .getfield 307, 3) := Fm193 (dk_180 1 51 (dk_at s193_7 17 rfl rfl)) rfl
theorem f193_184 : ft 193 184 = some (11, 1, 0, .goto 4, 3) := Fm193 (dk_167 0 4 (dk_at s193_7 20 rfl rfl)) rfl
theorem f193_187 : ft 193 187 = some (11, 1, 0, .iconst 0, 1) := Fm193 (dk_3 (dk_at s193_7 23 rfl rfl)) rfl
theorem f193_188 : ft 193 188 = some (11, 1, 0, .ireturn, 1) := Fm193 (dk_172 (dk_at s193_8 0 rfl rfl)) rfl
theorem q193 {d : Nat} {m : Mem} {a0 a1 : Int} (hd : 0 < d) (hz : TZ m) : le2 (bI (cl (d - 1) 194 [pI a1] m) fun v1 m1 => gd (tg m1 a0 = 11) <| bI (cl (d - 1) 188 [pR a0, pI v1, pI 1] m1) fun v2 m2 => if v2 = 0 then (some (.inl (some (pI 0)), m2)) else bI (cl (d - 1) 195 [pR a0] m2) fun v3 m3 => if (vl m3 a0 6) = 0 then (rn d 193 32 [pR a0, pI a1, pI v3, pU] [pI 1, pR a0] m3) else rn d 193 32 [pR a0, pI a1, pI v3, pU] [pI 0, pR a0] m3) (cl d 193 [pR a0, pI a1] m) := by
  refine q_in (n := 4) (L := [pR a0, pI a1, pU, pU]) rfl rfl rfl ?_
  refine r_aln0 (p := 1) f193_0 rfl ?_
  refine r_iln1 (p := 2) f193_1 rfl ?_
  refine r_istI (p := 5) f193_2 rfl rfl rfl hd (Nat.le_of_ble_eq_true rfl) rfl rfl rfl (fun _ => rfl) (fun v1 m1 c1 => ?_)
  have hz1 := z_k c1 hz
  refine r_iconst (p := 6) f193_5 rfl (pinD rfl rfl) ?_
  refine le2_gd (fun h1 => ?_)
  refine r_invI (p := 9) f193_6 rfl rfl rfl (Or.inl h1) hd (Nat.le_of_ble_eq_true rfl) rfl rfl rfl (fun _ => rfl) (fun v2 m2 c2 => ?_)
  have hz2 := z_k c2 hz1
  refine r_ifne (t := 14) (p := 12) f193_9 (by decide) rfl rfl ?_ ?_
  · refine r_iconst (p := 13) f193_12 rfl (pinD rfl rfl) ?_
    exact r_iret1 f193_13
  · refine r_aln0 (p := 15) f193_14 rfl ?_
    have h2 := k_t1 c2 hz1 h1 (by decide)
    refine r_invI (p := 18) f193_15 rfl rfl rfl (Or.inl h2) hd (Nat.le_of_ble_eq_true rfl) rfl rfl rfl (fun _ => rfl) (fun v3 m3 c3 => ?_)
    have hz3 := z_k c3 hz2
    refine r_isn2 (p := 19) f193_18 rfl rfl ?_
    refine r_aln0 (p := 20) f193_19 rfl ?_
    refine r_aln0 (p := 21) f193_20 rfl ?_
    have h3 := k_t1 c3 hz2 h2 (by decide)
    refine r_gfIZ (f := 6) (p := 24) f193_21 rfl rfl rfl (Or.inl h3) rfl ?_
    refine r_ifne (t := 31) (p := 27) f193_24 (by decide) rfl rfl ?_ ?_
    · refine r_iconst (p := 28) f193_27 rfl (pinD rfl rfl) ?_
      refine r_goto (p := 32) f193_28 (by decide) rfl ?_
      exact le2_refl _
    · refine r_iconst (p := 32) f193_31 rfl (pinD rfl rfl) ?_
      exact le2_refl _
theorem q193_32 {d : Nat} {m : Mem} {a0 a1 a2 s1 s0 : Int} (hd : 0 < d) (hz : TZ m) : le2 (gd (tg m s0 = 11) <| bI (cl (d - 1) 188 [pR s0, pI s1, pI 2] m) fun v1 m1 => if v1 = 0 then (some (.inl (some (pI 0)), m1)) else gd (tg m1 a0 = 11) <| bI (cl (d - 1) 196 [pR a0, pR (vl m1 a0 0), pI a2, pR (vl m1 a0 19)] (mst m1 a0 5 (-1))) fun v2 m2 => if v2 < 0 then (some (.inl (some (pI 0)), (mst (mst m2 a0 5 (vl m2 a0 14)) a0 4 3))) else bV (cl (d - 1) 209 [pR a0] m2) fun m3 => bV (cl (d - 1) 210 [pR a0, pR (vl m3 a0 19), pI v2] m3) fun m4 => if (vl m4 a0 17) = 0 then (if 480 < (vl m4 a0 16) then (rn d 193 138 [pR a0, pI a1, pI a2, pI v2] [pI 0, pR a0] m4) else nm (vl m4 a0 8) fun v6 => gd (tg m4 v6 = 12) <| bI (cl (d - 1) 278 [pR v6, pI a1] m4) fun v5 m5 => if v5 < 0 then (nm (vl m5 a0 8) fun v7 => gd (tg m5 v7 = 12) <| if (vl m5 v7 3) < 100 then (rn d 193 138 [pR a0, pI a1, pI a2, pI v2] [pI 1, pR a0] m5) else rn d 193 138 [pR a0, pI a1, pI a2, pI v2] [pI 0, pR a0] m5) else rn d 193 138 [pR a0, pI a1, pI a2, pI v2] [pI 1, pR a0] m5) else rn d 193 138 [pR a0, pI a1, pI a2, pI v2] [pI 0, pR a0] m4) (rn d 193 32 [pR a0, pI a1, pI a2, pU] [pI s1, pR s0] m) := by
  refine r_iconst (p := 33) f193_32 rfl (pinD rfl rfl) ?_
  refine le2_gd (fun h1 => ?_)
  refine r_invI (p := 36) f193_33 rfl rfl rfl (Or.inl h1) hd (Nat.le_of_ble_eq_true rfl) rfl rfl rfl (fun _ => rfl) (fun v1 m1 c1 => ?_)
  have hz1 := z_k c1 hz
  refine r_ifne (t := 41) (p := 39) f193_36 (by decide) rfl rfl ?_ ?_
  · refine r_iconst (p := 40) f193_39 rfl (pinD rfl rfl) ?_
    exact r_iret1 f193_40
  · refine r_aln0 (p := 42) f193_41 rfl ?_
    refine r_iconst (p := 43) f193_42 rfl (pinD rfl rfl) ?_
    refine le2_gd (fun h2 => ?_)
    refine r_pfI (f := 5) (p := 46) f193_43 rfl rfl rfl (by decide) (by decide) (Or.inl h2) rfl ?_
    refine r_aln0 (p := 47) f193_46 rfl ?_
    refine r_aln0 (p := 48) f193_47 rfl ?_
    refine r_gfR (f := 0) (p := 51) f193_48 rfl rfl rfl (Or.inl h2) (sk_f (by decide)) ?_
    refine r_iln2 (p := 52) f193_51 rfl ?_
    refine r_aln0 (p := 53) f193_52 rfl ?_
    refine r_gfR (f := 19) (p := 56) f193_53 rfl rfl rfl (Or.inl h2) (sk_f (by decide)) ?_
    refine r_invI (p := 59) f193_56 rfl rfl rfl (Or.inl h2) hd (Nat.le_of_ble_eq_true rfl) rfl rfl rfl (fun _ => rfl) (fun v2 m2 c2 => ?_)
    have hz2 := z_k c2 hz1
    refine r_isn3 (p := 60) f193_59 rfl rfl ?_
    refine r_iln3 (p := 61) f193_60 rfl ?_
    refine r_ifge (t := 79) (p := 64) f193_61 (by decide) rfl rfl ?_ ?_
    · refine r_aln0 (p := 65) f193_64 rfl ?_
      refine r_aln0 (p := 66) f193_65 rfl ?_
      have h9 := k_t1 c2 hz1 h2 (by decide)
      refine r_gfI (f := 14) (p := 69) f193_66 rfl rfl rfl (Or.inl h9) rfl ?_
      refine r_pfI (f := 5) (p := 72) f193_69 rfl rfl rfl (by decide) (by decide) (Or.inl h9) rfl ?_
      refine r_aln0 (p := 73) f193_72 rfl ?_
      refine r_iconst (p := 74) f193_73 rfl (pinD rfl rfl) ?_
      refine r_pfI (f := 4) (p := 77) f193_74 rfl rfl rfl (by decide) (by decide) (Or.inl h9) rfl ?_
      refine r_iconst (p := 78) f193_77 rfl (pinD rfl rfl) ?_
      exact r_iret1 f193_78
    · refine r_aln0 (p := 80) f193_79 rfl ?_
      have h3 := k_t1 c2 hz1 h2 (by decide)
      refine r_invV (p := 83) f193_80 rfl rfl rfl (Or.inl h3) hd (Nat.le_of_ble_eq_true rfl) rfl rfl rfl (fun _ => rfl) (fun m3 c3 => ?_)
      have hz3 := z_k c3 hz2
      refine r_aln0 (p := 84) f193_83 rfl ?_
      refine r_aln0 (p := 85) f193_84 rfl ?_
      have h4 := k_t1 c3 hz2 h3 (by decide)
      refine r_gfR (f := 19) (p := 88) f193_85 rfl rfl rfl (Or.inl h4) rfl ?_
      refine r_iln3 (p := 89) f193_88 rfl ?_
      refine r_invV (p := 92) f193_89 rfl rfl rfl (Or.inl h4) hd (Nat.le_of_ble_eq_true rfl) rfl rfl rfl (fun _ => rfl) (fun m4 c4 => ?_)
      have hz4 := z_k c4 hz3
      refine r_aln0 (p := 93) f193_92 rfl ?_
      refine r_aln0 (p := 94) f193_93 rfl ?_
      have h5 := k_t1 c4 hz3 h4 (by decide)
      refine r_gfIZ (f := 17) (p := 97) f193_94 rfl rfl rfl (Or.inl h5) rfl ?_
      refine r_ifne (t := 137) (p := 100) f193_97 (by decide) rfl rfl ?_ ?_
      · refine r_aln0 (p := 101) f193_100 rfl ?_
        refine r_gfI (f := 16) (p := 104) f193_101 rfl rfl rfl (Or.inl h5) rfl ?_
        refine r_sipush (p := 107) f193_104 rfl (pinD rfl rfl) ?_
        refine r_icgt (t := 137) (p := 110) f193_107 (by decide) rfl rfl ?_ ?_
        · refine r_iconst (p := 138) f193_137 rfl (pinD rfl rfl) ?_
          exact le2_refl _
        · refine r_aln0 (p := 111) f193_110 rfl ?_
          refine r_gfR (f := 8) (p := 114) f193_111 rfl rfl rfl (Or.inl h5) rfl ?_
          refine r_nmR (fun v6 ev6 => ?_)
          refine r_iln1 (p := 115) f193_114 rfl ?_
          refine le2_gd (fun h6 => ?_)
          refine r_invI (p := 118) f193_115 rfl rfl rfl (Or.inl h6) hd (Nat.le_of_ble_eq_true rfl) rfl rfl rfl (fun _ => rfl) (fun v5 m5 c5 => ?_)
          have hz5 := z_k c5 hz4
          refine r_ifge (t := 133) (p := 121) f193_118 (by decide) rfl rfl ?_ ?_
          · refine r_aln0 (p := 122) f193_121 rfl ?_
            have h7 := k_t1 c5 hz4 h5 (by decide)
            refine r_gfR (f := 8) (p := 125) f193_122 rfl rfl rfl (Or.inl h7) rfl ?_
            refine r_nmR (fun v7 ev7 => ?_)
            refine le2_gd (fun h8 => ?_)
            refine r_gfI (f := 3) (p := 128) f193_125 rfl rfl rfl (Or.inl h8) rfl ?_
            refine r_bipush (p := 130) f193_128 rfl (pinD rfl rfl) ?_
            refine r_icge (t := 137) (p := 133) f193_130 (by decide) rfl rfl ?_ ?_
            · refine r_iconst (p := 134) f193_133 rfl (pinD rfl rfl) ?_
              refine r_goto (p := 138) f193_134 (by decide) rfl ?_
              exact le2_refl _
            · refine r_iconst (p := 138) f193_137 rfl (pinD rfl rfl) ?_
              exact le2_refl _
          · refine r_iconst (p := 134) f193_133 rfl (pinD rfl rfl) ?_
            refine r_goto (p := 138) f193_134 (by decide) rfl ?_
            exact le2_refl _
      · refine r_iconst (p := 138) f193_137 rfl (pinD rfl rfl) ?_
        exact le2_refl _
theorem q193_138 {d : Nat} {m : Mem} {a0 a1 a2 a3 s1 s0 : Int} (hd : 0 < d) (hz : TZ m) : le2 (gd (tg m s0 = 11) <| bI (cl (d - 1) 188 [pR s0, pI s1, pI 4] m) fun v1 m1 => if v1 = 0 then (some (.inl (some (pI 0)), m1)) else gd (tg m1 a0 = 11) <| bI (cl (d - 1) 215 [pR a0] m1) fun v2 m2 => if v2 = 0 then (rn d 193 170 [pR a0, pI a1, pI a2, pI a3] [] m2) else nm (vl m2 a0 8) fun v4 => gd (tg m2 v4 = 12) <| bV (cl (d - 1) 279 [pR v4, pI a1, pR (vl m2 a0 15), pI (vl m2 a0 16)] m2) fun m3 => rn d 193 170 [pR a0, pI a1, pI a2, pI a3] [] m3) (rn d 193 138 [pR a0, pI a1, pI a2, pI a3] [pI s1, pR s0] m) := by
  refine r_iconst (p := 139) f193_138 rfl (pinD rfl rfl) ?_
  refine le2_gd (fun h1 => ?_)
  refine r_invI (p := 142) f193_139 rfl rfl rfl (Or.inl h1) hd (Nat.le_of_ble_eq_true rfl) rfl rfl rfl (fun _ => rfl) (fun v1 m1 c1 => ?_)
  have hz1 := z_k c1 hz
  refine r_ifne (t := 147) (p := 145) f193_142 (by decide) rfl rfl ?_ ?_
  · refine r_iconst (p := 146) f193_145 rfl (pinD rfl rfl) ?_
    exact r_iret1 f193_146
  · refine r_aln0 (p := 148) f193_147 rfl ?_
    refine le2_gd (fun h2 => ?_)
    refine r_invI (p := 151) f193_148 rfl rfl rfl (Or.inl h2) hd (Nat.le_of_ble_eq_true rfl) rfl rfl rfl (fun _ => rfl) (fun v2 m2 c2 => ?_)
    have hz2 := z_k c2 hz1
    refine r_ifeq (t := 170) (p := 154) f193_151 (by decide) rfl rfl ?_ ?_
    · exact le2_refl _
    · refine r_aln0 (p := 155) f193_154 rfl ?_
      have h3 := k_t1 c2 hz1 h2 (by decide)
      refine r_gfR (f := 8) (p := 158) f193_155 rfl rfl rfl (Or.inl h3) rfl ?_
      refine r_nmR (fun v4 ev4 => ?_)
      refine r_iln1 (p := 159) f193_158 rfl ?_
      refine r_aln0 (p := 160) f193_159 rfl ?_
      refine r_gfR (f := 15) (p := 163) f193_160 rfl rfl rfl (Or.inl h3) rfl ?_
      refine r_aln0 (p := 164) f193_163 rfl ?_
      refine r_gfI (f := 16) (p := 167) f193_164 rfl rfl rfl (Or.inl h3) rfl ?_
      refine le2_gd (fun h4 => ?_)
      refine r_invV (p := 170) f193_167 rfl rfl rfl (Or.inl h4) hd (Nat.le_of_ble_eq_true rfl) rfl rfl rfl (fun _ => rfl) (fun m3 c3 => ?_)
      have hz3 := z_k c3 hz2
      exact le2_refl _
theorem q193_170 {d : Nat} {m : Mem} {a0 a1 a2 a3 : Int} (hd : 0 < d) (hz : TZ m) : le2 (gd (tg m a0 = 11) <| bI (cl (d - 1) 216 [pR a0] m) fun v1 m1 => if v1 = 0 then (some (.inl (some (pI 0)), m1)) else nm (vl m1 a0 8) fun v2 => gd (tg m1 v2 = 12) <| some (.inl (some (pI (vl m1 v2 3))), m1)) (rn d 193 170 [pR a0, pI a1, pI a2, pI a3] [] m) := by
  refine r_aln0 (p := 171) f193_170 rfl ?_
  refine le2_gd (fun h1 => ?_)
  refine r_invI (p := 174) f193_171 rfl rfl rfl (Or.inl h1) hd (Nat.le_of_ble_eq_true rfl) rfl rfl rfl (fun _ => rfl) (fun v1 m1 c1 => ?_)
  have hz1 := z_k c1 hz
  refine r_ifeq (t := 187) (p := 177) f193_174 (by decide) rfl rfl ?_ ?_
  · refine r_iconst (p := 188) f193_187 rfl (pinD rfl rfl) ?_
    exact r_iret1 f193_188
  · refine r_aln0 (p := 178) f193_177 rfl ?_
    have h2 := k_t1 c1 hz h1 (by decide)
    refine r_gfR (f := 8) (p := 181) f193_178 rfl rfl rfl (Or.inl h2) rfl ?_
    refine r_nmR (fun v2 ev2 => ?_)
    refine le2_gd (fun h3 => ?_)
    refine r_gfI (f := 3) (p := 184) f193_181 rfl rfl rfl (Or.inl h3) rfl ?_
    refine r_goto (p := 188) f193_184 (by decide) rfl ?_
    exact r_iret1 f193_188
/-! 194 PathStoreModel.isId (I)Z -/
def w194_0 : List UInt8 := [26, 155, 0, 14, 26, 17, 39, 15, 163, 0, 7, 4, 167, 0, 4, 3, 172]
abbrev u194_0 : List UInt8 := w194_0 ++ []
theorem s194_0 : (prog_32_method_33_code).data.toList.drop 0 = u194_0 := by decide +kernel
theorem Fm194 {pc len : Nat} {i : Instr} (h : decode (prog_32_method_33_code) pc = .ok (i, len)) (hl : len = ilen i len) : ft 194 pc = some (11, 4, 0, i, len) := ft_mk rfl h hl
theorem f194_0 : ft 194 0 = some (11, 4, 0, .iload_n 0, 1) := Fm194 (dk_26 (dk_at s194_0 0 rfl rfl)) rfl
theorem f194_1 : ft 194 1 = some (11, 4, 0, .ifCond .lt 14, 3) := Fm194 (dk_155 0 14 (dk_at s194_0 1 rfl rfl)) rfl
theorem f194_4 : ft 194 4 = some (11, 4, 0, .iload_n 0, 1) := Fm194 (dk_26 (dk_at s194_0 4 rfl rfl)) rfl
theorem f194_5 : ft 194 5 = some (11, 4, 0, .sipush 9999, 3) := Fm194 (dk_17 39 15 (dk_at s194_0 5 rfl rfl)) rfl
theorem f194_8 : ft 194 8 = some (11, 4, 0, .if_icmp .gt 7, 3) := Fm194 (dk_163 0 7 (dk_at s194_0 8 rfl rfl)) rfl
theorem f194_11 : ft 194 11 = some (11, 4, 0, .iconst 1, 1) := Fm194 (dk_4 (dk_at s194_0 11 rfl rfl)) rfl
theorem f194_12 : ft 194 12 = some (11, 4, 0, .goto 4, 3) := Fm194 (dk_167 0 4 (dk_at s194_0 12 rfl rfl)) rfl
theorem f194_15 : ft 194 15 = some (11, 4, 0, .iconst 0, 1) := Fm194 (dk_3 (dk_at s194_0 15 rfl rfl)) rfl
theorem f194_16 : ft 194 16 = some (11, 4, 0, .ireturn, 1) := Fm194 (dk_172 (dk_at s194_0 16 rfl rfl)) rfl
theorem q194 {d : Nat} {m : Mem} {a0 : Int} (hz : TZ m) : le2 (if a0 < 0 then (some (.inl (some (pI 0)), m)) else if 9999 < a0 then (some (.inl (some (pI 0)), m)) else some (.inl (some (pI 1)), m)) (cl d 194 [pI a0] m) := by
  refine q_in (n := 1) (L := [pI a0]) rfl rfl rfl ?_
  refine r_iln0 (p := 1) f194_0 rfl ?_
  refine r_iflt (t := 15) (p := 4) f194_1 (by decide) rfl rfl ?_ ?_
  · refine r_iconst (p := 16) f194_15 rfl (pinD rfl rfl) ?_
    exact r_iret4 f194_16 (by decide)
  · refine r_iln0 (p := 5) f194_4 rfl ?_
    refine r_sipush (p := 8) f194_5 rfl (pinD rfl rfl) ?_
    refine r_icgt (t := 15) (p := 11) f194_8 (by decide) rfl rfl ?_ ?_
    · refine r_iconst (p := 16) f194_15 rfl (pinD rfl rfl) ?_
      exact r_iret4 f194_16 (by decide)
    · refine r_iconst (p := 12) f194_11 rfl (pinD rfl rfl) ?_
      refine r_goto (p := 16) f194_12 (by decide) rfl ?_
      exact r_iret4 f194_16 (by decide)
/-! 195 PathStoreModel.used ()I -/
def w195_0 : List UInt8 := [42, 180, 0, 139, 60, 42, 3, 181, 0, 139, 27, 172]
abbrev u195_0 : List UInt8 := w195_0 ++ []
theorem s195_0 : (prog_32_method_32_code).data.toList.drop 0 = u195_0 := by decide +kernel
theorem Fm195 {pc len : Nat} {i : Instr} (h : decode (prog_32_method_32_code) pc = .ok (i, len)) (hl : len = ilen i len) : ft 195 pc = some (11, 1, 0, i, len) := ft_mk rfl h hl
theorem f195_0 : ft 195 0 = some (11, 1, 0, .aload_n 0, 1) := Fm195 (dk_42 (dk_at s195_0 0 rfl rfl)) rfl
theorem f195_1 : ft 195 1 = some (11, 1, 0, .getfield 139, 3) := Fm195 (dk_180 0 139 (dk_at s195_0 1 rfl rfl)) rfl
theorem f195_4 : ft 195 4 = some (11, 1, 0, .istore_n 1, 1) := Fm195 (dk_60 (dk_at s195_0 4 rfl rfl)) rfl
theorem f195_5 : ft 195 5 = some (11, 1, 0, .aload_n 0, 1) := Fm195 (dk_42 (dk_at s195_0 5 rfl rfl)) rfl
theorem f195_6 : ft 195 6 = some (11, 1, 0, .iconst 0, 1) := Fm195 (dk_3 (dk_at s195_0 6 rfl rfl)) rfl
theorem f195_7 : ft 195 7 = some (11, 1, 0, .putfield 139, 3) := Fm195 (dk_181 0 139 (dk_at s195_0 7 rfl rfl)) rfl
theorem f195_10 : ft 195 10 = some (11, 1, 0, .iload_n 1, 1) := Fm195 (dk_27 (dk_at s195_0 10 rfl rfl)) rfl
theorem f195_11 : ft 195 11 = some (11, 1, 0, .ireturn, 1) := Fm195 (dk_172 (dk_at s195_0 11 rfl rfl)) rfl
theorem q195 {d : Nat} {m : Mem} {a0 : Int} (hz : TZ m) : le2 (gd (tg m a0 = 11) <| some (.inl (some (pI (vl m a0 1))), (mst m a0 1 0))) (cl d 195 [pR a0] m) := by
  refine q_in (n := 2) (L := [pR a0, pU]) rfl rfl rfl ?_
  refine r_aln0 (p := 1) f195_0 rfl ?_
  refine le2_gd (fun h1 => ?_)
  refine r_gfI (f := 1) (p := 4) f195_1 rfl rfl rfl (Or.inl h1) rfl ?_
  refine r_isn1 (p := 5) f195_4 rfl rfl ?_
  refine r_aln0 (p := 6) f195_5 rfl ?_
  refine r_iconst (p := 7) f195_6 rfl (pinD rfl rfl) ?_
  refine r_pfI (f := 1) (p := 10) f195_7 rfl rfl rfl (by decide) (by decide) (Or.inl h1) rfl ?_
  refine r_iln1 (p := 11) f195_10 rfl ?_
  exact r_iret1 f195_11
/-! 196 PathStoreModel.read ([BILPathStoreModel$Tree;)I -/
def w196_2 : List UInt8 := [42, 42, 180, 0, 155, 182, 0, 171, 87, 2, 172, 21, 4, 172]
abbrev u196_2 : List UInt8 := w196_2 ++ []
def w196_1 : List UInt8 := [42, 45, 3, 182, 0, 241, 54, 4, 21, 4, 155, 0, 25, 42, 180, 0, 155, 42, 180, 0, 158, 162, 0, 14]
abbrev u196_1 : List UInt8 := w196_1 ++ u196_2
def w196_0 : List UInt8 := [42, 43, 181, 0, 161, 42, 3, 181, 0, 155, 42, 28, 181, 0, 158, 42, 2, 181, 0, 164, 45, 182, 0, 249]
abbrev u196_0 : List UInt8 := w196_0 ++ u196_1
theorem s196_0 : (prog_32_method_24_code).data.toList.drop 0 = u196_0 := by decide +kernel
theorem s196_1 : (prog_32_method_24_code).data.toList.drop 24 = u196_1 := dk_seg s196_0 24 rfl rfl
theorem s196_2 : (prog_32_method_24_code).data.toList.drop 48 = u196_2 := dk_seg s196_1 24 rfl rfl
theorem Fm196 {pc len : Nat} {i : Instr} (h : decode (prog_32_method_24_code) pc = .ok (i, len)) (hl : len = ilen i len) : ft 196 pc = some (11, 1, 0, i, len) := ft_mk rfl h hl
theorem f196_0 : ft 196 0 = some (11, 1, 0, .aload_n 0, 1) := Fm196 (dk_42 (dk_at s196_0 0 rfl rfl)) rfl
theorem f196_1 : ft 196 1 = some (11, 1, 0, .aload_n 1, 1) := Fm196 (dk_43 (dk_at s196_0 1 rfl rfl)) rfl
theorem f196_2 : ft 196 2 = some (11, 1, 0, .putfield 161, 3) := Fm196 (dk_181 0 161 (dk_at s196_0 2 rfl rfl)) rfl
theorem f196_5 : ft 196 5 = some (11, 1, 0, .aload_n 0, 1) := Fm196 (dk_42 (dk_at s196_0 5 rfl rfl)) rfl
theorem f196_6 : ft 196 6 = some (11, 1, 0, .iconst 0, 1) := Fm196 (dk_3 (dk_at s196_0 6 rfl rfl)) rfl
theorem f196_7 : ft 196 7 = some (11, 1, 0, .putfield 155, 3) := Fm196 (dk_181 0 155 (dk_at s196_0 7 rfl rfl)) rfl
theorem f196_10 : ft 196 10 = some (11, 1, 0, .aload_n 0, 1) := Fm196 (dk_42 (dk_at s196_0 10 rfl rfl)) rfl
theorem f196_11 : ft 196 11 = some (11, 1, 0, .iload_n 2, 1) := Fm196 (dk_28 (dk_at s196_0 11 rfl rfl)) rfl
theorem f196_12 : ft 196 12 = some (11, 1, 0, .putfield 158, 3) := Fm196 (dk_181 0 158 (dk_at s196_0 12 rfl rfl)) rfl
theorem f196_15 : ft 196 15 = some (11, 1, 0, .aload_n 0, 1) := Fm196 (dk_42 (dk_at s196_0 15 rfl rfl)) rfl
theorem f196_16 : ft 196 16 = some (11, 1, 0, .iconst (-1), 1) := Fm196 (dk_2 (dk_at s196_0 16 rfl rfl)) rfl
theorem f196_17 : ft 196 17 = some (11, 1, 0, .putfield 164, 3) := Fm196 (dk_181 0 164 (dk_at s196_0 17 rfl rfl)) rfl
theorem f196_20 : ft 196 20 = some (11, 1, 0, .aload_n 3, 1) := Fm196 (dk_45 (dk_at s196_0 20 rfl rfl)) rfl
theorem f196_21 : ft 196 21 = some (11, 1, 0, .invokevirtual 249, 3) := Fm196 (dk_182 0 249 (dk_at s196_0 21 rfl rfl)) rfl
theorem f196_24 : ft 196 24 = some (11, 1, 0, .aload_n 0, 1) := Fm196 (dk_42 (dk_at s196_1 0 rfl rfl)) rfl
theorem f196_25 : ft 196 25 = some (11, 1, 0, .aload_n 3, 1) := Fm196 (dk_45 (dk_at s196_1 1 rfl rfl)) rfl
theorem f196_26 : ft 196 26 = some (11, 1, 0, .iconst 0, 1) := Fm196 (dk_3 (dk_at s196_1 2 rfl rfl)) rfl
theorem f196_27 : ft 196 27 = some (11, 1, 0, .invokevirtual 241, 3) := Fm196 (dk_182 0 241 (dk_at s196_1 3 rfl rfl)) rfl
theorem f196_30 : ft 196 30 = some (11, 1, 0, .istore 4, 2) := Fm196 (dk_54 4 (dk_at s196_1 6 rfl rfl)) rfl
theorem f196_32 : ft 196 32 = some (11, 1, 0, .iload 4, 2) := Fm196 (dk_21 4 (dk_at s196_1 8 rfl rfl)) rfl
theorem f196_34 : ft 196 34 = some (11, 1, 0, .ifCond .lt 25, 3) := Fm196 (dk_155 0 25 (dk_at s196_1 10 rfl rfl)) rfl
theorem f196_37 : ft 196 37 = some (11, 1, 0, .aload_n 0, 1) := Fm196 (dk_42 (dk_at s196_1 13 rfl rfl)) rfl
theorem f196_38 : ft 196 38 = some (11, 1, 0, .getfield 155, 3) := Fm196 (dk_180 0 155 (dk_at s196_1 14 rfl rfl)) rfl
theorem f196_41 : ft 196 41 = some (11, 1, 0, .aload_n 0, 1) := Fm196 (dk_42 (dk_at s196_1 17 rfl rfl)) rfl
theorem f196_42 : ft 196 42 = some (11, 1, 0, .getfield 158, 3) := Fm196 (dk_180 0 158 (dk_at s196_1 18 rfl rfl)) rfl
theorem f196_45 : ft 196 45 = some (11, 1, 0, .if_icmp .ge 14, 3) := Fm196 (dk_162 0 14 (dk_at s196_1 21 rfl rfl)) rfl
theorem f196_48 : ft 196 48 = some (11, 1, 0, .aload_n 0, 1) := Fm196 (dk_42 (dk_at s196_2 0 rfl rfl)) rfl
theorem f196_49 : ft 196 49 = some (11, 1, 0, .aload_n 0, 1) := Fm196 (dk_42 (dk_at s196_2 1 rfl rfl)) rfl
theorem f196_50 : ft 196 50 = some (11, 1, 0, .getfield 155, 3) := Fm196 (dk_180 0 155 (dk_at s196_2 2 rfl rfl)) rfl
theorem f196_53 : ft 196 53 = some (11, 1, 0, .invokevirtual 171, 3) := Fm196 (dk_182 0 171 (dk_at s196_2 5 rfl rfl)) rfl
theorem f196_56 : ft 196 56 = some (11, 1, 0, .pop, 1) := Fm196 (dk_87 (dk_at s196_2 8 rfl rfl)) rfl
theorem f196_57 : ft 196 57 = some (11, 1, 0, .iconst (-1), 1) := Fm196 (dk_2 (dk_at s196_2 9 rfl rfl)) rfl
theorem f196_58 : ft 196 58 = some (11, 1, 0, .ireturn, 1) := Fm196 (dk_172 (dk_at s196_2 10 rfl rfl)) rfl
theorem f196_59 : ft 196 59 = some (11, 1, 0, .iload 4, 2) := Fm196 (dk_21 4 (dk_at s196_2 11 rfl rfl)) rfl
theorem f196_61 : ft 196 61 = some (11, 1, 0, .ireturn, 1) := Fm196 (dk_172 (dk_at s196_2 13 rfl rfl)) rfl
theorem q196 {d : Nat} {m : Mem} {a0 a1 a2 a3 : Int} (hd : 0 < d) (hz : TZ m) : le2 (gd (tg m a0 = 11) <| gd (tg m a3 = 13) <| bV (cl (d - 1) 284 [pR a3] (mst (mst (mst (mst m a0 11 a1) a0 12 0) a0 13 a2) a0 14 (-1))) fun m1 => bI (cl (d - 1) 197 [pR a0, pR a3, pI 0] m1) fun v2 m2 => if v2 < 0 then (some (.inl (some (pI v2)), m2)) else nm (vl m2 a0 12) fun v4 => if v4 < (vl m2 a0 13) then (bI (cl (d - 1) 202 [pR a0, pI v4] m2) fun v3 m3 => some (.inl (some (pI (-1))), m3)) else some (.inl (some (pI v2)), m2)) (cl d 196 [pR a0, pR a1, pI a2, pR a3] m) := by
  refine q_in (n := 5) (L := [pR a0, pR a1, pI a2, pR a3, pU]) rfl rfl rfl ?_
  refine r_aln0 (p := 1) f196_0 rfl ?_
  refine r_aln1 (p := 2) f196_1 rfl ?_
  refine le2_gd (fun h1 => ?_)
  refine r_pfR (f := 11) (p := 5) f196_2 rfl rfl rfl (by decide) (by decide) (Or.inl h1) rfl ?_
  refine r_aln0 (p := 6) f196_5 rfl ?_
  refine r_iconst (p := 7) f196_6 rfl (pinD rfl rfl) ?_
  refine r_pfI (f := 12) (p := 10) f196_7 rfl rfl rfl (by decide) (by decide) (Or.inl h1) rfl ?_
  refine r_aln0 (p := 11) f196_10 rfl ?_
  refine r_iln2 (p := 12) f196_11 rfl ?_
  refine r_pfI (f := 13) (p := 15) f196_12 rfl rfl rfl (by decide) (by decide) (Or.inl h1) rfl ?_
  refine r_aln0 (p := 16) f196_15 rfl ?_
  refine r_iconst (p := 17) f196_16 rfl (pinD rfl rfl) ?_
  refine r_pfI (f := 14) (p := 20) f196_17 rfl rfl rfl (by decide) (by decide) (Or.inl h1) rfl ?_
  refine r_aln3 (p := 21) f196_20 rfl ?_
  refine le2_gd (fun h2 => ?_)
  refine r_invV (p := 24) f196_21 rfl rfl rfl (Or.inl h2) hd (Nat.le_of_ble_eq_true rfl) rfl rfl rfl (fun _ => rfl) (fun m1 c1 => ?_)
  have hz1 := z_k c1 hz
  refine r_aln0 (p := 25) f196_24 rfl ?_
  refine r_aln3 (p := 26) f196_25 rfl ?_
  refine r_iconst (p := 27) f196_26 rfl (pinD rfl rfl) ?_
  have h3 := k_t1 c1 hz h1 (by decide)
  refine r_invI (p := 30) f196_27 rfl rfl rfl (Or.inl h3) hd (Nat.le_of_ble_eq_true rfl) rfl rfl rfl (fun _ => rfl) (fun v2 m2 c2 => ?_)
  have hz2 := z_k c2 hz1
  refine r_isw4 (p := 32) f196_30 rfl rfl ?_
  refine r_ilw4 (p := 34) f196_32 rfl ?_
  refine r_iflt (t := 59) (p := 37) f196_34 (by decide) rfl rfl ?_ ?_
  · refine r_ilw4 (p := 61) f196_59 rfl ?_
    exact r_iret1 f196_61
  · refine r_aln0 (p := 38) f196_37 rfl ?_
    have h4 := k_t1 c2 hz1 h3 (by decide)
    refine r_gfI (f := 12) (p := 41) f196_38 rfl rfl rfl (Or.inl h4) rfl ?_
    refine r_nmI (fun v4 ev4 => ?_)
    refine r_aln0 (p := 42) f196_41 rfl ?_
    refine r_gfI (f := 13) (p := 45) f196_42 rfl rfl rfl (Or.inl h4) rfl ?_
    refine r_icge (t := 59) (p := 48) f196_45 (by decide) rfl rfl ?_ ?_
    · refine r_aln0 (p := 49) f196_48 rfl ?_
      refine r_aln0 (p := 50) f196_49 rfl ?_
      refine r_gfI (f := 12) (p := 53) f196_50 rfl rfl rfl (Or.inl h4) ev4.symm ?_
      refine r_invI (p := 56) f196_53 rfl rfl rfl (Or.inl h4) hd (Nat.le_of_ble_eq_true rfl) rfl rfl rfl (fun _ => rfl) (fun v3 m3 c3 => ?_)
      have hz3 := z_k c3 hz2
      refine r_pop (p := 57) f196_56 rfl rfl ?_
      refine r_iconst (p := 58) f196_57 rfl (pinD rfl rfl) ?_
      exact r_iret1 f196_58
    · refine r_ilw4 (p := 61) f196_59 rfl ?_
      exact r_iret1 f196_61
/-! 197 PathStoreModel.value (LPathStoreModel$Tree;I)I -/
def w197_11 : List UInt8 := [21, 4, 172]
abbrev u197_11 : List UInt8 := w197_11 ++ []
def w197_10 : List UInt8 := [182, 0, 231, 154, 0, 16, 2, 172, 42, 42, 180, 0, 155, 182, 0, 171, 87, 2, 172, 42, 182, 0, 204]
abbrev u197_10 : List UInt8 := w197_10 ++ u197_11
def w197_9 : List UInt8 := [182, 0, 217, 54, 4, 42, 43, 21, 4, 28, 29, 16, 91, 160, 0, 8, 16, 93, 167, 0, 5, 16, 125]
abbrev u197_9 : List UInt8 := w197_9 ++ u197_10
def w197_8 : List UInt8 := [42, 180, 0, 155, 182, 0, 171, 87, 2, 172, 43, 29, 16, 91, 160, 0, 7, 8, 167, 0, 5, 16, 6]
abbrev u197_8 : List UInt8 := w197_8 ++ u197_9
def w197_7 : List UInt8 := [154, 0, 89, 2, 172, 29, 16, 91, 159, 0, 9, 29, 16, 123, 160, 0, 64, 28, 16, 32, 160, 0, 14, 42]
abbrev u197_7 : List UInt8 := w197_7 ++ u197_8
def w197_6 : List UInt8 := [159, 0, 10, 29, 184, 0, 186, 153, 0, 22, 43, 6, 182, 0, 217, 54, 4, 42, 43, 21, 4, 182, 0, 227]
abbrev u197_6 : List UInt8 := w197_6 ++ u197_7
def w197_5 : List UInt8 := [180, 0, 48, 21, 4, 43, 180, 0, 224, 43, 180, 0, 45, 21, 4, 46, 100, 79, 167, 0, 119, 29, 16, 45]
abbrev u197_5 : List UInt8 := w197_5 ++ u197_6
def w197_4 : List UInt8 := [160, 0, 44, 43, 7, 182, 0, 217, 54, 4, 42, 16, 34, 43, 182, 0, 220, 154, 0, 5, 2, 172, 43]
abbrev u197_4 : List UInt8 := w197_4 ++ u197_5
def w197_3 : List UInt8 := [29, 16, 116, 160, 0, 7, 4, 167, 0, 4, 5, 182, 0, 217, 54, 4, 167, 0, 166, 29, 16, 34]
abbrev u197_3 : List UInt8 := w197_3 ++ u197_4
def w197_2 : List UInt8 := [167, 0, 5, 18, 211, 182, 0, 213, 154, 0, 5, 2, 172, 43, 29, 16, 110, 160, 0, 7, 3, 167, 0, 14]
abbrev u197_2 : List UInt8 := w197_2 ++ u197_3
def w197_1 : List UInt8 := [160, 0, 66, 42, 29, 16, 110, 160, 0, 8, 18, 207, 167, 0, 16, 29, 16, 116, 160, 0, 8, 18, 209]
abbrev u197_1 : List UInt8 := w197_1 ++ u197_2
def w197_0 : List UInt8 := [42, 182, 0, 204, 42, 182, 0, 167, 62, 29, 16, 110, 159, 0, 15, 29, 16, 116, 159, 0, 9, 29, 16, 102]
abbrev u197_0 : List UInt8 := w197_0 ++ u197_1
theorem s197_0 : (prog_32_method_21_code).data.toList.drop 0 = u197_0 := by decide +kernel
theorem s197_1 : (prog_32_method_21_code).data.toList.drop 24 = u197_1 := dk_seg s197_0 24 rfl rfl
theorem s197_2 : (prog_32_method_21_code).data.toList.drop 47 = u197_2 := dk_seg s197_1 23 rfl rfl
theorem s197_3 : (prog_32_method_21_code).data.toList.drop 71 = u197_3 := dk_seg s197_2 24 rfl rfl
theorem s197_4 : (prog_32_method_21_code).data.toList.drop 93 = u197_4 := dk_seg s197_3 22 rfl rfl
theorem s197_5 : (prog_32_method_21_code).data.toList.drop 116 = u197_5 := dk_seg s197_4 23 rfl rfl
theorem s197_6 : (prog_32_method_21_code).data.toList.drop 140 = u197_6 := dk_seg s197_5 24 rfl rfl
theorem s197_7 : (prog_32_method_21_code).data.toList.drop 164 = u197_7 := dk_seg s197_6 24 rfl rfl
theorem s197_8 : (prog_32_method_21_code).data.toList.drop 188 = u197_8 := dk_seg s197_7 24 rfl rfl
theorem s197_9 : (prog_32_method_21_code).data.toList.drop 211 = u197_9 := dk_seg s197_8 23 rfl rfl
theorem s197_10 : (prog_32_method_21_code).data.toList.drop 234 = u197_10 := dk_seg s197_9 23 rfl rfl
theorem s197_11 : (prog_32_method_21_code).data.toList.drop 257 = u197_11 := dk_seg s197_10 23 rfl rfl
theorem Fm197 {pc len : Nat} {i : Instr} (h : decode (prog_32_method_21_code) pc = .ok (i, len)) (hl : len = ilen i len) : ft 197 pc = some (11, 1, 0, i, len) := ft_mk rfl h hl
theorem f197_0 : ft 197 0 = some (11, 1, 0, .aload_n 0, 1) := Fm197 (dk_42 (dk_at s197_0 0 rfl rfl)) rfl
theorem f197_1 : ft 197 1 = some (11, 1, 0, .invokevirtual 204, 3) := Fm197 (dk_182 0 204 (dk_at s197_0 1 rfl rfl)) rfl
theorem f197_4 : ft 197 4 = some (11, 1, 0, .aload_n 0, 1) := Fm197 (dk_42 (dk_at s197_0 4 rfl rfl)) rfl
theorem f197_5 : ft 197 5 = some (11, 1, 0, .invokevirtual 167, 3) := Fm197 (dk_182 0 167 (dk_at s197_0 5 rfl rfl)) rfl
theorem f197_8 : ft 197 8 = some (11, 1, 0, .istore_n 3, 1) := Fm197 (dk_62 (dk_at s197_0 8 rfl rfl)) rfl
theorem f197_9 : ft 197 9 = some (11, 1, 0, .iload_n 3, 1) := Fm197 (dk_29 (dk_at s197_0 9 rfl rfl)) rfl
theorem f197_10 : ft 197 10 = some (11, 1, 0, .bipush 110, 2) := Fm197 (dk_16 110 (dk_at s197_0 10 rfl rfl)) rfl
theorem f197_12 : ft 197 12 = some (11, 1, 0, .if_icmp .eq 15, 3) := Fm197 (dk_159 0 15 (dk_at s197_0 12 rfl rfl)) rfl
theorem f197_15 : ft 197 15 = some (11, 1, 0, .iload_n 3, 1) := Fm197 (dk_29 (dk_at s197_0 15 rfl rfl)) rfl
theorem f197_16 : ft 197 16 = some (11, 1, 0, .bipush 116, 2) := Fm197 (dk_16 116 (dk_at s197_0 16 rfl rfl)) rfl
theorem f197_18 : ft 197 18 = some (11, 1, 0, .if_icmp .eq 9, 3) := Fm197 (dk_159 0 9 (dk_at s197_0 18 rfl rfl)) rfl
theorem f197_21 : ft 197 21 = some (11, 1, 0, .iload_n 3, 1) := Fm197 (dk_29 (dk_at s197_0 21 rfl rfl)) rfl
theorem f197_22 : ft 197 22 = some (11, 1, 0, .bipush 102, 2) := Fm197 (dk_16 102 (dk_at s197_0 22 rfl rfl)) rfl
theorem f197_24 : ft 197 24 = some (11, 1, 0, .if_icmp .ne 66, 3) := Fm197 (dk_160 0 66 (dk_at s197_1 0 rfl rfl)) rfl
theorem f197_27 : ft 197 27 = some (11, 1, 0, .aload_n 0, 1) := Fm197 (dk_42 (dk_at s197_1 3 rfl rfl)) rfl
theorem f197_28 : ft 197 28 = some (11, 1, 0, .iload_n 3, 1) := Fm197 (dk_29 (dk_at s197_1 4 rfl rfl)) rfl
theorem f197_29 : ft 197 29 = some (11, 1, 0, .bipush 110, 2) := Fm197 (dk_16 110 (dk_at s197_1 5 rfl rfl)) rfl
theorem f197_31 : ft 197 31 = some (11, 1, 0, .if_icmp .ne 8, 3) := Fm197 (dk_160 0 8 (dk_at s197_1 7 rfl rfl)) rfl
theorem f197_34 : ft 197 34 = some (11, 1, 0, .ldc 207, 2) := Fm197 (dk_18 207 (dk_at s197_1 10 rfl rfl)) rfl
theorem f197_36 : ft 197 36 = some (11, 1, 0, .goto 16, 3) := Fm197 (dk_167 0 16 (dk_at s197_1 12 rfl rfl)) rfl
theorem f197_39 : ft 197 39 = some (11, 1, 0, .iload_n 3, 1) := Fm197 (dk_29 (dk_at s197_1 15 rfl rfl)) rfl
theorem f197_40 : ft 197 40 = some (11, 1, 0, .bipush 116, 2) := Fm197 (dk_16 116 (dk_at s197_1 16 rfl rfl)) rfl
theorem f197_42 : ft 197 42 = some (11, 1, 0, .if_icmp .ne 8, 3) := Fm197 (dk_160 0 8 (dk_at s197_1 18 rfl rfl)) rfl
theorem f197_45 : ft 197 45 = some (11, 1, 0, .ldc 209, 2) := Fm197 (dk_18 209 (dk_at s197_1 21 rfl rfl)) rfl
theorem f197_47 : ft 197 47 = some (11, 1, 0, .goto 5, 3) := Fm197 (dk_167 0 5 (dk_at s197_2 0 rfl rfl)) rfl
theorem f197_50 : ft 197 50 = some (11, 1, 0, .ldc 211, 2) := Fm197 (dk_18 211 (dk_at s197_2 3 rfl rfl)) rfl
theorem f197_52 : ft 197 52 = some (11, 1, 0, .invokevirtual 213, 3) := Fm197 (dk_182 0 213 (dk_at s197_2 5 rfl rfl)) rfl
theorem f197_55 : ft 197 55 = some (11, 1, 0, .ifCond .ne 5, 3) := Fm197 (dk_154 0 5 (dk_at s197_2 8 rfl rfl)) rfl
theorem f197_58 : ft 197 58 = some (11, 1, 0, .iconst (-1), 1) := Fm197 (dk_2 (dk_at s197_2 11 rfl rfl)) rfl
theorem f197_59 : ft 197 59 = some (11, 1, 0, .ireturn, 1) := Fm197 (dk_172 (dk_at s197_2 12 rfl rfl)) rfl
theorem f197_60 : ft 197 60 = some (11, 1, 0, .aload_n 1, 1) := Fm197 (dk_43 (dk_at s197_2 13 rfl rfl)) rfl
theorem f197_61 : ft 197 61 = some (11, 1, 0, .iload_n 3, 1) := Fm197 (dk_29 (dk_at s197_2 14 rfl rfl)) rfl
theorem f197_62 : ft 197 62 = some (11, 1, 0, .bipush 110, 2) := Fm197 (dk_16 110 (dk_at s197_2 15 rfl rfl)) rfl
theorem f197_64 : ft 197 64 = some (11, 1, 0, .if_icmp .ne 7, 3) := Fm197 (dk_160 0 7 (dk_at s197_2 17 rfl rfl)) rfl
theorem f197_67 : ft 197 67 = some (11, 1, 0, .iconst 0, 1) := Fm197 (dk_3 (dk_at s197_2 20 rfl rfl)) rfl
theorem f197_68 : ft 197 68 = some (11, 1, 0, .goto 14, 3) := Fm197 (dk_167 0 14 (dk_at s197_2 21 rfl rfl)) rfl
theorem f197_71 : ft 197 71 = some (11, 1, 0, .iload_n 3, 1) := Fm197 (dk_29 (dk_at s197_3 0 rfl rfl)) rfl
theorem f197_72 : ft 197 72 = some (11, 1, 0, .bipush 116, 2) := Fm197 (dk_16 116 (dk_at s197_3 1 rfl rfl)) rfl
theorem f197_74 : ft 197 74 = some (11, 1, 0, .if_icmp .ne 7, 3) := Fm197 (dk_160 0 7 (dk_at s197_3 3 rfl rfl)) rfl
theorem f197_77 : ft 197 77 = some (11, 1, 0, .iconst 1, 1) := Fm197 (dk_4 (dk_at s197_3 6 rfl rfl)) rfl
theorem f197_78 : ft 197 78 = some (11, 1, 0, .goto 4, 3) := Fm197 (dk_167 0 4 (dk_at s197_3 7 rfl rfl)) rfl
theorem f197_81 : ft 197 81 = some (11, 1, 0, .iconst 2, 1) := Fm197 (dk_5 (dk_at s197_3 10 rfl rfl)) rfl
theorem f197_82 : ft 197 82 = some (11, 1, 0, .invokevirtual 217, 3) := Fm197 (dk_182 0 217 (dk_at s197_3 11 rfl rfl)) rfl
theorem f197_85 : ft 197 85 = some (11, 1, 0, .istore 4, 2) := Fm197 (dk_54 4 (dk_at s197_3 14 rfl rfl)) rfl
theorem f197_87 : ft 197 87 = some (11, 1, 0, .goto 166, 3) := Fm197 (dk_167 0 166 (dk_at s197_3 16 rfl rfl)) rfl
theorem f197_90 : ft 197 90 = some (11, 1, 0, .iload_n 3, 1) := Fm197 (dk_29 (dk_at s197_3 19 rfl rfl)) rfl
theorem f197_91 : ft 197 91 = some (11, 1, 0, .bipush 34, 2) := Fm197 (dk_16 34 (dk_at s197_3 20 rfl rfl)) rfl
theorem f197_93 : ft 197 93 = some (11, 1, 0, .if_icmp .ne 44, 3) := Fm197 (dk_160 0 44 (dk_at s197_4 0 rfl rfl)) rfl
theorem f197_96 : ft 197 96 = some (11, 1, 0, .aload_n 1, 1) := Fm197 (dk_43 (dk_at s197_4 3 rfl rfl)) rfl
theorem f197_97 : ft 197 97 = some (11, 1, 0, .iconst 4, 1) := Fm197 (dk_7 (dk_at s197_4 4 rfl rfl)) rfl
theorem f197_98 : ft 197 98 = some (11, 1, 0, .invokevirtual 217, 3) := Fm197 (dk_182 0 217 (dk_at s197_4 5 rfl rfl)) rfl
theorem f197_101 : ft 197 101 = some (11, 1, 0, .istore 4, 2) := Fm197 (dk_54 4 (dk_at s197_4 8 rfl rfl)) rfl
theorem f197_103 : ft 197 103 = some (11, 1, 0, .aload_n 0, 1) := Fm197 (dk_42 (dk_at s197_4 10 rfl rfl)) rfl
theorem f197_104 : ft 197 104 = some (11, 1, 0, .bipush 34, 2) := Fm197 (dk_16 34 (dk_at s197_4 11 rfl rfl)) rfl
theorem f197_106 : ft 197 106 = some (11, 1, 0, .aload_n 1, 1) := Fm197 (dk_43 (dk_at s197_4 13 rfl rfl)) rfl
theorem f197_107 : ft 197 107 = some (11, 1, 0, .invokevirtual 220, 3) := Fm197 (dk_182 0 220 (dk_at s197_4 14 rfl rfl)) rfl
theorem f197_110 : ft 197 110 = some (11, 1, 0, .ifCond .ne 5, 3) := Fm197 (dk_154 0 5 (dk_at s197_4 17 rfl rfl)) rfl
theorem f197_113 : ft 197 113 = some (11, 1, 0, .iconst (-1), 1) := Fm197 (dk_2 (dk_at s197_4 20 rfl rfl)) rfl
theorem f197_114 : ft 197 114 = some (11, 1, 0, .ireturn, 1) := Fm197 (dk_172 (dk_at s197_4 21 rfl rfl)) rfl
theorem f197_115 : ft 197 115 = some (11, 1, 0, .aload_n 1, 1) := Fm197 (dk_43 (dk_at s197_4 22 rfl rfl)) rfl
theorem f197_116 : ft 197 116 = some (11, 1, 0, .getfield 48, 3) := Fm197 (dk_180 0 48 (dk_at s197_5 0 rfl rfl)) rfl
theorem f197_119 : ft 197 119 = some (11, 1, 0, .iload 4, 2) := Fm197 (dk_21 4 (dk_at s197_5 3 rfl rfl)) rfl
theorem f197_121 : ft 197 121 = some (11, 1, 0, .aload_n 1, 1) := Fm197 (dk_43 (dk_at s197_5 5 rfl rfl)) rfl
theorem f197_122 : ft 197 122 = some (11, 1, 0, .getfield 224, 3) := Fm197 (dk_180 0 224 (dk_at s197_5 6 rfl rfl)) rfl
theorem f197_125 : ft 197 125 = some (11, 1, 0, .aload_n 1, 1) := Fm197 (dk_43 (dk_at s197_5 9 rfl rfl)) rfl
theorem f197_126 : ft 197 126 = some (11, 1, 0, .getfield 45, 3) := Fm197 (dk_180 0 45 (dk_at s197_5 10 rfl rfl)) rfl
theorem f197_129 : ft 197 129 = some (11, 1, 0, .iload 4, 2) := Fm197 (dk_21 4 (dk_at s197_5 13 rfl rfl)) rfl
theorem f197_131 : ft 197 131 = some (11, 1, 0, .iaload, 1) := Fm197 (dk_46 (dk_at s197_5 15 rfl rfl)) rfl
theorem f197_132 : ft 197 132 = some (11, 1, 0, .isub, 1) := Fm197 (dk_100 (dk_at s197_5 16 rfl rfl)) rfl
theorem f197_133 : ft 197 133 = some (11, 1, 0, .iastore, 1) := Fm197 (dk_79 (dk_at s197_5 17 rfl rfl)) rfl
theorem f197_134 : ft 197 134 = some (11, 1, 0, .goto 119, 3) := Fm197 (dk_167 0 119 (dk_at s197_5 18 rfl rfl)) rfl
theorem f197_137 : ft 197 137 = some (11, 1, 0, .iload_n 3, 1) := Fm197 (dk_29 (dk_at s197_5 21 rfl rfl)) rfl
theorem f197_138 : ft 197 138 = some (11, 1, 0, .bipush 45, 2) := Fm197 (dk_16 45 (dk_at s197_5 22 rfl rfl)) rfl
theorem f197_140 : ft 197 140 = some (11, 1, 0, .if_icmp .eq 10, 3) := Fm197 (dk_159 0 10 (dk_at s197_6 0 rfl rfl)) rfl
theorem f197_143 : ft 197 143 = some (11, 1, 0, .iload_n 3, 1) := Fm197 (dk_29 (dk_at s197_6 3 rfl rfl)) rfl
theorem f197_144 : ft 197 144 = some (11, 1, 0, .invokestatic 186, 3) := Fm197 (dk_184 0 186 (dk_at s197_6 4 rfl rfl)) rfl
theorem f197_147 : ft 197 147 = some (11, 1, 0, .ifCond .eq 22, 3) := Fm197 (dk_153 0 22 (dk_at s197_6 7 rfl rfl)) rfl
theorem f197_150 : ft 197 150 = some (11, 1, 0, .aload_n 1, 1) := Fm197 (dk_43 (dk_at s197_6 10 rfl rfl)) rfl
theorem f197_151 : ft 197 151 = some (11, 1, 0, .iconst 3, 1) := Fm197 (dk_6 (dk_at s197_6 11 rfl rfl)) rfl
theorem f197_152 : ft 197 152 = some (11, 1, 0, .invokevirtual 217, 3) := Fm197 (dk_182 0 217 (dk_at s197_6 12 rfl rfl)) rfl
theorem f197_155 : ft 197 155 = some (11, 1, 0, .istore 4, 2) := Fm197 (dk_54 4 (dk_at s197_6 15 rfl rfl)) rfl
theorem f197_157 : ft 197 157 = some (11, 1, 0, .aload_n 0, 1) := Fm197 (dk_42 (dk_at s197_6 17 rfl rfl)) rfl
theorem f197_158 : ft 197 158 = some (11, 1, 0, .aload_n 1, 1) := Fm197 (dk_43 (dk_at s197_6 18 rfl rfl)) rfl
theorem f197_159 : ft 197 159 = some (11, 1, 0, .iload 4, 2) := Fm197 (dk_21 4 (dk_at s197_6 19 rfl rfl)) rfl
theorem f197_161 : ft 197 161 = some (11, 1, 0, .invokevirtual 227, 3) := Fm197 (dk_182 0 227 (dk_at s197_6 21 rfl rfl)) rfl
theorem f197_164 : ft 197 164 = some (11, 1, 0, .ifCond .ne 89, 3) := Fm197 (dk_154 0 89 (dk_at s197_7 0 rfl rfl)) rfl
theorem f197_167 : ft 197 167 = some (11, 1, 0, .iconst (-1), 1) := Fm197 (dk_2 (dk_at s197_7 3 rfl rfl)) rfl
theorem f197_168 : ft 197 168 = some (11, 1, 0, .ireturn, 1) := Fm197 (dk_172 (dk_at s197_7 4 rfl rfl)) rfl
theorem f197_169 : ft 197 169 = some (11, 1, 0, .iload_n 3, 1) := Fm197 (dk_29 (dk_at s197_7 5 rfl rfl)) rfl
theorem f197_170 : ft 197 170 = some (11, 1, 0, .bipush 91, 2) := Fm197 (dk_16 91 (dk_at s197_7 6 rfl rfl)) rfl
theorem f197_172 : ft 197 172 = some (11, 1, 0, .if_icmp .eq 9, 3) := Fm197 (dk_159 0 9 (dk_at s197_7 8 rfl rfl)) rfl
theorem f197_175 : ft 197 175 = some (11, 1, 0, .iload_n 3, 1) := Fm197 (dk_29 (dk_at s197_7 11 rfl rfl)) rfl
theorem f197_176 : ft 197 176 = some (11, 1, 0, .bipush 123, 2) := Fm197 (dk_16 123 (dk_at s197_7 12 rfl rfl)) rfl
theorem f197_178 : ft 197 178 = some (11, 1, 0, .if_icmp .ne 64, 3) := Fm197 (dk_160 0 64 (dk_at s197_7 14 rfl rfl)) rfl
theorem f197_181 : ft 197 181 = some (11, 1, 0, .iload_n 2, 1) := Fm197 (dk_28 (dk_at s197_7 17 rfl rfl)) rfl
theorem f197_182 : ft 197 182 = some (11, 1, 0, .bipush 32, 2) := Fm197 (dk_16 32 (dk_at s197_7 18 rfl rfl)) rfl
theorem f197_184 : ft 197 184 = some (11, 1, 0, .if_icmp .ne 14, 3) := Fm197 (dk_160 0 14 (dk_at s197_7 20 rfl rfl)) rfl
theorem f197_187 : ft 197 187 = some (11, 1, 0, .aload_n 0, 1) := Fm197 (dk_42 (dk_at s197_7 23 rfl rfl)) rfl
theorem f197_188 : ft 197 188 = some (11, 1, 0, .aload_n 0, 1) := Fm197 (dk_42 (dk_at s197_8 0 rfl rfl)) rfl
theorem f197_189 : ft 197 189 = some (11, 1, 0, .getfield 155, 3) := Fm197 (dk_180 0 155 (dk_at s197_8 1 rfl rfl)) rfl
theorem f197_192 : ft 197 192 = some (11, 1, 0, .invokevirtual 171, 3) := Fm197 (dk_182 0 171 (dk_at s197_8 4 rfl rfl)) rfl
theorem f197_195 : ft 197 195 = some (11, 1, 0, .pop, 1) := Fm197 (dk_87 (dk_at s197_8 7 rfl rfl)) rfl
theorem f197_196 : ft 197 196 = some (11, 1, 0, .iconst (-1), 1) := Fm197 (dk_2 (dk_at s197_8 8 rfl rfl)) rfl
theorem f197_197 : ft 197 197 = some (11, 1, 0, .ireturn, 1) := Fm197 (dk_172 (dk_at s197_8 9 rfl rfl)) rfl
theorem f197_198 : ft 197 198 = some (11, 1, 0, .aload_n 1, 1) := Fm197 (dk_43 (dk_at s197_8 10 rfl rfl)) rfl
theorem f197_199 : ft 197 199 = some (11, 1, 0, .iload_n 3, 1) := Fm197 (dk_29 (dk_at s197_8 11 rfl rfl)) rfl
theorem f197_200 : ft 197 200 = some (11, 1, 0, .bipush 91, 2) := Fm197 (dk_16 91 (dk_at s197_8 12 rfl rfl)) rfl
theorem f197_202 : ft 197 202 = some (11, 1, 0, .if_icmp .ne 7, 3) := Fm197 (dk_160 0 7 (dk_at s197_8 14 rfl rfl)) rfl
theorem f197_205 : ft 197 205 = some (11, 1, 0, .iconst 5, 1) := Fm197 (dk_8 (dk_at s197_8 17 rfl rfl)) rfl
theorem f197_206 : ft 197 206 = some (11, 1, 0, .goto 5, 3) := Fm197 (dk_167 0 5 (dk_at s197_8 18 rfl rfl)) rfl
theorem f197_209 : ft 197 209 = some (11, 1, 0, .bipush 6, 2) := Fm197 (dk_16 6 (dk_at s197_8 21 rfl rfl)) rfl
theorem f197_211 : ft 197 211 = some (11, 1, 0, .invokevirtual 217, 3) := Fm197 (dk_182 0 217 (dk_at s197_9 0 rfl rfl)) rfl
theorem f197_214 : ft 197 214 = some (11, 1, 0, .istore 4, 2) := Fm197 (dk_54 4 (dk_at s197_9 3 rfl rfl)) rfl
theorem f197_216 : ft 197 216 = some (11, 1, 0, .aload_n 0, 1) := Fm197 (dk_42 (dk_at s197_9 5 rfl rfl)) rfl
theorem f197_217 : ft 197 217 = some (11, 1, 0, .aload_n 1, 1) := Fm197 (dk_43 (dk_at s197_9 6 rfl rfl)) rfl
theorem f197_218 : ft 197 218 = some (11, 1, 0, .iload 4, 2) := Fm197 (dk_21 4 (dk_at s197_9 7 rfl rfl)) rfl
theorem f197_220 : ft 197 220 = some (11, 1, 0, .iload_n 2, 1) := Fm197 (dk_28 (dk_at s197_9 9 rfl rfl)) rfl
theorem f197_221 : ft 197 221 = some (11, 1, 0, .iload_n 3, 1) := Fm197 (dk_29 (dk_at s197_9 10 rfl rfl)) rfl
theorem f197_222 : ft 197 222 = some (11, 1, 0, .bipush 91, 2) := Fm197 (dk_16 91 (dk_at s197_9 11 rfl rfl)) rfl
theorem f197_224 : ft 197 224 = some (11, 1, 0, .if_icmp .ne 8, 3) := Fm197 (dk_160 0 8 (dk_at s197_9 13 rfl rfl)) rfl
theorem f197_227 : ft 197 227 = some (11, 1, 0, .bipush 93, 2) := Fm197 (dk_16 93 (dk_at s197_9 16 rfl rfl)) rfl
theorem f197_229 : ft 197 229 = some (11, 1, 0, .goto 5, 3) := Fm197 (dk_167 0 5 (dk_at s197_9 18 rfl rfl)) rfl
theorem f197_232 : ft 197 232 = some (11, 1, 0, .bipush 125, 2) := Fm197 (dk_16 125 (dk_at s197_9 21 rfl rfl)) rfl
theorem f197_234 : ft 197 234 = some (11, 1, 0, .invokevirtual 231, 3) := Fm197 (dk_182 0 231 (dk_at s197_10 0 rfl rfl)) rfl
theorem f197_237 : ft 197 237 = some (11, 1, 0, .ifCond .ne 16, 3) := Fm197 (dk_154 0 16 (dk_at s197_10 3 rfl rfl)) rfl
theorem f197_240 : ft 197 240 = some (11, 1, 0, .iconst (-1), 1) := Fm197 (dk_2 (dk_at s197_10 6 rfl rfl)) rfl
theorem f197_241 : ft 197 241 = some (11, 1, 0, .ireturn, 1) := Fm197 (dk_172 (dk_at s197_10 7 rfl rfl)) rfl
theorem f197_242 : ft 197 242 = some (11, 1, 0, .aload_n 0, 1) := Fm197 (dk_42 (dk_at s197_10 8 rfl rfl)) rfl
theorem f197_243 : ft 197 243 = some (11, 1, 0, .aload_n 0, 1) := Fm197 (dk_42 (dk_at s197_10 9 rfl rfl)) rfl
theorem f197_244 : ft 197 244 = some (11, 1, 0, .getfield 155, 3) := Fm197 (dk_180 0 155 (dk_at s197_10 10 rfl rfl)) rfl
theorem f197_247 : ft 197 247 = some (11, 1, 0, .invokevirtual 171, 3) := Fm197 (dk_182 0 171 (dk_at s197_10 13 rfl rfl)) rfl
theorem f197_250 : ft 197 250 = some (11, 1, 0, .pop, 1) := Fm197 (dk_87 (dk_at s197_10 16 rfl rfl)) rfl
theorem f197_251 : ft 197 251 = some (11, 1, 0, .iconst (-1), 1) := Fm197 (dk_2 (dk_at s197_10 17 rfl rfl)) rfl
theorem f197_252 : ft 197 252 = some (11, 1, 0, .ireturn, 1) := Fm197 (dk_172 (dk_at s197_10 18 rfl rfl)) rfl
theorem f197_253 : ft 197 253 = some (11, 1, 0, .aload_n 0, 1) := Fm197 (dk_42 (dk_at s197_10 19 rfl rfl)) rfl
theorem f197_254 : ft 197 254 = some (11, 1, 0, .invokevirtual 204, 3) := Fm197 (dk_182 0 204 (dk_at s197_10 20 rfl rfl)) rfl
theorem f197_257 : ft 197 257 = some (11, 1, 0, .iload 4, 2) := Fm197 (dk_21 4 (dk_at s197_11 0 rfl rfl)) rfl
theorem f197_259 : ft 197 259 = some (11, 1, 0, .ireturn, 1) := Fm197 (dk_172 (dk_at s197_11 2 rfl rfl)) rfl
theorem q197 {d : Nat} {m : Mem} {a0 a1 a2 : Int} (hd : 0 < d) (hz : TZ m) : le2 (gd (tg m a0 = 11) <| bV (cl (d - 1) 198 [pR a0] m) fun m1 => bI (cl (d - 1) 199 [pR a0] m1) fun v2 m2 => if v2 = 110 then (rn d 197 27 [pR a0, pR a1, pI a2, pI v2, pU] [] m2) else if v2 = 116 then (rn d 197 27 [pR a0, pR a1, pI a2, pI v2, pU] [] m2) else if v2 = 102 then (rn d 197 27 [pR a0, pR a1, pI a2, pI v2, pU] [] m2) else if v2 = 34 then (gd (tg m2 a1 = 13) <| bI (cl (d - 1) 285 [pR a1, pI 4] m2) fun v5 m5 => bI (cl (d - 1) 203 [pR a0, pI 34, pR a1] m5) fun v6 m6 => if v6 = 0 then (some (.inl (some (pI (-1))), m6)) else nm (vl m6 a1 3) fun v8 => nm (vl m6 a1 2) fun v9 => gd (tg m6 v9 = 284101 ∨ tg m6 v9 = 287101) <| gd ((0 : Int) ≤ v5 ∧ v5 < ln m6 v9) <| gd (tg m6 v8 = 284101 ∨ tg m6 v8 = 287101) <| gd ((0 : Int) ≤ v5 ∧ v5 < ln m6 v8) <| bV (cl (d - 1) 198 [pR a0] (mst m6 v8 v5 (w32 ((vl m6 a1 12) - (vl m6 v9 v5))))) fun m7 => some (.inl (some (pI v5)), m7)) else if v2 = 45 then (rn d 197 150 [pR a0, pR a1, pI a2, pI v2, pU] [] m2) else bI (cl (d - 1) 206 [pI v2] m2) fun v3 m3 => if v3 = 0 then (if v2 = 91 then (rn d 197 181 [pR a0, pR a1, pI a2, pI v2, pU] [] m3) else if v2 = 123 then (rn d 197 181 [pR a0, pR a1, pI a2, pI v2, pU] [] m3) else bI (cl (d - 1) 202 [pR a0, pI (vl m3 a0 12)] m3) fun v4 m4 => some (.inl (some (pI (-1))), m4)) else rn d 197 150 [pR a0, pR a1, pI a2, pI v2, pU] [] m3) (cl d 197 [pR a0, pR a1, pI a2] m) := by
  refine q_in (n := 5) (L := [pR a0, pR a1, pI a2, pU, pU]) rfl rfl rfl ?_
  refine r_aln0 (p := 1) f197_0 rfl ?_
  refine le2_gd (fun h1 => ?_)
  refine r_invV (p := 4) f197_1 rfl rfl rfl (Or.inl h1) hd (Nat.le_of_ble_eq_true rfl) rfl rfl rfl (fun _ => rfl) (fun m1 c1 => ?_)
  have hz1 := z_k c1 hz
  refine r_aln0 (p := 5) f197_4 rfl ?_
  have h2 := k_t1 c1 hz h1 (by decide)
  refine r_invI (p := 8) f197_5 rfl rfl rfl (Or.inl h2) hd (Nat.le_of_ble_eq_true rfl) rfl rfl rfl (fun _ => rfl) (fun v2 m2 c2 => ?_)
  have hz2 := z_k c2 hz1
  refine r_isn3 (p := 9) f197_8 rfl rfl ?_
  refine r_iln3 (p := 10) f197_9 rfl ?_
  refine r_bipush (p := 12) f197_10 rfl (pinD rfl rfl) ?_
  refine r_iceq (t := 27) (p := 15) f197_12 (by decide) rfl rfl ?_ ?_
  · exact le2_refl _
  · refine r_iln3 (p := 16) f197_15 rfl ?_
    refine r_bipush (p := 18) f197_16 rfl (pinD rfl rfl) ?_
    refine r_iceq (t := 27) (p := 21) f197_18 (by decide) rfl rfl ?_ ?_
    · exact le2_refl _
    · refine r_iln3 (p := 22) f197_21 rfl ?_
      refine r_bipush (p := 24) f197_22 rfl (pinD rfl rfl) ?_
      refine r_icne (t := 90) (p := 27) f197_24 (by decide) rfl rfl ?_ ?_
      · exact le2_refl _
      · refine r_iln3 (p := 91) f197_90 rfl ?_
        refine r_bipush (p := 93) f197_91 rfl (pinD rfl rfl) ?_
        refine r_icne (t := 137) (p := 96) f197_93 (by decide) rfl rfl ?_ ?_
        · refine r_aln1 (p := 97) f197_96 rfl ?_
          refine r_iconst (p := 98) f197_97 rfl (pinD rfl rfl) ?_
          refine le2_gd (fun h5 => ?_)
          refine r_invI (p := 101) f197_98 rfl rfl rfl (Or.inl h5) hd (Nat.le_of_ble_eq_true rfl) rfl rfl rfl (fun _ => rfl) (fun v5 m5 c5 => ?_)
          have hz5 := z_k c5 hz2
          refine r_isw4 (p := 103) f197_101 rfl rfl ?_
          refine r_aln0 (p := 104) f197_103 rfl ?_
          refine r_bipush (p := 106) f197_104 rfl (pinD rfl rfl) ?_
          refine r_aln1 (p := 107) f197_106 rfl ?_
          have h6 := k_t1 c2 hz1 h2 (by decide)
          have h7 := k_t1 c5 hz2 h6 (by decide)
          refine r_invI (p := 110) f197_107 rfl rfl rfl (Or.inl h7) hd (Nat.le_of_ble_eq_true rfl) rfl rfl rfl (fun _ => rfl) (fun v6 m6 c6 => ?_)
          have hz6 := z_k c6 hz5
          refine r_ifne (t := 115) (p := 113) f197_110 (by decide) rfl rfl ?_ ?_
          · refine r_iconst (p := 114) f197_113 rfl (pinD rfl rfl) ?_
            exact r_iret1 f197_114
          · refine r_aln1 (p := 116) f197_115 rfl ?_
            have h8 := k_t1 c5 hz2 h5 (by decide)
            have h9 := k_t1 c6 hz5 h8 (by decide)
            refine r_gfR (f := 3) (p := 119) f197_116 rfl rfl rfl (Or.inl h9) rfl ?_
            refine r_nmR (fun v8 ev8 => ?_)
            refine r_ilw4 (p := 121) f197_119 rfl ?_
            refine r_aln1 (p := 122) f197_121 rfl ?_
            refine r_gfI (f := 12) (p := 125) f197_122 rfl rfl rfl (Or.inl h9) rfl ?_
            refine r_aln1 (p := 126) f197_125 rfl ?_
            refine r_gfR (f := 2) (p := 129) f197_126 rfl rfl rfl (Or.inl h9) rfl ?_
            refine r_nmR (fun v9 ev9 => ?_)
            refine r_ilw4 (p := 131) f197_129 rfl ?_
            refine le2_gd (fun h10 => ?_)
            refine le2_gd (fun h11 => ?_)
            refine r_iaload (p := 132) f197_131 rfl (dj2 (fun x => x % 1000 = 101) h10 (by decide) (by decide)) h11 rfl ?_
            refine r_isub (p := 133) f197_132 rfl ?_
            refine le2_gd (fun h12 => ?_)
            refine le2_gd (fun h13 => ?_)
            refine r_iastore (p := 134) f197_133 rfl (dj2 (fun x => 1000 ≤ x ∧ x % 1000 = 101 ∧ Nat.testBit (eM 197) (bix x 0) = true) h12 (by decide) (by decide)) h13 ?_
            refine r_goto (p := 253) f197_134 (by decide) rfl ?_
            refine r_aln0 (p := 254) f197_253 rfl ?_
            have h14 := k_t1 c6 hz5 h7 (by decide)
            refine r_invV (p := 257) f197_254 rfl rfl rfl (Or.inl h14) hd (Nat.le_of_ble_eq_true rfl) rfl rfl rfl (fun _ => rfl) (fun m7 c7 => ?_)
            have hz7 := z_k c7 hz6
            refine r_ilw4 (p := 259) f197_257 rfl ?_
            exact r_iret1 f197_259
        · refine r_iln3 (p := 138) f197_137 rfl ?_
          refine r_bipush (p := 140) f197_138 rfl (pinD rfl rfl) ?_
          refine r_iceq (t := 150) (p := 143) f197_140 (by decide) rfl rfl ?_ ?_
          · exact le2_refl _
          · refine r_iln3 (p := 144) f197_143 rfl ?_
            refine r_istI (p := 147) f197_144 rfl rfl rfl hd (Nat.le_of_ble_eq_true rfl) rfl rfl rfl (fun _ => rfl) (fun v3 m3 c3 => ?_)
            have hz3 := z_k c3 hz2
            refine r_ifeq (t := 169) (p := 150) f197_147 (by decide) rfl rfl ?_ ?_
            · refine r_iln3 (p := 170) f197_169 rfl ?_
              refine r_bipush (p := 172) f197_170 rfl (pinD rfl rfl) ?_
              refine r_iceq (t := 181) (p := 175) f197_172 (by decide) rfl rfl ?_ ?_
              · exact le2_refl _
              · refine r_iln3 (p := 176) f197_175 rfl ?_
                refine r_bipush (p := 178) f197_176 rfl (pinD rfl rfl) ?_
                refine r_icne (t := 242) (p := 181) f197_178 (by decide) rfl rfl ?_ ?_
                · exact le2_refl _
                · refine r_aln0 (p := 243) f197_242 rfl ?_
                  refine r_aln0 (p := 244) f197_243 rfl ?_
                  have h3 := k_t1 c2 hz1 h2 (by decide)
                  have h4 := k_t1 c3 hz2 h3 (by decide)
                  refine r_gfI (f := 12) (p := 247) f197_244 rfl rfl rfl (Or.inl h4) rfl ?_
                  refine r_invI (p := 250) f197_247 rfl rfl rfl (Or.inl h4) hd (Nat.le_of_ble_eq_true rfl) rfl rfl rfl (fun _ => rfl) (fun v4 m4 c4 => ?_)
                  have hz4 := z_k c4 hz3
                  refine r_pop (p := 251) f197_250 rfl rfl ?_
                  refine r_iconst (p := 252) f197_251 rfl (pinD rfl rfl) ?_
                  exact r_iret1 f197_252
            · exact le2_refl _
theorem q197_27 {d : Nat} {m : Mem} {a0 a1 a2 a3 : Int} (hz : TZ m) : le2 (if a3 = 110 then (rn d 197 52 [pR a0, pR a1, pI a2, pI a3, pU] [pR 46, pR a0] m) else if a3 = 116 then (rn d 197 52 [pR a0, pR a1, pI a2, pI a3, pU] [pR 48, pR a0] m) else rn d 197 52 [pR a0, pR a1, pI a2, pI a3, pU] [pR 50, pR a0] m) (rn d 197 27 [pR a0, pR a1, pI a2, pI a3, pU] [] m) := by
  refine r_aln0 (p := 28) f197_27 rfl ?_
  refine r_iln3 (p := 29) f197_28 rfl ?_
  refine r_bipush (p := 31) f197_29 rfl (pinD rfl rfl) ?_
  refine r_icne (t := 39) (p := 34) f197_31 (by decide) rfl rfl ?_ ?_
  · refine r_ldcR (p := 36) f197_34 rfl rfl ?_
    refine r_goto (p := 52) f197_36 (by decide) rfl ?_
    exact le2_refl _
  · refine r_iln3 (p := 40) f197_39 rfl ?_
    refine r_bipush (p := 42) f197_40 rfl (pinD rfl rfl) ?_
    refine r_icne (t := 50) (p := 45) f197_42 (by decide) rfl rfl ?_ ?_
    · refine r_ldcR (p := 47) f197_45 rfl rfl ?_
      refine r_goto (p := 52) f197_47 (by decide) rfl ?_
      exact le2_refl _
    · refine r_ldcR (p := 52) f197_50 rfl rfl ?_
      exact le2_refl _
theorem q197_52 {d : Nat} {m : Mem} {a0 a1 a2 a3 s1 s0 : Int} (hd : 0 < d) (hz : TZ m) : le2 (gd (tg m s0 = 11) <| bI (cl (d - 1) 200 [pR s0, pR s1] m) fun v1 m1 => if v1 = 0 then (some (.inl (some (pI (-1))), m1)) else if a3 = 110 then (rn d 197 82 [pR a0, pR a1, pI a2, pI a3, pU] [pI 0, pR a1] m1) else if a3 = 116 then (rn d 197 82 [pR a0, pR a1, pI a2, pI a3, pU] [pI 1, pR a1] m1) else rn d 197 82 [pR a0, pR a1, pI a2, pI a3, pU] [pI 2, pR a1] m1) (rn d 197 52 [pR a0, pR a1, pI a2, pI a3, pU] [pR s1, pR s0] m) := by
  refine le2_gd (fun h1 => ?_)
  refine r_invI (p := 55) f197_52 rfl rfl rfl (Or.inl h1) hd (Nat.le_of_ble_eq_true rfl) rfl rfl rfl (fun _ => rfl) (fun v1 m1 c1 => ?_)
  have hz1 := z_k c1 hz
  refine r_ifne (t := 60) (p := 58) f197_55 (by decide) rfl rfl ?_ ?_
  · refine r_iconst (p := 59) f197_58 rfl (pinD rfl rfl) ?_
    exact r_iret1 f197_59
  · refine r_aln1 (p := 61) f197_60 rfl ?_
    refine r_iln3 (p := 62) f197_61 rfl ?_
    refine r_bipush (p := 64) f197_62 rfl (pinD rfl rfl) ?_
    refine r_icne (t := 71) (p := 67) f197_64 (by decide) rfl rfl ?_ ?_
    · refine r_iconst (p := 68) f197_67 rfl (pinD rfl rfl) ?_
      refine r_goto (p := 82) f197_68 (by decide) rfl ?_
      exact le2_refl _
    · refine r_iln3 (p := 72) f197_71 rfl ?_
      refine r_bipush (p := 74) f197_72 rfl (pinD rfl rfl) ?_
      refine r_icne (t := 81) (p := 77) f197_74 (by decide) rfl rfl ?_ ?_
      · refine r_iconst (p := 78) f197_77 rfl (pinD rfl rfl) ?_
        refine r_goto (p := 82) f197_78 (by decide) rfl ?_
        exact le2_refl _
      · refine r_iconst (p := 82) f197_81 rfl (pinD rfl rfl) ?_
        exact le2_refl _
theorem q197_82 {d : Nat} {m : Mem} {a0 a1 a2 a3 s1 s0 : Int} (hd : 0 < d) (hz : TZ m) : le2 (gd (tg m s0 = 13) <| bI (cl (d - 1) 285 [pR s0, pI s1] m) fun v1 m1 => gd (tg m1 a0 = 11) <| bV (cl (d - 1) 198 [pR a0] m1) fun m2 => some (.inl (some (pI v1)), m2)) (rn d 197 82 [pR a0, pR a1, pI a2, pI a3, pU] [pI s1, pR s0] m) := by
  refine le2_gd (fun h1 => ?_)
  refine r_invI (p := 85) f197_82 rfl rfl rfl (Or.inl h1) hd (Nat.le_of_ble_eq_true rfl) rfl rfl rfl (fun _ => rfl) (fun v1 m1 c1 => ?_)
  have hz1 := z_k c1 hz
  refine r_isw4 (p := 87) f197_85 rfl rfl ?_
  refine r_goto (p := 253) f197_87 (by decide) rfl ?_
  refine r_aln0 (p := 254) f197_253 rfl ?_
  refine le2_gd (fun h2 => ?_)
  refine r_invV (p := 257) f197_254 rfl rfl rfl (Or.inl h2) hd (Nat.le_of_ble_eq_true rfl) rfl rfl rfl (fun _ => rfl) (fun m2 c2 => ?_)
  have hz2 := z_k c2 hz1
  refine r_ilw4 (p := 259) f197_257 rfl ?_
  exact r_iret1 f197_259
theorem q197_150 {d : Nat} {m : Mem} {a0 a1 a2 a3 : Int} (hd : 0 < d) (hz : TZ m) : le2 (gd (tg m a1 = 13) <| bI (cl (d - 1) 285 [pR a1, pI 3] m) fun v1 m1 => gd (tg m1 a0 = 11) <| bI (cl (d - 1) 207 [pR a0, pR a1, pI v1] m1) fun v2 m2 => if v2 = 0 then (some (.inl (some (pI (-1))), m2)) else bV (cl (d - 1) 198 [pR a0] m2) fun m3 => some (.inl (some (pI v1)), m3)) (rn d 197 150 [pR a0, pR a1, pI a2, pI a3, pU] [] m) := by
  refine r_aln1 (p := 151) f197_150 rfl ?_
  refine r_iconst (p := 152) f197_151 rfl (pinD rfl rfl) ?_
  refine le2_gd (fun h1 => ?_)
  refine r_invI (p := 155) f197_152 rfl rfl rfl (Or.inl h1) hd (Nat.le_of_ble_eq_true rfl) rfl rfl rfl (fun _ => rfl) (fun v1 m1 c1 => ?_)
  have hz1 := z_k c1 hz
  refine r_isw4 (p := 157) f197_155 rfl rfl ?_
  refine r_aln0 (p := 158) f197_157 rfl ?_
  refine r_aln1 (p := 159) f197_158 rfl ?_
  refine r_ilw4 (p := 161) f197_159 rfl ?_
  refine le2_gd (fun h2 => ?_)
  refine r_invI (p := 164) f197_161 rfl rfl rfl (Or.inl h2) hd (Nat.le_of_ble_eq_true rfl) rfl rfl rfl (fun _ => rfl) (fun v2 m2 c2 => ?_)
  have hz2 := z_k c2 hz1
  refine r_ifne (t := 253) (p := 167) f197_164 (by decide) rfl rfl ?_ ?_
  · refine r_iconst (p := 168) f197_167 rfl (pinD rfl rfl) ?_
    exact r_iret1 f197_168
  · refine r_aln0 (p := 254) f197_253 rfl ?_
    have h3 := k_t1 c2 hz1 h2 (by decide)
    refine r_invV (p := 257) f197_254 rfl rfl rfl (Or.inl h3) hd (Nat.le_of_ble_eq_true rfl) rfl rfl rfl (fun _ => rfl) (fun m3 c3 => ?_)
    have hz3 := z_k c3 hz2
    refine r_ilw4 (p := 259) f197_257 rfl ?_
    exact r_iret1 f197_259
theorem q197_181 {d : Nat} {m : Mem} {a0 a1 a2 a3 : Int} (hd : 0 < d) (hz : TZ m) : le2 (if a2 = 32 then (gd (tg m a0 = 11) <| bI (cl (d - 1) 202 [pR a0, pI (vl m a0 12)] m) fun v1 m1 => some (.inl (some (pI (-1))), m1)) else if a3 = 91 then (rn d 197 211 [pR a0, pR a1, pI a2, pI a3, pU] [pI 5, pR a1] m) else rn d 197 211 [pR a0, pR a1, pI a2, pI a3, pU] [pI 6, pR a1] m) (rn d 197 181 [pR a0, pR a1, pI a2, pI a3, pU] [] m) := by
  refine r_iln2 (p := 182) f197_181 rfl ?_
  refine r_bipush (p := 184) f197_182 rfl (pinD rfl rfl) ?_
  refine r_icne (t := 198) (p := 187) f197_184 (by decide) rfl rfl ?_ ?_
  · refine r_aln0 (p := 188) f197_187 rfl ?_
    refine r_aln0 (p := 189) f197_188 rfl ?_
    refine le2_gd (fun h1 => ?_)
    refine r_gfI (f := 12) (p := 192) f197_189 rfl rfl rfl (Or.inl h1) rfl ?_
    refine r_invI (p := 195) f197_192 rfl rfl rfl (Or.inl h1) hd (Nat.le_of_ble_eq_true rfl) rfl rfl rfl (fun _ => rfl) (fun v1 m1 c1 => ?_)
    have hz1 := z_k c1 hz
    refine r_pop (p := 196) f197_195 rfl rfl ?_
    refine r_iconst (p := 197) f197_196 rfl (pinD rfl rfl) ?_
    exact r_iret1 f197_197
  · refine r_aln1 (p := 199) f197_198 rfl ?_
    refine r_iln3 (p := 200) f197_199 rfl ?_
    refine r_bipush (p := 202) f197_200 rfl (pinD rfl rfl) ?_
    refine r_icne (t := 209) (p := 205) f197_202 (by decide) rfl rfl ?_ ?_
    · refine r_iconst (p := 206) f197_205 rfl (pinD rfl rfl) ?_
      refine r_goto (p := 211) f197_206 (by decide) rfl ?_
      exact le2_refl _
    · refine r_bipush (p := 211) f197_209 rfl (pinD rfl rfl) ?_
      exact le2_refl _
theorem q197_211 {d : Nat} {m : Mem} {a0 a1 a2 a3 s1 s0 : Int} (hd : 0 < d) (hz : TZ m) : le2 (gd (tg m s0 = 13) <| bI (cl (d - 1) 285 [pR s0, pI s1] m) fun v1 m1 => if a3 = 91 then (rn d 197 234 [pR a0, pR a1, pI a2, pI a3, pI v1] [pI 93, pI a2, pI v1, pR a1, pR a0] m1) else rn d 197 234 [pR a0, pR a1, pI a2, pI a3, pI v1] [pI 125, pI a2, pI v1, pR a1, pR a0] m1) (rn d 197 211 [pR a0, pR a1, pI a2, pI a3, pU] [pI s1, pR s0] m) := by
  refine le2_gd (fun h1 => ?_)
  refine r_invI (p := 214) f197_211 rfl rfl rfl (Or.inl h1) hd (Nat.le_of_ble_eq_true rfl) rfl rfl rfl (fun _ => rfl) (fun v1 m1 c1 => ?_)
  have hz1 := z_k c1 hz
  refine r_isw4 (p := 216) f197_214 rfl rfl ?_
  refine r_aln0 (p := 217) f197_216 rfl ?_
  refine r_aln1 (p := 218) f197_217 rfl ?_
  refine r_ilw4 (p := 220) f197_218 rfl ?_
  refine r_iln2 (p := 221) f197_220 rfl ?_
  refine r_iln3 (p := 222) f197_221 rfl ?_
  refine r_bipush (p := 224) f197_222 rfl (pinD rfl rfl) ?_
  refine r_icne (t := 232) (p := 227) f197_224 (by decide) rfl rfl ?_ ?_
  · refine r_bipush (p := 229) f197_227 rfl (pinD rfl rfl) ?_
    refine r_goto (p := 234) f197_229 (by decide) rfl ?_
    exact le2_refl _
  · refine r_bipush (p := 234) f197_232 rfl (pinD rfl rfl) ?_
    exact le2_refl _
theorem q197_234 {d : Nat} {m : Mem} {a0 a1 a2 a3 a4 s4 s3 s2 s1 s0 : Int} (hd : 0 < d) (hz : TZ m) : le2 (gd (tg m s0 = 11) <| bI (cl (d - 1) 208 [pR s0, pR s1, pI s2, pI s3, pI s4] m) fun v1 m1 => if v1 = 0 then (some (.inl (some (pI (-1))), m1)) else gd (tg m1 a0 = 11) <| bV (cl (d - 1) 198 [pR a0] m1) fun m2 => some (.inl (some (pI a4)), m2)) (rn d 197 234 [pR a0, pR a1, pI a2, pI a3, pI a4] [pI s4, pI s3, pI s2, pR s1, pR s0] m) := by
  refine le2_gd (fun h1 => ?_)
  refine r_invI (p := 237) f197_234 rfl rfl rfl (Or.inl h1) hd (Nat.le_of_ble_eq_true rfl) rfl rfl rfl (fun _ => rfl) (fun v1 m1 c1 => ?_)
  have hz1 := z_k c1 hz
  refine r_ifne (t := 253) (p := 240) f197_237 (by decide) rfl rfl ?_ ?_
  · refine r_iconst (p := 241) f197_240 rfl (pinD rfl rfl) ?_
    exact r_iret1 f197_241
  · refine r_aln0 (p := 254) f197_253 rfl ?_
    refine le2_gd (fun h2 => ?_)
    refine r_invV (p := 257) f197_254 rfl rfl rfl (Or.inl h2) hd (Nat.le_of_ble_eq_true rfl) rfl rfl rfl (fun _ => rfl) (fun m2 c2 => ?_)
    have hz2 := z_k c2 hz1
    refine r_ilw4 (p := 259) f197_257 rfl ?_
    exact r_iret1 f197_259
/-! 198 PathStoreModel.blanks ()V -/
def w198_2 : List UInt8 := [167, 255, 210, 177]
abbrev u198_2 : List UInt8 := w198_2 ++ []
def w198_1 : List UInt8 := [159, 0, 12, 42, 182, 0, 167, 16, 13, 160, 0, 16, 42, 89, 180, 0, 155, 4, 96, 181, 0, 155]
abbrev u198_1 : List UInt8 := w198_1 ++ u198_2
def w198_0 : List UInt8 := [42, 182, 0, 167, 16, 32, 159, 0, 30, 42, 182, 0, 167, 16, 9, 159, 0, 21, 42, 182, 0, 167, 16, 10]
abbrev u198_0 : List UInt8 := w198_0 ++ u198_1
theorem s198_0 : (prog_32_method_14_code).data.toList.drop 0 = u198_0 := by decide +kernel
theorem s198_1 : (prog_32_method_14_code).data.toList.drop 24 = u198_1 := dk_seg s198_0 24 rfl rfl
theorem s198_2 : (prog_32_method_14_code).data.toList.drop 46 = u198_2 := dk_seg s198_1 22 rfl rfl
theorem Fm198 {pc len : Nat} {i : Instr} (h : decode (prog_32_method_14_code) pc = .ok (i, len)) (hl : len = ilen i len) : ft 198 pc = some (11, 0, 0, i, len) := ft_mk rfl h hl
theorem f198_0 : ft 198 0 = some (11, 0, 0, .aload_n 0, 1) := Fm198 (dk_42 (dk_at s198_0 0 rfl rfl)) rfl
theorem f198_1 : ft 198 1 = some (11, 0, 0, .invokevirtual 167, 3) := Fm198 (dk_182 0 167 (dk_at s198_0 1 rfl rfl)) rfl
theorem f198_4 : ft 198 4 = some (11, 0, 0, .bipush 32, 2) := Fm198 (dk_16 32 (dk_at s198_0 4 rfl rfl)) rfl
theorem f198_6 : ft 198 6 = some (11, 0, 0, .if_icmp .eq 30, 3) := Fm198 (dk_159 0 30 (dk_at s198_0 6 rfl rfl)) rfl
theorem f198_9 : ft 198 9 = some (11, 0, 0, .aload_n 0, 1) := Fm198 (dk_42 (dk_at s198_0 9 rfl rfl)) rfl
theorem f198_10 : ft 198 10 = some (11, 0, 0, .invokevirtual 167, 3) := Fm198 (dk_182 0 167 (dk_at s198_0 10 rfl rfl)) rfl
theorem f198_13 : ft 198 13 = some (11, 0, 0, .bipush 9, 2) := Fm198 (dk_16 9 (dk_at s198_0 13 rfl rfl)) rfl
theorem f198_15 : ft 198 15 = some (11, 0, 0, .if_icmp .eq 21, 3) := Fm198 (dk_159 0 21 (dk_at s198_0 15 rfl rfl)) rfl
theorem f198_18 : ft 198 18 = some (11, 0, 0, .aload_n 0, 1) := Fm198 (dk_42 (dk_at s198_0 18 rfl rfl)) rfl
theorem f198_19 : ft 198 19 = some (11, 0, 0, .invokevirtual 167, 3) := Fm198 (dk_182 0 167 (dk_at s198_0 19 rfl rfl)) rfl
theorem f198_22 : ft 198 22 = some (11, 0, 0, .bipush 10, 2) := Fm198 (dk_16 10 (dk_at s198_0 22 rfl rfl)) rfl
theorem f198_24 : ft 198 24 = some (11, 0, 0, .if_icmp .eq 12, 3) := Fm198 (dk_159 0 12 (dk_at s198_1 0 rfl rfl)) rfl
theorem f198_27 : ft 198 27 = some (11, 0, 0, .aload_n 0, 1) := Fm198 (dk_42 (dk_at s198_1 3 rfl rfl)) rfl
theorem f198_28 : ft 198 28 = some (11, 0, 0, .invokevirtual 167, 3) := Fm198 (dk_182 0 167 (dk_at s198_1 4 rfl rfl)) rfl
theorem f198_31 : ft 198 31 = some (11, 0, 0, .bipush 13, 2) := Fm198 (dk_16 13 (dk_at s198_1 7 rfl rfl)) rfl
theorem f198_33 : ft 198 33 = some (11, 0, 0, .if_icmp .ne 16, 3) := Fm198 (dk_160 0 16 (dk_at s198_1 9 rfl rfl)) rfl
theorem f198_36 : ft 198 36 = some (11, 0, 0, .aload_n 0, 1) := Fm198 (dk_42 (dk_at s198_1 12 rfl rfl)) rfl
theorem f198_37 : ft 198 37 = some (11, 0, 0, .dup, 1) := Fm198 (dk_89 (dk_at s198_1 13 rfl rfl)) rfl
theorem f198_38 : ft 198 38 = some (11, 0, 0, .getfield 155, 3) := Fm198 (dk_180 0 155 (dk_at s198_1 14 rfl rfl)) rfl
theorem f198_41 : ft 198 41 = some (11, 0, 0, .iconst 1, 1) := Fm198 (dk_4 (dk_at s198_1 17 rfl rfl)) rfl
theorem f198_42 : ft 198 42 = some (11, 0, 0, .iadd, 1) := Fm198 (dk_96 (dk_at s198_1 18 rfl rfl)) rfl
theorem f198_43 : ft 198 43 = some (11, 0, 0, .putfield 155, 3) := Fm198 (dk_181 0 155 (dk_at s198_1 19 rfl rfl)) rfl
theorem f198_46 : ft 198 46 = some (11, 0, 0, .goto (-46), 3) := Fm198 (dk_167 255 210 (dk_at s198_2 0 rfl rfl)) rfl
theorem f198_49 : ft 198 49 = some (11, 0, 0, .return_, 1) := Fm198 (dk_177 (dk_at s198_2 3 rfl rfl)) rfl
theorem q198 {d : Nat} {m : Mem} {a0 : Int} (hz : TZ m) : le2 (rn d 198 0 [pR a0] [] m) (cl d 198 [pR a0] m) := by
  refine q_in (n := 1) (L := [pR a0]) rfl rfl rfl ?_
  exact le2_refl _
theorem q198_0 {d : Nat} {m : Mem} {a0 : Int} (hd : 0 < d) (hz : TZ m) : le2 (gd (tg m a0 = 11) <| bI (cl (d - 1) 199 [pR a0] m) fun v1 m1 => if v1 = 32 then (rn d 198 0 [pR a0] [] (mst m1 a0 12 (w32 ((vl m1 a0 12) + 1)))) else bI (cl (d - 1) 199 [pR a0] m1) fun v2 m2 => if v2 = 9 then (rn d 198 0 [pR a0] [] (mst m2 a0 12 (w32 ((vl m2 a0 12) + 1)))) else bI (cl (d - 1) 199 [pR a0] m2) fun v3 m3 => if v3 = 10 then (rn d 198 0 [pR a0] [] (mst m3 a0 12 (w32 ((vl m3 a0 12) + 1)))) else bI (cl (d - 1) 199 [pR a0] m3) fun v4 m4 => if v4 = 13 then (rn d 198 0 [pR a0] [] (mst m4 a0 12 (w32 ((vl m4 a0 12) + 1)))) else some (.inl none, m4)) (rn d 198 0 [pR a0] [] m) := by
  refine r_aln0 (p := 1) f198_0 rfl ?_
  refine le2_gd (fun h1 => ?_)
  refine r_invI (p := 4) f198_1 rfl rfl rfl (Or.inl h1) hd (Nat.le_of_ble_eq_true rfl) rfl rfl rfl (fun _ => rfl) (fun v1 m1 c1 => ?_)
  have hz1 := z_k c1 hz
  refine r_bipush (p := 6) f198_4 rfl (pinD rfl rfl) ?_
  refine r_iceq (t := 36) (p := 9) f198_6 (by decide) rfl rfl ?_ ?_
  · refine r_aln0 (p := 37) f198_36 rfl ?_
    refine r_dup (p := 38) f198_37 rfl rfl ?_
    have h2 := k_t1 c1 hz h1 (by decide)
    refine r_gfI (f := 12) (p := 41) f198_38 rfl rfl rfl (Or.inl h2) rfl ?_
    refine r_iconst (p := 42) f198_41 rfl (pinD rfl rfl) ?_
    refine r_iadd (p := 43) f198_42 rfl ?_
    refine r_pfI (f := 12) (p := 46) f198_43 rfl rfl rfl (by decide) (by decide) (Or.inl h2) rfl ?_
    refine r_goto (p := 0) f198_46 (by decide) rfl ?_
    exact le2_refl _
  · refine r_aln0 (p := 10) f198_9 rfl ?_
    have h3 := k_t1 c1 hz h1 (by decide)
    refine r_invI (p := 13) f198_10 rfl rfl rfl (Or.inl h3) hd (Nat.le_of_ble_eq_true rfl) rfl rfl rfl (fun _ => rfl) (fun v2 m2 c2 => ?_)
    have hz2 := z_k c2 hz1
    refine r_bipush (p := 15) f198_13 rfl (pinD rfl rfl) ?_
    refine r_iceq (t := 36) (p := 18) f198_15 (by decide) rfl rfl ?_ ?_
    · refine r_aln0 (p := 37) f198_36 rfl ?_
      refine r_dup (p := 38) f198_37 rfl rfl ?_
      have h4 := k_t1 c2 hz1 h3 (by decide)
      refine r_gfI (f := 12) (p := 41) f198_38 rfl rfl rfl (Or.inl h4) rfl ?_
      refine r_iconst (p := 42) f198_41 rfl (pinD rfl rfl) ?_
      refine r_iadd (p := 43) f198_42 rfl ?_
      refine r_pfI (f := 12) (p := 46) f198_43 rfl rfl rfl (by decide) (by decide) (Or.inl h4) rfl ?_
      refine r_goto (p := 0) f198_46 (by decide) rfl ?_
      exact le2_refl _
    · refine r_aln0 (p := 19) f198_18 rfl ?_
      have h5 := k_t1 c2 hz1 h3 (by decide)
      refine r_invI (p := 22) f198_19 rfl rfl rfl (Or.inl h5) hd (Nat.le_of_ble_eq_true rfl) rfl rfl rfl (fun _ => rfl) (fun v3 m3 c3 => ?_)
      have hz3 := z_k c3 hz2
      refine r_bipush (p := 24) f198_22 rfl (pinD rfl rfl) ?_
      refine r_iceq (t := 36) (p := 27) f198_24 (by decide) rfl rfl ?_ ?_
      · refine r_aln0 (p := 37) f198_36 rfl ?_
        refine r_dup (p := 38) f198_37 rfl rfl ?_
        have h6 := k_t1 c3 hz2 h5 (by decide)
        refine r_gfI (f := 12) (p := 41) f198_38 rfl rfl rfl (Or.inl h6) rfl ?_
        refine r_iconst (p := 42) f198_41 rfl (pinD rfl rfl) ?_
        refine r_iadd (p := 43) f198_42 rfl ?_
        refine r_pfI (f := 12) (p := 46) f198_43 rfl rfl rfl (by decide) (by decide) (Or.inl h6) rfl ?_
        refine r_goto (p := 0) f198_46 (by decide) rfl ?_
        exact le2_refl _
      · refine r_aln0 (p := 28) f198_27 rfl ?_
        have h7 := k_t1 c3 hz2 h5 (by decide)
        refine r_invI (p := 31) f198_28 rfl rfl rfl (Or.inl h7) hd (Nat.le_of_ble_eq_true rfl) rfl rfl rfl (fun _ => rfl) (fun v4 m4 c4 => ?_)
        have hz4 := z_k c4 hz3
        refine r_bipush (p := 33) f198_31 rfl (pinD rfl rfl) ?_
        refine r_icne (t := 49) (p := 36) f198_33 (by decide) rfl rfl ?_ ?_
        · refine r_aln0 (p := 37) f198_36 rfl ?_
          refine r_dup (p := 38) f198_37 rfl rfl ?_
          have h8 := k_t1 c4 hz3 h7 (by decide)
          refine r_gfI (f := 12) (p := 41) f198_38 rfl rfl rfl (Or.inl h8) rfl ?_
          refine r_iconst (p := 42) f198_41 rfl (pinD rfl rfl) ?_
          refine r_iadd (p := 43) f198_42 rfl ?_
          refine r_pfI (f := 12) (p := 46) f198_43 rfl rfl rfl (by decide) (by decide) (Or.inl h8) rfl ?_
          refine r_goto (p := 0) f198_46 (by decide) rfl ?_
          exact le2_refl _
        · exact r_ret f198_49
/-! 199 PathStoreModel.c ()I -/
def w199_1 : List UInt8 := [167, 0, 4, 2, 172]
abbrev u199_1 : List UInt8 := w199_1 ++ []
def w199_0 : List UInt8 := [42, 180, 0, 155, 42, 180, 0, 158, 162, 0, 19, 42, 180, 0, 161, 42, 180, 0, 155, 51, 17, 0, 255, 126]
abbrev u199_0 : List UInt8 := w199_0 ++ u199_1
theorem s199_0 : (prog_32_method_12_code).data.toList.drop 0 = u199_0 := by decide +kernel
theorem s199_1 : (prog_32_method_12_code).data.toList.drop 24 = u199_1 := dk_seg s199_0 24 rfl rfl
theorem Fm199 {pc len : Nat} {i : Instr} (h : decode (prog_32_method_12_code) pc = .ok (i, len)) (hl : len = ilen i len) : ft 199 pc = some (11, 1, 0, i, len) := ft_mk rfl h hl
theorem f199_0 : ft 199 0 = some (11, 1, 0, .aload_n 0, 1) := Fm199 (dk_42 (dk_at s199_0 0 rfl rfl)) rfl
theorem f199_1 : ft 199 1 = some (11, 1, 0, .getfield 155, 3) := Fm199 (dk_180 0 155 (dk_at s199_0 1 rfl rfl)) rfl
theorem f199_4 : ft 199 4 = some (11, 1, 0, .aload_n 0, 1) := Fm199 (dk_42 (dk_at s199_0 4 rfl rfl)) rfl
theorem f199_5 : ft 199 5 = some (11, 1, 0, .getfield 158, 3) := Fm199 (dk_180 0 158 (dk_at s199_0 5 rfl rfl)) rfl
theorem f199_8 : ft 199 8 = some (11, 1, 0, .if_icmp .ge 19, 3) := Fm199 (dk_162 0 19 (dk_at s199_0 8 rfl rfl)) rfl
theorem f199_11 : ft 199 11 = some (11, 1, 0, .aload_n 0, 1) := Fm199 (dk_42 (dk_at s199_0 11 rfl rfl)) rfl
theorem f199_12 : ft 199 12 = some (11, 1, 0, .getfield 161, 3) := Fm199 (dk_180 0 161 (dk_at s199_0 12 rfl rfl)) rfl
theorem f199_15 : ft 199 15 = some (11, 1, 0, .aload_n 0, 1) := Fm199 (dk_42 (dk_at s199_0 15 rfl rfl)) rfl
theorem f199_16 : ft 199 16 = some (11, 1, 0, .getfield 155, 3) := Fm199 (dk_180 0 155 (dk_at s199_0 16 rfl rfl)) rfl
theorem f199_19 : ft 199 19 = some (11, 1, 0, .baload, 1) := Fm199 (dk_51 (dk_at s199_0 19 rfl rfl)) rfl
theorem f199_20 : ft 199 20 = some (11, 1, 0, .sipush 255, 3) := Fm199 (dk_17 0 255 (dk_at s199_0 20 rfl rfl)) rfl
theorem f199_23 : ft 199 23 = some (11, 1, 0, .iand, 1) := Fm199 (dk_126 (dk_at s199_0 23 rfl rfl)) rfl
theorem f199_24 : ft 199 24 = some (11, 1, 0, .goto 4, 3) := Fm199 (dk_167 0 4 (dk_at s199_1 0 rfl rfl)) rfl
theorem f199_27 : ft 199 27 = some (11, 1, 0, .iconst (-1), 1) := Fm199 (dk_2 (dk_at s199_1 3 rfl rfl)) rfl
theorem f199_28 : ft 199 28 = some (11, 1, 0, .ireturn, 1) := Fm199 (dk_172 (dk_at s199_1 4 rfl rfl)) rfl
theorem q199 {d : Nat} {m : Mem} {a0 : Int} (hz : TZ m) : le2 (gd (tg m a0 = 11) <| nm (vl m a0 12) fun v1 => if v1 < (vl m a0 13) then (nm (vl m a0 11) fun v2 => gd (tg m v2 = 186103 ∨ tg m v2 = 276103 ∨ tg m v2 = 278103) <| gd ((0 : Int) ≤ v1 ∧ v1 < ln m v2) <| some (.inl (some (pI (pAnd (vl m v2 v1) 255))), m)) else some (.inl (some (pI (-1))), m)) (cl d 199 [pR a0] m) := by
  refine q_in (n := 1) (L := [pR a0]) rfl rfl rfl ?_
  refine r_aln0 (p := 1) f199_0 rfl ?_
  refine le2_gd (fun h1 => ?_)
  refine r_gfI (f := 12) (p := 4) f199_1 rfl rfl rfl (Or.inl h1) rfl ?_
  refine r_nmI (fun v1 ev1 => ?_)
  refine r_aln0 (p := 5) f199_4 rfl ?_
  refine r_gfI (f := 13) (p := 8) f199_5 rfl rfl rfl (Or.inl h1) rfl ?_
  refine r_icge (t := 27) (p := 11) f199_8 (by decide) rfl rfl ?_ ?_
  · refine r_aln0 (p := 12) f199_11 rfl ?_
    refine r_gfR (f := 11) (p := 15) f199_12 rfl rfl rfl (Or.inl h1) rfl ?_
    refine r_nmR (fun v2 ev2 => ?_)
    refine r_aln0 (p := 16) f199_15 rfl ?_
    refine r_gfI (f := 12) (p := 19) f199_16 rfl rfl rfl (Or.inl h1) ev1.symm ?_
    refine le2_gd (fun h2 => ?_)
    refine le2_gd (fun h3 => ?_)
    refine r_baload (p := 20) f199_19 rfl (dj3 (fun x => x % 1000 = 103 ∨ x % 1000 = 105) h2 (by decide) (by decide) (by decide)) h3 rfl ?_
    refine r_sipush (p := 23) f199_20 rfl (pinD rfl rfl) ?_
    refine r_iand (p := 24) f199_23 rfl ?_
    refine r_goto (p := 28) f199_24 (by decide) rfl ?_
    exact r_iret1 f199_28
  · refine r_iconst (p := 28) f199_27 rfl (pinD rfl rfl) ?_
    exact r_iret1 f199_28
/-! 200 PathStoreModel.word (Ljava/lang/String;)Z -/
def w200_1 : List UInt8 := [132, 2, 1, 167, 255, 231, 4, 172]
abbrev u200_1 : List UInt8 := w200_1 ++ []
def w200_0 : List UInt8 := [3, 61, 28, 43, 182, 0, 175, 162, 0, 23, 42, 43, 28, 182, 0, 179, 182, 0, 183, 154, 0, 5, 3, 172]
abbrev u200_0 : List UInt8 := w200_0 ++ u200_1
theorem s200_0 : (prog_32_method_17_code).data.toList.drop 0 = u200_0 := by decide +kernel
theorem s200_1 : (prog_32_method_17_code).data.toList.drop 24 = u200_1 := dk_seg s200_0 24 rfl rfl
theorem Fm200 {pc len : Nat} {i : Instr} (h : decode (prog_32_method_17_code) pc = .ok (i, len)) (hl : len = ilen i len) : ft 200 pc = some (11, 4, 0, i, len) := ft_mk rfl h hl
theorem f200_0 : ft 200 0 = some (11, 4, 0, .iconst 0, 1) := Fm200 (dk_3 (dk_at s200_0 0 rfl rfl)) rfl
theorem f200_1 : ft 200 1 = some (11, 4, 0, .istore_n 2, 1) := Fm200 (dk_61 (dk_at s200_0 1 rfl rfl)) rfl
theorem f200_2 : ft 200 2 = some (11, 4, 0, .iload_n 2, 1) := Fm200 (dk_28 (dk_at s200_0 2 rfl rfl)) rfl
theorem f200_3 : ft 200 3 = some (11, 4, 0, .aload_n 1, 1) := Fm200 (dk_43 (dk_at s200_0 3 rfl rfl)) rfl
theorem f200_4 : ft 200 4 = some (11, 4, 0, .invokevirtual 175, 3) := Fm200 (dk_182 0 175 (dk_at s200_0 4 rfl rfl)) rfl
theorem f200_7 : ft 200 7 = some (11, 4, 0, .if_icmp .ge 23, 3) := Fm200 (dk_162 0 23 (dk_at s200_0 7 rfl rfl)) rfl
theorem f200_10 : ft 200 10 = some (11, 4, 0, .aload_n 0, 1) := Fm200 (dk_42 (dk_at s200_0 10 rfl rfl)) rfl
theorem f200_11 : ft 200 11 = some (11, 4, 0, .aload_n 1, 1) := Fm200 (dk_43 (dk_at s200_0 11 rfl rfl)) rfl
theorem f200_12 : ft 200 12 = some (11, 4, 0, .iload_n 2, 1) := Fm200 (dk_28 (dk_at s200_0 12 rfl rfl)) rfl
theorem f200_13 : ft 200 13 = some (11, 4, 0, .invokevirtual 179, 3) := Fm200 (dk_182 0 179 (dk_at s200_0 13 rfl rfl)) rfl
theorem f200_16 : ft 200 16 = some (11, 4, 0, .invokevirtual 183, 3) := Fm200 (dk_182 0 183 (dk_at s200_0 16 rfl rfl)) rfl
theorem f200_19 : ft 200 19 = some (11, 4, 0, .ifCond .ne 5, 3) := Fm200 (dk_154 0 5 (dk_at s200_0 19 rfl rfl)) rfl
theorem f200_22 : ft 200 22 = some (11, 4, 0, .iconst 0, 1) := Fm200 (dk_3 (dk_at s200_0 22 rfl rfl)) rfl
theorem f200_23 : ft 200 23 = some (11, 4, 0, .ireturn, 1) := Fm200 (dk_172 (dk_at s200_0 23 rfl rfl)) rfl
theorem f200_24 : ft 200 24 = some (11, 4, 0, .iinc 2 1, 3) := Fm200 (dk_132 2 1 (dk_at s200_1 0 rfl rfl)) rfl
theorem f200_27 : ft 200 27 = some (11, 4, 0, .goto (-25), 3) := Fm200 (dk_167 255 231 (dk_at s200_1 3 rfl rfl)) rfl
theorem f200_30 : ft 200 30 = some (11, 4, 0, .iconst 1, 1) := Fm200 (dk_4 (dk_at s200_1 6 rfl rfl)) rfl
theorem f200_31 : ft 200 31 = some (11, 4, 0, .ireturn, 1) := Fm200 (dk_172 (dk_at s200_1 7 rfl rfl)) rfl
theorem q200 {d : Nat} {m : Mem} {a0 a1 : Int} (hz : TZ m) : le2 (rn d 200 2 [pR a0, pR a1, pI 0] [] m) (cl d 200 [pR a0, pR a1] m) := by
  refine q_in (n := 3) (L := [pR a0, pR a1, pU]) rfl rfl rfl ?_
  refine r_iconst (p := 1) f200_0 rfl (pinD rfl rfl) ?_
  refine r_isn2 (p := 2) f200_1 rfl rfl ?_
  exact le2_refl _
theorem q200_2 {d : Nat} {m : Mem} {a0 a1 a2 : Int} (hd : 0 < d) (hz : TZ m) : le2 (gd (tg m a1 = 31) <| bI (cl (d - 1) 349 [pR a1] m) fun v1 m1 => if a2 < v1 then (bI (cl (d - 1) 351 [pR a1, pI a2] m1) fun v2 m2 => gd (tg m2 a0 = 11) <| bI (cl (d - 1) 201 [pR a0, pI v2] m2) fun v3 m3 => if v3 = 0 then (some (.inl (some (pI 0)), m3)) else rn d 200 2 [pR a0, pR a1, pI (w32 (a2 + 1))] [] m3) else some (.inl (some (pI 1)), m1)) (rn d 200 2 [pR a0, pR a1, pI a2] [] m) := by
  refine r_iln2 (p := 3) f200_2 rfl ?_
  refine r_aln1 (p := 4) f200_3 rfl ?_
  refine le2_gd (fun h1 => ?_)
  refine r_invI (p := 7) f200_4 rfl rfl rfl (Or.inl h1) hd (Nat.le_of_ble_eq_true rfl) rfl rfl rfl (fun _ => rfl) (fun v1 m1 c1 => ?_)
  have hz1 := z_k c1 hz
  refine r_icge (t := 30) (p := 10) f200_7 (by decide) rfl rfl ?_ ?_
  · refine r_aln0 (p := 11) f200_10 rfl ?_
    refine r_aln1 (p := 12) f200_11 rfl ?_
    refine r_iln2 (p := 13) f200_12 rfl ?_
    have h2 := k_t1 c1 hz h1 (by decide)
    refine r_invI (p := 16) f200_13 rfl rfl rfl (Or.inl h2) hd (Nat.le_of_ble_eq_true rfl) rfl rfl rfl (fun _ => rfl) (fun v2 m2 c2 => ?_)
    have hz2 := z_k c2 hz1
    refine le2_gd (fun h3 => ?_)
    refine r_invI (p := 19) f200_16 rfl rfl rfl (Or.inl h3) hd (Nat.le_of_ble_eq_true rfl) rfl rfl rfl (fun _ => rfl) (fun v3 m3 c3 => ?_)
    have hz3 := z_k c3 hz2
    refine r_ifne (t := 24) (p := 22) f200_19 (by decide) rfl rfl ?_ ?_
    · refine r_iconst (p := 23) f200_22 rfl (pinD rfl rfl) ?_
      exact r_iret4 f200_23 (by decide)
    · refine r_iinc2 (p := 27) f200_24 rfl rfl ?_
      refine r_goto (p := 2) f200_27 (by decide) rfl ?_
      exact le2_refl _
  · refine r_iconst (p := 31) f200_30 rfl (pinD rfl rfl) ?_
    exact r_iret4 f200_31 (by decide)
/-! 201 PathStoreModel.take (I)Z -/
def w201_1 : List UInt8 := [181, 0, 155, 4, 172]
abbrev u201_1 : List UInt8 := w201_1 ++ []
def w201_0 : List UInt8 := [42, 182, 0, 167, 27, 159, 0, 12, 42, 42, 180, 0, 155, 182, 0, 171, 172, 42, 89, 180, 0, 155, 4, 96]
abbrev u201_0 : List UInt8 := w201_0 ++ u201_1
theorem s201_0 : (prog_32_method_16_code).data.toList.drop 0 = u201_0 := by decide +kernel
theorem s201_1 : (prog_32_method_16_code).data.toList.drop 24 = u201_1 := dk_seg s201_0 24 rfl rfl
theorem Fm201 {pc len : Nat} {i : Instr} (h : decode (prog_32_method_16_code) pc = .ok (i, len)) (hl : len = ilen i len) : ft 201 pc = some (11, 4, 0, i, len) := ft_mk rfl h hl
theorem f201_0 : ft 201 0 = some (11, 4, 0, .aload_n 0, 1) := Fm201 (dk_42 (dk_at s201_0 0 rfl rfl)) rfl
theorem f201_1 : ft 201 1 = some (11, 4, 0, .invokevirtual 167, 3) := Fm201 (dk_182 0 167 (dk_at s201_0 1 rfl rfl)) rfl
theorem f201_4 : ft 201 4 = some (11, 4, 0, .iload_n 1, 1) := Fm201 (dk_27 (dk_at s201_0 4 rfl rfl)) rfl
theorem f201_5 : ft 201 5 = some (11, 4, 0, .if_icmp .eq 12, 3) := Fm201 (dk_159 0 12 (dk_at s201_0 5 rfl rfl)) rfl
theorem f201_8 : ft 201 8 = some (11, 4, 0, .aload_n 0, 1) := Fm201 (dk_42 (dk_at s201_0 8 rfl rfl)) rfl
theorem f201_9 : ft 201 9 = some (11, 4, 0, .aload_n 0, 1) := Fm201 (dk_42 (dk_at s201_0 9 rfl rfl)) rfl
theorem f201_10 : ft 201 10 = some (11, 4, 0, .getfield 155, 3) := Fm201 (dk_180 0 155 (dk_at s201_0 10 rfl rfl)) rfl
theorem f201_13 : ft 201 13 = some (11, 4, 0, .invokevirtual 171, 3) := Fm201 (dk_182 0 171 (dk_at s201_0 13 rfl rfl)) rfl
theorem f201_16 : ft 201 16 = some (11, 4, 0, .ireturn, 1) := Fm201 (dk_172 (dk_at s201_0 16 rfl rfl)) rfl
theorem f201_17 : ft 201 17 = some (11, 4, 0, .aload_n 0, 1) := Fm201 (dk_42 (dk_at s201_0 17 rfl rfl)) rfl
theorem f201_18 : ft 201 18 = some (11, 4, 0, .dup, 1) := Fm201 (dk_89 (dk_at s201_0 18 rfl rfl)) rfl
theorem f201_19 : ft 201 19 = some (11, 4, 0, .getfield 155, 3) := Fm201 (dk_180 0 155 (dk_at s201_0 19 rfl rfl)) rfl
theorem f201_22 : ft 201 22 = some (11, 4, 0, .iconst 1, 1) := Fm201 (dk_4 (dk_at s201_0 22 rfl rfl)) rfl
theorem f201_23 : ft 201 23 = some (11, 4, 0, .iadd, 1) := Fm201 (dk_96 (dk_at s201_0 23 rfl rfl)) rfl
theorem f201_24 : ft 201 24 = some (11, 4, 0, .putfield 155, 3) := Fm201 (dk_181 0 155 (dk_at s201_1 0 rfl rfl)) rfl
theorem f201_27 : ft 201 27 = some (11, 4, 0, .iconst 1, 1) := Fm201 (dk_4 (dk_at s201_1 3 rfl rfl)) rfl
theorem f201_28 : ft 201 28 = some (11, 4, 0, .ireturn, 1) := Fm201 (dk_172 (dk_at s201_1 4 rfl rfl)) rfl
theorem q201 {d : Nat} {m : Mem} {a0 a1 : Int} (hd : 0 < d) (hz : TZ m) : le2 (gd (tg m a0 = 11) <| bI (cl (d - 1) 199 [pR a0] m) fun v1 m1 => if v1 = a1 then (some (.inl (some (pI 1)), (mst m1 a0 12 (w32 ((vl m1 a0 12) + 1))))) else bI (cl (d - 1) 202 [pR a0, pI (vl m1 a0 12)] m1) fun v2 m2 => gd (v2 = 0 ∨ v2 = 1) <| some (.inl (some (pI v2)), m2)) (cl d 201 [pR a0, pI a1] m) := by
  refine q_in (n := 2) (L := [pR a0, pI a1]) rfl rfl rfl ?_
  refine r_aln0 (p := 1) f201_0 rfl ?_
  refine le2_gd (fun h1 => ?_)
  refine r_invI (p := 4) f201_1 rfl rfl rfl (Or.inl h1) hd (Nat.le_of_ble_eq_true rfl) rfl rfl rfl (fun _ => rfl) (fun v1 m1 c1 => ?_)
  have hz1 := z_k c1 hz
  refine r_iln1 (p := 5) f201_4 rfl ?_
  refine r_iceq (t := 17) (p := 8) f201_5 (by decide) rfl rfl ?_ ?_
  · refine r_aln0 (p := 18) f201_17 rfl ?_
    refine r_dup (p := 19) f201_18 rfl rfl ?_
    have h2 := k_t1 c1 hz h1 (by decide)
    refine r_gfI (f := 12) (p := 22) f201_19 rfl rfl rfl (Or.inl h2) rfl ?_
    refine r_iconst (p := 23) f201_22 rfl (pinD rfl rfl) ?_
    refine r_iadd (p := 24) f201_23 rfl ?_
    refine r_pfI (f := 12) (p := 27) f201_24 rfl rfl rfl (by decide) (by decide) (Or.inl h2) rfl ?_
    refine r_iconst (p := 28) f201_27 rfl (pinD rfl rfl) ?_
    exact r_iret4 f201_28 (by decide)
  · refine r_aln0 (p := 9) f201_8 rfl ?_
    refine r_aln0 (p := 10) f201_9 rfl ?_
    have h3 := k_t1 c1 hz h1 (by decide)
    refine r_gfI (f := 12) (p := 13) f201_10 rfl rfl rfl (Or.inl h3) rfl ?_
    refine r_invI (p := 16) f201_13 rfl rfl rfl (Or.inl h3) hd (Nat.le_of_ble_eq_true rfl) rfl rfl rfl (fun _ => rfl) (fun v2 m2 c2 => ?_)
    have hz2 := z_k c2 hz1
    refine le2_gd (fun h4 => ?_)
    exact r_iret4 f201_16 h4
/-! 202 PathStoreModel.fail (I)Z -/
def w202_0 : List UInt8 := [42, 180, 0, 164, 156, 0, 8, 42, 27, 181, 0, 164, 3, 172]
abbrev u202_0 : List UInt8 := w202_0 ++ []
theorem s202_0 : (prog_32_method_13_code).data.toList.drop 0 = u202_0 := by decide +kernel
theorem Fm202 {pc len : Nat} {i : Instr} (h : decode (prog_32_method_13_code) pc = .ok (i, len)) (hl : len = ilen i len) : ft 202 pc = some (11, 4, 0, i, len) := ft_mk rfl h hl
theorem f202_0 : ft 202 0 = some (11, 4, 0, .aload_n 0, 1) := Fm202 (dk_42 (dk_at s202_0 0 rfl rfl)) rfl
theorem f202_1 : ft 202 1 = some (11, 4, 0, .getfield 164, 3) := Fm202 (dk_180 0 164 (dk_at s202_0 1 rfl rfl)) rfl
theorem f202_4 : ft 202 4 = some (11, 4, 0, .ifCond .ge 8, 3) := Fm202 (dk_156 0 8 (dk_at s202_0 4 rfl rfl)) rfl
theorem f202_7 : ft 202 7 = some (11, 4, 0, .aload_n 0, 1) := Fm202 (dk_42 (dk_at s202_0 7 rfl rfl)) rfl
theorem f202_8 : ft 202 8 = some (11, 4, 0, .iload_n 1, 1) := Fm202 (dk_27 (dk_at s202_0 8 rfl rfl)) rfl
theorem f202_9 : ft 202 9 = some (11, 4, 0, .putfield 164, 3) := Fm202 (dk_181 0 164 (dk_at s202_0 9 rfl rfl)) rfl
theorem f202_12 : ft 202 12 = some (11, 4, 0, .iconst 0, 1) := Fm202 (dk_3 (dk_at s202_0 12 rfl rfl)) rfl
theorem f202_13 : ft 202 13 = some (11, 4, 0, .ireturn, 1) := Fm202 (dk_172 (dk_at s202_0 13 rfl rfl)) rfl
theorem q202 {d : Nat} {m : Mem} {a0 a1 : Int} (hz : TZ m) : le2 (gd (tg m a0 = 11) <| if (vl m a0 14) < 0 then (some (.inl (some (pI 0)), (mst m a0 14 a1))) else some (.inl (some (pI 0)), m)) (cl d 202 [pR a0, pI a1] m) := by
  refine q_in (n := 2) (L := [pR a0, pI a1]) rfl rfl rfl ?_
  refine r_aln0 (p := 1) f202_0 rfl ?_
  refine le2_gd (fun h1 => ?_)
  refine r_gfI (f := 14) (p := 4) f202_1 rfl rfl rfl (Or.inl h1) rfl ?_
  refine r_ifge (t := 12) (p := 7) f202_4 (by decide) rfl rfl ?_ ?_
  · refine r_aln0 (p := 8) f202_7 rfl ?_
    refine r_iln1 (p := 9) f202_8 rfl ?_
    refine r_pfI (f := 14) (p := 12) f202_9 rfl rfl rfl (by decide) (by decide) (Or.inl h1) rfl ?_
    refine r_iconst (p := 13) f202_12 rfl (pinD rfl rfl) ?_
    exact r_iret4 f202_13 (by decide)
  · refine r_iconst (p := 13) f202_12 rfl (pinD rfl rfl) ?_
    exact r_iret4 f202_13 (by decide)
/-! 203 PathStoreModel.quoted (ILPathStoreModel$Tree;)Z -/
def w203_12 : List UInt8 := [172, 44, 21, 6, 182, 0, 197, 167, 254, 234, 42, 89, 180, 0, 155, 4, 96, 181, 0, 155, 4, 172]
abbrev u203_12 : List UInt8 := w203_12 ++ []
def w203_11 : List UInt8 := [181, 0, 164, 3, 172, 21, 6, 18, 44, 161, 0, 10, 21, 6, 18, 203, 164, 0, 9, 42, 29, 182, 0, 171]
abbrev u203_11 : List UInt8 := w203_11 ++ u203_12
def w203_10 : List UInt8 := [182, 0, 200, 54, 6, 21, 6, 156, 0, 21, 42, 180, 0, 164, 42, 180, 0, 158, 162, 0, 8, 42, 29]
abbrev u203_10 : List UInt8 := w203_10 ++ u203_11
def w203_9 : List UInt8 := [180, 0, 161, 42, 180, 0, 155, 4, 96, 51, 16, 117, 159, 0, 9, 42, 29, 182, 0, 171, 172, 42, 27]
abbrev u203_9 : List UInt8 := w203_9 ++ u203_10
def w203_8 : List UInt8 := [180, 0, 155, 4, 96, 42, 180, 0, 158, 161, 0, 12, 42, 42, 180, 0, 158, 182, 0, 171, 172, 42]
abbrev u203_8 : List UInt8 := w203_8 ++ u203_9
def w203_7 : List UInt8 := [180, 0, 158, 182, 0, 171, 172, 42, 182, 0, 167, 16, 92, 159, 0, 9, 42, 29, 182, 0, 171, 172, 42]
abbrev u203_7 : List UInt8 := w203_7 ++ u203_8
def w203_6 : List UInt8 := [21, 5, 18, 42, 164, 0, 6, 167, 255, 116, 42, 180, 0, 155, 42, 180, 0, 158, 161, 0, 12, 42, 42]
abbrev u203_6 : List UInt8 := w203_6 ++ u203_7
def w203_5 : List UInt8 := [18, 203, 163, 0, 9, 42, 29, 182, 0, 171, 172, 44, 21, 5, 182, 0, 197, 21, 5, 18, 41, 161, 255, 126]
abbrev u203_5 : List UInt8 := w203_5 ++ u203_6
def w203_4 : List UInt8 := [42, 27, 182, 0, 200, 54, 5, 21, 5, 156, 0, 5, 3, 172, 21, 5, 18, 44, 161, 0, 16, 21, 5]
abbrev u203_4 : List UInt8 := w203_4 ++ u203_5
def w203_3 : List UInt8 := [16, 92, 159, 0, 22, 44, 21, 4, 182, 0, 197, 42, 89, 180, 0, 155, 4, 96, 181, 0, 155, 167, 255, 173]
abbrev u203_3 : List UInt8 := w203_3 ++ u203_4
def w203_2 : List UInt8 := [42, 180, 0, 158, 161, 0, 10, 42, 180, 0, 158, 167, 0, 7, 42, 180, 0, 155, 182, 0, 171, 172, 21, 4]
abbrev u203_2 : List UInt8 := w203_2 ++ u203_3
def w203_1 : List UInt8 := [182, 0, 167, 54, 4, 21, 4, 16, 32, 161, 0, 10, 21, 4, 16, 126, 164, 0, 30, 42, 42, 180, 0, 155]
abbrev u203_1 : List UInt8 := w203_1 ++ u203_2
def w203_0 : List UInt8 := [42, 27, 182, 0, 183, 154, 0, 5, 3, 172, 42, 182, 0, 167, 27, 159, 1, 20, 42, 180, 0, 155, 62, 42]
abbrev u203_0 : List UInt8 := w203_0 ++ u203_1
theorem s203_0 : (prog_32_method_20_code).data.toList.drop 0 = u203_0 := by decide +kernel
theorem s203_1 : (prog_32_method_20_code).data.toList.drop 24 = u203_1 := dk_seg s203_0 24 rfl rfl
theorem s203_2 : (prog_32_method_20_code).data.toList.drop 48 = u203_2 := dk_seg s203_1 24 rfl rfl
theorem s203_3 : (prog_32_method_20_code).data.toList.drop 72 = u203_3 := dk_seg s203_2 24 rfl rfl
theorem s203_4 : (prog_32_method_20_code).data.toList.drop 96 = u203_4 := dk_seg s203_3 24 rfl rfl
theorem s203_5 : (prog_32_method_20_code).data.toList.drop 119 = u203_5 := dk_seg s203_4 23 rfl rfl
theorem s203_6 : (prog_32_method_20_code).data.toList.drop 143 = u203_6 := dk_seg s203_5 24 rfl rfl
theorem s203_7 : (prog_32_method_20_code).data.toList.drop 166 = u203_7 := dk_seg s203_6 23 rfl rfl
theorem s203_8 : (prog_32_method_20_code).data.toList.drop 189 = u203_8 := dk_seg s203_7 23 rfl rfl
theorem s203_9 : (prog_32_method_20_code).data.toList.drop 211 = u203_9 := dk_seg s203_8 22 rfl rfl
theorem s203_10 : (prog_32_method_20_code).data.toList.drop 234 = u203_10 := dk_seg s203_9 23 rfl rfl
theorem s203_11 : (prog_32_method_20_code).data.toList.drop 257 = u203_11 := dk_seg s203_10 23 rfl rfl
theorem s203_12 : (prog_32_method_20_code).data.toList.drop 281 = u203_12 := dk_seg s203_11 24 rfl rfl
theorem Fm203 {pc len : Nat} {i : Instr} (h : decode (prog_32_method_20_code) pc = .ok (i, len)) (hl : len = ilen i len) : ft 203 pc = some (11, 4, 0, i, len) := ft_mk rfl h hl
theorem f203_0 : ft 203 0 = some (11, 4, 0, .aload_n 0, 1) := Fm203 (dk_42 (dk_at s203_0 0 rfl rfl)) rfl
theorem f203_1 : ft 203 1 = some (11, 4, 0, .iload_n 1, 1) := Fm203 (dk_27 (dk_at s203_0 1 rfl rfl)) rfl
theorem f203_2 : ft 203 2 = some (11, 4, 0, .invokevirtual 183, 3) := Fm203 (dk_182 0 183 (dk_at s203_0 2 rfl rfl)) rfl
theorem f203_5 : ft 203 5 = some (11, 4, 0, .ifCond .ne 5, 3) := Fm203 (dk_154 0 5 (dk_at s203_0 5 rfl rfl)) rfl
theorem f203_8 : ft 203 8 = some (11, 4, 0, .iconst 0, 1) := Fm203 (dk_3 (dk_at s203_0 8 rfl rfl)) rfl
theorem f203_9 : ft 203 9 = some (11, 4, 0, .ireturn, 1) := Fm203 (dk_172 (dk_at s203_0 9 rfl rfl)) rfl
theorem f203_10 : ft 203 10 = some (11, 4, 0, .aload_n 0, 1) := Fm203 (dk_42 (dk_at s203_0 10 rfl rfl)) rfl
theorem f203_11 : ft 203 11 = some (11, 4, 0, .invokevirtual 167, 3) := Fm203 (dk_182 0 167 (dk_at s203_0 11 rfl rfl)) rfl
theorem f203_14 : ft 203 14 = some (11, 4, 0, .iload_n 1, 1) := Fm203 (dk_27 (dk_at s203_0 14 rfl rfl)) rfl
theorem f203_15 : ft 203 15 = some (11, 4, 0, .if_icmp .eq 276, 3) := Fm203 (dk_159 1 20 (dk_at s203_0 15 rfl rfl)) rfl
theorem f203_18 : ft 203 18 = some (11, 4, 0, .aload_n 0, 1) := Fm203 (dk_42 (dk_at s203_0 18 rfl rfl)) rfl
theorem f203_19 : ft 203 19 = some (11, 4, 0, .getfield 155, 3) := Fm203 (dk_180 0 155 (dk_at s203_0 19 rfl rfl)) rfl
theorem f203_22 : ft 203 22 = some (11, 4, 0, .istore_n 3, 1) := Fm203 (dk_62 (dk_at s203_0 22 rfl rfl)) rfl
theorem f203_23 : ft 203 23 = some (11, 4, 0, .aload_n 0, 1) := Fm203 (dk_42 (dk_at s203_0 23 rfl rfl)) rfl
theorem f203_24 : ft 203 24 = some (11, 4, 0, .invokevirtual 167, 3) := Fm203 (dk_182 0 167 (dk_at s203_1 0 rfl rfl)) rfl
theorem f203_27 : ft 203 27 = some (11, 4, 0, .istore 4, 2) := Fm203 (dk_54 4 (dk_at s203_1 3 rfl rfl)) rfl
theorem f203_29 : ft 203 29 = some (11, 4, 0, .iload 4, 2) := Fm203 (dk_21 4 (dk_at s203_1 5 rfl rfl)) rfl
theorem f203_31 : ft 203 31 = some (11, 4, 0, .bipush 32, 2) := Fm203 (dk_16 32 (dk_at s203_1 7 rfl rfl)) rfl
theorem f203_33 : ft 203 33 = some (11, 4, 0, .if_icmp .lt 10, 3) := Fm203 (dk_161 0 10 (dk_at s203_1 9 rfl rfl)) rfl
theorem f203_36 : ft 203 36 = some (11, 4, 0, .iload 4, 2) := Fm203 (dk_21 4 (dk_at s203_1 12 rfl rfl)) rfl
theorem f203_38 : ft 203 38 = some (11, 4, 0, .bipush 126, 2) := Fm203 (dk_16 126 (dk_at s203_1 14 rfl rfl)) rfl
theorem f203_40 : ft 203 40 = some (11, 4, 0, .if_icmp .le 30, 3) := Fm203 (dk_164 0 30 (dk_at s203_1 16 rfl rfl)) rfl
theorem f203_43 : ft 203 43 = some (11, 4, 0, .aload_n 0, 1) := Fm203 (dk_42 (dk_at s203_1 19 rfl rfl)) rfl
theorem f203_44 : ft 203 44 = some (11, 4, 0, .aload_n 0, 1) := Fm203 (dk_42 (dk_at s203_1 20 rfl rfl)) rfl
theorem f203_45 : ft 203 45 = some (11, 4, 0, .getfield 155, 3) := Fm203 (dk_180 0 155 (dk_at s203_1 21 rfl rfl)) rfl
theorem f203_48 : ft 203 48 = some (11, 4, 0, .aload_n 0, 1) := Fm203 (dk_42 (dk_at s203_2 0 rfl rfl)) rfl
theorem f203_49 : ft 203 49 = some (11, 4, 0, .getfield 158, 3) := Fm203 (dk_180 0 158 (dk_at s203_2 1 rfl rfl)) rfl
theorem f203_52 : ft 203 52 = some (11, 4, 0, .if_icmp .lt 10, 3) := Fm203 (dk_161 0 10 (dk_at s203_2 4 rfl rfl)) rfl
theorem f203_55 : ft 203 55 = some (11, 4, 0, .aload_n 0, 1) := Fm203 (dk_42 (dk_at s203_2 7 rfl rfl)) rfl
theorem f203_56 : ft 203 56 = some (11, 4, 0, .getfield 158, 3) := Fm203 (dk_180 0 158 (dk_at s203_2 8 rfl rfl)) rfl
theorem f203_59 : ft 203 59 = some (11, 4, 0, .goto 7, 3) := Fm203 (dk_167 0 7 (dk_at s203_2 11 rfl rfl)) rfl
theorem f203_62 : ft 203 62 = some (11, 4, 0, .aload_n 0, 1) := Fm203 (dk_42 (dk_at s203_2 14 rfl rfl)) rfl
theorem f203_63 : ft 203 63 = some (11, 4, 0, .getfield 155, 3) := Fm203 (dk_180 0 155 (dk_at s203_2 15 rfl rfl)) rfl
theorem f203_66 : ft 203 66 = some (11, 4, 0, .invokevirtual 171, 3) := Fm203 (dk_182 0 171 (dk_at s203_2 18 rfl rfl)) rfl
theorem f203_69 : ft 203 69 = some (11, 4, 0, .ireturn, 1) := Fm203 (dk_172 (dk_at s203_2 21 rfl rfl)) rfl
theorem f203_70 : ft 203 70 = some (11, 4, 0, .iload 4, 2) := Fm203 (dk_21 4 (dk_at s203_2 22 rfl rfl)) rfl
theorem f203_72 : ft 203 72 = some (11, 4, 0, .bipush 92, 2) := Fm203 (dk_16 92 (dk_at s203_3 0 rfl rfl)) rfl
theorem f203_74 : ft 203 74 = some (11, 4, 0, .if_icmp .eq 22, 3) := Fm203 (dk_159 0 22 (dk_at s203_3 2 rfl rfl)) rfl
theorem f203_77 : ft 203 77 = some (11, 4, 0, .aload_n 2, 1) := Fm203 (dk_44 (dk_at s203_3 5 rfl rfl)) rfl
theorem f203_78 : ft 203 78 = some (11, 4, 0, .iload 4, 2) := Fm203 (dk_21 4 (dk_at s203_3 6 rfl rfl)) rfl
theorem f203_80 : ft 203 80 = some (11, 4, 0, .invokevirtual 197, 3) := Fm203 (dk_182 0 197 (dk_at s203_3 8 rfl rfl)) rfl
theorem f203_83 : ft 203 83 = some (11, 4, 0, .aload_n 0, 1) := Fm203 (dk_42 (dk_at s203_3 11 rfl rfl)) rfl
theorem f203_84 : ft 203 84 = some (11, 4, 0, .dup, 1) := Fm203 (dk_89 (dk_at s203_3 12 rfl rfl)) rfl
theorem f203_85 : ft 203 85 = some (11, 4, 0, .getfield 155, 3) := Fm203 (dk_180 0 155 (dk_at s203_3 13 rfl rfl)) rfl
theorem f203_88 : ft 203 88 = some (11, 4, 0, .iconst 1, 1) := Fm203 (dk_4 (dk_at s203_3 16 rfl rfl)) rfl
theorem f203_89 : ft 203 89 = some (11, 4, 0, .iadd, 1) := Fm203 (dk_96 (dk_at s203_3 17 rfl rfl)) rfl
theorem f203_90 : ft 203 90 = some (11, 4, 0, .putfield 155, 3) := Fm203 (dk_181 0 155 (dk_at s203_3 18 rfl rfl)) rfl
theorem f203_93 : ft 203 93 = some (11, 4, 0, .goto (-83), 3) := Fm203 (dk_167 255 173 (dk_at s203_3 21 rfl rfl)) rfl
theorem f203_96 : ft 203 96 = some (11, 4, 0, .aload_n 0, 1) := Fm203 (dk_42 (dk_at s203_4 0 rfl rfl)) rfl
theorem f203_97 : ft 203 97 = some (11, 4, 0, .iload_n 1, 1) := Fm203 (dk_27 (dk_at s203_4 1 rfl rfl)) rfl
theorem f203_98 : ft 203 98 = some (11, 4, 0, .invokevirtual 200, 3) := Fm203 (dk_182 0 200 (dk_at s203_4 2 rfl rfl)) rfl
theorem f203_101 : ft 203 101 = some (11, 4, 0, .istore 5, 2) := Fm203 (dk_54 5 (dk_at s203_4 5 rfl rfl)) rfl
theorem f203_103 : ft 203 103 = some (11, 4, 0, .iload 5, 2) := Fm203 (dk_21 5 (dk_at s203_4 7 rfl rfl)) rfl
theorem f203_105 : ft 203 105 = some (11, 4, 0, .ifCond .ge 5, 3) := Fm203 (dk_156 0 5 (dk_at s203_4 9 rfl rfl)) rfl
theorem f203_108 : ft 203 108 = some (11, 4, 0, .iconst 0, 1) := Fm203 (dk_3 (dk_at s203_4 12 rfl rfl)) rfl
theorem f203_109 : ft 203 109 = some (11, 4, 0, .ireturn, 1) := Fm203 (dk_172 (dk_at s203_4 13 rfl rfl)) rfl
theorem f203_110 : ft 203 110 = some (11, 4, 0, .iload 5, 2) := Fm203 (dk_21 5 (dk_at s203_4 14 rfl rfl)) rfl
theorem f203_112 : ft 203 112 = some (11, 4, 0, .ldc 44, 2) := Fm203 (dk_18 44 (dk_at s203_4 16 rfl rfl)) rfl
theorem f203_114 : ft 203 114 = some (11, 4, 0, .if_icmp .lt 16, 3) := Fm203 (dk_161 0 16 (dk_at s203_4 18 rfl rfl)) rfl
theorem f203_117 : ft 203 117 = some (11, 4, 0, .iload 5, 2) := Fm203 (dk_21 5 (dk_at s203_4 21 rfl rfl)) rfl
theorem f203_119 : ft 203 119 = some (11, 4, 0, .ldc 203, 2) := Fm203 (dk_18 203 (dk_at s203_5 0 rfl rfl)) rfl
theorem f203_121 : ft 203 121 = some (11, 4, 0, .if_icmp .gt 9, 3) := Fm203 (dk_163 0 9 (dk_at s203_5 2 rfl rfl)) rfl
theorem f203_124 : ft 203 124 = some (11, 4, 0, .aload_n 0, 1) := Fm203 (dk_42 (dk_at s203_5 5 rfl rfl)) rfl
theorem f203_125 : ft 203 125 = some (11, 4, 0, .iload_n 3, 1) := Fm203 (dk_29 (dk_at s203_5 6 rfl rfl)) rfl
theorem f203_126 : ft 203 126 = some (11, 4, 0, .invokevirtual 171, 3) := Fm203 (dk_182 0 171 (dk_at s203_5 7 rfl rfl)) rfl
theorem f203_129 : ft 203 129 = some (11, 4, 0, .ireturn, 1) := Fm203 (dk_172 (dk_at s203_5 10 rfl rfl)) rfl
theorem f203_130 : ft 203 130 = some (11, 4, 0, .aload_n 2, 1) := Fm203 (dk_44 (dk_at s203_5 11 rfl rfl)) rfl
theorem f203_131 : ft 203 131 = some (11, 4, 0, .iload 5, 2) := Fm203 (dk_21 5 (dk_at s203_5 12 rfl rfl)) rfl
theorem f203_133 : ft 203 133 = some (11, 4, 0, .invokevirtual 197, 3) := Fm203 (dk_182 0 197 (dk_at s203_5 14 rfl rfl)) rfl
theorem f203_136 : ft 203 136 = some (11, 4, 0, .iload 5, 2) := Fm203 (dk_21 5 (dk_at s203_5 17 rfl rfl)) rfl
theorem f203_138 : ft 203 138 = some (11, 4, 0, .ldc 41, 2) := Fm203 (dk_18 41 (dk_at s203_5 19 rfl rfl)) rfl
theorem f203_140 : ft 203 140 = some (11, 4, 0, .if_icmp .lt (-130), 3) := Fm203 (dk_161 255 126 (dk_at s203_5 21 rfl rfl)) rfl
theorem f203_143 : ft 203 143 = some (11, 4, 0, .iload 5, 2) := Fm203 (dk_21 5 (dk_at s203_6 0 rfl rfl)) rfl
theorem f203_145 : ft 203 145 = some (11, 4, 0, .ldc 42, 2) := Fm203 (dk_18 42 (dk_at s203_6 2 rfl rfl)) rfl
theorem f203_147 : ft 203 147 = some (11, 4, 0, .if_icmp .le 6, 3) := Fm203 (dk_164 0 6 (dk_at s203_6 4 rfl rfl)) rfl
theorem f203_150 : ft 203 150 = some (11, 4, 0, .goto (-140), 3) := Fm203 (dk_167 255 116 (dk_at s203_6 7 rfl rfl)) rfl
theorem f203_153 : ft 203 153 = some (11, 4, 0, .aload_n 0, 1) := Fm203 (dk_42 (dk_at s203_6 10 rfl rfl)) rfl
theorem f203_154 : ft 203 154 = some (11, 4, 0, .getfield 155, 3) := Fm203 (dk_180 0 155 (dk_at s203_6 11 rfl rfl)) rfl
theorem f203_157 : ft 203 157 = some (11, 4, 0, .aload_n 0, 1) := Fm203 (dk_42 (dk_at s203_6 14 rfl rfl)) rfl
theorem f203_158 : ft 203 158 = some (11, 4, 0, .getfield 158, 3) := Fm203 (dk_180 0 158 (dk_at s203_6 15 rfl rfl)) rfl
theorem f203_161 : ft 203 161 = some (11, 4, 0, .if_icmp .lt 12, 3) := Fm203 (dk_161 0 12 (dk_at s203_6 18 rfl rfl)) rfl
theorem f203_164 : ft 203 164 = some (11, 4, 0, .aload_n 0, 1) := Fm203 (dk_42 (dk_at s203_6 21 rfl rfl)) rfl
theorem f203_165 : ft 203 165 = some (11, 4, 0, .aload_n 0, 1) := Fm203 (dk_42 (dk_at s203_6 22 rfl rfl)) rfl
theorem f203_166 : ft 203 166 = some (11, 4, 0, .getfield 158, 3) := Fm203 (dk_180 0 158 (dk_at s203_7 0 rfl rfl)) rfl
theorem f203_169 : ft 203 169 = some (11, 4, 0, .invokevirtual 171, 3) := Fm203 (dk_182 0 171 (dk_at s203_7 3 rfl rfl)) rfl
theorem f203_172 : ft 203 172 = some (11, 4, 0, .ireturn, 1) := Fm203 (dk_172 (dk_at s203_7 6 rfl rfl)) rfl
theorem f203_173 : ft 203 173 = some (11, 4, 0, .aload_n 0, 1) := Fm203 (dk_42 (dk_at s203_7 7 rfl rfl)) rfl
theorem f203_174 : ft 203 174 = some (11, 4, 0, .invokevirtual 167, 3) := Fm203 (dk_182 0 167 (dk_at s203_7 8 rfl rfl)) rfl
theorem f203_177 : ft 203 177 = some (11, 4, 0, .bipush 92, 2) := Fm203 (dk_16 92 (dk_at s203_7 11 rfl rfl)) rfl
theorem f203_179 : ft 203 179 = some (11, 4, 0, .if_icmp .eq 9, 3) := Fm203 (dk_159 0 9 (dk_at s203_7 13 rfl rfl)) rfl
theorem f203_182 : ft 203 182 = some (11, 4, 0, .aload_n 0, 1) := Fm203 (dk_42 (dk_at s203_7 16 rfl rfl)) rfl
theorem f203_183 : ft 203 183 = some (11, 4, 0, .iload_n 3, 1) := Fm203 (dk_29 (dk_at s203_7 17 rfl rfl)) rfl
theorem f203_184 : ft 203 184 = some (11, 4, 0, .invokevirtual 171, 3) := Fm203 (dk_182 0 171 (dk_at s203_7 18 rfl rfl)) rfl
theorem f203_187 : ft 203 187 = some (11, 4, 0, .ireturn, 1) := Fm203 (dk_172 (dk_at s203_7 21 rfl rfl)) rfl
theorem f203_188 : ft 203 188 = some (11, 4, 0, .aload_n 0, 1) := Fm203 (dk_42 (dk_at s203_7 22 rfl rfl)) rfl
theorem f203_189 : ft 203 189 = some (11, 4, 0, .getfield 155, 3) := Fm203 (dk_180 0 155 (dk_at s203_8 0 rfl rfl)) rfl
theorem f203_192 : ft 203 192 = some (11, 4, 0, .iconst 1, 1) := Fm203 (dk_4 (dk_at s203_8 3 rfl rfl)) rfl
theorem f203_193 : ft 203 193 = some (11, 4, 0, .iadd, 1) := Fm203 (dk_96 (dk_at s203_8 4 rfl rfl)) rfl
theorem f203_194 : ft 203 194 = some (11, 4, 0, .aload_n 0, 1) := Fm203 (dk_42 (dk_at s203_8 5 rfl rfl)) rfl
theorem f203_195 : ft 203 195 = some (11, 4, 0, .getfield 158, 3) := Fm203 (dk_180 0 158 (dk_at s203_8 6 rfl rfl)) rfl
theorem f203_198 : ft 203 198 = some (11, 4, 0, .if_icmp .lt 12, 3) := Fm203 (dk_161 0 12 (dk_at s203_8 9 rfl rfl)) rfl
theorem f203_201 : ft 203 201 = some (11, 4, 0, .aload_n 0, 1) := Fm203 (dk_42 (dk_at s203_8 12 rfl rfl)) rfl
theorem f203_202 : ft 203 202 = some (11, 4, 0, .aload_n 0, 1) := Fm203 (dk_42 (dk_at s203_8 13 rfl rfl)) rfl
theorem f203_203 : ft 203 203 = some (11, 4, 0, .getfield 158, 3) := Fm203 (dk_180 0 158 (dk_at s203_8 14 rfl rfl)) rfl
theorem f203_206 : ft 203 206 = some (11, 4, 0, .invokevirtual 171, 3) := Fm203 (dk_182 0 171 (dk_at s203_8 17 rfl rfl)) rfl
theorem f203_209 : ft 203 209 = some (11, 4, 0, .ireturn, 1) := Fm203 (dk_172 (dk_at s203_8 20 rfl rfl)) rfl
theorem f203_210 : ft 203 210 = some (11, 4, 0, .aload_n 0, 1) := Fm203 (dk_42 (dk_at s203_8 21 rfl rfl)) rfl
theorem f203_211 : ft 203 211 = some (11, 4, 0, .getfield 161, 3) := Fm203 (dk_180 0 161 (dk_at s203_9 0 rfl rfl)) rfl
theorem f203_214 : ft 203 214 = some (11, 4, 0, .aload_n 0, 1) := Fm203 (dk_42 (dk_at s203_9 3 rfl rfl)) rfl
theorem f203_215 : ft 203 215 = some (11, 4, 0, .getfield 155, 3) := Fm203 (dk_180 0 155 (dk_at s203_9 4 rfl rfl)) rfl
theorem f203_218 : ft 203 218 = some (11, 4, 0, .iconst 1, 1) := Fm203 (dk_4 (dk_at s203_9 7 rfl rfl)) rfl
theorem f203_219 : ft 203 219 = some (11, 4, 0, .iadd, 1) := Fm203 (dk_96 (dk_at s203_9 8 rfl rfl)) rfl
theorem f203_220 : ft 203 220 = some (11, 4, 0, .baload, 1) := Fm203 (dk_51 (dk_at s203_9 9 rfl rfl)) rfl
theorem f203_221 : ft 203 221 = some (11, 4, 0, .bipush 117, 2) := Fm203 (dk_16 117 (dk_at s203_9 10 rfl rfl)) rfl
theorem f203_223 : ft 203 223 = some (11, 4, 0, .if_icmp .eq 9, 3) := Fm203 (dk_159 0 9 (dk_at s203_9 12 rfl rfl)) rfl
theorem f203_226 : ft 203 226 = some (11, 4, 0, .aload_n 0, 1) := Fm203 (dk_42 (dk_at s203_9 15 rfl rfl)) rfl
theorem f203_227 : ft 203 227 = some (11, 4, 0, .iload_n 3, 1) := Fm203 (dk_29 (dk_at s203_9 16 rfl rfl)) rfl
theorem f203_228 : ft 203 228 = some (11, 4, 0, .invokevirtual 171, 3) := Fm203 (dk_182 0 171 (dk_at s203_9 17 rfl rfl)) rfl
theorem f203_231 : ft 203 231 = some (11, 4, 0, .ireturn, 1) := Fm203 (dk_172 (dk_at s203_9 20 rfl rfl)) rfl
theorem f203_232 : ft 203 232 = some (11, 4, 0, .aload_n 0, 1) := Fm203 (dk_42 (dk_at s203_9 21 rfl rfl)) rfl
theorem f203_233 : ft 203 233 = some (11, 4, 0, .iload_n 1, 1) := Fm203 (dk_27 (dk_at s203_9 22 rfl rfl)) rfl
theorem f203_234 : ft 203 234 = some (11, 4, 0, .invokevirtual 200, 3) := Fm203 (dk_182 0 200 (dk_at s203_10 0 rfl rfl)) rfl
theorem f203_237 : ft 203 237 = some (11, 4, 0, .istore 6, 2) := Fm203 (dk_54 6 (dk_at s203_10 3 rfl rfl)) rfl
theorem f203_239 : ft 203 239 = some (11, 4, 0, .iload 6, 2) := Fm203 (dk_21 6 (dk_at s203_10 5 rfl rfl)) rfl
theorem f203_241 : ft 203 241 = some (11, 4, 0, .ifCond .ge 21, 3) := Fm203 (dk_156 0 21 (dk_at s203_10 7 rfl rfl)) rfl
theorem f203_244 : ft 203 244 = some (11, 4, 0, .aload_n 0, 1) := Fm203 (dk_42 (dk_at s203_10 10 rfl rfl)) rfl
theorem f203_245 : ft 203 245 = some (11, 4, 0, .getfield 164, 3) := Fm203 (dk_180 0 164 (dk_at s203_10 11 rfl rfl)) rfl
theorem f203_248 : ft 203 248 = some (11, 4, 0, .aload_n 0, 1) := Fm203 (dk_42 (dk_at s203_10 14 rfl rfl)) rfl
theorem f203_249 : ft 203 249 = some (11, 4, 0, .getfield 158, 3) := Fm203 (dk_180 0 158 (dk_at s203_10 15 rfl rfl)) rfl
theorem f203_252 : ft 203 252 = some (11, 4, 0, .if_icmp .ge 8, 3) := Fm203 (dk_162 0 8 (dk_at s203_10 18 rfl rfl)) rfl
theorem f203_255 : ft 203 255 = some (11, 4, 0, .aload_n 0, 1) := Fm203 (dk_42 (dk_at s203_10 21 rfl rfl)) rfl
theorem f203_256 : ft 203 256 = some (11, 4, 0, .iload_n 3, 1) := Fm203 (dk_29 (dk_at s203_10 22 rfl rfl)) rfl
theorem f203_257 : ft 203 257 = some (11, 4, 0, .putfield 164, 3) := Fm203 (dk_181 0 164 (dk_at s203_11 0 rfl rfl)) rfl
theorem f203_260 : ft 203 260 = some (11, 4, 0, .iconst 0, 1) := Fm203 (dk_3 (dk_at s203_11 3 rfl rfl)) rfl
theorem f203_261 : ft 203 261 = some (11, 4, 0, .ireturn, 1) := Fm203 (dk_172 (dk_at s203_11 4 rfl rfl)) rfl
theorem f203_262 : ft 203 262 = some (11, 4, 0, .iload 6, 2) := Fm203 (dk_21 6 (dk_at s203_11 5 rfl rfl)) rfl
theorem f203_264 : ft 203 264 = some (11, 4, 0, .ldc 44, 2) := Fm203 (dk_18 44 (dk_at s203_11 7 rfl rfl)) rfl
theorem f203_266 : ft 203 266 = some (11, 4, 0, .if_icmp .lt 10, 3) := Fm203 (dk_161 0 10 (dk_at s203_11 9 rfl rfl)) rfl
theorem f203_269 : ft 203 269 = some (11, 4, 0, .iload 6, 2) := Fm203 (dk_21 6 (dk_at s203_11 12 rfl rfl)) rfl
theorem f203_271 : ft 203 271 = some (11, 4, 0, .ldc 203, 2) := Fm203 (dk_18 203 (dk_at s203_11 14 rfl rfl)) rfl
theorem f203_273 : ft 203 273 = some (11, 4, 0, .if_icmp .le 9, 3) := Fm203 (dk_164 0 9 (dk_at s203_11 16 rfl rfl)) rfl
theorem f203_276 : ft 203 276 = some (11, 4, 0, .aload_n 0, 1) := Fm203 (dk_42 (dk_at s203_11 19 rfl rfl)) rfl
theorem f203_277 : ft 203 277 = some (11, 4, 0, .iload_n 3, 1) := Fm203 (dk_29 (dk_at s203_11 20 rfl rfl)) rfl
theorem f203_278 : ft 203 278 = some (11, 4, 0, .invokevirtual 171, 3) := Fm203 (dk_182 0 171 (dk_at s203_11 21 rfl rfl)) rfl
theorem f203_281 : ft 203 281 = some (11, 4, 0, .ireturn, 1) := Fm203 (dk_172 (dk_at s203_12 0 rfl rfl)) rfl
theorem f203_282 : ft 203 282 = some (11, 4, 0, .aload_n 2, 1) := Fm203 (dk_44 (dk_at s203_12 1 rfl rfl)) rfl
theorem f203_283 : ft 203 283 = some (11, 4, 0, .iload 6, 2) := Fm203 (dk_21 6 (dk_at s203_12 2 rfl rfl)) rfl
theorem f203_285 : ft 203 285 = some (11, 4, 0, .invokevirtual 197, 3) := Fm203 (dk_182 0 197 (dk_at s203_12 4 rfl rfl)) rfl
theorem f203_288 : ft 203 288 = some (11, 4, 0, .goto (-278), 3) := Fm203 (dk_167 254 234 (dk_at s203_12 7 rfl rfl)) rfl
theorem f203_291 : ft 203 291 = some (11, 4, 0, .aload_n 0, 1) := Fm203 (dk_42 (dk_at s203_12 10 rfl rfl)) rfl
theorem f203_292 : ft 203 292 = some (11, 4, 0, .dup, 1) := Fm203 (dk_89 (dk_at s203_12 11 rfl rfl)) rfl
theorem f203_293 : ft 203 293 = some (11, 4, 0, .getfield 155, 3) := Fm203 (dk_180 0 155 (dk_at s203_12 12 rfl rfl)) rfl
theorem f203_296 : ft 203 296 = some (11, 4, 0, .iconst 1, 1) := Fm203 (dk_4 (dk_at s203_12 15 rfl rfl)) rfl
theorem f203_297 : ft 203 297 = some (11, 4, 0, .iadd, 1) := Fm203 (dk_96 (dk_at s203_12 16 rfl rfl)) rfl
theorem f203_298 : ft 203 298 = some (11, 4, 0, .putfield 155, 3) := Fm203 (dk_181 0 155 (dk_at s203_12 17 rfl rfl)) rfl
theorem f203_301 : ft 203 301 = some (11, 4, 0, .iconst 1, 1) := Fm203 (dk_4 (dk_at s203_12 20 rfl rfl)) rfl
theorem f203_302 : ft 203 302 = some (11, 4, 0, .ireturn, 1) := Fm203 (dk_172 (dk_at s203_12 21 rfl rfl)) rfl
theorem q203 {d : Nat} {m : Mem} {a0 a1 a2 : Int} (hd : 0 < d) (hz : TZ m) : le2 (gd (tg m a0 = 11) <| bI (cl (d - 1) 201 [pR a0, pI a1] m) fun v1 m1 => if v1 = 0 then (some (.inl (some (pI 0)), m1)) else rn d 203 10 [pR a0, pI a1, pR a2, pU, pU, pU, pU] [] m1) (cl d 203 [pR a0, pI a1, pR a2] m) := by
  refine q_in (n := 7) (L := [pR a0, pI a1, pR a2, pU, pU, pU, pU]) rfl rfl rfl ?_
  refine r_aln0 (p := 1) f203_0 rfl ?_
  refine r_iln1 (p := 2) f203_1 rfl ?_
  refine le2_gd (fun h1 => ?_)
  refine r_invI (p := 5) f203_2 rfl rfl rfl (Or.inl h1) hd (Nat.le_of_ble_eq_true rfl) rfl rfl rfl (fun _ => rfl) (fun v1 m1 c1 => ?_)
  have hz1 := z_k c1 hz
  refine r_ifne (t := 10) (p := 8) f203_5 (by decide) rfl rfl ?_ ?_
  · refine r_iconst (p := 9) f203_8 rfl (pinD rfl rfl) ?_
    exact r_iret4 f203_9 (by decide)
  · exact le2_refl _
theorem q203_10 {d : Nat} {m : Mem} {a0 a1 a2 : Int} {z3 z4 z5 z6 : PV} (hd : 0 < d) (hz : TZ m) (hcz3 : cat z3 = 1) (hcz4 : cat z4 = 1) (hcz5 : cat z5 = 1) (hcz6 : cat z6 = 1) : le2 (gd (tg m a0 = 11) <| bI (cl (d - 1) 199 [pR a0] m) fun v1 m1 => if v1 = a1 then (some (.inl (some (pI 1)), (mst m1 a0 12 (w32 ((vl m1 a0 12) + 1))))) else nm (vl m1 a0 12) fun v6 => bI (cl (d - 1) 199 [pR a0] m1) fun v2 m2 => if v2 < 32 then (rn d 203 43 [pR a0, pI a1, pR a2, pI v6, pI v2, z5, z6] [] m2) else if 126 < v2 then (rn d 203 43 [pR a0, pI a1, pR a2, pI v6, pI v2, z5, z6] [] m2) else if v2 = 92 then (bI (cl (d - 1) 204 [pR a0, pI a1] m2) fun v3 m3 => if v3 < 0 then (some (.inl (some (pI 0)), m3)) else if v3 < 56320 then (rn d 203 130 [pR a0, pI a1, pR a2, pI v6, pI v2, pI v3, z6] [] m3) else if 57343 < v3 then (rn d 203 130 [pR a0, pI a1, pR a2, pI v6, pI v2, pI v3, z6] [] m3) else bI (cl (d - 1) 202 [pR a0, pI v6] m3) fun v4 m4 => gd (v4 = 0 ∨ v4 = 1) <| some (.inl (some (pI v4)), m4)) else gd (tg m2 a2 = 13) <| bV (cl (d - 1) 287 [pR a2, pI v2] m2) fun m5 => rn d 203 10 [pR a0, pI a1, pR a2, pI v6, pI v2, z5, z6] [] (mst m5 a0 12 (w32 ((vl m5 a0 12) + 1)))) (rn d 203 10 [pR a0, pI a1, pR a2, z3, z4, z5, z6] [] m) := by
  refine r_aln0 (p := 11) f203_10 rfl ?_
  refine le2_gd (fun h1 => ?_)
  refine r_invI (p := 14) f203_11 rfl rfl rfl (Or.inl h1) hd (Nat.le_of_ble_eq_true rfl) rfl rfl rfl (fun _ => rfl) (fun v1 m1 c1 => ?_)
  have hz1 := z_k c1 hz
  refine r_iln1 (p := 15) f203_14 rfl ?_
  refine r_iceq (t := 291) (p := 18) f203_15 (by decide) rfl rfl ?_ ?_
  · refine r_aln0 (p := 292) f203_291 rfl ?_
    refine r_dup (p := 293) f203_292 rfl rfl ?_
    have h2 := k_t1 c1 hz h1 (by decide)
    refine r_gfI (f := 12) (p := 296) f203_293 rfl rfl rfl (Or.inl h2) rfl ?_
    refine r_iconst (p := 297) f203_296 rfl (pinD rfl rfl) ?_
    refine r_iadd (p := 298) f203_297 rfl ?_
    refine r_pfI (f := 12) (p := 301) f203_298 rfl rfl rfl (by decide) (by decide) (Or.inl h2) rfl ?_
    refine r_iconst (p := 302) f203_301 rfl (pinD rfl rfl) ?_
    exact r_iret4 f203_302 (by decide)
  · refine r_aln0 (p := 19) f203_18 rfl ?_
    have h3 := k_t1 c1 hz h1 (by decide)
    refine r_gfI (f := 12) (p := 22) f203_19 rfl rfl rfl (Or.inl h3) rfl ?_
    refine r_nmI (fun v6 ev6 => ?_)
    refine r_isn3 (p := 23) f203_22 rfl rfl ?_
    refine r_aln0 (p := 24) f203_23 rfl ?_
    refine r_invI (p := 27) f203_24 rfl rfl rfl (Or.inl h3) hd (Nat.le_of_ble_eq_true rfl) rfl rfl rfl (fun _ => rfl) (fun v2 m2 c2 => ?_)
    have hz2 := z_k c2 hz1
    refine r_isw4 (p := 29) f203_27 rfl rfl ?_
    refine r_ilw4 (p := 31) f203_29 rfl ?_
    refine r_bipush (p := 33) f203_31 rfl (pinD rfl rfl) ?_
    refine r_iclt (t := 43) (p := 36) f203_33 (by decide) rfl rfl ?_ ?_
    · exact le2_refl _
    · refine r_ilw4 (p := 38) f203_36 rfl ?_
      refine r_bipush (p := 40) f203_38 rfl (pinD rfl rfl) ?_
      refine r_icle (t := 70) (p := 43) f203_40 (by decide) rfl rfl ?_ ?_
      · exact le2_refl _
      · refine r_ilw4 (p := 72) f203_70 rfl ?_
        refine r_bipush (p := 74) f203_72 rfl (pinD rfl rfl) ?_
        refine r_iceq (t := 96) (p := 77) f203_74 (by decide) rfl rfl ?_ ?_
        · refine r_aln0 (p := 97) f203_96 rfl ?_
          refine r_iln1 (p := 98) f203_97 rfl ?_
          have h4 := k_t1 c2 hz1 h3 (by decide)
          refine r_invI (p := 101) f203_98 rfl rfl rfl (Or.inl h4) hd (Nat.le_of_ble_eq_true rfl) rfl rfl rfl (fun _ => rfl) (fun v3 m3 c3 => ?_)
          have hz3 := z_k c3 hz2
          refine r_isw5 (p := 103) f203_101 rfl rfl ?_
          refine r_ilw5 (p := 105) f203_103 rfl ?_
          refine r_ifge (t := 110) (p := 108) f203_105 (by decide) rfl rfl ?_ ?_
          · refine r_iconst (p := 109) f203_108 rfl (pinD rfl rfl) ?_
            exact r_iret4 f203_109 (by decide)
          · refine r_ilw5 (p := 112) f203_110 rfl ?_
            refine r_ldcI (p := 114) f203_112 rfl rfl (pinD rfl rfl) ?_
            refine r_iclt (t := 130) (p := 117) f203_114 (by decide) rfl rfl ?_ ?_
            · exact le2_refl _
            · refine r_ilw5 (p := 119) f203_117 rfl ?_
              refine r_ldcI (p := 121) f203_119 rfl rfl (pinD rfl rfl) ?_
              refine r_icgt (t := 130) (p := 124) f203_121 (by decide) rfl rfl ?_ ?_
              · exact le2_refl _
              · refine r_aln0 (p := 125) f203_124 rfl ?_
                refine r_iln3 (p := 126) f203_125 rfl ?_
                have h5 := k_t1 c3 hz2 h4 (by decide)
                refine r_invI (p := 129) f203_126 rfl rfl rfl (Or.inl h5) hd (Nat.le_of_ble_eq_true rfl) rfl rfl rfl (fun _ => rfl) (fun v4 m4 c4 => ?_)
                have hz4 := z_k c4 hz3
                refine le2_gd (fun h6 => ?_)
                exact r_iret4 f203_129 h6
        · refine r_aln2 (p := 78) f203_77 rfl ?_
          refine r_ilw4 (p := 80) f203_78 rfl ?_
          refine le2_gd (fun h7 => ?_)
          refine r_invV (p := 83) f203_80 rfl rfl rfl (Or.inl h7) hd (Nat.le_of_ble_eq_true rfl) rfl rfl rfl (fun _ => rfl) (fun m5 c5 => ?_)
          have hz5 := z_k c5 hz2
          refine r_aln0 (p := 84) f203_83 rfl ?_
          refine r_dup (p := 85) f203_84 rfl rfl ?_
          have h8 := k_t1 c2 hz1 h3 (by decide)
          have h9 := k_t1 c5 hz2 h8 (by decide)
          refine r_gfI (f := 12) (p := 88) f203_85 rfl rfl rfl (Or.inl h9) rfl ?_
          refine r_iconst (p := 89) f203_88 rfl (pinD rfl rfl) ?_
          refine r_iadd (p := 90) f203_89 rfl ?_
          refine r_pfI (f := 12) (p := 93) f203_90 rfl rfl rfl (by decide) (by decide) (Or.inl h9) rfl ?_
          refine r_goto (p := 10) f203_93 (by decide) rfl ?_
          exact le2_refl _
theorem q203_43 {d : Nat} {m : Mem} {a0 a1 a2 a3 a4 : Int} {z5 z6 : PV} (hd : 0 < d) (hz : TZ m) (hcz5 : cat z5 = 1) (hcz6 : cat z6 = 1) : le2 (gd (tg m a0 = 11) <| nm (vl m a0 12) fun v3 => nm (vl m a0 13) fun v4 => if v3 < v4 then (bI (cl (d - 1) 202 [pR a0, pI v3] m) fun v1 m1 => gd (v1 = 0 ∨ v1 = 1) <| some (.inl (some (pI v1)), m1)) else bI (cl (d - 1) 202 [pR a0, pI v4] m) fun v2 m2 => gd (v2 = 0 ∨ v2 = 1) <| some (.inl (some (pI v2)), m2)) (rn d 203 43 [pR a0, pI a1, pR a2, pI a3, pI a4, z5, z6] [] m) := by
  refine r_aln0 (p := 44) f203_43 rfl ?_
  refine r_aln0 (p := 45) f203_44 rfl ?_
  refine le2_gd (fun h1 => ?_)
  refine r_gfI (f := 12) (p := 48) f203_45 rfl rfl rfl (Or.inl h1) rfl ?_
  refine r_nmI (fun v3 ev3 => ?_)
  refine r_aln0 (p := 49) f203_48 rfl ?_
  refine r_gfI (f := 13) (p := 52) f203_49 rfl rfl rfl (Or.inl h1) rfl ?_
  refine r_nmI (fun v4 ev4 => ?_)
  refine r_iclt (t := 62) (p := 55) f203_52 (by decide) rfl rfl ?_ ?_
  · refine r_aln0 (p := 63) f203_62 rfl ?_
    refine r_gfI (f := 12) (p := 66) f203_63 rfl rfl rfl (Or.inl h1) ev3.symm ?_
    refine r_invI (p := 69) f203_66 rfl rfl rfl (Or.inl h1) hd (Nat.le_of_ble_eq_true rfl) rfl rfl rfl (fun _ => rfl) (fun v1 m1 c1 => ?_)
    have hz1 := z_k c1 hz
    refine le2_gd (fun h2 => ?_)
    exact r_iret4 f203_69 h2
  · refine r_aln0 (p := 56) f203_55 rfl ?_
    refine r_gfI (f := 13) (p := 59) f203_56 rfl rfl rfl (Or.inl h1) ev4.symm ?_
    refine r_goto (p := 66) f203_59 (by decide) rfl ?_
    refine r_invI (p := 69) f203_66 rfl rfl rfl (Or.inl h1) hd (Nat.le_of_ble_eq_true rfl) rfl rfl rfl (fun _ => rfl) (fun v2 m2 c2 => ?_)
    have hz2 := z_k c2 hz
    refine le2_gd (fun h3 => ?_)
    exact r_iret4 f203_69 h3
theorem q203_130 {d : Nat} {m : Mem} {a0 a1 a2 a3 a4 a5 : Int} {z6 : PV} (hd : 0 < d) (hz : TZ m) (hcz6 : cat z6 = 1) : le2 (gd (tg m a2 = 13) <| bV (cl (d - 1) 287 [pR a2, pI a5] m) fun m1 => if a5 < 55296 then (rn d 203 10 [pR a0, pI a1, pR a2, pI a3, pI a4, pI a5, z6] [] m1) else if 56319 < a5 then (rn d 203 10 [pR a0, pI a1, pR a2, pI a3, pI a4, pI a5, z6] [] m1) else gd (tg m1 a0 = 11) <| nm (vl m1 a0 13) fun v11 => if (vl m1 a0 12) < v11 then (bI (cl (d - 1) 199 [pR a0] m1) fun v2 m2 => if v2 = 92 then (nm (vl m2 a0 12) fun v12 => nm (vl m2 a0 13) fun v13 => if (w32 (v12 + 1)) < v13 then (nm (vl m2 a0 11) fun v14 => nm (w32 (v12 + 1)) fun v15 => gd (tg m2 v14 = 186103 ∨ tg m2 v14 = 276103 ∨ tg m2 v14 = 278103) <| gd ((0 : Int) ≤ v15 ∧ v15 < ln m2 v14) <| if (vl m2 v14 v15) = 117 then (bI (cl (d - 1) 204 [pR a0, pI a1] m2) fun v3 m3 => if v3 < 0 then (if (vl m3 a0 14) < (vl m3 a0 13) then (some (.inl (some (pI 0)), (mst m3 a0 14 a3))) else some (.inl (some (pI 0)), m3)) else if v3 < 56320 then (bI (cl (d - 1) 202 [pR a0, pI a3] m3) fun v4 m4 => gd (v4 = 0 ∨ v4 = 1) <| some (.inl (some (pI v4)), m4)) else if 57343 < v3 then (bI (cl (d - 1) 202 [pR a0, pI a3] m3) fun v6 m6 => gd (v6 = 0 ∨ v6 = 1) <| some (.inl (some (pI v6)), m6)) else bV (cl (d - 1) 287 [pR a2, pI v3] m3) fun m5 => rn d 203 10 [pR a0, pI a1, pR a2, pI a3, pI a4, pI a5, pI v3] [] m5) else bI (cl (d - 1) 202 [pR a0, pI a3] m2) fun v7 m7 => gd (v7 = 0 ∨ v7 = 1) <| some (.inl (some (pI v7)), m7)) else bI (cl (d - 1) 202 [pR a0, pI v13] m2) fun v8 m8 => gd (v8 = 0 ∨ v8 = 1) <| some (.inl (some (pI v8)), m8)) else bI (cl (d - 1) 202 [pR a0, pI a3] m2) fun v9 m9 => gd (v9 = 0 ∨ v9 = 1) <| some (.inl (some (pI v9)), m9)) else bI (cl (d - 1) 202 [pR a0, pI v11] m1) fun v10 m10 => gd (v10 = 0 ∨ v10 = 1) <| some (.inl (some (pI v10)), m10)) (rn d 203 130 [pR a0, pI a1, pR a2, pI a3, pI a4, pI a5, z6] [] m) := by
  refine r_aln2 (p := 131) f203_130 rfl ?_
  refine r_ilw5 (p := 133) f203_131 rfl ?_
  refine le2_gd (fun h1 => ?_)
  refine r_invV (p := 136) f203_133 rfl rfl rfl (Or.inl h1) hd (Nat.le_of_ble_eq_true rfl) rfl rfl rfl (fun _ => rfl) (fun m1 c1 => ?_)
  have hz1 := z_k c1 hz
  refine r_ilw5 (p := 138) f203_136 rfl ?_
  refine r_ldcI (p := 140) f203_138 rfl rfl (pinD rfl rfl) ?_
  refine r_iclt (t := 10) (p := 143) f203_140 (by decide) rfl rfl ?_ ?_
  · exact le2_refl _
  · refine r_ilw5 (p := 145) f203_143 rfl ?_
    refine r_ldcI (p := 147) f203_145 rfl rfl (pinD rfl rfl) ?_
    refine r_icle (t := 153) (p := 150) f203_147 (by decide) rfl rfl ?_ ?_
    · refine r_goto (p := 10) f203_150 (by decide) rfl ?_
      exact le2_refl _
    · refine r_aln0 (p := 154) f203_153 rfl ?_
      refine le2_gd (fun h2 => ?_)
      refine r_gfI (f := 12) (p := 157) f203_154 rfl rfl rfl (Or.inl h2) rfl ?_
      refine r_aln0 (p := 158) f203_157 rfl ?_
      refine r_gfI (f := 13) (p := 161) f203_158 rfl rfl rfl (Or.inl h2) rfl ?_
      refine r_nmI (fun v11 ev11 => ?_)
      refine r_iclt (t := 173) (p := 164) f203_161 (by decide) rfl rfl ?_ ?_
      · refine r_aln0 (p := 174) f203_173 rfl ?_
        refine r_invI (p := 177) f203_174 rfl rfl rfl (Or.inl h2) hd (Nat.le_of_ble_eq_true rfl) rfl rfl rfl (fun _ => rfl) (fun v2 m2 c2 => ?_)
        have hz2 := z_k c2 hz1
        refine r_bipush (p := 179) f203_177 rfl (pinD rfl rfl) ?_
        refine r_iceq (t := 188) (p := 182) f203_179 (by decide) rfl rfl ?_ ?_
        · refine r_aln0 (p := 189) f203_188 rfl ?_
          have h3 := k_t1 c2 hz1 h2 (by decide)
          refine r_gfI (f := 12) (p := 192) f203_189 rfl rfl rfl (Or.inl h3) rfl ?_
          refine r_nmI (fun v12 ev12 => ?_)
          refine r_iconst (p := 193) f203_192 rfl (pinD rfl rfl) ?_
          refine r_iadd (p := 194) f203_193 rfl ?_
          refine r_aln0 (p := 195) f203_194 rfl ?_
          refine r_gfI (f := 13) (p := 198) f203_195 rfl rfl rfl (Or.inl h3) rfl ?_
          refine r_nmI (fun v13 ev13 => ?_)
          refine r_iclt (t := 210) (p := 201) f203_198 (by decide) rfl rfl ?_ ?_
          · refine r_aln0 (p := 211) f203_210 rfl ?_
            refine r_gfR (f := 11) (p := 214) f203_211 rfl rfl rfl (Or.inl h3) rfl ?_
            refine r_nmR (fun v14 ev14 => ?_)
            refine r_aln0 (p := 215) f203_214 rfl ?_
            refine r_gfI (f := 12) (p := 218) f203_215 rfl rfl rfl (Or.inl h3) ev12.symm ?_
            refine r_iconst (p := 219) f203_218 rfl (pinD rfl rfl) ?_
            refine r_iadd (p := 220) f203_219 rfl ?_
            refine r_nmI (fun v15 ev15 => ?_)
            refine le2_gd (fun h4 => ?_)
            refine le2_gd (fun h5 => ?_)
            refine r_baload (p := 221) f203_220 rfl (dj3 (fun x => x % 1000 = 103 ∨ x % 1000 = 105) h4 (by decide) (by decide) (by decide)) h5 rfl ?_
            refine r_bipush (p := 223) f203_221 rfl (pinD rfl rfl) ?_
            refine r_iceq (t := 232) (p := 226) f203_223 (by decide) rfl rfl ?_ ?_
            · refine r_aln0 (p := 233) f203_232 rfl ?_
              refine r_iln1 (p := 234) f203_233 rfl ?_
              refine r_invI (p := 237) f203_234 rfl rfl rfl (Or.inl h3) hd (Nat.le_of_ble_eq_true rfl) rfl rfl rfl (fun _ => rfl) (fun v3 m3 c3 => ?_)
              have hz3 := z_k c3 hz2
              refine r_isw6 (p := 239) f203_237 rfl rfl ?_
              refine r_ilw6 (p := 241) f203_239 rfl ?_
              refine r_ifge (t := 262) (p := 244) f203_241 (by decide) rfl rfl ?_ ?_
              · refine r_aln0 (p := 245) f203_244 rfl ?_
                have h13 := k_t1 c3 hz2 h3 (by decide)
                refine r_gfI (f := 14) (p := 248) f203_245 rfl rfl rfl (Or.inl h13) rfl ?_
                refine r_aln0 (p := 249) f203_248 rfl ?_
                refine r_gfI (f := 13) (p := 252) f203_249 rfl rfl rfl (Or.inl h13) rfl ?_
                refine r_icge (t := 260) (p := 255) f203_252 (by decide) rfl rfl ?_ ?_
                · refine r_aln0 (p := 256) f203_255 rfl ?_
                  refine r_iln3 (p := 257) f203_256 rfl ?_
                  refine r_pfI (f := 14) (p := 260) f203_257 rfl rfl rfl (by decide) (by decide) (Or.inl h13) rfl ?_
                  refine r_iconst (p := 261) f203_260 rfl (pinD rfl rfl) ?_
                  exact r_iret4 f203_261 (by decide)
                · refine r_iconst (p := 261) f203_260 rfl (pinD rfl rfl) ?_
                  exact r_iret4 f203_261 (by decide)
              · refine r_ilw6 (p := 264) f203_262 rfl ?_
                refine r_ldcI (p := 266) f203_264 rfl rfl (pinD rfl rfl) ?_
                refine r_iclt (t := 276) (p := 269) f203_266 (by decide) rfl rfl ?_ ?_
                · refine r_aln0 (p := 277) f203_276 rfl ?_
                  refine r_iln3 (p := 278) f203_277 rfl ?_
                  have h6 := k_t1 c3 hz2 h3 (by decide)
                  refine r_invI (p := 281) f203_278 rfl rfl rfl (Or.inl h6) hd (Nat.le_of_ble_eq_true rfl) rfl rfl rfl (fun _ => rfl) (fun v4 m4 c4 => ?_)
                  have hz4 := z_k c4 hz3
                  refine le2_gd (fun h7 => ?_)
                  exact r_iret4 f203_281 h7
                · refine r_ilw6 (p := 271) f203_269 rfl ?_
                  refine r_ldcI (p := 273) f203_271 rfl rfl (pinD rfl rfl) ?_
                  refine r_icle (t := 282) (p := 276) f203_273 (by decide) rfl rfl ?_ ?_
                  · refine r_aln0 (p := 277) f203_276 rfl ?_
                    refine r_iln3 (p := 278) f203_277 rfl ?_
                    have h11 := k_t1 c3 hz2 h3 (by decide)
                    refine r_invI (p := 281) f203_278 rfl rfl rfl (Or.inl h11) hd (Nat.le_of_ble_eq_true rfl) rfl rfl rfl (fun _ => rfl) (fun v6 m6 c6 => ?_)
                    have hz6 := z_k c6 hz3
                    refine le2_gd (fun h12 => ?_)
                    exact r_iret4 f203_281 h12
                  · refine r_aln2 (p := 283) f203_282 rfl ?_
                    refine r_ilw6 (p := 285) f203_283 rfl ?_
                    have h8 := k_t1 c1 hz h1 (by decide)
                    have h9 := k_t1 c2 hz1 h8 (by decide)
                    have h10 := k_t1 c3 hz2 h9 (by decide)
                    refine r_invV (p := 288) f203_285 rfl rfl rfl (Or.inl h10) hd (Nat.le_of_ble_eq_true rfl) rfl rfl rfl (fun _ => rfl) (fun m5 c5 => ?_)
                    have hz5 := z_k c5 hz3
                    refine r_goto (p := 10) f203_288 (by decide) rfl ?_
                    exact le2_refl _
            · refine r_aln0 (p := 227) f203_226 rfl ?_
              refine r_iln3 (p := 228) f203_227 rfl ?_
              refine r_invI (p := 231) f203_228 rfl rfl rfl (Or.inl h3) hd (Nat.le_of_ble_eq_true rfl) rfl rfl rfl (fun _ => rfl) (fun v7 m7 c7 => ?_)
              have hz7 := z_k c7 hz2
              refine le2_gd (fun h14 => ?_)
              exact r_iret4 f203_231 h14
          · refine r_aln0 (p := 202) f203_201 rfl ?_
            refine r_aln0 (p := 203) f203_202 rfl ?_
            refine r_gfI (f := 13) (p := 206) f203_203 rfl rfl rfl (Or.inl h3) ev13.symm ?_
            refine r_invI (p := 209) f203_206 rfl rfl rfl (Or.inl h3) hd (Nat.le_of_ble_eq_true rfl) rfl rfl rfl (fun _ => rfl) (fun v8 m8 c8 => ?_)
            have hz8 := z_k c8 hz2
            refine le2_gd (fun h15 => ?_)
            exact r_iret4 f203_209 h15
        · refine r_aln0 (p := 183) f203_182 rfl ?_
          refine r_iln3 (p := 184) f203_183 rfl ?_
          have h16 := k_t1 c2 hz1 h2 (by decide)
          refine r_invI (p := 187) f203_184 rfl rfl rfl (Or.inl h16) hd (Nat.le_of_ble_eq_true rfl) rfl rfl rfl (fun _ => rfl) (fun v9 m9 c9 => ?_)
          have hz9 := z_k c9 hz2
          refine le2_gd (fun h17 => ?_)
          exact r_iret4 f203_187 h17
      · refine r_aln0 (p := 165) f203_164 rfl ?_
        refine r_aln0 (p := 166) f203_165 rfl ?_
        refine r_gfI (f := 13) (p := 169) f203_166 rfl rfl rfl (Or.inl h2) ev11.symm ?_
        refine r_invI (p := 172) f203_169 rfl rfl rfl (Or.inl h2) hd (Nat.le_of_ble_eq_true rfl) rfl rfl rfl (fun _ => rfl) (fun v10 m10 c10 => ?_)
        have hz10 := z_k c10 hz1
        refine le2_gd (fun h18 => ?_)
        exact r_iret4 f203_172 h18
/-! 204 PathStoreModel.escaped (I)I -/
def w204_9 : List UInt8 := [180, 0, 158, 167, 0, 4, 28, 182, 0, 171, 87, 2, 172]
abbrev u204_9 : List UInt8 := w204_9 ++ []
def w204_8 : List UInt8 := [89, 180, 0, 155, 4, 96, 181, 0, 155, 132, 6, 1, 167, 255, 187, 21, 5, 172, 42, 29, 156, 0, 10, 42]
abbrev u204_8 : List UInt8 := w204_8 ++ u204_9
def w204_7 : List UInt8 := [180, 0, 158, 167, 0, 4, 28, 182, 0, 171, 87, 2, 172, 16, 16, 21, 5, 104, 21, 7, 96, 54, 5, 42]
abbrev u204_7 : List UInt8 := w204_7 ++ u204_8
def w204_6 : List UInt8 := [184, 0, 194, 54, 7, 21, 7, 156, 0, 29, 42, 42, 180, 0, 155, 42, 180, 0, 158, 161, 0, 10, 42]
abbrev u204_6 : List UInt8 := w204_6 ++ u204_7
def w204_5 : List UInt8 := [172, 29, 16, 117, 160, 0, 84, 3, 54, 5, 3, 54, 6, 21, 6, 7, 162, 0, 69, 42, 182, 0, 167]
abbrev u204_5 : List UInt8 := w204_5 ++ u204_6
def w204_4 : List UInt8 := [21, 4, 5, 160, 0, 8, 16, 10, 167, 0, 16, 21, 4, 6, 160, 0, 8, 16, 13, 167, 0, 5, 16, 9]
abbrev u204_4 : List UInt8 := w204_4 ++ u204_5
def w204_3 : List UInt8 := [155, 0, 49, 21, 4, 154, 0, 8, 16, 8, 167, 0, 38, 21, 4, 4, 160, 0, 8, 16, 12, 167, 0, 27]
abbrev u204_3 : List UInt8 := w204_3 ++ u204_4
def w204_2 : List UInt8 := [160, 0, 5, 29, 172, 29, 156, 0, 7, 2, 167, 0, 9, 18, 189, 29, 182, 0, 191, 54, 4, 21, 4]
abbrev u204_2 : List UInt8 := w204_2 ++ u204_3
def w204_1 : List UInt8 := [180, 0, 155, 4, 96, 181, 0, 155, 29, 27, 159, 0, 15, 29, 16, 92, 159, 0, 9, 29, 16, 47]
abbrev u204_1 : List UInt8 := w204_1 ++ u204_2
def w204_0 : List UInt8 := [42, 180, 0, 155, 61, 42, 89, 180, 0, 155, 4, 96, 181, 0, 155, 42, 182, 0, 167, 62, 42, 89]
abbrev u204_0 : List UInt8 := w204_0 ++ u204_1
theorem s204_0 : (prog_32_method_19_code).data.toList.drop 0 = u204_0 := by decide +kernel
theorem s204_1 : (prog_32_method_19_code).data.toList.drop 22 = u204_1 := dk_seg s204_0 22 rfl rfl
theorem s204_2 : (prog_32_method_19_code).data.toList.drop 44 = u204_2 := dk_seg s204_1 22 rfl rfl
theorem s204_3 : (prog_32_method_19_code).data.toList.drop 67 = u204_3 := dk_seg s204_2 23 rfl rfl
theorem s204_4 : (prog_32_method_19_code).data.toList.drop 91 = u204_4 := dk_seg s204_3 24 rfl rfl
theorem s204_5 : (prog_32_method_19_code).data.toList.drop 115 = u204_5 := dk_seg s204_4 24 rfl rfl
theorem s204_6 : (prog_32_method_19_code).data.toList.drop 138 = u204_6 := dk_seg s204_5 23 rfl rfl
theorem s204_7 : (prog_32_method_19_code).data.toList.drop 161 = u204_7 := dk_seg s204_6 23 rfl rfl
theorem s204_8 : (prog_32_method_19_code).data.toList.drop 185 = u204_8 := dk_seg s204_7 24 rfl rfl
theorem s204_9 : (prog_32_method_19_code).data.toList.drop 209 = u204_9 := dk_seg s204_8 24 rfl rfl
theorem Fm204 {pc len : Nat} {i : Instr} (h : decode (prog_32_method_19_code) pc = .ok (i, len)) (hl : len = ilen i len) : ft 204 pc = some (11, 1, 0, i, len) := ft_mk rfl h hl
theorem f204_0 : ft 204 0 = some (11, 1, 0, .aload_n 0, 1) := Fm204 (dk_42 (dk_at s204_0 0 rfl rfl)) rfl
theorem f204_1 : ft 204 1 = some (11, 1, 0, .getfield 155, 3) := Fm204 (dk_180 0 155 (dk_at s204_0 1 rfl rfl)) rfl
theorem f204_4 : ft 204 4 = some (11, 1, 0, .istore_n 2, 1) := Fm204 (dk_61 (dk_at s204_0 4 rfl rfl)) rfl
theorem f204_5 : ft 204 5 = some (11, 1, 0, .aload_n 0, 1) := Fm204 (dk_42 (dk_at s204_0 5 rfl rfl)) rfl
theorem f204_6 : ft 204 6 = some (11, 1, 0, .dup, 1) := Fm204 (dk_89 (dk_at s204_0 6 rfl rfl)) rfl
theorem f204_7 : ft 204 7 = some (11, 1, 0, .getfield 155, 3) := Fm204 (dk_180 0 155 (dk_at s204_0 7 rfl rfl)) rfl
theorem f204_10 : ft 204 10 = some (11, 1, 0, .iconst 1, 1) := Fm204 (dk_4 (dk_at s204_0 10 rfl rfl)) rfl
theorem f204_11 : ft 204 11 = some (11, 1, 0, .iadd, 1) := Fm204 (dk_96 (dk_at s204_0 11 rfl rfl)) rfl
theorem f204_12 : ft 204 12 = some (11, 1, 0, .putfield 155, 3) := Fm204 (dk_181 0 155 (dk_at s204_0 12 rfl rfl)) rfl
theorem f204_15 : ft 204 15 = some (11, 1, 0, .aload_n 0, 1) := Fm204 (dk_42 (dk_at s204_0 15 rfl rfl)) rfl
theorem f204_16 : ft 204 16 = some (11, 1, 0, .invokevirtual 167, 3) := Fm204 (dk_182 0 167 (dk_at s204_0 16 rfl rfl)) rfl
theorem f204_19 : ft 204 19 = some (11, 1, 0, .istore_n 3, 1) := Fm204 (dk_62 (dk_at s204_0 19 rfl rfl)) rfl
theorem f204_20 : ft 204 20 = some (11, 1, 0, .aload_n 0, 1) := Fm204 (dk_42 (dk_at s204_0 20 rfl rfl)) rfl
theorem f204_21 : ft 204 21 = some (11, 1, 0, .dup, 1) := Fm204 (dk_89 (dk_at s204_0 21 rfl rfl)) rfl
theorem f204_22 : ft 204 22 = some (11, 1, 0, .getfield 155, 3) := Fm204 (dk_180 0 155 (dk_at s204_1 0 rfl rfl)) rfl
theorem f204_25 : ft 204 25 = some (11, 1, 0, .iconst 1, 1) := Fm204 (dk_4 (dk_at s204_1 3 rfl rfl)) rfl
theorem f204_26 : ft 204 26 = some (11, 1, 0, .iadd, 1) := Fm204 (dk_96 (dk_at s204_1 4 rfl rfl)) rfl
theorem f204_27 : ft 204 27 = some (11, 1, 0, .putfield 155, 3) := Fm204 (dk_181 0 155 (dk_at s204_1 5 rfl rfl)) rfl
theorem f204_30 : ft 204 30 = some (11, 1, 0, .iload_n 3, 1) := Fm204 (dk_29 (dk_at s204_1 8 rfl rfl)) rfl
theorem f204_31 : ft 204 31 = some (11, 1, 0, .iload_n 1, 1) := Fm204 (dk_27 (dk_at s204_1 9 rfl rfl)) rfl
theorem f204_32 : ft 204 32 = some (11, 1, 0, .if_icmp .eq 15, 3) := Fm204 (dk_159 0 15 (dk_at s204_1 10 rfl rfl)) rfl
theorem f204_35 : ft 204 35 = some (11, 1, 0, .iload_n 3, 1) := Fm204 (dk_29 (dk_at s204_1 13 rfl rfl)) rfl
theorem f204_36 : ft 204 36 = some (11, 1, 0, .bipush 92, 2) := Fm204 (dk_16 92 (dk_at s204_1 14 rfl rfl)) rfl
theorem f204_38 : ft 204 38 = some (11, 1, 0, .if_icmp .eq 9, 3) := Fm204 (dk_159 0 9 (dk_at s204_1 16 rfl rfl)) rfl
theorem f204_41 : ft 204 41 = some (11, 1, 0, .iload_n 3, 1) := Fm204 (dk_29 (dk_at s204_1 19 rfl rfl)) rfl
theorem f204_42 : ft 204 42 = some (11, 1, 0, .bipush 47, 2) := Fm204 (dk_16 47 (dk_at s204_1 20 rfl rfl)) rfl
theorem f204_44 : ft 204 44 = some (11, 1, 0, .if_icmp .ne 5, 3) := Fm204 (dk_160 0 5 (dk_at s204_2 0 rfl rfl)) rfl
theorem f204_47 : ft 204 47 = some (11, 1, 0, .iload_n 3, 1) := Fm204 (dk_29 (dk_at s204_2 3 rfl rfl)) rfl
theorem f204_48 : ft 204 48 = some (11, 1, 0, .ireturn, 1) := Fm204 (dk_172 (dk_at s204_2 4 rfl rfl)) rfl
theorem f204_49 : ft 204 49 = some (11, 1, 0, .iload_n 3, 1) := Fm204 (dk_29 (dk_at s204_2 5 rfl rfl)) rfl
theorem f204_50 : ft 204 50 = some (11, 1, 0, .ifCond .ge 7, 3) := Fm204 (dk_156 0 7 (dk_at s204_2 6 rfl rfl)) rfl
theorem f204_53 : ft 204 53 = some (11, 1, 0, .iconst (-1), 1) := Fm204 (dk_2 (dk_at s204_2 9 rfl rfl)) rfl
theorem f204_54 : ft 204 54 = some (11, 1, 0, .goto 9, 3) := Fm204 (dk_167 0 9 (dk_at s204_2 10 rfl rfl)) rfl
theorem f204_57 : ft 204 57 = some (11, 1, 0, .ldc 189, 2) := Fm204 (dk_18 189 (dk_at s204_2 13 rfl rfl)) rfl
theorem f204_59 : ft 204 59 = some (11, 1, 0, .iload_n 3, 1) := Fm204 (dk_29 (dk_at s204_2 15 rfl rfl)) rfl
theorem f204_60 : ft 204 60 = some (11, 1, 0, .invokevirtual 191, 3) := Fm204 (dk_182 0 191 (dk_at s204_2 16 rfl rfl)) rfl
theorem f204_63 : ft 204 63 = some (11, 1, 0, .istore 4, 2) := Fm204 (dk_54 4 (dk_at s204_2 19 rfl rfl)) rfl
theorem f204_65 : ft 204 65 = some (11, 1, 0, .iload 4, 2) := Fm204 (dk_21 4 (dk_at s204_2 21 rfl rfl)) rfl
theorem f204_67 : ft 204 67 = some (11, 1, 0, .ifCond .lt 49, 3) := Fm204 (dk_155 0 49 (dk_at s204_3 0 rfl rfl)) rfl
theorem f204_70 : ft 204 70 = some (11, 1, 0, .iload 4, 2) := Fm204 (dk_21 4 (dk_at s204_3 3 rfl rfl)) rfl
theorem f204_72 : ft 204 72 = some (11, 1, 0, .ifCond .ne 8, 3) := Fm204 (dk_154 0 8 (dk_at s204_3 5 rfl rfl)) rfl
theorem f204_75 : ft 204 75 = some (11, 1, 0, .bipush 8, 2) := Fm204 (dk_16 8 (dk_at s204_3 8 rfl rfl)) rfl
theorem f204_77 : ft 204 77 = some (11, 1, 0, .goto 38, 3) := Fm204 (dk_167 0 38 (dk_at s204_3 10 rfl rfl)) rfl
theorem f204_80 : ft 204 80 = some (11, 1, 0, .iload 4, 2) := Fm204 (dk_21 4 (dk_at s204_3 13 rfl rfl)) rfl
theorem f204_82 : ft 204 82 = some (11, 1, 0, .iconst 1, 1) := Fm204 (dk_4 (dk_at s204_3 15 rfl rfl)) rfl
theorem f204_83 : ft 204 83 = some (11, 1, 0, .if_icmp .ne 8, 3) := Fm204 (dk_160 0 8 (dk_at s204_3 16 rfl rfl)) rfl
theorem f204_86 : ft 204 86 = some (11, 1, 0, .bipush 12, 2) := Fm204 (dk_16 12 (dk_at s204_3 19 rfl rfl)) rfl
theorem f204_88 : ft 204 88 = some (11, 1, 0, .goto 27, 3) := Fm204 (dk_167 0 27 (dk_at s204_3 21 rfl rfl)) rfl
theorem f204_91 : ft 204 91 = some (11, 1, 0, .iload 4, 2) := Fm204 (dk_21 4 (dk_at s204_4 0 rfl rfl)) rfl
theorem f204_93 : ft 204 93 = some (11, 1, 0, .iconst 2, 1) := Fm204 (dk_5 (dk_at s204_4 2 rfl rfl)) rfl
theorem f204_94 : ft 204 94 = some (11, 1, 0, .if_icmp .ne 8, 3) := Fm204 (dk_160 0 8 (dk_at s204_4 3 rfl rfl)) rfl
theorem f204_97 : ft 204 97 = some (11, 1, 0, .bipush 10, 2) := Fm204 (dk_16 10 (dk_at s204_4 6 rfl rfl)) rfl
theorem f204_99 : ft 204 99 = some (11, 1, 0, .goto 16, 3) := Fm204 (dk_167 0 16 (dk_at s204_4 8 rfl rfl)) rfl
theorem f204_102 : ft 204 102 = some (11, 1, 0, .iload 4, 2) := Fm204 (dk_21 4 (dk_at s204_4 11 rfl rfl)) rfl
theorem f204_104 : ft 204 104 = some (11, 1, 0, .iconst 3, 1) := Fm204 (dk_6 (dk_at s204_4 13 rfl rfl)) rfl
theorem f204_105 : ft 204 105 = some (11, 1, 0, .if_icmp .ne 8, 3) := Fm204 (dk_160 0 8 (dk_at s204_4 14 rfl rfl)) rfl
theorem f204_108 : ft 204 108 = some (11, 1, 0, .bipush 13, 2) := Fm204 (dk_16 13 (dk_at s204_4 17 rfl rfl)) rfl
theorem f204_110 : ft 204 110 = some (11, 1, 0, .goto 5, 3) := Fm204 (dk_167 0 5 (dk_at s204_4 19 rfl rfl)) rfl
theorem f204_113 : ft 204 113 = some (11, 1, 0, .bipush 9, 2) := Fm204 (dk_16 9 (dk_at s204_4 22 rfl rfl)) rfl
theorem f204_115 : ft 204 115 = some (11, 1, 0, .ireturn, 1) := Fm204 (dk_172 (dk_at s204_5 0 rfl rfl)) rfl
theorem f204_116 : ft 204 116 = some (11, 1, 0, .iload_n 3, 1) := Fm204 (dk_29 (dk_at s204_5 1 rfl rfl)) rfl
theorem f204_117 : ft 204 117 = some (11, 1, 0, .bipush 117, 2) := Fm204 (dk_16 117 (dk_at s204_5 2 rfl rfl)) rfl
theorem f204_119 : ft 204 119 = some (11, 1, 0, .if_icmp .ne 84, 3) := Fm204 (dk_160 0 84 (dk_at s204_5 4 rfl rfl)) rfl
theorem f204_122 : ft 204 122 = some (11, 1, 0, .iconst 0, 1) := Fm204 (dk_3 (dk_at s204_5 7 rfl rfl)) rfl
theorem f204_123 : ft 204 123 = some (11, 1, 0, .istore 5, 2) := Fm204 (dk_54 5 (dk_at s204_5 8 rfl rfl)) rfl
theorem f204_125 : ft 204 125 = some (11, 1, 0, .iconst 0, 1) := Fm204 (dk_3 (dk_at s204_5 10 rfl rfl)) rfl
theorem f204_126 : ft 204 126 = some (11, 1, 0, .istore 6, 2) := Fm204 (dk_54 6 (dk_at s204_5 11 rfl rfl)) rfl
theorem f204_128 : ft 204 128 = some (11, 1, 0, .iload 6, 2) := Fm204 (dk_21 6 (dk_at s204_5 13 rfl rfl)) rfl
theorem f204_130 : ft 204 130 = some (11, 1, 0, .iconst 4, 1) := Fm204 (dk_7 (dk_at s204_5 15 rfl rfl)) rfl
theorem f204_131 : ft 204 131 = some (11, 1, 0, .if_icmp .ge 69, 3) := Fm204 (dk_162 0 69 (dk_at s204_5 16 rfl rfl)) rfl
theorem f204_134 : ft 204 134 = some (11, 1, 0, .aload_n 0, 1) := Fm204 (dk_42 (dk_at s204_5 19 rfl rfl)) rfl
theorem f204_135 : ft 204 135 = some (11, 1, 0, .invokevirtual 167, 3) := Fm204 (dk_182 0 167 (dk_at s204_5 20 rfl rfl)) rfl
theorem f204_138 : ft 204 138 = some (11, 1, 0, .invokestatic 194, 3) := Fm204 (dk_184 0 194 (dk_at s204_6 0 rfl rfl)) rfl
theorem f204_141 : ft 204 141 = some (11, 1, 0, .istore 7, 2) := Fm204 (dk_54 7 (dk_at s204_6 3 rfl rfl)) rfl
theorem f204_143 : ft 204 143 = some (11, 1, 0, .iload 7, 2) := Fm204 (dk_21 7 (dk_at s204_6 5 rfl rfl)) rfl
theorem f204_145 : ft 204 145 = some (11, 1, 0, .ifCond .ge 29, 3) := Fm204 (dk_156 0 29 (dk_at s204_6 7 rfl rfl)) rfl
theorem f204_148 : ft 204 148 = some (11, 1, 0, .aload_n 0, 1) := Fm204 (dk_42 (dk_at s204_6 10 rfl rfl)) rfl
theorem f204_149 : ft 204 149 = some (11, 1, 0, .aload_n 0, 1) := Fm204 (dk_42 (dk_at s204_6 11 rfl rfl)) rfl
theorem f204_150 : ft 204 150 = some (11, 1, 0, .getfield 155, 3) := Fm204 (dk_180 0 155 (dk_at s204_6 12 rfl rfl)) rfl
theorem f204_153 : ft 204 153 = some (11, 1, 0, .aload_n 0, 1) := Fm204 (dk_42 (dk_at s204_6 15 rfl rfl)) rfl
theorem f204_154 : ft 204 154 = some (11, 1, 0, .getfield 158, 3) := Fm204 (dk_180 0 158 (dk_at s204_6 16 rfl rfl)) rfl
theorem f204_157 : ft 204 157 = some (11, 1, 0, .if_icmp .lt 10, 3) := Fm204 (dk_161 0 10 (dk_at s204_6 19 rfl rfl)) rfl
theorem f204_160 : ft 204 160 = some (11, 1, 0, .aload_n 0, 1) := Fm204 (dk_42 (dk_at s204_6 22 rfl rfl)) rfl
theorem f204_161 : ft 204 161 = some (11, 1, 0, .getfield 158, 3) := Fm204 (dk_180 0 158 (dk_at s204_7 0 rfl rfl)) rfl
theorem f204_164 : ft 204 164 = some (11, 1, 0, .goto 4, 3) := Fm204 (dk_167 0 4 (dk_at s204_7 3 rfl rfl)) rfl
theorem f204_167 : ft 204 167 = some (11, 1, 0, .iload_n 2, 1) := Fm204 (dk_28 (dk_at s204_7 6 rfl rfl)) rfl
theorem f204_168 : ft 204 168 = some (11, 1, 0, .invokevirtual 171, 3) := Fm204 (dk_182 0 171 (dk_at s204_7 7 rfl rfl)) rfl
theorem f204_171 : ft 204 171 = some (11, 1, 0, .pop, 1) := Fm204 (dk_87 (dk_at s204_7 10 rfl rfl)) rfl
theorem f204_172 : ft 204 172 = some (11, 1, 0, .iconst (-1), 1) := Fm204 (dk_2 (dk_at s204_7 11 rfl rfl)) rfl
theorem f204_173 : ft 204 173 = some (11, 1, 0, .ireturn, 1) := Fm204 (dk_172 (dk_at s204_7 12 rfl rfl)) rfl
theorem f204_174 : ft 204 174 = some (11, 1, 0, .bipush 16, 2) := Fm204 (dk_16 16 (dk_at s204_7 13 rfl rfl)) rfl
theorem f204_176 : ft 204 176 = some (11, 1, 0, .iload 5, 2) := Fm204 (dk_21 5 (dk_at s204_7 15 rfl rfl)) rfl
theorem f204_178 : ft 204 178 = some (11, 1, 0, .imul, 1) := Fm204 (dk_104 (dk_at s204_7 17 rfl rfl)) rfl
theorem f204_179 : ft 204 179 = some (11, 1, 0, .iload 7, 2) := Fm204 (dk_21 7 (dk_at s204_7 18 rfl rfl)) rfl
theorem f204_181 : ft 204 181 = some (11, 1, 0, .iadd, 1) := Fm204 (dk_96 (dk_at s204_7 20 rfl rfl)) rfl
theorem f204_182 : ft 204 182 = some (11, 1, 0, .istore 5, 2) := Fm204 (dk_54 5 (dk_at s204_7 21 rfl rfl)) rfl
theorem f204_184 : ft 204 184 = some (11, 1, 0, .aload_n 0, 1) := Fm204 (dk_42 (dk_at s204_7 23 rfl rfl)) rfl
theorem f204_185 : ft 204 185 = some (11, 1, 0, .dup, 1) := Fm204 (dk_89 (dk_at s204_8 0 rfl rfl)) rfl
theorem f204_186 : ft 204 186 = some (11, 1, 0, .getfield 155, 3) := Fm204 (dk_180 0 155 (dk_at s204_8 1 rfl rfl)) rfl
theorem f204_189 : ft 204 189 = some (11, 1, 0, .iconst 1, 1) := Fm204 (dk_4 (dk_at s204_8 4 rfl rfl)) rfl
theorem f204_190 : ft 204 190 = some (11, 1, 0, .iadd, 1) := Fm204 (dk_96 (dk_at s204_8 5 rfl rfl)) rfl
theorem f204_191 : ft 204 191 = some (11, 1, 0, .putfield 155, 3) := Fm204 (dk_181 0 155 (dk_at s204_8 6 rfl rfl)) rfl
theorem f204_194 : ft 204 194 = some (11, 1, 0, .iinc 6 1, 3) := Fm204 (dk_132 6 1 (dk_at s204_8 9 rfl rfl)) rfl
theorem f204_197 : ft 204 197 = some (11, 1, 0, .goto (-69), 3) := Fm204 (dk_167 255 187 (dk_at s204_8 12 rfl rfl)) rfl
theorem f204_200 : ft 204 200 = some (11, 1, 0, .iload 5, 2) := Fm204 (dk_21 5 (dk_at s204_8 15 rfl rfl)) rfl
theorem f204_202 : ft 204 202 = some (11, 1, 0, .ireturn, 1) := Fm204 (dk_172 (dk_at s204_8 17 rfl rfl)) rfl
theorem f204_203 : ft 204 203 = some (11, 1, 0, .aload_n 0, 1) := Fm204 (dk_42 (dk_at s204_8 18 rfl rfl)) rfl
theorem f204_204 : ft 204 204 = some (11, 1, 0, .iload_n 3, 1) := Fm204 (dk_29 (dk_at s204_8 19 rfl rfl)) rfl
theorem f204_205 : ft 204 205 = some (11, 1, 0, .ifCond .ge 10, 3) := Fm204 (dk_156 0 10 (dk_at s204_8 20 rfl rfl)) rfl
theorem f204_208 : ft 204 208 = some (11, 1, 0, .aload_n 0, 1) := Fm204 (dk_42 (dk_at s204_8 23 rfl rfl)) rfl
theorem f204_209 : ft 204 209 = some (11, 1, 0, .getfield 158, 3) := Fm204 (dk_180 0 158 (dk_at s204_9 0 rfl rfl)) rfl
theorem f204_212 : ft 204 212 = some (11, 1, 0, .goto 4, 3) := Fm204 (dk_167 0 4 (dk_at s204_9 3 rfl rfl)) rfl
theorem f204_215 : ft 204 215 = some (11, 1, 0, .iload_n 2, 1) := Fm204 (dk_28 (dk_at s204_9 6 rfl rfl)) rfl
theorem f204_216 : ft 204 216 = some (11, 1, 0, .invokevirtual 171, 3) := Fm204 (dk_182 0 171 (dk_at s204_9 7 rfl rfl)) rfl
theorem f204_219 : ft 204 219 = some (11, 1, 0, .pop, 1) := Fm204 (dk_87 (dk_at s204_9 10 rfl rfl)) rfl
theorem f204_220 : ft 204 220 = some (11, 1, 0, .iconst (-1), 1) := Fm204 (dk_2 (dk_at s204_9 11 rfl rfl)) rfl
theorem f204_221 : ft 204 221 = some (11, 1, 0, .ireturn, 1) := Fm204 (dk_172 (dk_at s204_9 12 rfl rfl)) rfl
theorem q204 {d : Nat} {m : Mem} {a0 a1 : Int} (hd : 0 < d) (hz : TZ m) : le2 (gd (tg m a0 = 11) <| nm (vl m a0 12) fun v3 => bI (cl (d - 1) 199 [pR a0] (mst m a0 12 (w32 (v3 + 1)))) fun v1 m1 => if v1 = a1 then (some (.inl (some (pI v1)), (mst m1 a0 12 (w32 ((vl m1 a0 12) + 1))))) else if v1 = 92 then (some (.inl (some (pI v1)), (mst m1 a0 12 (w32 ((vl m1 a0 12) + 1))))) else if v1 = 47 then (some (.inl (some (pI v1)), (mst m1 a0 12 (w32 ((vl m1 a0 12) + 1))))) else if v1 < 0 then (rn d 204 63 [pR a0, pI a1, pI v3, pI v1, pU, pU, pU, pU] [pI (-1)] (mst m1 a0 12 (w32 ((vl m1 a0 12) + 1)))) else gd (tg m1 52 = 31) <| bI (cl (d - 1) 354 [pR 52, pI v1] (mst m1 a0 12 (w32 ((vl m1 a0 12) + 1)))) fun v2 m2 => rn d 204 63 [pR a0, pI a1, pI v3, pI v1, pU, pU, pU, pU] [pI v2] m2) (cl d 204 [pR a0, pI a1] m) := by
  refine q_in (n := 8) (L := [pR a0, pI a1, pU, pU, pU, pU, pU, pU]) rfl rfl rfl ?_
  refine r_aln0 (p := 1) f204_0 rfl ?_
  refine le2_gd (fun h1 => ?_)
  refine r_gfI (f := 12) (p := 4) f204_1 rfl rfl rfl (Or.inl h1) rfl ?_
  refine r_nmI (fun v3 ev3 => ?_)
  refine r_isn2 (p := 5) f204_4 rfl rfl ?_
  refine r_aln0 (p := 6) f204_5 rfl ?_
  refine r_dup (p := 7) f204_6 rfl rfl ?_
  refine r_gfI (f := 12) (p := 10) f204_7 rfl rfl rfl (Or.inl h1) ev3.symm ?_
  refine r_iconst (p := 11) f204_10 rfl (pinD rfl rfl) ?_
  refine r_iadd (p := 12) f204_11 rfl ?_
  refine r_pfI (f := 12) (p := 15) f204_12 rfl rfl rfl (by decide) (by decide) (Or.inl h1) rfl ?_
  refine r_aln0 (p := 16) f204_15 rfl ?_
  refine r_invI (p := 19) f204_16 rfl rfl rfl (Or.inl h1) hd (Nat.le_of_ble_eq_true rfl) rfl rfl rfl (fun _ => rfl) (fun v1 m1 c1 => ?_)
  have hz1 := z_k c1 hz
  refine r_isn3 (p := 20) f204_19 rfl rfl ?_
  refine r_aln0 (p := 21) f204_20 rfl ?_
  refine r_dup (p := 22) f204_21 rfl rfl ?_
  have h2 := k_t1 c1 hz h1 (by decide)
  refine r_gfI (f := 12) (p := 25) f204_22 rfl rfl rfl (Or.inl h2) rfl ?_
  refine r_iconst (p := 26) f204_25 rfl (pinD rfl rfl) ?_
  refine r_iadd (p := 27) f204_26 rfl ?_
  refine r_pfI (f := 12) (p := 30) f204_27 rfl rfl rfl (by decide) (by decide) (Or.inl h2) rfl ?_
  refine r_iln3 (p := 31) f204_30 rfl ?_
  refine r_iln1 (p := 32) f204_31 rfl ?_
  refine r_iceq (t := 47) (p := 35) f204_32 (by decide) rfl rfl ?_ ?_
  · refine r_iln3 (p := 48) f204_47 rfl ?_
    exact r_iret1 f204_48
  · refine r_iln3 (p := 36) f204_35 rfl ?_
    refine r_bipush (p := 38) f204_36 rfl (pinD rfl rfl) ?_
    refine r_iceq (t := 47) (p := 41) f204_38 (by decide) rfl rfl ?_ ?_
    · refine r_iln3 (p := 48) f204_47 rfl ?_
      exact r_iret1 f204_48
    · refine r_iln3 (p := 42) f204_41 rfl ?_
      refine r_bipush (p := 44) f204_42 rfl (pinD rfl rfl) ?_
      refine r_icne (t := 49) (p := 47) f204_44 (by decide) rfl rfl ?_ ?_
      · refine r_iln3 (p := 48) f204_47 rfl ?_
        exact r_iret1 f204_48
      · refine r_iln3 (p := 50) f204_49 rfl ?_
        refine r_ifge (t := 57) (p := 53) f204_50 (by decide) rfl rfl ?_ ?_
        · refine r_iconst (p := 54) f204_53 rfl (pinD rfl rfl) ?_
          refine r_goto (p := 63) f204_54 (by decide) rfl ?_
          exact le2_refl _
        · refine r_ldcR (p := 59) f204_57 rfl rfl ?_
          refine r_iln3 (p := 60) f204_59 rfl ?_
          refine le2_gd (fun h3 => ?_)
          refine r_invI (p := 63) f204_60 rfl rfl rfl (Or.inl h3) hd (Nat.le_of_ble_eq_true rfl) rfl rfl rfl (fun _ => rfl) (fun v2 m2 c2 => ?_)
          have hz2 := z_k c2 hz1
          exact le2_refl _
theorem q204_63 {d : Nat} {m : Mem} {a0 a1 a2 a3 s0 : Int} (hd : 0 < d) (hz : TZ m) : le2 (if s0 < 0 then (if a3 = 117 then (rn d 204 128 [pR a0, pI a1, pI a2, pI a3, pI s0, pI 0, pI 0, pU] [] m) else if a3 < 0 then (gd (tg m a0 = 11) <| bI (cl (d - 1) 202 [pR a0, pI (vl m a0 13)] m) fun v2 m2 => some (.inl (some (pI (-1))), m2)) else gd (tg m a0 = 11) <| bI (cl (d - 1) 202 [pR a0, pI a2] m) fun v1 m1 => some (.inl (some (pI (-1))), m1)) else if s0 = 0 then (some (.inl (some (pI 8)), m)) else if s0 = 1 then (some (.inl (some (pI 12)), m)) else if s0 = 2 then (some (.inl (some (pI 10)), m)) else if s0 = 3 then (some (.inl (some (pI 13)), m)) else some (.inl (some (pI 9)), m)) (rn d 204 63 [pR a0, pI a1, pI a2, pI a3, pU, pU, pU, pU] [pI s0] m) := by
  refine r_isw4 (p := 65) f204_63 rfl rfl ?_
  refine r_ilw4 (p := 67) f204_65 rfl ?_
  refine r_iflt (t := 116) (p := 70) f204_67 (by decide) rfl rfl ?_ ?_
  · refine r_iln3 (p := 117) f204_116 rfl ?_
    refine r_bipush (p := 119) f204_117 rfl (pinD rfl rfl) ?_
    refine r_icne (t := 203) (p := 122) f204_119 (by decide) rfl rfl ?_ ?_
    · refine r_iconst (p := 123) f204_122 rfl (pinD rfl rfl) ?_
      refine r_isw5 (p := 125) f204_123 rfl rfl ?_
      refine r_iconst (p := 126) f204_125 rfl (pinD rfl rfl) ?_
      refine r_isw6 (p := 128) f204_126 rfl rfl ?_
      exact le2_refl _
    · refine r_aln0 (p := 204) f204_203 rfl ?_
      refine r_iln3 (p := 205) f204_204 rfl ?_
      refine r_ifge (t := 215) (p := 208) f204_205 (by decide) rfl rfl ?_ ?_
      · refine r_aln0 (p := 209) f204_208 rfl ?_
        refine le2_gd (fun h2 => ?_)
        refine r_gfI (f := 13) (p := 212) f204_209 rfl rfl rfl (Or.inl h2) rfl ?_
        refine r_goto (p := 216) f204_212 (by decide) rfl ?_
        refine r_invI (p := 219) f204_216 rfl rfl rfl (Or.inl h2) hd (Nat.le_of_ble_eq_true rfl) rfl rfl rfl (fun _ => rfl) (fun v2 m2 c2 => ?_)
        have hz2 := z_k c2 hz
        refine r_pop (p := 220) f204_219 rfl rfl ?_
        refine r_iconst (p := 221) f204_220 rfl (pinD rfl rfl) ?_
        exact r_iret1 f204_221
      · refine r_iln2 (p := 216) f204_215 rfl ?_
        refine le2_gd (fun h1 => ?_)
        refine r_invI (p := 219) f204_216 rfl rfl rfl (Or.inl h1) hd (Nat.le_of_ble_eq_true rfl) rfl rfl rfl (fun _ => rfl) (fun v1 m1 c1 => ?_)
        have hz1 := z_k c1 hz
        refine r_pop (p := 220) f204_219 rfl rfl ?_
        refine r_iconst (p := 221) f204_220 rfl (pinD rfl rfl) ?_
        exact r_iret1 f204_221
  · refine r_ilw4 (p := 72) f204_70 rfl ?_
    refine r_ifne (t := 80) (p := 75) f204_72 (by decide) rfl rfl ?_ ?_
    · refine r_bipush (p := 77) f204_75 rfl (pinD rfl rfl) ?_
      refine r_goto (p := 115) f204_77 (by decide) rfl ?_
      exact r_iret1 f204_115
    · refine r_ilw4 (p := 82) f204_80 rfl ?_
      refine r_iconst (p := 83) f204_82 rfl (pinD rfl rfl) ?_
      refine r_icne (t := 91) (p := 86) f204_83 (by decide) rfl rfl ?_ ?_
      · refine r_bipush (p := 88) f204_86 rfl (pinD rfl rfl) ?_
        refine r_goto (p := 115) f204_88 (by decide) rfl ?_
        exact r_iret1 f204_115
      · refine r_ilw4 (p := 93) f204_91 rfl ?_
        refine r_iconst (p := 94) f204_93 rfl (pinD rfl rfl) ?_
        refine r_icne (t := 102) (p := 97) f204_94 (by decide) rfl rfl ?_ ?_
        · refine r_bipush (p := 99) f204_97 rfl (pinD rfl rfl) ?_
          refine r_goto (p := 115) f204_99 (by decide) rfl ?_
          exact r_iret1 f204_115
        · refine r_ilw4 (p := 104) f204_102 rfl ?_
          refine r_iconst (p := 105) f204_104 rfl (pinD rfl rfl) ?_
          refine r_icne (t := 113) (p := 108) f204_105 (by decide) rfl rfl ?_ ?_
          · refine r_bipush (p := 110) f204_108 rfl (pinD rfl rfl) ?_
            refine r_goto (p := 115) f204_110 (by decide) rfl ?_
            exact r_iret1 f204_115
          · refine r_bipush (p := 115) f204_113 rfl (pinD rfl rfl) ?_
            exact r_iret1 f204_115
theorem q204_128 {d : Nat} {m : Mem} {a0 a1 a2 a3 a4 a5 a6 : Int} {z7 : PV} (hd : 0 < d) (hz : TZ m) (hcz7 : cat z7 = 1) : le2 (if a6 < 4 then (gd (tg m a0 = 11) <| bI (cl (d - 1) 199 [pR a0] m) fun v1 m1 => bI (cl (d - 1) 205 [pI v1] m1) fun v2 m2 => if v2 < 0 then (nm (vl m2 a0 13) fun v5 => if (vl m2 a0 12) < v5 then (bI (cl (d - 1) 202 [pR a0, pI a2] m2) fun v3 m3 => some (.inl (some (pI (-1))), m3)) else bI (cl (d - 1) 202 [pR a0, pI v5] m2) fun v4 m4 => some (.inl (some (pI (-1))), m4)) else rn d 204 128 [pR a0, pI a1, pI a2, pI a3, pI a4, pI (w32 ((w32 (16 * a5)) + v2)), pI (w32 (a6 + 1)), pI v2] [] (mst m2 a0 12 (w32 ((vl m2 a0 12) + 1)))) else some (.inl (some (pI a5)), m)) (rn d 204 128 [pR a0, pI a1, pI a2, pI a3, pI a4, pI a5, pI a6, z7] [] m) := by
  refine r_ilw6 (p := 130) f204_128 rfl ?_
  refine r_iconst (p := 131) f204_130 rfl (pinD rfl rfl) ?_
  refine r_icge (t := 200) (p := 134) f204_131 (by decide) rfl rfl ?_ ?_
  · refine r_aln0 (p := 135) f204_134 rfl ?_
    refine le2_gd (fun h1 => ?_)
    refine r_invI (p := 138) f204_135 rfl rfl rfl (Or.inl h1) hd (Nat.le_of_ble_eq_true rfl) rfl rfl rfl (fun _ => rfl) (fun v1 m1 c1 => ?_)
    have hz1 := z_k c1 hz
    refine r_istI (p := 141) f204_138 rfl rfl rfl hd (Nat.le_of_ble_eq_true rfl) rfl rfl rfl (fun _ => rfl) (fun v2 m2 c2 => ?_)
    have hz2 := z_k c2 hz1
    refine r_isw7 (p := 143) f204_141 rfl rfl ?_
    refine r_ilw7 (p := 145) f204_143 rfl ?_
    refine r_ifge (t := 174) (p := 148) f204_145 (by decide) rfl rfl ?_ ?_
    · refine r_aln0 (p := 149) f204_148 rfl ?_
      refine r_aln0 (p := 150) f204_149 rfl ?_
      have h4 := k_t1 c1 hz h1 (by decide)
      have h5 := k_t1 c2 hz1 h4 (by decide)
      refine r_gfI (f := 12) (p := 153) f204_150 rfl rfl rfl (Or.inl h5) rfl ?_
      refine r_aln0 (p := 154) f204_153 rfl ?_
      refine r_gfI (f := 13) (p := 157) f204_154 rfl rfl rfl (Or.inl h5) rfl ?_
      refine r_nmI (fun v5 ev5 => ?_)
      refine r_iclt (t := 167) (p := 160) f204_157 (by decide) rfl rfl ?_ ?_
      · refine r_iln2 (p := 168) f204_167 rfl ?_
        refine r_invI (p := 171) f204_168 rfl rfl rfl (Or.inl h5) hd (Nat.le_of_ble_eq_true rfl) rfl rfl rfl (fun _ => rfl) (fun v3 m3 c3 => ?_)
        have hz3 := z_k c3 hz2
        refine r_pop (p := 172) f204_171 rfl rfl ?_
        refine r_iconst (p := 173) f204_172 rfl (pinD rfl rfl) ?_
        exact r_iret1 f204_173
      · refine r_aln0 (p := 161) f204_160 rfl ?_
        refine r_gfI (f := 13) (p := 164) f204_161 rfl rfl rfl (Or.inl h5) ev5.symm ?_
        refine r_goto (p := 168) f204_164 (by decide) rfl ?_
        refine r_invI (p := 171) f204_168 rfl rfl rfl (Or.inl h5) hd (Nat.le_of_ble_eq_true rfl) rfl rfl rfl (fun _ => rfl) (fun v4 m4 c4 => ?_)
        have hz4 := z_k c4 hz2
        refine r_pop (p := 172) f204_171 rfl rfl ?_
        refine r_iconst (p := 173) f204_172 rfl (pinD rfl rfl) ?_
        exact r_iret1 f204_173
    · refine r_bipush (p := 176) f204_174 rfl (pinD rfl rfl) ?_
      refine r_ilw5 (p := 178) f204_176 rfl ?_
      refine r_imul (p := 179) f204_178 rfl ?_
      refine r_ilw7 (p := 181) f204_179 rfl ?_
      refine r_iadd (p := 182) f204_181 rfl ?_
      refine r_isw5 (p := 184) f204_182 rfl rfl ?_
      refine r_aln0 (p := 185) f204_184 rfl ?_
      refine r_dup (p := 186) f204_185 rfl rfl ?_
      have h2 := k_t1 c1 hz h1 (by decide)
      have h3 := k_t1 c2 hz1 h2 (by decide)
      refine r_gfI (f := 12) (p := 189) f204_186 rfl rfl rfl (Or.inl h3) rfl ?_
      refine r_iconst (p := 190) f204_189 rfl (pinD rfl rfl) ?_
      refine r_iadd (p := 191) f204_190 rfl ?_
      refine r_pfI (f := 12) (p := 194) f204_191 rfl rfl rfl (by decide) (by decide) (Or.inl h3) rfl ?_
      refine r_iinc6 (p := 197) f204_194 rfl rfl ?_
      refine r_goto (p := 128) f204_197 (by decide) rfl ?_
      exact le2_refl _
  · refine r_ilw5 (p := 202) f204_200 rfl ?_
    exact r_iret1 f204_202
/-! 205 PathStoreModel.hex (I)I -/
def w205_2 : List UInt8 := [163, 0, 13, 26, 16, 65, 100, 16, 10, 96, 167, 0, 4, 2, 172]
abbrev u205_2 : List UInt8 := w205_2 ++ []
def w205_1 : List UInt8 := [163, 0, 13, 26, 16, 97, 100, 16, 10, 96, 167, 0, 26, 26, 16, 65, 161, 0, 19, 26, 16, 70]
abbrev u205_1 : List UInt8 := w205_1 ++ u205_2
def w205_0 : List UInt8 := [26, 184, 0, 186, 153, 0, 10, 26, 16, 48, 100, 167, 0, 48, 26, 16, 97, 161, 0, 19, 26, 16, 102]
abbrev u205_0 : List UInt8 := w205_0 ++ u205_1
theorem s205_0 : (prog_32_method_18_code).data.toList.drop 0 = u205_0 := by decide +kernel
theorem s205_1 : (prog_32_method_18_code).data.toList.drop 23 = u205_1 := dk_seg s205_0 23 rfl rfl
theorem s205_2 : (prog_32_method_18_code).data.toList.drop 45 = u205_2 := dk_seg s205_1 22 rfl rfl
theorem Fm205 {pc len : Nat} {i : Instr} (h : decode (prog_32_method_18_code) pc = .ok (i, len)) (hl : len = ilen i len) : ft 205 pc = some (11, 1, 0, i, len) := ft_mk rfl h hl
theorem f205_0 : ft 205 0 = some (11, 1, 0, .iload_n 0, 1) := Fm205 (dk_26 (dk_at s205_0 0 rfl rfl)) rfl
theorem f205_1 : ft 205 1 = some (11, 1, 0, .invokestatic 186, 3) := Fm205 (dk_184 0 186 (dk_at s205_0 1 rfl rfl)) rfl
theorem f205_4 : ft 205 4 = some (11, 1, 0, .ifCond .eq 10, 3) := Fm205 (dk_153 0 10 (dk_at s205_0 4 rfl rfl)) rfl
theorem f205_7 : ft 205 7 = some (11, 1, 0, .iload_n 0, 1) := Fm205 (dk_26 (dk_at s205_0 7 rfl rfl)) rfl
theorem f205_8 : ft 205 8 = some (11, 1, 0, .bipush 48, 2) := Fm205 (dk_16 48 (dk_at s205_0 8 rfl rfl)) rfl
theorem f205_10 : ft 205 10 = some (11, 1, 0, .isub, 1) := Fm205 (dk_100 (dk_at s205_0 10 rfl rfl)) rfl
theorem f205_11 : ft 205 11 = some (11, 1, 0, .goto 48, 3) := Fm205 (dk_167 0 48 (dk_at s205_0 11 rfl rfl)) rfl
theorem f205_14 : ft 205 14 = some (11, 1, 0, .iload_n 0, 1) := Fm205 (dk_26 (dk_at s205_0 14 rfl rfl)) rfl
theorem f205_15 : ft 205 15 = some (11, 1, 0, .bipush 97, 2) := Fm205 (dk_16 97 (dk_at s205_0 15 rfl rfl)) rfl
theorem f205_17 : ft 205 17 = some (11, 1, 0, .if_icmp .lt 19, 3) := Fm205 (dk_161 0 19 (dk_at s205_0 17 rfl rfl)) rfl
theorem f205_20 : ft 205 20 = some (11, 1, 0, .iload_n 0, 1) := Fm205 (dk_26 (dk_at s205_0 20 rfl rfl)) rfl
theorem f205_21 : ft 205 21 = some (11, 1, 0, .bipush 102, 2) := Fm205 (dk_16 102 (dk_at s205_0 21 rfl rfl)) rfl
theorem f205_23 : ft 205 23 = some (11, 1, 0, .if_icmp .gt 13, 3) := Fm205 (dk_163 0 13 (dk_at s205_1 0 rfl rfl)) rfl
theorem f205_26 : ft 205 26 = some (11, 1, 0, .iload_n 0, 1) := Fm205 (dk_26 (dk_at s205_1 3 rfl rfl)) rfl
theorem f205_27 : ft 205 27 = some (11, 1, 0, .bipush 97, 2) := Fm205 (dk_16 97 (dk_at s205_1 4 rfl rfl)) rfl
theorem f205_29 : ft 205 29 = some (11, 1, 0, .isub, 1) := Fm205 (dk_100 (dk_at s205_1 6 rfl rfl)) rfl
theorem f205_30 : ft 205 30 = some (11, 1, 0, .bipush 10, 2) := Fm205 (dk_16 10 (dk_at s205_1 7 rfl rfl)) rfl
theorem f205_32 : ft 205 32 = some (11, 1, 0, .iadd, 1) := Fm205 (dk_96 (dk_at s205_1 9 rfl rfl)) rfl
theorem f205_33 : ft 205 33 = some (11, 1, 0, .goto 26, 3) := Fm205 (dk_167 0 26 (dk_at s205_1 10 rfl rfl)) rfl
theorem f205_36 : ft 205 36 = some (11, 1, 0, .iload_n 0, 1) := Fm205 (dk_26 (dk_at s205_1 13 rfl rfl)) rfl
theorem f205_37 : ft 205 37 = some (11, 1, 0, .bipush 65, 2) := Fm205 (dk_16 65 (dk_at s205_1 14 rfl rfl)) rfl
theorem f205_39 : ft 205 39 = some (11, 1, 0, .if_icmp .lt 19, 3) := Fm205 (dk_161 0 19 (dk_at s205_1 16 rfl rfl)) rfl
theorem f205_42 : ft 205 42 = some (11, 1, 0, .iload_n 0, 1) := Fm205 (dk_26 (dk_at s205_1 19 rfl rfl)) rfl
theorem f205_43 : ft 205 43 = some (11, 1, 0, .bipush 70, 2) := Fm205 (dk_16 70 (dk_at s205_1 20 rfl rfl)) rfl
theorem f205_45 : ft 205 45 = some (11, 1, 0, .if_icmp .gt 13, 3) := Fm205 (dk_163 0 13 (dk_at s205_2 0 rfl rfl)) rfl
theorem f205_48 : ft 205 48 = some (11, 1, 0, .iload_n 0, 1) := Fm205 (dk_26 (dk_at s205_2 3 rfl rfl)) rfl
theorem f205_49 : ft 205 49 = some (11, 1, 0, .bipush 65, 2) := Fm205 (dk_16 65 (dk_at s205_2 4 rfl rfl)) rfl
theorem f205_51 : ft 205 51 = some (11, 1, 0, .isub, 1) := Fm205 (dk_100 (dk_at s205_2 6 rfl rfl)) rfl
theorem f205_52 : ft 205 52 = some (11, 1, 0, .bipush 10, 2) := Fm205 (dk_16 10 (dk_at s205_2 7 rfl rfl)) rfl
theorem f205_54 : ft 205 54 = some (11, 1, 0, .iadd, 1) := Fm205 (dk_96 (dk_at s205_2 9 rfl rfl)) rfl
theorem f205_55 : ft 205 55 = some (11, 1, 0, .goto 4, 3) := Fm205 (dk_167 0 4 (dk_at s205_2 10 rfl rfl)) rfl
theorem f205_58 : ft 205 58 = some (11, 1, 0, .iconst (-1), 1) := Fm205 (dk_2 (dk_at s205_2 13 rfl rfl)) rfl
theorem f205_59 : ft 205 59 = some (11, 1, 0, .ireturn, 1) := Fm205 (dk_172 (dk_at s205_2 14 rfl rfl)) rfl
theorem q205 {d : Nat} {m : Mem} {a0 : Int} (hd : 0 < d) (hz : TZ m) : le2 (bI (cl (d - 1) 206 [pI a0] m) fun v1 m1 => if v1 = 0 then (if a0 < 97 then (rn d 205 36 [pI a0] [] m1) else if 102 < a0 then (rn d 205 36 [pI a0] [] m1) else some (.inl (some (pI (w32 ((w32 (a0 - 97)) + 10)))), m1)) else some (.inl (some (pI (w32 (a0 - 48)))), m1)) (cl d 205 [pI a0] m) := by
  refine q_in (n := 1) (L := [pI a0]) rfl rfl rfl ?_
  refine r_iln0 (p := 1) f205_0 rfl ?_
  refine r_istI (p := 4) f205_1 rfl rfl rfl hd (Nat.le_of_ble_eq_true rfl) rfl rfl rfl (fun _ => rfl) (fun v1 m1 c1 => ?_)
  have hz1 := z_k c1 hz
  refine r_ifeq (t := 14) (p := 7) f205_4 (by decide) rfl rfl ?_ ?_
  · refine r_iln0 (p := 15) f205_14 rfl ?_
    refine r_bipush (p := 17) f205_15 rfl (pinD rfl rfl) ?_
    refine r_iclt (t := 36) (p := 20) f205_17 (by decide) rfl rfl ?_ ?_
    · exact le2_refl _
    · refine r_iln0 (p := 21) f205_20 rfl ?_
      refine r_bipush (p := 23) f205_21 rfl (pinD rfl rfl) ?_
      refine r_icgt (t := 36) (p := 26) f205_23 (by decide) rfl rfl ?_ ?_
      · exact le2_refl _
      · refine r_iln0 (p := 27) f205_26 rfl ?_
        refine r_bipush (p := 29) f205_27 rfl (pinD rfl rfl) ?_
        refine r_isub (p := 30) f205_29 rfl ?_
        refine r_bipush (p := 32) f205_30 rfl (pinD rfl rfl) ?_
        refine r_iadd (p := 33) f205_32 rfl ?_
        refine r_goto (p := 59) f205_33 (by decide) rfl ?_
        exact r_iret1 f205_59
  · refine r_iln0 (p := 8) f205_7 rfl ?_
    refine r_bipush (p := 10) f205_8 rfl (pinD rfl rfl) ?_
    refine r_isub (p := 11) f205_10 rfl ?_
    refine r_goto (p := 59) f205_11 (by decide) rfl ?_
    exact r_iret1 f205_59
theorem q205_36 {d : Nat} {m : Mem} {a0 : Int} (hz : TZ m) : le2 (if a0 < 65 then (some (.inl (some (pI (-1))), m)) else if 70 < a0 then (some (.inl (some (pI (-1))), m)) else some (.inl (some (pI (w32 ((w32 (a0 - 65)) + 10)))), m)) (rn d 205 36 [pI a0] [] m) := by
  refine r_iln0 (p := 37) f205_36 rfl ?_
  refine r_bipush (p := 39) f205_37 rfl (pinD rfl rfl) ?_
  refine r_iclt (t := 58) (p := 42) f205_39 (by decide) rfl rfl ?_ ?_
  · refine r_iconst (p := 59) f205_58 rfl (pinD rfl rfl) ?_
    exact r_iret1 f205_59
  · refine r_iln0 (p := 43) f205_42 rfl ?_
    refine r_bipush (p := 45) f205_43 rfl (pinD rfl rfl) ?_
    refine r_icgt (t := 58) (p := 48) f205_45 (by decide) rfl rfl ?_ ?_
    · refine r_iconst (p := 59) f205_58 rfl (pinD rfl rfl) ?_
      exact r_iret1 f205_59
    · refine r_iln0 (p := 49) f205_48 rfl ?_
      refine r_bipush (p := 51) f205_49 rfl (pinD rfl rfl) ?_
      refine r_isub (p := 52) f205_51 rfl ?_
      refine r_bipush (p := 54) f205_52 rfl (pinD rfl rfl) ?_
      refine r_iadd (p := 55) f205_54 rfl ?_
      refine r_goto (p := 59) f205_55 (by decide) rfl ?_
      exact r_iret1 f205_59
/-! 206 PathStoreModel.digit (I)Z -/
def w206_0 : List UInt8 := [26, 16, 48, 161, 0, 13, 26, 16, 57, 163, 0, 7, 4, 167, 0, 4, 3, 172]
abbrev u206_0 : List UInt8 := w206_0 ++ []
theorem s206_0 : (prog_32_method_15_code).data.toList.drop 0 = u206_0 := by decide +kernel
theorem Fm206 {pc len : Nat} {i : Instr} (h : decode (prog_32_method_15_code) pc = .ok (i, len)) (hl : len = ilen i len) : ft 206 pc = some (11, 4, 0, i, len) := ft_mk rfl h hl
theorem f206_0 : ft 206 0 = some (11, 4, 0, .iload_n 0, 1) := Fm206 (dk_26 (dk_at s206_0 0 rfl rfl)) rfl
theorem f206_1 : ft 206 1 = some (11, 4, 0, .bipush 48, 2) := Fm206 (dk_16 48 (dk_at s206_0 1 rfl rfl)) rfl
theorem f206_3 : ft 206 3 = some (11, 4, 0, .if_icmp .lt 13, 3) := Fm206 (dk_161 0 13 (dk_at s206_0 3 rfl rfl)) rfl
theorem f206_6 : ft 206 6 = some (11, 4, 0, .iload_n 0, 1) := Fm206 (dk_26 (dk_at s206_0 6 rfl rfl)) rfl
theorem f206_7 : ft 206 7 = some (11, 4, 0, .bipush 57, 2) := Fm206 (dk_16 57 (dk_at s206_0 7 rfl rfl)) rfl
theorem f206_9 : ft 206 9 = some (11, 4, 0, .if_icmp .gt 7, 3) := Fm206 (dk_163 0 7 (dk_at s206_0 9 rfl rfl)) rfl
theorem f206_12 : ft 206 12 = some (11, 4, 0, .iconst 1, 1) := Fm206 (dk_4 (dk_at s206_0 12 rfl rfl)) rfl
theorem f206_13 : ft 206 13 = some (11, 4, 0, .goto 4, 3) := Fm206 (dk_167 0 4 (dk_at s206_0 13 rfl rfl)) rfl
theorem f206_16 : ft 206 16 = some (11, 4, 0, .iconst 0, 1) := Fm206 (dk_3 (dk_at s206_0 16 rfl rfl)) rfl
theorem f206_17 : ft 206 17 = some (11, 4, 0, .ireturn, 1) := Fm206 (dk_172 (dk_at s206_0 17 rfl rfl)) rfl
theorem q206 {d : Nat} {m : Mem} {a0 : Int} (hz : TZ m) : le2 (if a0 < 48 then (some (.inl (some (pI 0)), m)) else if 57 < a0 then (some (.inl (some (pI 0)), m)) else some (.inl (some (pI 1)), m)) (cl d 206 [pI a0] m) := by
  refine q_in (n := 1) (L := [pI a0]) rfl rfl rfl ?_
  refine r_iln0 (p := 1) f206_0 rfl ?_
  refine r_bipush (p := 3) f206_1 rfl (pinD rfl rfl) ?_
  refine r_iclt (t := 16) (p := 6) f206_3 (by decide) rfl rfl ?_ ?_
  · refine r_iconst (p := 17) f206_16 rfl (pinD rfl rfl) ?_
    exact r_iret4 f206_17 (by decide)
  · refine r_iln0 (p := 7) f206_6 rfl ?_
    refine r_bipush (p := 9) f206_7 rfl (pinD rfl rfl) ?_
    refine r_icgt (t := 16) (p := 12) f206_9 (by decide) rfl rfl ?_ ?_
    · refine r_iconst (p := 17) f206_16 rfl (pinD rfl rfl) ?_
      exact r_iret4 f206_17 (by decide)
    · refine r_iconst (p := 13) f206_12 rfl (pinD rfl rfl) ?_
      refine r_goto (p := 17) f206_13 (by decide) rfl ?_
      exact r_iret4 f206_17 (by decide)
/-! 207 PathStoreModel.number (LPathStoreModel$Tree;I)Z -/
def w207_8 : List UInt8 := [167, 0, 5, 22, 5, 80, 4, 172]
abbrev u207_8 : List UInt8 := w207_8 ++ []
def w207_7 : List UInt8 := [160, 0, 9, 42, 29, 182, 0, 171, 172, 43, 180, 0, 7, 28, 21, 4, 153, 0, 9, 22, 5, 117]
abbrev u207_7 : List UInt8 := w207_7 ++ u207_8
def w207_6 : List UInt8 := [42, 182, 0, 167, 16, 46, 159, 0, 21, 42, 182, 0, 167, 16, 101, 159, 0, 12, 42, 182, 0, 167, 16, 69]
abbrev u207_6 : List UInt8 := w207_6 ++ u207_7
def w207_5 : List UInt8 := [55, 5, 42, 89, 180, 0, 155, 4, 96, 181, 0, 155, 167, 255, 209, 22, 5, 20, 0, 235, 148, 157, 0, 30]
abbrev u207_5 : List UInt8 := w207_5 ++ u207_6
def w207_4 : List UInt8 := [20, 0, 235, 148, 157, 0, 21, 20, 0, 237, 22, 5, 105, 42, 182, 0, 167, 133, 97, 20, 0, 239, 101]
abbrev u207_4 : List UInt8 := w207_4 ++ u207_5
def w207_3 : List UInt8 := [180, 0, 155, 4, 96, 181, 0, 155, 167, 0, 53, 42, 182, 0, 167, 184, 0, 186, 153, 0, 43, 22, 5]
abbrev u207_3 : List UInt8 := w207_3 ++ u207_4
def w207_2 : List UInt8 := [42, 180, 0, 155, 182, 0, 171, 172, 9, 55, 5, 42, 182, 0, 167, 16, 48, 160, 0, 16, 42, 89]
abbrev u207_2 : List UInt8 := w207_2 ++ u207_3
def w207_1 : List UInt8 := [153, 0, 13, 42, 89, 180, 0, 155, 4, 96, 181, 0, 155, 42, 182, 0, 167, 184, 0, 186, 154, 0, 12, 42]
abbrev u207_1 : List UInt8 := w207_1 ++ u207_2
def w207_0 : List UInt8 := [42, 180, 0, 155, 62, 42, 182, 0, 167, 16, 45, 160, 0, 7, 4, 167, 0, 4, 3, 54, 4, 21, 4]
abbrev u207_0 : List UInt8 := w207_0 ++ u207_1
theorem s207_0 : (prog_32_method_22_code).data.toList.drop 0 = u207_0 := by decide +kernel
theorem s207_1 : (prog_32_method_22_code).data.toList.drop 23 = u207_1 := dk_seg s207_0 23 rfl rfl
theorem s207_2 : (prog_32_method_22_code).data.toList.drop 47 = u207_2 := dk_seg s207_1 24 rfl rfl
theorem s207_3 : (prog_32_method_22_code).data.toList.drop 69 = u207_3 := dk_seg s207_2 22 rfl rfl
theorem s207_4 : (prog_32_method_22_code).data.toList.drop 92 = u207_4 := dk_seg s207_3 23 rfl rfl
theorem s207_5 : (prog_32_method_22_code).data.toList.drop 115 = u207_5 := dk_seg s207_4 23 rfl rfl
theorem s207_6 : (prog_32_method_22_code).data.toList.drop 139 = u207_6 := dk_seg s207_5 24 rfl rfl
theorem s207_7 : (prog_32_method_22_code).data.toList.drop 163 = u207_7 := dk_seg s207_6 24 rfl rfl
theorem s207_8 : (prog_32_method_22_code).data.toList.drop 185 = u207_8 := dk_seg s207_7 22 rfl rfl
theorem Fm207 {pc len : Nat} {i : Instr} (h : decode (prog_32_method_22_code) pc = .ok (i, len)) (hl : len = ilen i len) : ft 207 pc = some (11, 4, 0, i, len) := ft_mk rfl h hl
theorem f207_0 : ft 207 0 = some (11, 4, 0, .aload_n 0, 1) := Fm207 (dk_42 (dk_at s207_0 0 rfl rfl)) rfl
theorem f207_1 : ft 207 1 = some (11, 4, 0, .getfield 155, 3) := Fm207 (dk_180 0 155 (dk_at s207_0 1 rfl rfl)) rfl
theorem f207_4 : ft 207 4 = some (11, 4, 0, .istore_n 3, 1) := Fm207 (dk_62 (dk_at s207_0 4 rfl rfl)) rfl
theorem f207_5 : ft 207 5 = some (11, 4, 0, .aload_n 0, 1) := Fm207 (dk_42 (dk_at s207_0 5 rfl rfl)) rfl
theorem f207_6 : ft 207 6 = some (11, 4, 0, .invokevirtual 167, 3) := Fm207 (dk_182 0 167 (dk_at s207_0 6 rfl rfl)) rfl
theorem f207_9 : ft 207 9 = some (11, 4, 0, .bipush 45, 2) := Fm207 (dk_16 45 (dk_at s207_0 9 rfl rfl)) rfl
theorem f207_11 : ft 207 11 = some (11, 4, 0, .if_icmp .ne 7, 3) := Fm207 (dk_160 0 7 (dk_at s207_0 11 rfl rfl)) rfl
theorem f207_14 : ft 207 14 = some (11, 4, 0, .iconst 1, 1) := Fm207 (dk_4 (dk_at s207_0 14 rfl rfl)) rfl
theorem f207_15 : ft 207 15 = some (11, 4, 0, .goto 4, 3) := Fm207 (dk_167 0 4 (dk_at s207_0 15 rfl rfl)) rfl
theorem f207_18 : ft 207 18 = some (11, 4, 0, .iconst 0, 1) := Fm207 (dk_3 (dk_at s207_0 18 rfl rfl)) rfl
theorem f207_19 : ft 207 19 = some (11, 4, 0, .istore 4, 2) := Fm207 (dk_54 4 (dk_at s207_0 19 rfl rfl)) rfl
theorem f207_21 : ft 207 21 = some (11, 4, 0, .iload 4, 2) := Fm207 (dk_21 4 (dk_at s207_0 21 rfl rfl)) rfl
theorem f207_23 : ft 207 23 = some (11, 4, 0, .ifCond .eq 13, 3) := Fm207 (dk_153 0 13 (dk_at s207_1 0 rfl rfl)) rfl
theorem f207_26 : ft 207 26 = some (11, 4, 0, .aload_n 0, 1) := Fm207 (dk_42 (dk_at s207_1 3 rfl rfl)) rfl
theorem f207_27 : ft 207 27 = some (11, 4, 0, .dup, 1) := Fm207 (dk_89 (dk_at s207_1 4 rfl rfl)) rfl
theorem f207_28 : ft 207 28 = some (11, 4, 0, .getfield 155, 3) := Fm207 (dk_180 0 155 (dk_at s207_1 5 rfl rfl)) rfl
theorem f207_31 : ft 207 31 = some (11, 4, 0, .iconst 1, 1) := Fm207 (dk_4 (dk_at s207_1 8 rfl rfl)) rfl
theorem f207_32 : ft 207 32 = some (11, 4, 0, .iadd, 1) := Fm207 (dk_96 (dk_at s207_1 9 rfl rfl)) rfl
theorem f207_33 : ft 207 33 = some (11, 4, 0, .putfield 155, 3) := Fm207 (dk_181 0 155 (dk_at s207_1 10 rfl rfl)) rfl
theorem f207_36 : ft 207 36 = some (11, 4, 0, .aload_n 0, 1) := Fm207 (dk_42 (dk_at s207_1 13 rfl rfl)) rfl
theorem f207_37 : ft 207 37 = some (11, 4, 0, .invokevirtual 167, 3) := Fm207 (dk_182 0 167 (dk_at s207_1 14 rfl rfl)) rfl
theorem f207_40 : ft 207 40 = some (11, 4, 0, .invokestatic 186, 3) := Fm207 (dk_184 0 186 (dk_at s207_1 17 rfl rfl)) rfl
theorem f207_43 : ft 207 43 = some (11, 4, 0, .ifCond .ne 12, 3) := Fm207 (dk_154 0 12 (dk_at s207_1 20 rfl rfl)) rfl
theorem f207_46 : ft 207 46 = some (11, 4, 0, .aload_n 0, 1) := Fm207 (dk_42 (dk_at s207_1 23 rfl rfl)) rfl
theorem f207_47 : ft 207 47 = some (11, 4, 0, .aload_n 0, 1) := Fm207 (dk_42 (dk_at s207_2 0 rfl rfl)) rfl
theorem f207_48 : ft 207 48 = some (11, 4, 0, .getfield 155, 3) := Fm207 (dk_180 0 155 (dk_at s207_2 1 rfl rfl)) rfl
theorem f207_51 : ft 207 51 = some (11, 4, 0, .invokevirtual 171, 3) := Fm207 (dk_182 0 171 (dk_at s207_2 4 rfl rfl)) rfl
theorem f207_54 : ft 207 54 = some (11, 4, 0, .ireturn, 1) := Fm207 (dk_172 (dk_at s207_2 7 rfl rfl)) rfl
theorem f207_55 : ft 207 55 = some (11, 4, 0, .lconst 0, 1) := Fm207 (dk_9 (dk_at s207_2 8 rfl rfl)) rfl
theorem f207_56 : ft 207 56 = some (11, 4, 0, .lstore 5, 2) := Fm207 (dk_55 5 (dk_at s207_2 9 rfl rfl)) rfl
theorem f207_58 : ft 207 58 = some (11, 4, 0, .aload_n 0, 1) := Fm207 (dk_42 (dk_at s207_2 11 rfl rfl)) rfl
theorem f207_59 : ft 207 59 = some (11, 4, 0, .invokevirtual 167, 3) := Fm207 (dk_182 0 167 (dk_at s207_2 12 rfl rfl)) rfl
theorem f207_62 : ft 207 62 = some (11, 4, 0, .bipush 48, 2) := Fm207 (dk_16 48 (dk_at s207_2 15 rfl rfl)) rfl
theorem f207_64 : ft 207 64 = some (11, 4, 0, .if_icmp .ne 16, 3) := Fm207 (dk_160 0 16 (dk_at s207_2 17 rfl rfl)) rfl
theorem f207_67 : ft 207 67 = some (11, 4, 0, .aload_n 0, 1) := Fm207 (dk_42 (dk_at s207_2 20 rfl rfl)) rfl
theorem f207_68 : ft 207 68 = some (11, 4, 0, .dup, 1) := Fm207 (dk_89 (dk_at s207_2 21 rfl rfl)) rfl
theorem f207_69 : ft 207 69 = some (11, 4, 0, .getfield 155, 3) := Fm207 (dk_180 0 155 (dk_at s207_3 0 rfl rfl)) rfl
theorem f207_72 : ft 207 72 = some (11, 4, 0, .iconst 1, 1) := Fm207 (dk_4 (dk_at s207_3 3 rfl rfl)) rfl
theorem f207_73 : ft 207 73 = some (11, 4, 0, .iadd, 1) := Fm207 (dk_96 (dk_at s207_3 4 rfl rfl)) rfl
theorem f207_74 : ft 207 74 = some (11, 4, 0, .putfield 155, 3) := Fm207 (dk_181 0 155 (dk_at s207_3 5 rfl rfl)) rfl
theorem f207_77 : ft 207 77 = some (11, 4, 0, .goto 53, 3) := Fm207 (dk_167 0 53 (dk_at s207_3 8 rfl rfl)) rfl
theorem f207_80 : ft 207 80 = some (11, 4, 0, .aload_n 0, 1) := Fm207 (dk_42 (dk_at s207_3 11 rfl rfl)) rfl
theorem f207_81 : ft 207 81 = some (11, 4, 0, .invokevirtual 167, 3) := Fm207 (dk_182 0 167 (dk_at s207_3 12 rfl rfl)) rfl
theorem f207_84 : ft 207 84 = some (11, 4, 0, .invokestatic 186, 3) := Fm207 (dk_184 0 186 (dk_at s207_3 15 rfl rfl)) rfl
theorem f207_87 : ft 207 87 = some (11, 4, 0, .ifCond .eq 43, 3) := Fm207 (dk_153 0 43 (dk_at s207_3 18 rfl rfl)) rfl
theorem f207_90 : ft 207 90 = some (11, 4, 0, .lload 5, 2) := Fm207 (dk_22 5 (dk_at s207_3 21 rfl rfl)) rfl
theorem f207_92 : ft 207 92 = some (11, 4, 0, .ldc2_w 235, 3) := Fm207 (dk_20 0 235 (dk_at s207_4 0 rfl rfl)) rfl
theorem f207_95 : ft 207 95 = some (11, 4, 0, .lcmp, 1) := Fm207 (dk_148 (dk_at s207_4 3 rfl rfl)) rfl
theorem f207_96 : ft 207 96 = some (11, 4, 0, .ifCond .gt 21, 3) := Fm207 (dk_157 0 21 (dk_at s207_4 4 rfl rfl)) rfl
theorem f207_99 : ft 207 99 = some (11, 4, 0, .ldc2_w 237, 3) := Fm207 (dk_20 0 237 (dk_at s207_4 7 rfl rfl)) rfl
theorem f207_102 : ft 207 102 = some (11, 4, 0, .lload 5, 2) := Fm207 (dk_22 5 (dk_at s207_4 10 rfl rfl)) rfl
theorem f207_104 : ft 207 104 = some (11, 4, 0, .lmul, 1) := Fm207 (dk_105 (dk_at s207_4 12 rfl rfl)) rfl
theorem f207_105 : ft 207 105 = some (11, 4, 0, .aload_n 0, 1) := Fm207 (dk_42 (dk_at s207_4 13 rfl rfl)) rfl
theorem f207_106 : ft 207 106 = some (11, 4, 0, .invokevirtual 167, 3) := Fm207 (dk_182 0 167 (dk_at s207_4 14 rfl rfl)) rfl
theorem f207_109 : ft 207 109 = some (11, 4, 0, .i2l, 1) := Fm207 (dk_133 (dk_at s207_4 17 rfl rfl)) rfl
theorem f207_110 : ft 207 110 = some (11, 4, 0, .ladd, 1) := Fm207 (dk_97 (dk_at s207_4 18 rfl rfl)) rfl
theorem f207_111 : ft 207 111 = some (11, 4, 0, .ldc2_w 239, 3) := Fm207 (dk_20 0 239 (dk_at s207_4 19 rfl rfl)) rfl
theorem f207_114 : ft 207 114 = some (11, 4, 0, .lsub, 1) := Fm207 (dk_101 (dk_at s207_4 22 rfl rfl)) rfl
theorem f207_115 : ft 207 115 = some (11, 4, 0, .lstore 5, 2) := Fm207 (dk_55 5 (dk_at s207_5 0 rfl rfl)) rfl
theorem f207_117 : ft 207 117 = some (11, 4, 0, .aload_n 0, 1) := Fm207 (dk_42 (dk_at s207_5 2 rfl rfl)) rfl
theorem f207_118 : ft 207 118 = some (11, 4, 0, .dup, 1) := Fm207 (dk_89 (dk_at s207_5 3 rfl rfl)) rfl
theorem f207_119 : ft 207 119 = some (11, 4, 0, .getfield 155, 3) := Fm207 (dk_180 0 155 (dk_at s207_5 4 rfl rfl)) rfl
theorem f207_122 : ft 207 122 = some (11, 4, 0, .iconst 1, 1) := Fm207 (dk_4 (dk_at s207_5 7 rfl rfl)) rfl
theorem f207_123 : ft 207 123 = some (11, 4, 0, .iadd, 1) := Fm207 (dk_96 (dk_at s207_5 8 rfl rfl)) rfl
theorem f207_124 : ft 207 124 = some (11, 4, 0, .putfield 155, 3) := Fm207 (dk_181 0 155 (dk_at s207_5 9 rfl rfl)) rfl
theorem f207_127 : ft 207 127 = some (11, 4, 0, .goto (-47), 3) := Fm207 (dk_167 255 209 (dk_at s207_5 12 rfl rfl)) rfl
theorem f207_130 : ft 207 130 = some (11, 4, 0, .lload 5, 2) := Fm207 (dk_22 5 (dk_at s207_5 15 rfl rfl)) rfl
theorem f207_132 : ft 207 132 = some (11, 4, 0, .ldc2_w 235, 3) := Fm207 (dk_20 0 235 (dk_at s207_5 17 rfl rfl)) rfl
theorem f207_135 : ft 207 135 = some (11, 4, 0, .lcmp, 1) := Fm207 (dk_148 (dk_at s207_5 20 rfl rfl)) rfl
theorem f207_136 : ft 207 136 = some (11, 4, 0, .ifCond .gt 30, 3) := Fm207 (dk_157 0 30 (dk_at s207_5 21 rfl rfl)) rfl
theorem f207_139 : ft 207 139 = some (11, 4, 0, .aload_n 0, 1) := Fm207 (dk_42 (dk_at s207_6 0 rfl rfl)) rfl
theorem f207_140 : ft 207 140 = some (11, 4, 0, .invokevirtual 167, 3) := Fm207 (dk_182 0 167 (dk_at s207_6 1 rfl rfl)) rfl
theorem f207_143 : ft 207 143 = some (11, 4, 0, .bipush 46, 2) := Fm207 (dk_16 46 (dk_at s207_6 4 rfl rfl)) rfl
theorem f207_145 : ft 207 145 = some (11, 4, 0, .if_icmp .eq 21, 3) := Fm207 (dk_159 0 21 (dk_at s207_6 6 rfl rfl)) rfl
theorem f207_148 : ft 207 148 = some (11, 4, 0, .aload_n 0, 1) := Fm207 (dk_42 (dk_at s207_6 9 rfl rfl)) rfl
theorem f207_149 : ft 207 149 = some (11, 4, 0, .invokevirtual 167, 3) := Fm207 (dk_182 0 167 (dk_at s207_6 10 rfl rfl)) rfl
theorem f207_152 : ft 207 152 = some (11, 4, 0, .bipush 101, 2) := Fm207 (dk_16 101 (dk_at s207_6 13 rfl rfl)) rfl
theorem f207_154 : ft 207 154 = some (11, 4, 0, .if_icmp .eq 12, 3) := Fm207 (dk_159 0 12 (dk_at s207_6 15 rfl rfl)) rfl
theorem f207_157 : ft 207 157 = some (11, 4, 0, .aload_n 0, 1) := Fm207 (dk_42 (dk_at s207_6 18 rfl rfl)) rfl
theorem f207_158 : ft 207 158 = some (11, 4, 0, .invokevirtual 167, 3) := Fm207 (dk_182 0 167 (dk_at s207_6 19 rfl rfl)) rfl
theorem f207_161 : ft 207 161 = some (11, 4, 0, .bipush 69, 2) := Fm207 (dk_16 69 (dk_at s207_6 22 rfl rfl)) rfl
theorem f207_163 : ft 207 163 = some (11, 4, 0, .if_icmp .ne 9, 3) := Fm207 (dk_160 0 9 (dk_at s207_7 0 rfl rfl)) rfl
theorem f207_166 : ft 207 166 = some (11, 4, 0, .aload_n 0, 1) := Fm207 (dk_42 (dk_at s207_7 3 rfl rfl)) rfl
theorem f207_167 : ft 207 167 = some (11, 4, 0, .iload_n 3, 1) := Fm207 (dk_29 (dk_at s207_7 4 rfl rfl)) rfl
theorem f207_168 : ft 207 168 = some (11, 4, 0, .invokevirtual 171, 3) := Fm207 (dk_182 0 171 (dk_at s207_7 5 rfl rfl)) rfl
theorem f207_171 : ft 207 171 = some (11, 4, 0, .ireturn, 1) := Fm207 (dk_172 (dk_at s207_7 8 rfl rfl)) rfl
theorem f207_172 : ft 207 172 = some (11, 4, 0, .aload_n 1, 1) := Fm207 (dk_43 (dk_at s207_7 9 rfl rfl)) rfl
theorem f207_173 : ft 207 173 = some (11, 4, 0, .getfield 7, 3) := Fm207 (dk_180 0 7 (dk_at s207_7 10 rfl rfl)) rfl
theorem f207_176 : ft 207 176 = some (11, 4, 0, .iload_n 2, 1) := Fm207 (dk_28 (dk_at s207_7 13 rfl rfl)) rfl
theorem f207_177 : ft 207 177 = some (11, 4, 0, .iload 4, 2) := Fm207 (dk_21 4 (dk_at s207_7 14 rfl rfl)) rfl
theorem f207_179 : ft 207 179 = some (11, 4, 0, .ifCond .eq 9, 3) := Fm207 (dk_153 0 9 (dk_at s207_7 16 rfl rfl)) rfl
theorem f207_182 : ft 207 182 = some (11, 4, 0, .lload 5, 2) := Fm207 (dk_22 5 (dk_at s207_7 19 rfl rfl)) rfl
theorem f207_184 : ft 207 184 = some (11, 4, 0, .lneg, 1) := Fm207 (dk_117 (dk_at s207_7 21 rfl rfl)) rfl
theorem f207_185 : ft 207 185 = some (11, 4, 0, .goto 5, 3) := Fm207 (dk_167 0 5 (dk_at s207_8 0 rfl rfl)) rfl
theorem f207_188 : ft 207 188 = some (11, 4, 0, .lload 5, 2) := Fm207 (dk_22 5 (dk_at s207_8 3 rfl rfl)) rfl
theorem f207_190 : ft 207 190 = some (11, 4, 0, .lastore, 1) := Fm207 (dk_80 (dk_at s207_8 5 rfl rfl)) rfl
theorem f207_191 : ft 207 191 = some (11, 4, 0, .iconst 1, 1) := Fm207 (dk_4 (dk_at s207_8 6 rfl rfl)) rfl
theorem f207_192 : ft 207 192 = some (11, 4, 0, .ireturn, 1) := Fm207 (dk_172 (dk_at s207_8 7 rfl rfl)) rfl
theorem q207 {d : Nat} {m : Mem} {a0 a1 a2 : Int} (hd : 0 < d) (hz : TZ m) : le2 (gd (tg m a0 = 11) <| nm (vl m a0 12) fun v2 => bI (cl (d - 1) 199 [pR a0] m) fun v1 m1 => if v1 = 45 then (if (1 : Int) = 0 then (rn d 207 36 [pR a0, pR a1, pI a2, pI v2, pI 1, pU, pU] [] m1) else rn d 207 36 [pR a0, pR a1, pI a2, pI v2, pI 1, pU, pU] [] (mst m1 a0 12 (w32 ((vl m1 a0 12) + 1)))) else if (0 : Int) = 0 then (rn d 207 36 [pR a0, pR a1, pI a2, pI v2, pI 0, pU, pU] [] m1) else rn d 207 36 [pR a0, pR a1, pI a2, pI v2, pI 0, pU, pU] [] (mst m1 a0 12 (w32 ((vl m1 a0 12) + 1)))) (cl d 207 [pR a0, pR a1, pI a2] m) := by
  refine q_in (n := 7) (L := [pR a0, pR a1, pI a2, pU, pU, pU, pU]) rfl rfl rfl ?_
  refine r_aln0 (p := 1) f207_0 rfl ?_
  refine le2_gd (fun h1 => ?_)
  refine r_gfI (f := 12) (p := 4) f207_1 rfl rfl rfl (Or.inl h1) rfl ?_
  refine r_nmI (fun v2 ev2 => ?_)
  refine r_isn3 (p := 5) f207_4 rfl rfl ?_
  refine r_aln0 (p := 6) f207_5 rfl ?_
  refine r_invI (p := 9) f207_6 rfl rfl rfl (Or.inl h1) hd (Nat.le_of_ble_eq_true rfl) rfl rfl rfl (fun _ => rfl) (fun v1 m1 c1 => ?_)
  have hz1 := z_k c1 hz
  refine r_bipush (p := 11) f207_9 rfl (pinD rfl rfl) ?_
  refine r_icne (t := 18) (p := 14) f207_11 (by decide) rfl rfl ?_ ?_
  · refine r_iconst (p := 15) f207_14 rfl (pinD rfl rfl) ?_
    refine r_goto (p := 19) f207_15 (by decide) rfl ?_
    refine r_isw4 (p := 21) f207_19 rfl rfl ?_
    refine r_ilw4 (p := 23) f207_21 rfl ?_
    refine r_ifeq (t := 36) (p := 26) f207_23 (by decide) rfl rfl ?_ ?_
    · exact le2_refl _
    · refine r_aln0 (p := 27) f207_26 rfl ?_
      refine r_dup (p := 28) f207_27 rfl rfl ?_
      have h3 := k_t1 c1 hz h1 (by decide)
      refine r_gfI (f := 12) (p := 31) f207_28 rfl rfl rfl (Or.inl h3) rfl ?_
      refine r_iconst (p := 32) f207_31 rfl (pinD rfl rfl) ?_
      refine r_iadd (p := 33) f207_32 rfl ?_
      refine r_pfI (f := 12) (p := 36) f207_33 rfl rfl rfl (by decide) (by decide) (Or.inl h3) rfl ?_
      exact le2_refl _
  · refine r_iconst (p := 19) f207_18 rfl (pinD rfl rfl) ?_
    refine r_isw4 (p := 21) f207_19 rfl rfl ?_
    refine r_ilw4 (p := 23) f207_21 rfl ?_
    refine r_ifeq (t := 36) (p := 26) f207_23 (by decide) rfl rfl ?_ ?_
    · exact le2_refl _
    · refine r_aln0 (p := 27) f207_26 rfl ?_
      refine r_dup (p := 28) f207_27 rfl rfl ?_
      have h2 := k_t1 c1 hz h1 (by decide)
      refine r_gfI (f := 12) (p := 31) f207_28 rfl rfl rfl (Or.inl h2) rfl ?_
      refine r_iconst (p := 32) f207_31 rfl (pinD rfl rfl) ?_
      refine r_iadd (p := 33) f207_32 rfl ?_
      refine r_pfI (f := 12) (p := 36) f207_33 rfl rfl rfl (by decide) (by decide) (Or.inl h2) rfl ?_
      exact le2_refl _
theorem q207_36 {d : Nat} {m : Mem} {a0 a1 a2 a3 a4 : Int} (hd : 0 < d) (hz : TZ m) : le2 (gd (tg m a0 = 11) <| bI (cl (d - 1) 199 [pR a0] m) fun v1 m1 => bI (cl (d - 1) 206 [pI v1] m1) fun v2 m2 => if v2 = 0 then (bI (cl (d - 1) 202 [pR a0, pI (vl m2 a0 12)] m2) fun v4 m4 => gd (v4 = 0 ∨ v4 = 1) <| some (.inl (some (pI v4)), m4)) else bI (cl (d - 1) 199 [pR a0] m2) fun v3 m3 => if v3 = 48 then (rn d 207 130 [pR a0, pR a1, pI a2, pI a3, pI a4, pL 0, pU] [] (mst m3 a0 12 (w32 ((vl m3 a0 12) + 1)))) else rn d 207 80 [pR a0, pR a1, pI a2, pI a3, pI a4, pL 0, pU] [] m3) (rn d 207 36 [pR a0, pR a1, pI a2, pI a3, pI a4, pU, pU] [] m) := by
  refine r_aln0 (p := 37) f207_36 rfl ?_
  refine le2_gd (fun h1 => ?_)
  refine r_invI (p := 40) f207_37 rfl rfl rfl (Or.inl h1) hd (Nat.le_of_ble_eq_true rfl) rfl rfl rfl (fun _ => rfl) (fun v1 m1 c1 => ?_)
  have hz1 := z_k c1 hz
  refine r_istI (p := 43) f207_40 rfl rfl rfl hd (Nat.le_of_ble_eq_true rfl) rfl rfl rfl (fun _ => rfl) (fun v2 m2 c2 => ?_)
  have hz2 := z_k c2 hz1
  refine r_ifne (t := 55) (p := 46) f207_43 (by decide) rfl rfl ?_ ?_
  · refine r_aln0 (p := 47) f207_46 rfl ?_
    refine r_aln0 (p := 48) f207_47 rfl ?_
    have h5 := k_t1 c1 hz h1 (by decide)
    have h6 := k_t1 c2 hz1 h5 (by decide)
    refine r_gfI (f := 12) (p := 51) f207_48 rfl rfl rfl (Or.inl h6) rfl ?_
    refine r_invI (p := 54) f207_51 rfl rfl rfl (Or.inl h6) hd (Nat.le_of_ble_eq_true rfl) rfl rfl rfl (fun _ => rfl) (fun v4 m4 c4 => ?_)
    have hz4 := z_k c4 hz2
    refine le2_gd (fun h7 => ?_)
    exact r_iret4 f207_54 h7
  · refine r_lconst0 (p := 56) f207_55 rfl ?_
    refine r_lsw5 (p := 58) f207_56 rfl rfl ?_
    refine r_aln0 (p := 59) f207_58 rfl ?_
    have h2 := k_t1 c1 hz h1 (by decide)
    have h3 := k_t1 c2 hz1 h2 (by decide)
    refine r_invI (p := 62) f207_59 rfl rfl rfl (Or.inl h3) hd (Nat.le_of_ble_eq_true rfl) rfl rfl rfl (fun _ => rfl) (fun v3 m3 c3 => ?_)
    have hz3 := z_k c3 hz2
    refine r_bipush (p := 64) f207_62 rfl (pinD rfl rfl) ?_
    refine r_icne (t := 80) (p := 67) f207_64 (by decide) rfl rfl ?_ ?_
    · refine r_aln0 (p := 68) f207_67 rfl ?_
      refine r_dup (p := 69) f207_68 rfl rfl ?_
      have h4 := k_t1 c3 hz2 h3 (by decide)
      refine r_gfI (f := 12) (p := 72) f207_69 rfl rfl rfl (Or.inl h4) rfl ?_
      refine r_iconst (p := 73) f207_72 rfl (pinD rfl rfl) ?_
      refine r_iadd (p := 74) f207_73 rfl ?_
      refine r_pfI (f := 12) (p := 77) f207_74 rfl rfl rfl (by decide) (by decide) (Or.inl h4) rfl ?_
      refine r_goto (p := 130) f207_77 (by decide) rfl ?_
      exact le2_refl _
    · exact le2_refl _
theorem q207_80 {d : Nat} {m : Mem} {a0 a1 a2 a3 a4 a5 : Int} (hd : 0 < d) (hz : TZ m) : le2 (gd (tg m a0 = 11) <| bI (cl (d - 1) 199 [pR a0] m) fun v1 m1 => bI (cl (d - 1) 206 [pI v1] m1) fun v2 m2 => if v2 = 0 then (rn d 207 130 [pR a0, pR a1, pI a2, pI a3, pI a4, pL a5, pU] [] m2) else if 9007199254740991 < a5 then (rn d 207 80 [pR a0, pR a1, pI a2, pI a3, pI a4, pL a5, pU] [] (mst m2 a0 12 (w32 ((vl m2 a0 12) + 1)))) else bI (cl (d - 1) 199 [pR a0] m2) fun v3 m3 => rn d 207 80 [pR a0, pR a1, pI a2, pI a3, pI a4, pL (w64 ((w64 ((w64 (10 * a5)) + v3)) - 48)), pU] [] (mst m3 a0 12 (w32 ((vl m3 a0 12) + 1)))) (rn d 207 80 [pR a0, pR a1, pI a2, pI a3, pI a4, pL a5, pU] [] m) := by
  refine r_aln0 (p := 81) f207_80 rfl ?_
  refine le2_gd (fun h1 => ?_)
  refine r_invI (p := 84) f207_81 rfl rfl rfl (Or.inl h1) hd (Nat.le_of_ble_eq_true rfl) rfl rfl rfl (fun _ => rfl) (fun v1 m1 c1 => ?_)
  have hz1 := z_k c1 hz
  refine r_istI (p := 87) f207_84 rfl rfl rfl hd (Nat.le_of_ble_eq_true rfl) rfl rfl rfl (fun _ => rfl) (fun v2 m2 c2 => ?_)
  have hz2 := z_k c2 hz1
  refine r_ifeq (t := 130) (p := 90) f207_87 (by decide) rfl rfl ?_ ?_
  · exact le2_refl _
  · refine r_llw5 (p := 92) f207_90 rfl ?_
    refine r_ldc2 (p := 95) f207_92 rfl rfl (pinD rfl rfl) ?_
    refine r_lcgt (p1 := 96) (t := 117) (p := 99) f207_95 rfl f207_96 (by decide) rfl rfl ?_ ?_
    · refine r_aln0 (p := 118) f207_117 rfl ?_
      refine r_dup (p := 119) f207_118 rfl rfl ?_
      have h2 := k_t1 c1 hz h1 (by decide)
      have h3 := k_t1 c2 hz1 h2 (by decide)
      refine r_gfI (f := 12) (p := 122) f207_119 rfl rfl rfl (Or.inl h3) rfl ?_
      refine r_iconst (p := 123) f207_122 rfl (pinD rfl rfl) ?_
      refine r_iadd (p := 124) f207_123 rfl ?_
      refine r_pfI (f := 12) (p := 127) f207_124 rfl rfl rfl (by decide) (by decide) (Or.inl h3) rfl ?_
      refine r_goto (p := 80) f207_127 (by decide) rfl ?_
      exact le2_refl _
    · refine r_ldc2 (p := 102) f207_99 rfl rfl (pinD rfl rfl) ?_
      refine r_llw5 (p := 104) f207_102 rfl ?_
      refine r_lmul (p := 105) f207_104 rfl ?_
      refine r_aln0 (p := 106) f207_105 rfl ?_
      have h4 := k_t1 c1 hz h1 (by decide)
      have h5 := k_t1 c2 hz1 h4 (by decide)
      refine r_invI (p := 109) f207_106 rfl rfl rfl (Or.inl h5) hd (Nat.le_of_ble_eq_true rfl) rfl rfl rfl (fun _ => rfl) (fun v3 m3 c3 => ?_)
      have hz3 := z_k c3 hz2
      refine r_i2l (p := 110) f207_109 rfl ?_
      refine r_ladd (p := 111) f207_110 rfl ?_
      refine r_ldc2 (p := 114) f207_111 rfl rfl (pinD rfl rfl) ?_
      refine r_lsub (p := 115) f207_114 rfl ?_
      refine r_lsw5 (p := 117) f207_115 rfl rfl ?_
      refine r_aln0 (p := 118) f207_117 rfl ?_
      refine r_dup (p := 119) f207_118 rfl rfl ?_
      have h6 := k_t1 c3 hz2 h5 (by decide)
      refine r_gfI (f := 12) (p := 122) f207_119 rfl rfl rfl (Or.inl h6) rfl ?_
      refine r_iconst (p := 123) f207_122 rfl (pinD rfl rfl) ?_
      refine r_iadd (p := 124) f207_123 rfl ?_
      refine r_pfI (f := 12) (p := 127) f207_124 rfl rfl rfl (by decide) (by decide) (Or.inl h6) rfl ?_
      refine r_goto (p := 80) f207_127 (by decide) rfl ?_
      exact le2_refl _
theorem q207_130 {d : Nat} {m : Mem} {a0 a1 a2 a3 a4 a5 : Int} (hd : 0 < d) (hz : TZ m) : le2 (if 9007199254740991 < a5 then (gd (tg m a0 = 11) <| bI (cl (d - 1) 202 [pR a0, pI a3] m) fun v1 m1 => gd (v1 = 0 ∨ v1 = 1) <| some (.inl (some (pI v1)), m1)) else gd (tg m a0 = 11) <| bI (cl (d - 1) 199 [pR a0] m) fun v2 m2 => if v2 = 46 then (bI (cl (d - 1) 202 [pR a0, pI a3] m2) fun v3 m3 => gd (v3 = 0 ∨ v3 = 1) <| some (.inl (some (pI v3)), m3)) else bI (cl (d - 1) 199 [pR a0] m2) fun v4 m4 => if v4 = 101 then (bI (cl (d - 1) 202 [pR a0, pI a3] m4) fun v5 m5 => gd (v5 = 0 ∨ v5 = 1) <| some (.inl (some (pI v5)), m5)) else bI (cl (d - 1) 199 [pR a0] m4) fun v6 m6 => if v6 = 69 then (bI (cl (d - 1) 202 [pR a0, pI a3] m6) fun v7 m7 => gd (v7 = 0 ∨ v7 = 1) <| some (.inl (some (pI v7)), m7)) else gd (tg m6 a1 = 13) <| nm (vl m6 a1 1) fun v8 => if a4 = 0 then (gd (tg m6 v8 = 284102 ∨ tg m6 v8 = 286102) <| gd ((0 : Int) ≤ a2 ∧ a2 < ln m6 v8) <| some (.inl (some (pI 1)), (mst m6 v8 a2 a5))) else gd (tg m6 v8 = 284102 ∨ tg m6 v8 = 286102) <| gd ((0 : Int) ≤ a2 ∧ a2 < ln m6 v8) <| some (.inl (some (pI 1)), (mst m6 v8 a2 (w64 (-a5))))) (rn d 207 130 [pR a0, pR a1, pI a2, pI a3, pI a4, pL a5, pU] [] m) := by
  refine r_llw5 (p := 132) f207_130 rfl ?_
  refine r_ldc2 (p := 135) f207_132 rfl rfl (pinD rfl rfl) ?_
  refine r_lcgt (p1 := 136) (t := 166) (p := 139) f207_135 rfl f207_136 (by decide) rfl rfl ?_ ?_
  · refine r_aln0 (p := 167) f207_166 rfl ?_
    refine r_iln3 (p := 168) f207_167 rfl ?_
    refine le2_gd (fun h1 => ?_)
    refine r_invI (p := 171) f207_168 rfl rfl rfl (Or.inl h1) hd (Nat.le_of_ble_eq_true rfl) rfl rfl rfl (fun _ => rfl) (fun v1 m1 c1 => ?_)
    have hz1 := z_k c1 hz
    refine le2_gd (fun h2 => ?_)
    exact r_iret4 f207_171 h2
  · refine r_aln0 (p := 140) f207_139 rfl ?_
    refine le2_gd (fun h3 => ?_)
    refine r_invI (p := 143) f207_140 rfl rfl rfl (Or.inl h3) hd (Nat.le_of_ble_eq_true rfl) rfl rfl rfl (fun _ => rfl) (fun v2 m2 c2 => ?_)
    have hz2 := z_k c2 hz
    refine r_bipush (p := 145) f207_143 rfl (pinD rfl rfl) ?_
    refine r_iceq (t := 166) (p := 148) f207_145 (by decide) rfl rfl ?_ ?_
    · refine r_aln0 (p := 167) f207_166 rfl ?_
      refine r_iln3 (p := 168) f207_167 rfl ?_
      have h4 := k_t1 c2 hz h3 (by decide)
      refine r_invI (p := 171) f207_168 rfl rfl rfl (Or.inl h4) hd (Nat.le_of_ble_eq_true rfl) rfl rfl rfl (fun _ => rfl) (fun v3 m3 c3 => ?_)
      have hz3 := z_k c3 hz2
      refine le2_gd (fun h5 => ?_)
      exact r_iret4 f207_171 h5
    · refine r_aln0 (p := 149) f207_148 rfl ?_
      have h6 := k_t1 c2 hz h3 (by decide)
      refine r_invI (p := 152) f207_149 rfl rfl rfl (Or.inl h6) hd (Nat.le_of_ble_eq_true rfl) rfl rfl rfl (fun _ => rfl) (fun v4 m4 c4 => ?_)
      have hz4 := z_k c4 hz2
      refine r_bipush (p := 154) f207_152 rfl (pinD rfl rfl) ?_
      refine r_iceq (t := 166) (p := 157) f207_154 (by decide) rfl rfl ?_ ?_
      · refine r_aln0 (p := 167) f207_166 rfl ?_
        refine r_iln3 (p := 168) f207_167 rfl ?_
        have h7 := k_t1 c4 hz2 h6 (by decide)
        refine r_invI (p := 171) f207_168 rfl rfl rfl (Or.inl h7) hd (Nat.le_of_ble_eq_true rfl) rfl rfl rfl (fun _ => rfl) (fun v5 m5 c5 => ?_)
        have hz5 := z_k c5 hz4
        refine le2_gd (fun h8 => ?_)
        exact r_iret4 f207_171 h8
      · refine r_aln0 (p := 158) f207_157 rfl ?_
        have h9 := k_t1 c4 hz2 h6 (by decide)
        refine r_invI (p := 161) f207_158 rfl rfl rfl (Or.inl h9) hd (Nat.le_of_ble_eq_true rfl) rfl rfl rfl (fun _ => rfl) (fun v6 m6 c6 => ?_)
        have hz6 := z_k c6 hz4
        refine r_bipush (p := 163) f207_161 rfl (pinD rfl rfl) ?_
        refine r_icne (t := 172) (p := 166) f207_163 (by decide) rfl rfl ?_ ?_
        · refine r_aln0 (p := 167) f207_166 rfl ?_
          refine r_iln3 (p := 168) f207_167 rfl ?_
          have h15 := k_t1 c6 hz4 h9 (by decide)
          refine r_invI (p := 171) f207_168 rfl rfl rfl (Or.inl h15) hd (Nat.le_of_ble_eq_true rfl) rfl rfl rfl (fun _ => rfl) (fun v7 m7 c7 => ?_)
          have hz7 := z_k c7 hz6
          refine le2_gd (fun h16 => ?_)
          exact r_iret4 f207_171 h16
        · refine r_aln1 (p := 173) f207_172 rfl ?_
          refine le2_gd (fun h10 => ?_)
          refine r_gfR (f := 1) (p := 176) f207_173 rfl rfl rfl (Or.inl h10) rfl ?_
          refine r_nmR (fun v8 ev8 => ?_)
          refine r_iln2 (p := 177) f207_176 rfl ?_
          refine r_ilw4 (p := 179) f207_177 rfl ?_
          refine r_ifeq (t := 188) (p := 182) f207_179 (by decide) rfl rfl ?_ ?_
          · refine r_llw5 (p := 190) f207_188 rfl ?_
            refine le2_gd (fun h11 => ?_)
            refine le2_gd (fun h12 => ?_)
            refine r_lastore (p := 191) f207_190 rfl (dj2 (fun x => 1000 ≤ x ∧ x % 1000 = 102 ∧ Nat.testBit (eM 207) (bix x 0) = true) h11 (by decide) (by decide)) h12 ?_
            refine r_iconst (p := 192) f207_191 rfl (pinD rfl rfl) ?_
            exact r_iret4 f207_192 (by decide)
          · refine r_llw5 (p := 184) f207_182 rfl ?_
            refine r_lneg (p := 185) f207_184 rfl ?_
            refine r_goto (p := 190) f207_185 (by decide) rfl ?_
            refine le2_gd (fun h13 => ?_)
            refine le2_gd (fun h14 => ?_)
            refine r_lastore (p := 191) f207_190 rfl (dj2 (fun x => 1000 ≤ x ∧ x % 1000 = 102 ∧ Nat.testBit (eM 207) (bix x 0) = true) h13 (by decide) (by decide)) h14 ?_
            refine r_iconst (p := 192) f207_191 rfl (pinD rfl rfl) ?_
            exact r_iret4 f207_192 (by decide)
/-! 208 PathStoreModel.inside (LPathStoreModel$Tree;III)Z -/
def w208_9 : List UInt8 := [181, 0, 155, 4, 172, 42, 16, 44, 182, 0, 183, 154, 0, 5, 3, 172, 167, 255, 66]
abbrev u208_9 : List UInt8 := w208_9 ++ []
def w208_8 : List UInt8 := [182, 0, 245, 21, 8, 54, 5, 42, 182, 0, 167, 21, 4, 160, 0, 15, 42, 89, 180, 0, 155, 4, 96]
abbrev u208_8 : List UInt8 := w208_8 ++ u208_9
def w208_7 : List UInt8 := [180, 0, 31, 21, 8, 21, 6, 79, 43, 180, 0, 34, 21, 8, 21, 7, 79, 43, 28, 21, 5, 21, 8]
abbrev u208_7 : List UInt8 := w208_7 ++ u208_8
def w208_6 : List UInt8 := [4, 96, 182, 0, 241, 54, 8, 21, 8, 156, 0, 5, 3, 172, 21, 4, 16, 125, 160, 0, 21, 43]
abbrev u208_6 : List UInt8 := w208_6 ++ u208_7
def w208_5 : List UInt8 := [21, 8, 182, 0, 171, 172, 42, 182, 0, 204, 42, 16, 58, 182, 0, 183, 154, 0, 5, 3, 172, 42, 43, 29]
abbrev u208_5 : List UInt8 := w208_5 ++ u208_6
def w208_4 : List UInt8 := [172, 43, 180, 0, 224, 21, 6, 100, 54, 7, 43, 28, 43, 21, 6, 21, 7, 182, 0, 37, 155, 0, 10, 42]
abbrev u208_4 : List UInt8 := w208_4 ++ u208_5
def w208_3 : List UInt8 := [180, 0, 155, 182, 0, 171, 172, 43, 180, 0, 224, 54, 6, 42, 16, 34, 43, 182, 0, 220, 154, 0, 5, 3]
abbrev u208_3 : List UInt8 := w208_3 ++ u208_4
def w208_2 : List UInt8 := [160, 0, 93, 42, 182, 0, 204, 42, 180, 0, 155, 54, 8, 42, 182, 0, 167, 16, 34, 159, 0, 12, 42, 42]
abbrev u208_2 : List UInt8 := w208_2 ++ u208_3
def w208_1 : List UInt8 := [89, 180, 0, 155, 4, 96, 181, 0, 155, 4, 172, 2, 54, 5, 3, 54, 6, 3, 54, 7, 21, 4, 16, 125]
abbrev u208_1 : List UInt8 := w208_1 ++ u208_2
def w208_0 : List UInt8 := [42, 89, 180, 0, 155, 4, 96, 181, 0, 155, 42, 182, 0, 204, 42, 182, 0, 167, 21, 4, 160, 0, 15, 42]
abbrev u208_0 : List UInt8 := w208_0 ++ u208_1
theorem s208_0 : (prog_32_method_23_code).data.toList.drop 0 = u208_0 := by decide +kernel
theorem s208_1 : (prog_32_method_23_code).data.toList.drop 24 = u208_1 := dk_seg s208_0 24 rfl rfl
theorem s208_2 : (prog_32_method_23_code).data.toList.drop 48 = u208_2 := dk_seg s208_1 24 rfl rfl
theorem s208_3 : (prog_32_method_23_code).data.toList.drop 72 = u208_3 := dk_seg s208_2 24 rfl rfl
theorem s208_4 : (prog_32_method_23_code).data.toList.drop 96 = u208_4 := dk_seg s208_3 24 rfl rfl
theorem s208_5 : (prog_32_method_23_code).data.toList.drop 120 = u208_5 := dk_seg s208_4 24 rfl rfl
theorem s208_6 : (prog_32_method_23_code).data.toList.drop 144 = u208_6 := dk_seg s208_5 24 rfl rfl
theorem s208_7 : (prog_32_method_23_code).data.toList.drop 166 = u208_7 := dk_seg s208_6 22 rfl rfl
theorem s208_8 : (prog_32_method_23_code).data.toList.drop 189 = u208_8 := dk_seg s208_7 23 rfl rfl
theorem s208_9 : (prog_32_method_23_code).data.toList.drop 212 = u208_9 := dk_seg s208_8 23 rfl rfl
theorem Fm208 {pc len : Nat} {i : Instr} (h : decode (prog_32_method_23_code) pc = .ok (i, len)) (hl : len = ilen i len) : ft 208 pc = some (11, 4, 0, i, len) := ft_mk rfl h hl
theorem f208_0 : ft 208 0 = some (11, 4, 0, .aload_n 0, 1) := Fm208 (dk_42 (dk_at s208_0 0 rfl rfl)) rfl
theorem f208_1 : ft 208 1 = some (11, 4, 0, .dup, 1) := Fm208 (dk_89 (dk_at s208_0 1 rfl rfl)) rfl
theorem f208_2 : ft 208 2 = some (11, 4, 0, .getfield 155, 3) := Fm208 (dk_180 0 155 (dk_at s208_0 2 rfl rfl)) rfl
theorem f208_5 : ft 208 5 = some (11, 4, 0, .iconst 1, 1) := Fm208 (dk_4 (dk_at s208_0 5 rfl rfl)) rfl
theorem f208_6 : ft 208 6 = some (11, 4, 0, .iadd, 1) := Fm208 (dk_96 (dk_at s208_0 6 rfl rfl)) rfl
theorem f208_7 : ft 208 7 = some (11, 4, 0, .putfield 155, 3) := Fm208 (dk_181 0 155 (dk_at s208_0 7 rfl rfl)) rfl
theorem f208_10 : ft 208 10 = some (11, 4, 0, .aload_n 0, 1) := Fm208 (dk_42 (dk_at s208_0 10 rfl rfl)) rfl
theorem f208_11 : ft 208 11 = some (11, 4, 0, .invokevirtual 204, 3) := Fm208 (dk_182 0 204 (dk_at s208_0 11 rfl rfl)) rfl
theorem f208_14 : ft 208 14 = some (11, 4, 0, .aload_n 0, 1) := Fm208 (dk_42 (dk_at s208_0 14 rfl rfl)) rfl
theorem f208_15 : ft 208 15 = some (11, 4, 0, .invokevirtual 167, 3) := Fm208 (dk_182 0 167 (dk_at s208_0 15 rfl rfl)) rfl
theorem f208_18 : ft 208 18 = some (11, 4, 0, .iload 4, 2) := Fm208 (dk_21 4 (dk_at s208_0 18 rfl rfl)) rfl
theorem f208_20 : ft 208 20 = some (11, 4, 0, .if_icmp .ne 15, 3) := Fm208 (dk_160 0 15 (dk_at s208_0 20 rfl rfl)) rfl
theorem f208_23 : ft 208 23 = some (11, 4, 0, .aload_n 0, 1) := Fm208 (dk_42 (dk_at s208_0 23 rfl rfl)) rfl
theorem f208_24 : ft 208 24 = some (11, 4, 0, .dup, 1) := Fm208 (dk_89 (dk_at s208_1 0 rfl rfl)) rfl
theorem f208_25 : ft 208 25 = some (11, 4, 0, .getfield 155, 3) := Fm208 (dk_180 0 155 (dk_at s208_1 1 rfl rfl)) rfl
theorem f208_28 : ft 208 28 = some (11, 4, 0, .iconst 1, 1) := Fm208 (dk_4 (dk_at s208_1 4 rfl rfl)) rfl
theorem f208_29 : ft 208 29 = some (11, 4, 0, .iadd, 1) := Fm208 (dk_96 (dk_at s208_1 5 rfl rfl)) rfl
theorem f208_30 : ft 208 30 = some (11, 4, 0, .putfield 155, 3) := Fm208 (dk_181 0 155 (dk_at s208_1 6 rfl rfl)) rfl
theorem f208_33 : ft 208 33 = some (11, 4, 0, .iconst 1, 1) := Fm208 (dk_4 (dk_at s208_1 9 rfl rfl)) rfl
theorem f208_34 : ft 208 34 = some (11, 4, 0, .ireturn, 1) := Fm208 (dk_172 (dk_at s208_1 10 rfl rfl)) rfl
theorem f208_35 : ft 208 35 = some (11, 4, 0, .iconst (-1), 1) := Fm208 (dk_2 (dk_at s208_1 11 rfl rfl)) rfl
theorem f208_36 : ft 208 36 = some (11, 4, 0, .istore 5, 2) := Fm208 (dk_54 5 (dk_at s208_1 12 rfl rfl)) rfl
theorem f208_38 : ft 208 38 = some (11, 4, 0, .iconst 0, 1) := Fm208 (dk_3 (dk_at s208_1 14 rfl rfl)) rfl
theorem f208_39 : ft 208 39 = some (11, 4, 0, .istore 6, 2) := Fm208 (dk_54 6 (dk_at s208_1 15 rfl rfl)) rfl
theorem f208_41 : ft 208 41 = some (11, 4, 0, .iconst 0, 1) := Fm208 (dk_3 (dk_at s208_1 17 rfl rfl)) rfl
theorem f208_42 : ft 208 42 = some (11, 4, 0, .istore 7, 2) := Fm208 (dk_54 7 (dk_at s208_1 18 rfl rfl)) rfl
theorem f208_44 : ft 208 44 = some (11, 4, 0, .iload 4, 2) := Fm208 (dk_21 4 (dk_at s208_1 20 rfl rfl)) rfl
theorem f208_46 : ft 208 46 = some (11, 4, 0, .bipush 125, 2) := Fm208 (dk_16 125 (dk_at s208_1 22 rfl rfl)) rfl
theorem f208_48 : ft 208 48 = some (11, 4, 0, .if_icmp .ne 93, 3) := Fm208 (dk_160 0 93 (dk_at s208_2 0 rfl rfl)) rfl
theorem f208_51 : ft 208 51 = some (11, 4, 0, .aload_n 0, 1) := Fm208 (dk_42 (dk_at s208_2 3 rfl rfl)) rfl
theorem f208_52 : ft 208 52 = some (11, 4, 0, .invokevirtual 204, 3) := Fm208 (dk_182 0 204 (dk_at s208_2 4 rfl rfl)) rfl
theorem f208_55 : ft 208 55 = some (11, 4, 0, .aload_n 0, 1) := Fm208 (dk_42 (dk_at s208_2 7 rfl rfl)) rfl
theorem f208_56 : ft 208 56 = some (11, 4, 0, .getfield 155, 3) := Fm208 (dk_180 0 155 (dk_at s208_2 8 rfl rfl)) rfl
theorem f208_59 : ft 208 59 = some (11, 4, 0, .istore 8, 2) := Fm208 (dk_54 8 (dk_at s208_2 11 rfl rfl)) rfl
theorem f208_61 : ft 208 61 = some (11, 4, 0, .aload_n 0, 1) := Fm208 (dk_42 (dk_at s208_2 13 rfl rfl)) rfl
theorem f208_62 : ft 208 62 = some (11, 4, 0, .invokevirtual 167, 3) := Fm208 (dk_182 0 167 (dk_at s208_2 14 rfl rfl)) rfl
theorem f208_65 : ft 208 65 = some (11, 4, 0, .bipush 34, 2) := Fm208 (dk_16 34 (dk_at s208_2 17 rfl rfl)) rfl
theorem f208_67 : ft 208 67 = some (11, 4, 0, .if_icmp .eq 12, 3) := Fm208 (dk_159 0 12 (dk_at s208_2 19 rfl rfl)) rfl
theorem f208_70 : ft 208 70 = some (11, 4, 0, .aload_n 0, 1) := Fm208 (dk_42 (dk_at s208_2 22 rfl rfl)) rfl
theorem f208_71 : ft 208 71 = some (11, 4, 0, .aload_n 0, 1) := Fm208 (dk_42 (dk_at s208_2 23 rfl rfl)) rfl
theorem f208_72 : ft 208 72 = some (11, 4, 0, .getfield 155, 3) := Fm208 (dk_180 0 155 (dk_at s208_3 0 rfl rfl)) rfl
theorem f208_75 : ft 208 75 = some (11, 4, 0, .invokevirtual 171, 3) := Fm208 (dk_182 0 171 (dk_at s208_3 3 rfl rfl)) rfl
theorem f208_78 : ft 208 78 = some (11, 4, 0, .ireturn, 1) := Fm208 (dk_172 (dk_at s208_3 6 rfl rfl)) rfl
theorem f208_79 : ft 208 79 = some (11, 4, 0, .aload_n 1, 1) := Fm208 (dk_43 (dk_at s208_3 7 rfl rfl)) rfl
theorem f208_80 : ft 208 80 = some (11, 4, 0, .getfield 224, 3) := Fm208 (dk_180 0 224 (dk_at s208_3 8 rfl rfl)) rfl
theorem f208_83 : ft 208 83 = some (11, 4, 0, .istore 6, 2) := Fm208 (dk_54 6 (dk_at s208_3 11 rfl rfl)) rfl
theorem f208_85 : ft 208 85 = some (11, 4, 0, .aload_n 0, 1) := Fm208 (dk_42 (dk_at s208_3 13 rfl rfl)) rfl
theorem f208_86 : ft 208 86 = some (11, 4, 0, .bipush 34, 2) := Fm208 (dk_16 34 (dk_at s208_3 14 rfl rfl)) rfl
theorem f208_88 : ft 208 88 = some (11, 4, 0, .aload_n 1, 1) := Fm208 (dk_43 (dk_at s208_3 16 rfl rfl)) rfl
theorem f208_89 : ft 208 89 = some (11, 4, 0, .invokevirtual 220, 3) := Fm208 (dk_182 0 220 (dk_at s208_3 17 rfl rfl)) rfl
theorem f208_92 : ft 208 92 = some (11, 4, 0, .ifCond .ne 5, 3) := Fm208 (dk_154 0 5 (dk_at s208_3 20 rfl rfl)) rfl
theorem f208_95 : ft 208 95 = some (11, 4, 0, .iconst 0, 1) := Fm208 (dk_3 (dk_at s208_3 23 rfl rfl)) rfl
theorem f208_96 : ft 208 96 = some (11, 4, 0, .ireturn, 1) := Fm208 (dk_172 (dk_at s208_4 0 rfl rfl)) rfl
theorem f208_97 : ft 208 97 = some (11, 4, 0, .aload_n 1, 1) := Fm208 (dk_43 (dk_at s208_4 1 rfl rfl)) rfl
theorem f208_98 : ft 208 98 = some (11, 4, 0, .getfield 224, 3) := Fm208 (dk_180 0 224 (dk_at s208_4 2 rfl rfl)) rfl
theorem f208_101 : ft 208 101 = some (11, 4, 0, .iload 6, 2) := Fm208 (dk_21 6 (dk_at s208_4 5 rfl rfl)) rfl
theorem f208_103 : ft 208 103 = some (11, 4, 0, .isub, 1) := Fm208 (dk_100 (dk_at s208_4 7 rfl rfl)) rfl
theorem f208_104 : ft 208 104 = some (11, 4, 0, .istore 7, 2) := Fm208 (dk_54 7 (dk_at s208_4 8 rfl rfl)) rfl
theorem f208_106 : ft 208 106 = some (11, 4, 0, .aload_n 1, 1) := Fm208 (dk_43 (dk_at s208_4 10 rfl rfl)) rfl
theorem f208_107 : ft 208 107 = some (11, 4, 0, .iload_n 2, 1) := Fm208 (dk_28 (dk_at s208_4 11 rfl rfl)) rfl
theorem f208_108 : ft 208 108 = some (11, 4, 0, .aload_n 1, 1) := Fm208 (dk_43 (dk_at s208_4 12 rfl rfl)) rfl
theorem f208_109 : ft 208 109 = some (11, 4, 0, .iload 6, 2) := Fm208 (dk_21 6 (dk_at s208_4 13 rfl rfl)) rfl
theorem f208_111 : ft 208 111 = some (11, 4, 0, .iload 7, 2) := Fm208 (dk_21 7 (dk_at s208_4 15 rfl rfl)) rfl
theorem f208_113 : ft 208 113 = some (11, 4, 0, .invokevirtual 37, 3) := Fm208 (dk_182 0 37 (dk_at s208_4 17 rfl rfl)) rfl
theorem f208_116 : ft 208 116 = some (11, 4, 0, .ifCond .lt 10, 3) := Fm208 (dk_155 0 10 (dk_at s208_4 20 rfl rfl)) rfl
theorem f208_119 : ft 208 119 = some (11, 4, 0, .aload_n 0, 1) := Fm208 (dk_42 (dk_at s208_4 23 rfl rfl)) rfl
theorem f208_120 : ft 208 120 = some (11, 4, 0, .iload 8, 2) := Fm208 (dk_21 8 (dk_at s208_5 0 rfl rfl)) rfl
theorem f208_122 : ft 208 122 = some (11, 4, 0, .invokevirtual 171, 3) := Fm208 (dk_182 0 171 (dk_at s208_5 2 rfl rfl)) rfl
theorem f208_125 : ft 208 125 = some (11, 4, 0, .ireturn, 1) := Fm208 (dk_172 (dk_at s208_5 5 rfl rfl)) rfl
theorem f208_126 : ft 208 126 = some (11, 4, 0, .aload_n 0, 1) := Fm208 (dk_42 (dk_at s208_5 6 rfl rfl)) rfl
theorem f208_127 : ft 208 127 = some (11, 4, 0, .invokevirtual 204, 3) := Fm208 (dk_182 0 204 (dk_at s208_5 7 rfl rfl)) rfl
theorem f208_130 : ft 208 130 = some (11, 4, 0, .aload_n 0, 1) := Fm208 (dk_42 (dk_at s208_5 10 rfl rfl)) rfl
theorem f208_131 : ft 208 131 = some (11, 4, 0, .bipush 58, 2) := Fm208 (dk_16 58 (dk_at s208_5 11 rfl rfl)) rfl
theorem f208_133 : ft 208 133 = some (11, 4, 0, .invokevirtual 183, 3) := Fm208 (dk_182 0 183 (dk_at s208_5 13 rfl rfl)) rfl
theorem f208_136 : ft 208 136 = some (11, 4, 0, .ifCond .ne 5, 3) := Fm208 (dk_154 0 5 (dk_at s208_5 16 rfl rfl)) rfl
theorem f208_139 : ft 208 139 = some (11, 4, 0, .iconst 0, 1) := Fm208 (dk_3 (dk_at s208_5 19 rfl rfl)) rfl
theorem f208_140 : ft 208 140 = some (11, 4, 0, .ireturn, 1) := Fm208 (dk_172 (dk_at s208_5 20 rfl rfl)) rfl
theorem f208_141 : ft 208 141 = some (11, 4, 0, .aload_n 0, 1) := Fm208 (dk_42 (dk_at s208_5 21 rfl rfl)) rfl
theorem f208_142 : ft 208 142 = some (11, 4, 0, .aload_n 1, 1) := Fm208 (dk_43 (dk_at s208_5 22 rfl rfl)) rfl
theorem f208_143 : ft 208 143 = some (11, 4, 0, .iload_n 3, 1) := Fm208 (dk_29 (dk_at s208_5 23 rfl rfl)) rfl
theorem f208_144 : ft 208 144 = some (11, 4, 0, .iconst 1, 1) := Fm208 (dk_4 (dk_at s208_6 0 rfl rfl)) rfl
theorem f208_145 : ft 208 145 = some (11, 4, 0, .iadd, 1) := Fm208 (dk_96 (dk_at s208_6 1 rfl rfl)) rfl
theorem f208_146 : ft 208 146 = some (11, 4, 0, .invokevirtual 241, 3) := Fm208 (dk_182 0 241 (dk_at s208_6 2 rfl rfl)) rfl
theorem f208_149 : ft 208 149 = some (11, 4, 0, .istore 8, 2) := Fm208 (dk_54 8 (dk_at s208_6 5 rfl rfl)) rfl
theorem f208_151 : ft 208 151 = some (11, 4, 0, .iload 8, 2) := Fm208 (dk_21 8 (dk_at s208_6 7 rfl rfl)) rfl
theorem f208_153 : ft 208 153 = some (11, 4, 0, .ifCond .ge 5, 3) := Fm208 (dk_156 0 5 (dk_at s208_6 9 rfl rfl)) rfl
theorem f208_156 : ft 208 156 = some (11, 4, 0, .iconst 0, 1) := Fm208 (dk_3 (dk_at s208_6 12 rfl rfl)) rfl
theorem f208_157 : ft 208 157 = some (11, 4, 0, .ireturn, 1) := Fm208 (dk_172 (dk_at s208_6 13 rfl rfl)) rfl
theorem f208_158 : ft 208 158 = some (11, 4, 0, .iload 4, 2) := Fm208 (dk_21 4 (dk_at s208_6 14 rfl rfl)) rfl
theorem f208_160 : ft 208 160 = some (11, 4, 0, .bipush 125, 2) := Fm208 (dk_16 125 (dk_at s208_6 16 rfl rfl)) rfl
theorem f208_162 : ft 208 162 = some (11, 4, 0, .if_icmp .ne 21, 3) := Fm208 (dk_160 0 21 (dk_at s208_6 18 rfl rfl)) rfl
theorem f208_165 : ft 208 165 = some (11, 4, 0, .aload_n 1, 1) := Fm208 (dk_43 (dk_at s208_6 21 rfl rfl)) rfl
theorem f208_166 : ft 208 166 = some (11, 4, 0, .getfield 31, 3) := Fm208 (dk_180 0 31 (dk_at s208_7 0 rfl rfl)) rfl
theorem f208_169 : ft 208 169 = some (11, 4, 0, .iload 8, 2) := Fm208 (dk_21 8 (dk_at s208_7 3 rfl rfl)) rfl
theorem f208_171 : ft 208 171 = some (11, 4, 0, .iload 6, 2) := Fm208 (dk_21 6 (dk_at s208_7 5 rfl rfl)) rfl
theorem f208_173 : ft 208 173 = some (11, 4, 0, .iastore, 1) := Fm208 (dk_79 (dk_at s208_7 7 rfl rfl)) rfl
theorem f208_174 : ft 208 174 = some (11, 4, 0, .aload_n 1, 1) := Fm208 (dk_43 (dk_at s208_7 8 rfl rfl)) rfl
theorem f208_175 : ft 208 175 = some (11, 4, 0, .getfield 34, 3) := Fm208 (dk_180 0 34 (dk_at s208_7 9 rfl rfl)) rfl
theorem f208_178 : ft 208 178 = some (11, 4, 0, .iload 8, 2) := Fm208 (dk_21 8 (dk_at s208_7 12 rfl rfl)) rfl
theorem f208_180 : ft 208 180 = some (11, 4, 0, .iload 7, 2) := Fm208 (dk_21 7 (dk_at s208_7 14 rfl rfl)) rfl
theorem f208_182 : ft 208 182 = some (11, 4, 0, .iastore, 1) := Fm208 (dk_79 (dk_at s208_7 16 rfl rfl)) rfl
theorem f208_183 : ft 208 183 = some (11, 4, 0, .aload_n 1, 1) := Fm208 (dk_43 (dk_at s208_7 17 rfl rfl)) rfl
theorem f208_184 : ft 208 184 = some (11, 4, 0, .iload_n 2, 1) := Fm208 (dk_28 (dk_at s208_7 18 rfl rfl)) rfl
theorem f208_185 : ft 208 185 = some (11, 4, 0, .iload 5, 2) := Fm208 (dk_21 5 (dk_at s208_7 19 rfl rfl)) rfl
theorem f208_187 : ft 208 187 = some (11, 4, 0, .iload 8, 2) := Fm208 (dk_21 8 (dk_at s208_7 21 rfl rfl)) rfl
theorem f208_189 : ft 208 189 = some (11, 4, 0, .invokevirtual 245, 3) := Fm208 (dk_182 0 245 (dk_at s208_8 0 rfl rfl)) rfl
theorem f208_192 : ft 208 192 = some (11, 4, 0, .iload 8, 2) := Fm208 (dk_21 8 (dk_at s208_8 3 rfl rfl)) rfl
theorem f208_194 : ft 208 194 = some (11, 4, 0, .istore 5, 2) := Fm208 (dk_54 5 (dk_at s208_8 5 rfl rfl)) rfl
theorem f208_196 : ft 208 196 = some (11, 4, 0, .aload_n 0, 1) := Fm208 (dk_42 (dk_at s208_8 7 rfl rfl)) rfl
theorem f208_197 : ft 208 197 = some (11, 4, 0, .invokevirtual 167, 3) := Fm208 (dk_182 0 167 (dk_at s208_8 8 rfl rfl)) rfl
theorem f208_200 : ft 208 200 = some (11, 4, 0, .iload 4, 2) := Fm208 (dk_21 4 (dk_at s208_8 11 rfl rfl)) rfl
theorem f208_202 : ft 208 202 = some (11, 4, 0, .if_icmp .ne 15, 3) := Fm208 (dk_160 0 15 (dk_at s208_8 13 rfl rfl)) rfl
theorem f208_205 : ft 208 205 = some (11, 4, 0, .aload_n 0, 1) := Fm208 (dk_42 (dk_at s208_8 16 rfl rfl)) rfl
theorem f208_206 : ft 208 206 = some (11, 4, 0, .dup, 1) := Fm208 (dk_89 (dk_at s208_8 17 rfl rfl)) rfl
theorem f208_207 : ft 208 207 = some (11, 4, 0, .getfield 155, 3) := Fm208 (dk_180 0 155 (dk_at s208_8 18 rfl rfl)) rfl
theorem f208_210 : ft 208 210 = some (11, 4, 0, .iconst 1, 1) := Fm208 (dk_4 (dk_at s208_8 21 rfl rfl)) rfl
theorem f208_211 : ft 208 211 = some (11, 4, 0, .iadd, 1) := Fm208 (dk_96 (dk_at s208_8 22 rfl rfl)) rfl
theorem f208_212 : ft 208 212 = some (11, 4, 0, .putfield 155, 3) := Fm208 (dk_181 0 155 (dk_at s208_9 0 rfl rfl)) rfl
theorem f208_215 : ft 208 215 = some (11, 4, 0, .iconst 1, 1) := Fm208 (dk_4 (dk_at s208_9 3 rfl rfl)) rfl
theorem f208_216 : ft 208 216 = some (11, 4, 0, .ireturn, 1) := Fm208 (dk_172 (dk_at s208_9 4 rfl rfl)) rfl
theorem f208_217 : ft 208 217 = some (11, 4, 0, .aload_n 0, 1) := Fm208 (dk_42 (dk_at s208_9 5 rfl rfl)) rfl
theorem f208_218 : ft 208 218 = some (11, 4, 0, .bipush 44, 2) := Fm208 (dk_16 44 (dk_at s208_9 6 rfl rfl)) rfl
theorem f208_220 : ft 208 220 = some (11, 4, 0, .invokevirtual 183, 3) := Fm208 (dk_182 0 183 (dk_at s208_9 8 rfl rfl)) rfl
theorem f208_223 : ft 208 223 = some (11, 4, 0, .ifCond .ne 5, 3) := Fm208 (dk_154 0 5 (dk_at s208_9 11 rfl rfl)) rfl
theorem f208_226 : ft 208 226 = some (11, 4, 0, .iconst 0, 1) := Fm208 (dk_3 (dk_at s208_9 14 rfl rfl)) rfl
theorem f208_227 : ft 208 227 = some (11, 4, 0, .ireturn, 1) := Fm208 (dk_172 (dk_at s208_9 15 rfl rfl)) rfl
theorem f208_228 : ft 208 228 = some (11, 4, 0, .goto (-190), 3) := Fm208 (dk_167 255 66 (dk_at s208_9 16 rfl rfl)) rfl
theorem q208 {d : Nat} {m : Mem} {a0 a1 a2 a3 a4 : Int} (hd : 0 < d) (hz : TZ m) : le2 (gd (tg m a0 = 11) <| bV (cl (d - 1) 198 [pR a0] (mst m a0 12 (w32 ((vl m a0 12) + 1)))) fun m1 => bI (cl (d - 1) 199 [pR a0] m1) fun v2 m2 => if v2 = a4 then (some (.inl (some (pI 1)), (mst m2 a0 12 (w32 ((vl m2 a0 12) + 1))))) else rn d 208 38 [pR a0, pR a1, pI a2, pI a3, pI a4, pI (-1), pU, pU, pU] [] m2) (cl d 208 [pR a0, pR a1, pI a2, pI a3, pI a4] m) := by
  refine q_in (n := 9) (L := [pR a0, pR a1, pI a2, pI a3, pI a4, pU, pU, pU, pU]) rfl rfl rfl ?_
  refine r_aln0 (p := 1) f208_0 rfl ?_
  refine r_dup (p := 2) f208_1 rfl rfl ?_
  refine le2_gd (fun h1 => ?_)
  refine r_gfI (f := 12) (p := 5) f208_2 rfl rfl rfl (Or.inl h1) rfl ?_
  refine r_iconst (p := 6) f208_5 rfl (pinD rfl rfl) ?_
  refine r_iadd (p := 7) f208_6 rfl ?_
  refine r_pfI (f := 12) (p := 10) f208_7 rfl rfl rfl (by decide) (by decide) (Or.inl h1) rfl ?_
  refine r_aln0 (p := 11) f208_10 rfl ?_
  refine r_invV (p := 14) f208_11 rfl rfl rfl (Or.inl h1) hd (Nat.le_of_ble_eq_true rfl) rfl rfl rfl (fun _ => rfl) (fun m1 c1 => ?_)
  have hz1 := z_k c1 hz
  refine r_aln0 (p := 15) f208_14 rfl ?_
  have h2 := k_t1 c1 hz h1 (by decide)
  refine r_invI (p := 18) f208_15 rfl rfl rfl (Or.inl h2) hd (Nat.le_of_ble_eq_true rfl) rfl rfl rfl (fun _ => rfl) (fun v2 m2 c2 => ?_)
  have hz2 := z_k c2 hz1
  refine r_ilw4 (p := 20) f208_18 rfl ?_
  refine r_icne (t := 35) (p := 23) f208_20 (by decide) rfl rfl ?_ ?_
  · refine r_aln0 (p := 24) f208_23 rfl ?_
    refine r_dup (p := 25) f208_24 rfl rfl ?_
    have h3 := k_t1 c2 hz1 h2 (by decide)
    refine r_gfI (f := 12) (p := 28) f208_25 rfl rfl rfl (Or.inl h3) rfl ?_
    refine r_iconst (p := 29) f208_28 rfl (pinD rfl rfl) ?_
    refine r_iadd (p := 30) f208_29 rfl ?_
    refine r_pfI (f := 12) (p := 33) f208_30 rfl rfl rfl (by decide) (by decide) (Or.inl h3) rfl ?_
    refine r_iconst (p := 34) f208_33 rfl (pinD rfl rfl) ?_
    exact r_iret4 f208_34 (by decide)
  · refine r_iconst (p := 36) f208_35 rfl (pinD rfl rfl) ?_
    refine r_isw5 (p := 38) f208_36 rfl rfl ?_
    exact le2_refl _
theorem q208_38 {d : Nat} {m : Mem} {a0 a1 a2 a3 a4 a5 : Int} {z6 z7 z8 : PV} (hd : 0 < d) (hz : TZ m) (hcz6 : cat z6 = 1) (hcz7 : cat z7 = 1) (hcz8 : cat z8 = 1) : le2 (if a4 = 125 then (gd (tg m a0 = 11) <| bV (cl (d - 1) 198 [pR a0] m) fun m1 => nm (vl m1 a0 12) fun v9 => bI (cl (d - 1) 199 [pR a0] m1) fun v2 m2 => if v2 = 34 then (gd (tg m2 a1 = 13) <| nm (vl m2 a1 12) fun v10 => bI (cl (d - 1) 203 [pR a0, pI 34, pR a1] m2) fun v3 m3 => if v3 = 0 then (some (.inl (some (pI 0)), m3)) else nm (w32 ((vl m3 a1 12) - v10)) fun v11 => bI (cl (d - 1) 288 [pR a1, pI a2, pR a1, pI v10, pI v11] m3) fun v4 m4 => if v4 < 0 then (bV (cl (d - 1) 198 [pR a0] m4) fun m5 => bI (cl (d - 1) 201 [pR a0, pI 58] m5) fun v6 m6 => if v6 = 0 then (some (.inl (some (pI 0)), m6)) else rn d 208 141 [pR a0, pR a1, pI a2, pI a3, pI a4, pI a5, pI v10, pI v11, pI v9] [] m6) else bI (cl (d - 1) 202 [pR a0, pI v9] m4) fun v7 m7 => gd (v7 = 0 ∨ v7 = 1) <| some (.inl (some (pI v7)), m7)) else bI (cl (d - 1) 202 [pR a0, pI (vl m2 a0 12)] m2) fun v8 m8 => gd (v8 = 0 ∨ v8 = 1) <| some (.inl (some (pI v8)), m8)) else rn d 208 141 [pR a0, pR a1, pI a2, pI a3, pI a4, pI a5, pI 0, pI 0, z8] [] m) (rn d 208 38 [pR a0, pR a1, pI a2, pI a3, pI a4, pI a5, z6, z7, z8] [] m) := by
  refine r_iconst (p := 39) f208_38 rfl (pinD rfl rfl) ?_
  refine r_isw6 (p := 41) f208_39 rfl rfl ?_
  refine r_iconst (p := 42) f208_41 rfl (pinD rfl rfl) ?_
  refine r_isw7 (p := 44) f208_42 rfl rfl ?_
  refine r_ilw4 (p := 46) f208_44 rfl ?_
  refine r_bipush (p := 48) f208_46 rfl (pinD rfl rfl) ?_
  refine r_icne (t := 141) (p := 51) f208_48 (by decide) rfl rfl ?_ ?_
  · refine r_aln0 (p := 52) f208_51 rfl ?_
    refine le2_gd (fun h1 => ?_)
    refine r_invV (p := 55) f208_52 rfl rfl rfl (Or.inl h1) hd (Nat.le_of_ble_eq_true rfl) rfl rfl rfl (fun _ => rfl) (fun m1 c1 => ?_)
    have hz1 := z_k c1 hz
    refine r_aln0 (p := 56) f208_55 rfl ?_
    have h2 := k_t1 c1 hz h1 (by decide)
    refine r_gfI (f := 12) (p := 59) f208_56 rfl rfl rfl (Or.inl h2) rfl ?_
    refine r_nmI (fun v9 ev9 => ?_)
    refine r_isw8 (p := 61) f208_59 rfl rfl ?_
    refine r_aln0 (p := 62) f208_61 rfl ?_
    refine r_invI (p := 65) f208_62 rfl rfl rfl (Or.inl h2) hd (Nat.le_of_ble_eq_true rfl) rfl rfl rfl (fun _ => rfl) (fun v2 m2 c2 => ?_)
    have hz2 := z_k c2 hz1
    refine r_bipush (p := 67) f208_65 rfl (pinD rfl rfl) ?_
    refine r_iceq (t := 79) (p := 70) f208_67 (by decide) rfl rfl ?_ ?_
    · refine r_aln1 (p := 80) f208_79 rfl ?_
      refine le2_gd (fun h3 => ?_)
      refine r_gfI (f := 12) (p := 83) f208_80 rfl rfl rfl (Or.inl h3) rfl ?_
      refine r_nmI (fun v10 ev10 => ?_)
      refine r_isw6 (p := 85) f208_83 rfl rfl ?_
      refine r_aln0 (p := 86) f208_85 rfl ?_
      refine r_bipush (p := 88) f208_86 rfl (pinD rfl rfl) ?_
      refine r_aln1 (p := 89) f208_88 rfl ?_
      have h4 := k_t1 c2 hz1 h2 (by decide)
      refine r_invI (p := 92) f208_89 rfl rfl rfl (Or.inl h4) hd (Nat.le_of_ble_eq_true rfl) rfl rfl rfl (fun _ => rfl) (fun v3 m3 c3 => ?_)
      have hz3 := z_k c3 hz2
      refine r_ifne (t := 97) (p := 95) f208_92 (by decide) rfl rfl ?_ ?_
      · refine r_iconst (p := 96) f208_95 rfl (pinD rfl rfl) ?_
        exact r_iret4 f208_96 (by decide)
      · refine r_aln1 (p := 98) f208_97 rfl ?_
        have h5 := k_t1 c3 hz2 h3 (by decide)
        refine r_gfI (f := 12) (p := 101) f208_98 rfl rfl rfl (Or.inl h5) rfl ?_
        refine r_ilw6 (p := 103) f208_101 rfl ?_
        refine r_isub (p := 104) f208_103 rfl ?_
        refine r_nmI (fun v11 ev11 => ?_)
        refine r_isw7 (p := 106) f208_104 rfl rfl ?_
        refine r_aln1 (p := 107) f208_106 rfl ?_
        refine r_iln2 (p := 108) f208_107 rfl ?_
        refine r_aln1 (p := 109) f208_108 rfl ?_
        refine r_ilw6 (p := 111) f208_109 rfl ?_
        refine r_ilw7 (p := 113) f208_111 rfl ?_
        refine r_invI (p := 116) f208_113 rfl rfl rfl (Or.inl h5) hd (Nat.le_of_ble_eq_true rfl) rfl rfl rfl (fun _ => rfl) (fun v4 m4 c4 => ?_)
        have hz4 := z_k c4 hz3
        refine r_iflt (t := 126) (p := 119) f208_116 (by decide) rfl rfl ?_ ?_
        · refine r_aln0 (p := 127) f208_126 rfl ?_
          have h6 := k_t1 c3 hz2 h4 (by decide)
          have h7 := k_t1 c4 hz3 h6 (by decide)
          refine r_invV (p := 130) f208_127 rfl rfl rfl (Or.inl h7) hd (Nat.le_of_ble_eq_true rfl) rfl rfl rfl (fun _ => rfl) (fun m5 c5 => ?_)
          have hz5 := z_k c5 hz4
          refine r_aln0 (p := 131) f208_130 rfl ?_
          refine r_bipush (p := 133) f208_131 rfl (pinD rfl rfl) ?_
          have h8 := k_t1 c5 hz4 h7 (by decide)
          refine r_invI (p := 136) f208_133 rfl rfl rfl (Or.inl h8) hd (Nat.le_of_ble_eq_true rfl) rfl rfl rfl (fun _ => rfl) (fun v6 m6 c6 => ?_)
          have hz6 := z_k c6 hz5
          refine r_ifne (t := 141) (p := 139) f208_136 (by decide) rfl rfl ?_ ?_
          · refine r_iconst (p := 140) f208_139 rfl (pinD rfl rfl) ?_
            exact r_iret4 f208_140 (by decide)
          · exact le2_refl _
        · refine r_aln0 (p := 120) f208_119 rfl ?_
          refine r_ilw8 (p := 122) f208_120 rfl ?_
          have h9 := k_t1 c3 hz2 h4 (by decide)
          have h10 := k_t1 c4 hz3 h9 (by decide)
          refine r_invI (p := 125) f208_122 rfl rfl rfl (Or.inl h10) hd (Nat.le_of_ble_eq_true rfl) rfl rfl rfl (fun _ => rfl) (fun v7 m7 c7 => ?_)
          have hz7 := z_k c7 hz4
          refine le2_gd (fun h11 => ?_)
          exact r_iret4 f208_125 h11
    · refine r_aln0 (p := 71) f208_70 rfl ?_
      refine r_aln0 (p := 72) f208_71 rfl ?_
      have h12 := k_t1 c2 hz1 h2 (by decide)
      refine r_gfI (f := 12) (p := 75) f208_72 rfl rfl rfl (Or.inl h12) rfl ?_
      refine r_invI (p := 78) f208_75 rfl rfl rfl (Or.inl h12) hd (Nat.le_of_ble_eq_true rfl) rfl rfl rfl (fun _ => rfl) (fun v8 m8 c8 => ?_)
      have hz8 := z_k c8 hz2
      refine le2_gd (fun h13 => ?_)
      exact r_iret4 f208_78 h13
  · exact le2_refl _
theorem q208_141 {d : Nat} {m : Mem} {a0 a1 a2 a3 a4 a5 a6 a7 : Int} {z8 : PV} (hd : 0 < d) (hz : TZ m) (hcz8 : cat z8 = 1) : le2 (gd (tg m a0 = 11) <| bI (cl (d - 1) 197 [pR a0, pR a1, pI (w32 (a3 + 1))] m) fun v1 m1 => if v1 < 0 then (some (.inl (some (pI 0)), m1)) else if a4 = 125 then (gd (tg m1 a1 = 13) <| nm (vl m1 a1 6) fun v2 => gd (tg m1 v2 = 284101 ∨ tg m1 v2 = 287101) <| gd ((0 : Int) ≤ v1 ∧ v1 < ln m1 v2) <| nm (vl m1 a1 7) fun v3 => gd (tg m1 v3 = 284101 ∨ tg m1 v3 = 287101) <| gd ((0 : Int) ≤ v1 ∧ v1 < ln m1 v3) <| rn d 208 183 [pR a0, pR a1, pI a2, pI a3, pI a4, pI a5, pI a6, pI a7, pI v1] [] (mst (mst m1 v2 v1 a6) v3 v1 a7)) else rn d 208 183 [pR a0, pR a1, pI a2, pI a3, pI a4, pI a5, pI a6, pI a7, pI v1] [] m1) (rn d 208 141 [pR a0, pR a1, pI a2, pI a3, pI a4, pI a5, pI a6, pI a7, z8] [] m) := by
  refine r_aln0 (p := 142) f208_141 rfl ?_
  refine r_aln1 (p := 143) f208_142 rfl ?_
  refine r_iln3 (p := 144) f208_143 rfl ?_
  refine r_iconst (p := 145) f208_144 rfl (pinD rfl rfl) ?_
  refine r_iadd (p := 146) f208_145 rfl ?_
  refine le2_gd (fun h1 => ?_)
  refine r_invI (p := 149) f208_146 rfl rfl rfl (Or.inl h1) hd (Nat.le_of_ble_eq_true rfl) rfl rfl rfl (fun _ => rfl) (fun v1 m1 c1 => ?_)
  have hz1 := z_k c1 hz
  refine r_isw8 (p := 151) f208_149 rfl rfl ?_
  refine r_ilw8 (p := 153) f208_151 rfl ?_
  refine r_ifge (t := 158) (p := 156) f208_153 (by decide) rfl rfl ?_ ?_
  · refine r_iconst (p := 157) f208_156 rfl (pinD rfl rfl) ?_
    exact r_iret4 f208_157 (by decide)
  · refine r_ilw4 (p := 160) f208_158 rfl ?_
    refine r_bipush (p := 162) f208_160 rfl (pinD rfl rfl) ?_
    refine r_icne (t := 183) (p := 165) f208_162 (by decide) rfl rfl ?_ ?_
    · refine r_aln1 (p := 166) f208_165 rfl ?_
      refine le2_gd (fun h2 => ?_)
      refine r_gfR (f := 6) (p := 169) f208_166 rfl rfl rfl (Or.inl h2) rfl ?_
      refine r_nmR (fun v2 ev2 => ?_)
      refine r_ilw8 (p := 171) f208_169 rfl ?_
      refine r_ilw6 (p := 173) f208_171 rfl ?_
      refine le2_gd (fun h3 => ?_)
      refine le2_gd (fun h4 => ?_)
      refine r_iastore (p := 174) f208_173 rfl (dj2 (fun x => 1000 ≤ x ∧ x % 1000 = 101 ∧ Nat.testBit (eM 208) (bix x 0) = true) h3 (by decide) (by decide)) h4 ?_
      refine r_aln1 (p := 175) f208_174 rfl ?_
      refine r_gfR (f := 7) (p := 178) f208_175 rfl rfl rfl (Or.inl h2) (sk_o (ne_oa (dj1 (fun x => x < 100) h2 (by decide)) (dj2 (fun x => ¬ x < 100) h3 (by decide) (by decide)))) ?_
      refine r_nmR (fun v3 ev3 => ?_)
      refine r_ilw8 (p := 180) f208_178 rfl ?_
      refine r_ilw7 (p := 182) f208_180 rfl ?_
      refine le2_gd (fun h5 => ?_)
      refine le2_gd (fun h6 => ?_)
      refine r_iastore (p := 183) f208_182 rfl (dj2 (fun x => 1000 ≤ x ∧ x % 1000 = 101 ∧ Nat.testBit (eM 208) (bix x 0) = true) h5 (by decide) (by decide)) h6 ?_
      exact le2_refl _
    · exact le2_refl _
theorem q208_183 {d : Nat} {m : Mem} {a0 a1 a2 a3 a4 a5 a6 a7 a8 : Int} (hd : 0 < d) (hz : TZ m) : le2 (gd (tg m a1 = 13) <| bV (cl (d - 1) 290 [pR a1, pI a2, pI a5, pI a8] m) fun m1 => gd (tg m1 a0 = 11) <| bI (cl (d - 1) 199 [pR a0] m1) fun v2 m2 => if v2 = a4 then (some (.inl (some (pI 1)), (mst m2 a0 12 (w32 ((vl m2 a0 12) + 1))))) else bI (cl (d - 1) 201 [pR a0, pI 44] m2) fun v3 m3 => if v3 = 0 then (some (.inl (some (pI 0)), m3)) else rn d 208 38 [pR a0, pR a1, pI a2, pI a3, pI a4, pI a8, pI a6, pI a7, pI a8] [] m3) (rn d 208 183 [pR a0, pR a1, pI a2, pI a3, pI a4, pI a5, pI a6, pI a7, pI a8] [] m) := by
  refine r_aln1 (p := 184) f208_183 rfl ?_
  refine r_iln2 (p := 185) f208_184 rfl ?_
  refine r_ilw5 (p := 187) f208_185 rfl ?_
  refine r_ilw8 (p := 189) f208_187 rfl ?_
  refine le2_gd (fun h1 => ?_)
  refine r_invV (p := 192) f208_189 rfl rfl rfl (Or.inl h1) hd (Nat.le_of_ble_eq_true rfl) rfl rfl rfl (fun _ => rfl) (fun m1 c1 => ?_)
  have hz1 := z_k c1 hz
  refine r_ilw8 (p := 194) f208_192 rfl ?_
  refine r_isw5 (p := 196) f208_194 rfl rfl ?_
  refine r_aln0 (p := 197) f208_196 rfl ?_
  refine le2_gd (fun h2 => ?_)
  refine r_invI (p := 200) f208_197 rfl rfl rfl (Or.inl h2) hd (Nat.le_of_ble_eq_true rfl) rfl rfl rfl (fun _ => rfl) (fun v2 m2 c2 => ?_)
  have hz2 := z_k c2 hz1
  refine r_ilw4 (p := 202) f208_200 rfl ?_
  refine r_icne (t := 217) (p := 205) f208_202 (by decide) rfl rfl ?_ ?_
  · refine r_aln0 (p := 206) f208_205 rfl ?_
    refine r_dup (p := 207) f208_206 rfl rfl ?_
    have h4 := k_t1 c2 hz1 h2 (by decide)
    refine r_gfI (f := 12) (p := 210) f208_207 rfl rfl rfl (Or.inl h4) rfl ?_
    refine r_iconst (p := 211) f208_210 rfl (pinD rfl rfl) ?_
    refine r_iadd (p := 212) f208_211 rfl ?_
    refine r_pfI (f := 12) (p := 215) f208_212 rfl rfl rfl (by decide) (by decide) (Or.inl h4) rfl ?_
    refine r_iconst (p := 216) f208_215 rfl (pinD rfl rfl) ?_
    exact r_iret4 f208_216 (by decide)
  · refine r_aln0 (p := 218) f208_217 rfl ?_
    refine r_bipush (p := 220) f208_218 rfl (pinD rfl rfl) ?_
    have h3 := k_t1 c2 hz1 h2 (by decide)
    refine r_invI (p := 223) f208_220 rfl rfl rfl (Or.inl h3) hd (Nat.le_of_ble_eq_true rfl) rfl rfl rfl (fun _ => rfl) (fun v3 m3 c3 => ?_)
    have hz3 := z_k c3 hz2
    refine r_ifne (t := 228) (p := 226) f208_223 (by decide) rfl rfl ?_ ?_
    · refine r_iconst (p := 227) f208_226 rfl (pinD rfl rfl) ?_
      exact r_iret4 f208_227 (by decide)
    · refine r_goto (p := 38) f208_228 (by decide) rfl ?_
      exact le2_refl _
/-! 209 PathStoreModel.begin ()V -/
def w209_0 : List UInt8 := [42, 3, 181, 0, 252, 42, 3, 181, 0, 255, 177]
abbrev u209_0 : List UInt8 := w209_0 ++ []
theorem s209_0 : (prog_32_method_30_code).data.toList.drop 0 = u209_0 := by decide +kernel
theorem Fm209 {pc len : Nat} {i : Instr} (h : decode (prog_32_method_30_code) pc = .ok (i, len)) (hl : len = ilen i len) : ft 209 pc = some (11, 0, 0, i, len) := ft_mk rfl h hl
theorem f209_0 : ft 209 0 = some (11, 0, 0, .aload_n 0, 1) := Fm209 (dk_42 (dk_at s209_0 0 rfl rfl)) rfl
theorem f209_1 : ft 209 1 = some (11, 0, 0, .iconst 0, 1) := Fm209 (dk_3 (dk_at s209_0 1 rfl rfl)) rfl
theorem f209_2 : ft 209 2 = some (11, 0, 0, .putfield 252, 3) := Fm209 (dk_181 0 252 (dk_at s209_0 2 rfl rfl)) rfl
theorem f209_5 : ft 209 5 = some (11, 0, 0, .aload_n 0, 1) := Fm209 (dk_42 (dk_at s209_0 5 rfl rfl)) rfl
theorem f209_6 : ft 209 6 = some (11, 0, 0, .iconst 0, 1) := Fm209 (dk_3 (dk_at s209_0 6 rfl rfl)) rfl
theorem f209_7 : ft 209 7 = some (11, 0, 0, .putfield 255, 3) := Fm209 (dk_181 0 255 (dk_at s209_0 7 rfl rfl)) rfl
theorem f209_10 : ft 209 10 = some (11, 0, 0, .return_, 1) := Fm209 (dk_177 (dk_at s209_0 10 rfl rfl)) rfl
theorem q209 {d : Nat} {m : Mem} {a0 : Int} (hz : TZ m) : le2 (gd (tg m a0 = 11) <| some (.inl none, (mst (mst m a0 16 0) a0 17 0))) (cl d 209 [pR a0] m) := by
  refine q_in (n := 1) (L := [pR a0]) rfl rfl rfl ?_
  refine r_aln0 (p := 1) f209_0 rfl ?_
  refine r_iconst (p := 2) f209_1 rfl (pinD rfl rfl) ?_
  refine le2_gd (fun h1 => ?_)
  refine r_pfI (f := 16) (p := 5) f209_2 rfl rfl rfl (by decide) (by decide) (Or.inl h1) rfl ?_
  refine r_aln0 (p := 6) f209_5 rfl ?_
  refine r_iconst (p := 7) f209_6 rfl (pinD rfl rfl) ?_
  refine r_pfZ (f := 17) (p := 10) f209_7 rfl rfl rfl (by decide) (by decide) (Or.inl h1) rfl (by decide) ?_
  exact r_ret f209_10
/-! 210 PathStoreModel.print (LPathStoreModel$Tree;I)V -/
def w210_9 : List UInt8 := [21, 4, 46, 54, 4, 167, 255, 187, 42, 29, 153, 0, 8, 16, 93, 167, 0, 5, 16, 125, 182, 1, 3, 177]
abbrev u210_9 : List UInt8 := w210_9 ++ []
def w210_8 : List UInt8 := [46, 16, 34, 182, 1, 20, 42, 16, 58, 182, 1, 3, 42, 43, 21, 4, 182, 1, 23, 43, 180, 0, 24]
abbrev u210_8 : List UInt8 := w210_8 ++ u210_9
def w210_7 : List UInt8 := [16, 44, 182, 1, 3, 29, 154, 0, 30, 42, 43, 43, 180, 0, 31, 21, 4, 46, 43, 180, 0, 34, 21, 4]
abbrev u210_7 : List UInt8 := w210_7 ++ u210_8
def w210_6 : List UInt8 := [180, 0, 17, 28, 46, 54, 4, 21, 4, 155, 0, 70, 21, 4, 43, 180, 0, 17, 28, 46, 159, 0, 9, 42]
abbrev u210_6 : List UInt8 := w210_6 ++ u210_7
def w210_5 : List UInt8 := [4, 167, 0, 4, 3, 62, 42, 29, 153, 0, 8, 16, 91, 167, 0, 5, 16, 123, 182, 1, 3, 43]
abbrev u210_5 : List UInt8 := w210_5 ++ u210_6
def w210_4 : List UInt8 := [43, 180, 0, 48, 28, 46, 16, 34, 182, 1, 20, 167, 0, 129, 43, 180, 0, 1, 28, 46, 8, 160, 0, 7]
abbrev u210_4 : List UInt8 := w210_4 ++ u210_5
def w210_3 : List UInt8 := [167, 0, 164, 42, 43, 180, 0, 7, 28, 47, 182, 1, 17, 167, 0, 151, 42, 43, 43, 180, 0, 45, 28, 46]
abbrev u210_3 : List UInt8 := w210_3 ++ u210_4
def w210_2 : List UInt8 := [42, 18, 207, 182, 1, 12, 167, 0, 182, 42, 18, 209, 182, 1, 12, 167, 0, 173, 42, 18, 211, 182, 1, 12]
abbrev u210_2 : List UInt8 := w210_2 ++ u210_3
def w210_1 : List UInt8 := [170, 0, 0, 0, 0, 96, 0, 0, 0, 0, 0, 0, 0, 4, 0, 0, 0, 34, 0, 0, 0, 43, 0, 0, 0, 52, 0, 0, 0, 61, 0, 0, 0, 74]
abbrev u210_1 : List UInt8 := w210_1 ++ u210_2
def w210_0 : List UInt8 := [43, 180, 0, 1, 28, 46]
abbrev u210_0 : List UInt8 := w210_0 ++ u210_1
theorem s210_0 : (prog_32_method_29_code).data.toList.drop 0 = u210_0 := by decide +kernel
theorem s210_1 : (prog_32_method_29_code).data.toList.drop 6 = u210_1 := dk_seg s210_0 6 rfl rfl
theorem s210_2 : (prog_32_method_29_code).data.toList.drop 40 = u210_2 := dk_seg s210_1 34 rfl rfl
theorem s210_3 : (prog_32_method_29_code).data.toList.drop 64 = u210_3 := dk_seg s210_2 24 rfl rfl
theorem s210_4 : (prog_32_method_29_code).data.toList.drop 88 = u210_4 := dk_seg s210_3 24 rfl rfl
theorem s210_5 : (prog_32_method_29_code).data.toList.drop 112 = u210_5 := dk_seg s210_4 24 rfl rfl
theorem s210_6 : (prog_32_method_29_code).data.toList.drop 134 = u210_6 := dk_seg s210_5 22 rfl rfl
theorem s210_7 : (prog_32_method_29_code).data.toList.drop 158 = u210_7 := dk_seg s210_6 24 rfl rfl
theorem s210_8 : (prog_32_method_29_code).data.toList.drop 182 = u210_8 := dk_seg s210_7 24 rfl rfl
theorem s210_9 : (prog_32_method_29_code).data.toList.drop 205 = u210_9 := dk_seg s210_8 23 rfl rfl
theorem Fm210 {pc len : Nat} {i : Instr} (h : decode (prog_32_method_29_code) pc = .ok (i, len)) (hl : len = ilen i len) : ft 210 pc = some (11, 0, 0, i, len) := ft_mk rfl h hl
theorem f210_0 : ft 210 0 = some (11, 0, 0, .aload_n 1, 1) := Fm210 (dk_43 (dk_at s210_0 0 rfl rfl)) rfl
theorem f210_1 : ft 210 1 = some (11, 0, 0, .getfield 1, 3) := Fm210 (dk_180 0 1 (dk_at s210_0 1 rfl rfl)) rfl
theorem f210_4 : ft 210 4 = some (11, 0, 0, .iload_n 2, 1) := Fm210 (dk_28 (dk_at s210_0 4 rfl rfl)) rfl
theorem f210_5 : ft 210 5 = some (11, 0, 0, .iaload, 1) := Fm210 (dk_46 (dk_at s210_0 5 rfl rfl)) rfl
theorem f210_6 : ft 210 6 = some (11, 0, 0, .tableswitch 96 0 4 #[34, 43, 52, 61, 74], 34) := Fm210 (by decide +kernel) rfl
theorem f210_40 : ft 210 40 = some (11, 0, 0, .aload_n 0, 1) := Fm210 (dk_42 (dk_at s210_2 0 rfl rfl)) rfl
theorem f210_41 : ft 210 41 = some (11, 0, 0, .ldc 207, 2) := Fm210 (dk_18 207 (dk_at s210_2 1 rfl rfl)) rfl
theorem f210_43 : ft 210 43 = some (11, 0, 0, .invokevirtual 268, 3) := Fm210 (dk_182 1 12 (dk_at s210_2 3 rfl rfl)) rfl
theorem f210_46 : ft 210 46 = some (11, 0, 0, .goto 182, 3) := Fm210 (dk_167 0 182 (dk_at s210_2 6 rfl rfl)) rfl
theorem f210_49 : ft 210 49 = some (11, 0, 0, .aload_n 0, 1) := Fm210 (dk_42 (dk_at s210_2 9 rfl rfl)) rfl
theorem f210_50 : ft 210 50 = some (11, 0, 0, .ldc 209, 2) := Fm210 (dk_18 209 (dk_at s210_2 10 rfl rfl)) rfl
theorem f210_52 : ft 210 52 = some (11, 0, 0, .invokevirtual 268, 3) := Fm210 (dk_182 1 12 (dk_at s210_2 12 rfl rfl)) rfl
theorem f210_55 : ft 210 55 = some (11, 0, 0, .goto 173, 3) := Fm210 (dk_167 0 173 (dk_at s210_2 15 rfl rfl)) rfl
theorem f210_58 : ft 210 58 = some (11, 0, 0, .aload_n 0, 1) := Fm210 (dk_42 (dk_at s210_2 18 rfl rfl)) rfl
theorem f210_59 : ft 210 59 = some (11, 0, 0, .ldc 211, 2) := Fm210 (dk_18 211 (dk_at s210_2 19 rfl rfl)) rfl
theorem f210_61 : ft 210 61 = some (11, 0, 0, .invokevirtual 268, 3) := Fm210 (dk_182 1 12 (dk_at s210_2 21 rfl rfl)) rfl
theorem f210_64 : ft 210 64 = some (11, 0, 0, .goto 164, 3) := Fm210 (dk_167 0 164 (dk_at s210_3 0 rfl rfl)) rfl
theorem f210_67 : ft 210 67 = some (11, 0, 0, .aload_n 0, 1) := Fm210 (dk_42 (dk_at s210_3 3 rfl rfl)) rfl
theorem f210_68 : ft 210 68 = some (11, 0, 0, .aload_n 1, 1) := Fm210 (dk_43 (dk_at s210_3 4 rfl rfl)) rfl
theorem f210_69 : ft 210 69 = some (11, 0, 0, .getfield 7, 3) := Fm210 (dk_180 0 7 (dk_at s210_3 5 rfl rfl)) rfl
theorem f210_72 : ft 210 72 = some (11, 0, 0, .iload_n 2, 1) := Fm210 (dk_28 (dk_at s210_3 8 rfl rfl)) rfl
theorem f210_73 : ft 210 73 = some (11, 0, 0, .laload, 1) := Fm210 (dk_47 (dk_at s210_3 9 rfl rfl)) rfl
theorem f210_74 : ft 210 74 = some (11, 0, 0, .invokevirtual 273, 3) := Fm210 (dk_182 1 17 (dk_at s210_3 10 rfl rfl)) rfl
theorem f210_77 : ft 210 77 = some (11, 0, 0, .goto 151, 3) := Fm210 (dk_167 0 151 (dk_at s210_3 13 rfl rfl)) rfl
theorem f210_80 : ft 210 80 = some (11, 0, 0, .aload_n 0, 1) := Fm210 (dk_42 (dk_at s210_3 16 rfl rfl)) rfl
theorem f210_81 : ft 210 81 = some (11, 0, 0, .aload_n 1, 1) := Fm210 (dk_43 (dk_at s210_3 17 rfl rfl)) rfl
theorem f210_82 : ft 210 82 = some (11, 0, 0, .aload_n 1, 1) := Fm210 (dk_43 (dk_at s210_3 18 rfl rfl)) rfl
theorem f210_83 : ft 210 83 = some (11, 0, 0, .getfield 45, 3) := Fm210 (dk_180 0 45 (dk_at s210_3 19 rfl rfl)) rfl
theorem f210_86 : ft 210 86 = some (11, 0, 0, .iload_n 2, 1) := Fm210 (dk_28 (dk_at s210_3 22 rfl rfl)) rfl
theorem f210_87 : ft 210 87 = some (11, 0, 0, .iaload, 1) := Fm210 (dk_46 (dk_at s210_3 23 rfl rfl)) rfl
theorem f210_88 : ft 210 88 = some (11, 0, 0, .aload_n 1, 1) := Fm210 (dk_43 (dk_at s210_4 0 rfl rfl)) rfl
theorem f210_89 : ft 210 89 = some (11, 0, 0, .getfield 48, 3) := Fm210 (dk_180 0 48 (dk_at s210_4 1 rfl rfl)) rfl
theorem f210_92 : ft 210 92 = some (11, 0, 0, .iload_n 2, 1) := Fm210 (dk_28 (dk_at s210_4 4 rfl rfl)) rfl
theorem f210_93 : ft 210 93 = some (11, 0, 0, .iaload, 1) := Fm210 (dk_46 (dk_at s210_4 5 rfl rfl)) rfl
theorem f210_94 : ft 210 94 = some (11, 0, 0, .bipush 34, 2) := Fm210 (dk_16 34 (dk_at s210_4 6 rfl rfl)) rfl
theorem f210_96 : ft 210 96 = some (11, 0, 0, .invokevirtual 276, 3) := Fm210 (dk_182 1 20 (dk_at s210_4 8 rfl rfl)) rfl
theorem f210_99 : ft 210 99 = some (11, 0, 0, .goto 129, 3) := Fm210 (dk_167 0 129 (dk_at s210_4 11 rfl rfl)) rfl
theorem f210_102 : ft 210 102 = some (11, 0, 0, .aload_n 1, 1) := Fm210 (dk_43 (dk_at s210_4 14 rfl rfl)) rfl
theorem f210_103 : ft 210 103 = some (11, 0, 0, .getfield 1, 3) := Fm210 (dk_180 0 1 (dk_at s210_4 15 rfl rfl)) rfl
theorem f210_106 : ft 210 106 = some (11, 0, 0, .iload_n 2, 1) := Fm210 (dk_28 (dk_at s210_4 18 rfl rfl)) rfl
theorem f210_107 : ft 210 107 = some (11, 0, 0, .iaload, 1) := Fm210 (dk_46 (dk_at s210_4 19 rfl rfl)) rfl
theorem f210_108 : ft 210 108 = some (11, 0, 0, .iconst 5, 1) := Fm210 (dk_8 (dk_at s210_4 20 rfl rfl)) rfl
theorem f210_109 : ft 210 109 = some (11, 0, 0, .if_icmp .ne 7, 3) := Fm210 (dk_160 0 7 (dk_at s210_4 21 rfl rfl)) rfl
theorem f210_112 : ft 210 112 = some (11, 0, 0, .iconst 1, 1) := Fm210 (dk_4 (dk_at s210_5 0 rfl rfl)) rfl
theorem f210_113 : ft 210 113 = some (11, 0, 0, .goto 4, 3) := Fm210 (dk_167 0 4 (dk_at s210_5 1 rfl rfl)) rfl
theorem f210_116 : ft 210 116 = some (11, 0, 0, .iconst 0, 1) := Fm210 (dk_3 (dk_at s210_5 4 rfl rfl)) rfl
theorem f210_117 : ft 210 117 = some (11, 0, 0, .istore_n 3, 1) := Fm210 (dk_62 (dk_at s210_5 5 rfl rfl)) rfl
theorem f210_118 : ft 210 118 = some (11, 0, 0, .aload_n 0, 1) := Fm210 (dk_42 (dk_at s210_5 6 rfl rfl)) rfl
theorem f210_119 : ft 210 119 = some (11, 0, 0, .iload_n 3, 1) := Fm210 (dk_29 (dk_at s210_5 7 rfl rfl)) rfl
theorem f210_120 : ft 210 120 = some (11, 0, 0, .ifCond .eq 8, 3) := Fm210 (dk_153 0 8 (dk_at s210_5 8 rfl rfl)) rfl
theorem f210_123 : ft 210 123 = some (11, 0, 0, .bipush 91, 2) := Fm210 (dk_16 91 (dk_at s210_5 11 rfl rfl)) rfl
theorem f210_125 : ft 210 125 = some (11, 0, 0, .goto 5, 3) := Fm210 (dk_167 0 5 (dk_at s210_5 13 rfl rfl)) rfl
theorem f210_128 : ft 210 128 = some (11, 0, 0, .bipush 123, 2) := Fm210 (dk_16 123 (dk_at s210_5 16 rfl rfl)) rfl
theorem f210_130 : ft 210 130 = some (11, 0, 0, .invokevirtual 259, 3) := Fm210 (dk_182 1 3 (dk_at s210_5 18 rfl rfl)) rfl
theorem f210_133 : ft 210 133 = some (11, 0, 0, .aload_n 1, 1) := Fm210 (dk_43 (dk_at s210_5 21 rfl rfl)) rfl
theorem f210_134 : ft 210 134 = some (11, 0, 0, .getfield 17, 3) := Fm210 (dk_180 0 17 (dk_at s210_6 0 rfl rfl)) rfl
theorem f210_137 : ft 210 137 = some (11, 0, 0, .iload_n 2, 1) := Fm210 (dk_28 (dk_at s210_6 3 rfl rfl)) rfl
theorem f210_138 : ft 210 138 = some (11, 0, 0, .iaload, 1) := Fm210 (dk_46 (dk_at s210_6 4 rfl rfl)) rfl
theorem f210_139 : ft 210 139 = some (11, 0, 0, .istore 4, 2) := Fm210 (dk_54 4 (dk_at s210_6 5 rfl rfl)) rfl
theorem f210_141 : ft 210 141 = some (11, 0, 0, .iload 4, 2) := Fm210 (dk_21 4 (dk_at s210_6 7 rfl rfl)) rfl
theorem f210_143 : ft 210 143 = some (11, 0, 0, .ifCond .lt 70, 3) := Fm210 (dk_155 0 70 (dk_at s210_6 9 rfl rfl)) rfl
theorem f210_146 : ft 210 146 = some (11, 0, 0, .iload 4, 2) := Fm210 (dk_21 4 (dk_at s210_6 12 rfl rfl)) rfl
theorem f210_148 : ft 210 148 = some (11, 0, 0, .aload_n 1, 1) := Fm210 (dk_43 (dk_at s210_6 14 rfl rfl)) rfl
theorem f210_149 : ft 210 149 = some (11, 0, 0, .getfield 17, 3) := Fm210 (dk_180 0 17 (dk_at s210_6 15 rfl rfl)) rfl
theorem f210_152 : ft 210 152 = some (11, 0, 0, .iload_n 2, 1) := Fm210 (dk_28 (dk_at s210_6 18 rfl rfl)) rfl
theorem f210_153 : ft 210 153 = some (11, 0, 0, .iaload, 1) := Fm210 (dk_46 (dk_at s210_6 19 rfl rfl)) rfl
theorem f210_154 : ft 210 154 = some (11, 0, 0, .if_icmp .eq 9, 3) := Fm210 (dk_159 0 9 (dk_at s210_6 20 rfl rfl)) rfl
theorem f210_157 : ft 210 157 = some (11, 0, 0, .aload_n 0, 1) := Fm210 (dk_42 (dk_at s210_6 23 rfl rfl)) rfl
theorem f210_158 : ft 210 158 = some (11, 0, 0, .bipush 44, 2) := Fm210 (dk_16 44 (dk_at s210_7 0 rfl rfl)) rfl
theorem f210_160 : ft 210 160 = some (11, 0, 0, .invokevirtual 259, 3) := Fm210 (dk_182 1 3 (dk_at s210_7 2 rfl rfl)) rfl
theorem f210_163 : ft 210 163 = some (11, 0, 0, .iload_n 3, 1) := Fm210 (dk_29 (dk_at s210_7 5 rfl rfl)) rfl
theorem f210_164 : ft 210 164 = some (11, 0, 0, .ifCond .ne 30, 3) := Fm210 (dk_154 0 30 (dk_at s210_7 6 rfl rfl)) rfl
theorem f210_167 : ft 210 167 = some (11, 0, 0, .aload_n 0, 1) := Fm210 (dk_42 (dk_at s210_7 9 rfl rfl)) rfl
theorem f210_168 : ft 210 168 = some (11, 0, 0, .aload_n 1, 1) := Fm210 (dk_43 (dk_at s210_7 10 rfl rfl)) rfl
theorem f210_169 : ft 210 169 = some (11, 0, 0, .aload_n 1, 1) := Fm210 (dk_43 (dk_at s210_7 11 rfl rfl)) rfl
theorem f210_170 : ft 210 170 = some (11, 0, 0, .getfield 31, 3) := Fm210 (dk_180 0 31 (dk_at s210_7 12 rfl rfl)) rfl
theorem f210_173 : ft 210 173 = some (11, 0, 0, .iload 4, 2) := Fm210 (dk_21 4 (dk_at s210_7 15 rfl rfl)) rfl
theorem f210_175 : ft 210 175 = some (11, 0, 0, .iaload, 1) := Fm210 (dk_46 (dk_at s210_7 17 rfl rfl)) rfl
theorem f210_176 : ft 210 176 = some (11, 0, 0, .aload_n 1, 1) := Fm210 (dk_43 (dk_at s210_7 18 rfl rfl)) rfl
theorem f210_177 : ft 210 177 = some (11, 0, 0, .getfield 34, 3) := Fm210 (dk_180 0 34 (dk_at s210_7 19 rfl rfl)) rfl
theorem f210_180 : ft 210 180 = some (11, 0, 0, .iload 4, 2) := Fm210 (dk_21 4 (dk_at s210_7 22 rfl rfl)) rfl
theorem f210_182 : ft 210 182 = some (11, 0, 0, .iaload, 1) := Fm210 (dk_46 (dk_at s210_8 0 rfl rfl)) rfl
theorem f210_183 : ft 210 183 = some (11, 0, 0, .bipush 34, 2) := Fm210 (dk_16 34 (dk_at s210_8 1 rfl rfl)) rfl
theorem f210_185 : ft 210 185 = some (11, 0, 0, .invokevirtual 276, 3) := Fm210 (dk_182 1 20 (dk_at s210_8 3 rfl rfl)) rfl
theorem f210_188 : ft 210 188 = some (11, 0, 0, .aload_n 0, 1) := Fm210 (dk_42 (dk_at s210_8 6 rfl rfl)) rfl
theorem f210_189 : ft 210 189 = some (11, 0, 0, .bipush 58, 2) := Fm210 (dk_16 58 (dk_at s210_8 7 rfl rfl)) rfl
theorem f210_191 : ft 210 191 = some (11, 0, 0, .invokevirtual 259, 3) := Fm210 (dk_182 1 3 (dk_at s210_8 9 rfl rfl)) rfl
theorem f210_194 : ft 210 194 = some (11, 0, 0, .aload_n 0, 1) := Fm210 (dk_42 (dk_at s210_8 12 rfl rfl)) rfl
theorem f210_195 : ft 210 195 = some (11, 0, 0, .aload_n 1, 1) := Fm210 (dk_43 (dk_at s210_8 13 rfl rfl)) rfl
theorem f210_196 : ft 210 196 = some (11, 0, 0, .iload 4, 2) := Fm210 (dk_21 4 (dk_at s210_8 14 rfl rfl)) rfl
theorem f210_198 : ft 210 198 = some (11, 0, 0, .invokevirtual 279, 3) := Fm210 (dk_182 1 23 (dk_at s210_8 16 rfl rfl)) rfl
theorem f210_201 : ft 210 201 = some (11, 0, 0, .aload_n 1, 1) := Fm210 (dk_43 (dk_at s210_8 19 rfl rfl)) rfl
theorem f210_202 : ft 210 202 = some (11, 0, 0, .getfield 24, 3) := Fm210 (dk_180 0 24 (dk_at s210_8 20 rfl rfl)) rfl
theorem f210_205 : ft 210 205 = some (11, 0, 0, .iload 4, 2) := Fm210 (dk_21 4 (dk_at s210_9 0 rfl rfl)) rfl
theorem f210_207 : ft 210 207 = some (11, 0, 0, .iaload, 1) := Fm210 (dk_46 (dk_at s210_9 2 rfl rfl)) rfl
theorem f210_208 : ft 210 208 = some (11, 0, 0, .istore 4, 2) := Fm210 (dk_54 4 (dk_at s210_9 3 rfl rfl)) rfl
theorem f210_210 : ft 210 210 = some (11, 0, 0, .goto (-69), 3) := Fm210 (dk_167 255 187 (dk_at s210_9 5 rfl rfl)) rfl
theorem f210_213 : ft 210 213 = some (11, 0, 0, .aload_n 0, 1) := Fm210 (dk_42 (dk_at s210_9 8 rfl rfl)) rfl
theorem f210_214 : ft 210 214 = some (11, 0, 0, .iload_n 3, 1) := Fm210 (dk_29 (dk_at s210_9 9 rfl rfl)) rfl
theorem f210_215 : ft 210 215 = some (11, 0, 0, .ifCond .eq 8, 3) := Fm210 (dk_153 0 8 (dk_at s210_9 10 rfl rfl)) rfl
theorem f210_218 : ft 210 218 = some (11, 0, 0, .bipush 93, 2) := Fm210 (dk_16 93 (dk_at s210_9 13 rfl rfl)) rfl
theorem f210_220 : ft 210 220 = some (11, 0, 0, .goto 5, 3) := Fm210 (dk_167 0 5 (dk_at s210_9 15 rfl rfl)) rfl
theorem f210_223 : ft 210 223 = some (11, 0, 0, .bipush 125, 2) := Fm210 (dk_16 125 (dk_at s210_9 18 rfl rfl)) rfl
theorem f210_225 : ft 210 225 = some (11, 0, 0, .invokevirtual 259, 3) := Fm210 (dk_182 1 3 (dk_at s210_9 20 rfl rfl)) rfl
theorem f210_228 : ft 210 228 = some (11, 0, 0, .return_, 1) := Fm210 (dk_177 (dk_at s210_9 23 rfl rfl)) rfl
theorem q210 {d : Nat} {m : Mem} {a0 a1 a2 : Int} (hd : 0 < d) (hz : TZ m) : le2 (gd (tg m a1 = 13) <| nm (vl m a1 0) fun v6 => gd (tg m v6 = 284101 ∨ tg m v6 = 287101) <| gd ((0 : Int) ≤ a2 ∧ a2 < ln m v6) <| nm (vl m v6 a2) fun v7 => if v7 = 0 then (gd (tg m a0 = 11) <| bV (cl (d - 1) 211 [pR a0, pR 46] m) fun m5 => some (.inl none, m5)) else if v7 = 1 then (gd (tg m a0 = 11) <| bV (cl (d - 1) 211 [pR a0, pR 48] m) fun m4 => some (.inl none, m4)) else if v7 = 2 then (gd (tg m a0 = 11) <| bV (cl (d - 1) 211 [pR a0, pR 50] m) fun m3 => some (.inl none, m3)) else if v7 = 3 then (nm (vl m a1 1) fun v8 => gd (tg m v8 = 284102 ∨ tg m v8 = 286102) <| gd ((0 : Int) ≤ a2 ∧ a2 < ln m v8) <| gd (tg m a0 = 11) <| bV (cl (d - 1) 213 [pR a0, pL (vl m v8 a2)] m) fun m2 => some (.inl none, m2)) else if v7 = 4 then (nm (vl m a1 2) fun v9 => gd (tg m v9 = 284101 ∨ tg m v9 = 287101) <| gd ((0 : Int) ≤ a2 ∧ a2 < ln m v9) <| nm (vl m a1 3) fun v10 => gd (tg m v10 = 284101 ∨ tg m v10 = 287101) <| gd ((0 : Int) ≤ a2 ∧ a2 < ln m v10) <| gd (tg m a0 = 11) <| bV (cl (d - 1) 214 [pR a0, pR a1, pI (vl m v9 a2), pI (vl m v10 a2), pI 34] m) fun m1 => some (.inl none, m1)) else if v7 = 5 then (rn d 210 117 [pR a0, pR a1, pI a2, pU, pU] [pI 1] m) else rn d 210 117 [pR a0, pR a1, pI a2, pU, pU] [pI 0] m) (cl d 210 [pR a0, pR a1, pI a2] m) := by
  refine q_in (n := 5) (L := [pR a0, pR a1, pI a2, pU, pU]) rfl rfl rfl ?_
  refine r_aln1 (p := 1) f210_0 rfl ?_
  refine le2_gd (fun h1 => ?_)
  refine r_gfR (f := 0) (p := 4) f210_1 rfl rfl rfl (Or.inl h1) rfl ?_
  refine r_nmR (fun v6 ev6 => ?_)
  refine r_iln2 (p := 5) f210_4 rfl ?_
  refine le2_gd (fun h2 => ?_)
  refine le2_gd (fun h3 => ?_)
  refine r_iaload (p := 6) f210_5 rfl (dj2 (fun x => x % 1000 = 101) h2 (by decide) (by decide)) h3 rfl ?_
  refine r_nmI (fun v7 ev7 => ?_)
  refine le2_ite (fun h18 => ?_) (fun h18 => ?_)
  · refine r_tsI (off := 34) (t := 40) f210_6 h18 rfl rfl (by decide) rfl ?_
    refine r_aln0 (p := 41) f210_40 rfl ?_
    refine r_ldcR (p := 43) f210_41 rfl rfl ?_
    refine le2_gd (fun h19 => ?_)
    refine r_invV (p := 46) f210_43 rfl rfl rfl (Or.inl h19) hd (Nat.le_of_ble_eq_true rfl) rfl rfl rfl (fun _ => rfl) (fun m5 c5 => ?_)
    have hz5 := z_k c5 hz
    refine r_goto (p := 228) f210_46 (by decide) rfl ?_
    exact r_ret f210_228
  · refine le2_ite (fun h16 => ?_) (fun h16 => ?_)
    · refine r_tsI (off := 43) (t := 49) f210_6 h16 rfl rfl (by decide) rfl ?_
      refine r_aln0 (p := 50) f210_49 rfl ?_
      refine r_ldcR (p := 52) f210_50 rfl rfl ?_
      refine le2_gd (fun h17 => ?_)
      refine r_invV (p := 55) f210_52 rfl rfl rfl (Or.inl h17) hd (Nat.le_of_ble_eq_true rfl) rfl rfl rfl (fun _ => rfl) (fun m4 c4 => ?_)
      have hz4 := z_k c4 hz
      refine r_goto (p := 228) f210_55 (by decide) rfl ?_
      exact r_ret f210_228
    · refine le2_ite (fun h14 => ?_) (fun h14 => ?_)
      · refine r_tsI (off := 52) (t := 58) f210_6 h14 rfl rfl (by decide) rfl ?_
        refine r_aln0 (p := 59) f210_58 rfl ?_
        refine r_ldcR (p := 61) f210_59 rfl rfl ?_
        refine le2_gd (fun h15 => ?_)
        refine r_invV (p := 64) f210_61 rfl rfl rfl (Or.inl h15) hd (Nat.le_of_ble_eq_true rfl) rfl rfl rfl (fun _ => rfl) (fun m3 c3 => ?_)
        have hz3 := z_k c3 hz
        refine r_goto (p := 228) f210_64 (by decide) rfl ?_
        exact r_ret f210_228
      · refine le2_ite (fun h10 => ?_) (fun h10 => ?_)
        · refine r_tsI (off := 61) (t := 67) f210_6 h10 rfl rfl (by decide) rfl ?_
          refine r_aln0 (p := 68) f210_67 rfl ?_
          refine r_aln1 (p := 69) f210_68 rfl ?_
          refine r_gfR (f := 1) (p := 72) f210_69 rfl rfl rfl (Or.inl h1) rfl ?_
          refine r_nmR (fun v8 ev8 => ?_)
          refine r_iln2 (p := 73) f210_72 rfl ?_
          refine le2_gd (fun h11 => ?_)
          refine le2_gd (fun h12 => ?_)
          refine r_laload (p := 74) f210_73 rfl (dj2 (fun x => x % 1000 = 102) h11 (by decide) (by decide)) h12 rfl ?_
          refine le2_gd (fun h13 => ?_)
          refine r_invV (p := 77) f210_74 rfl rfl rfl (Or.inl h13) hd (Nat.le_of_ble_eq_true rfl) rfl rfl rfl (fun _ => rfl) (fun m2 c2 => ?_)
          have hz2 := z_k c2 hz
          refine r_goto (p := 228) f210_77 (by decide) rfl ?_
          exact r_ret f210_228
        · refine le2_ite (fun h4 => ?_) (fun h4 => ?_)
          · refine r_tsI (off := 74) (t := 80) f210_6 h4 rfl rfl (by decide) rfl ?_
            refine r_aln0 (p := 81) f210_80 rfl ?_
            refine r_aln1 (p := 82) f210_81 rfl ?_
            refine r_aln1 (p := 83) f210_82 rfl ?_
            refine r_gfR (f := 2) (p := 86) f210_83 rfl rfl rfl (Or.inl h1) rfl ?_
            refine r_nmR (fun v9 ev9 => ?_)
            refine r_iln2 (p := 87) f210_86 rfl ?_
            refine le2_gd (fun h5 => ?_)
            refine le2_gd (fun h6 => ?_)
            refine r_iaload (p := 88) f210_87 rfl (dj2 (fun x => x % 1000 = 101) h5 (by decide) (by decide)) h6 rfl ?_
            refine r_aln1 (p := 89) f210_88 rfl ?_
            refine r_gfR (f := 3) (p := 92) f210_89 rfl rfl rfl (Or.inl h1) rfl ?_
            refine r_nmR (fun v10 ev10 => ?_)
            refine r_iln2 (p := 93) f210_92 rfl ?_
            refine le2_gd (fun h7 => ?_)
            refine le2_gd (fun h8 => ?_)
            refine r_iaload (p := 94) f210_93 rfl (dj2 (fun x => x % 1000 = 101) h7 (by decide) (by decide)) h8 rfl ?_
            refine r_bipush (p := 96) f210_94 rfl (pinD rfl rfl) ?_
            refine le2_gd (fun h9 => ?_)
            refine r_invV (p := 99) f210_96 rfl rfl rfl (Or.inl h9) hd (Nat.le_of_ble_eq_true rfl) rfl rfl rfl (fun _ => rfl) (fun m1 c1 => ?_)
            have hz1 := z_k c1 hz
            refine r_goto (p := 228) f210_99 (by decide) rfl ?_
            exact r_ret f210_228
          · refine r_tsO (t := 102) f210_6 (by omega) (by decide) rfl ?_
            refine r_aln1 (p := 103) f210_102 rfl ?_
            refine r_gfR (f := 0) (p := 106) f210_103 rfl rfl rfl (Or.inl h1) ev6.symm ?_
            refine r_iln2 (p := 107) f210_106 rfl ?_
            refine r_iaload (p := 108) f210_107 rfl (dj2 (fun x => x % 1000 = 101) h2 (by decide) (by decide)) h3 ev7.symm ?_
            refine r_iconst (p := 109) f210_108 rfl (pinD rfl rfl) ?_
            refine r_icne (t := 116) (p := 112) f210_109 (by decide) rfl rfl ?_ ?_
            · refine r_iconst (p := 113) f210_112 rfl (pinD rfl rfl) ?_
              refine r_goto (p := 117) f210_113 (by decide) rfl ?_
              exact le2_refl _
            · refine r_iconst (p := 117) f210_116 rfl (pinD rfl rfl) ?_
              exact le2_refl _
theorem q210_117 {d : Nat} {m : Mem} {a0 a1 a2 s0 : Int} (hd : 0 < d) (hz : TZ m) : le2 (if s0 = 0 then (gd (tg m a0 = 11) <| bV (cl (d - 1) 212 [pR a0, pI 123] m) fun m1 => gd (tg m1 a1 = 13) <| nm (vl m1 a1 4) fun v3 => gd (tg m1 v3 = 284101 ∨ tg m1 v3 = 287101) <| gd ((0 : Int) ≤ a2 ∧ a2 < ln m1 v3) <| rn d 210 141 [pR a0, pR a1, pI a2, pI s0, pI (vl m1 v3 a2)] [] m1) else gd (tg m a0 = 11) <| bV (cl (d - 1) 212 [pR a0, pI 91] m) fun m2 => gd (tg m2 a1 = 13) <| nm (vl m2 a1 4) fun v4 => gd (tg m2 v4 = 284101 ∨ tg m2 v4 = 287101) <| gd ((0 : Int) ≤ a2 ∧ a2 < ln m2 v4) <| rn d 210 141 [pR a0, pR a1, pI a2, pI s0, pI (vl m2 v4 a2)] [] m2) (rn d 210 117 [pR a0, pR a1, pI a2, pU, pU] [pI s0] m) := by
  refine r_isn3 (p := 118) f210_117 rfl rfl ?_
  refine r_aln0 (p := 119) f210_118 rfl ?_
  refine r_iln3 (p := 120) f210_119 rfl ?_
  refine r_ifeq (t := 128) (p := 123) f210_120 (by decide) rfl rfl ?_ ?_
  · refine r_bipush (p := 130) f210_128 rfl (pinD rfl rfl) ?_
    refine le2_gd (fun h1 => ?_)
    refine r_invV (p := 133) f210_130 rfl rfl rfl (Or.inl h1) hd (Nat.le_of_ble_eq_true rfl) rfl rfl rfl (fun _ => rfl) (fun m1 c1 => ?_)
    have hz1 := z_k c1 hz
    refine r_aln1 (p := 134) f210_133 rfl ?_
    refine le2_gd (fun h2 => ?_)
    refine r_gfR (f := 4) (p := 137) f210_134 rfl rfl rfl (Or.inl h2) rfl ?_
    refine r_nmR (fun v3 ev3 => ?_)
    refine r_iln2 (p := 138) f210_137 rfl ?_
    refine le2_gd (fun h3 => ?_)
    refine le2_gd (fun h4 => ?_)
    refine r_iaload (p := 139) f210_138 rfl (dj2 (fun x => x % 1000 = 101) h3 (by decide) (by decide)) h4 rfl ?_
    refine r_isw4 (p := 141) f210_139 rfl rfl ?_
    exact le2_refl _
  · refine r_bipush (p := 125) f210_123 rfl (pinD rfl rfl) ?_
    refine r_goto (p := 130) f210_125 (by decide) rfl ?_
    refine le2_gd (fun h5 => ?_)
    refine r_invV (p := 133) f210_130 rfl rfl rfl (Or.inl h5) hd (Nat.le_of_ble_eq_true rfl) rfl rfl rfl (fun _ => rfl) (fun m2 c2 => ?_)
    have hz2 := z_k c2 hz
    refine r_aln1 (p := 134) f210_133 rfl ?_
    refine le2_gd (fun h6 => ?_)
    refine r_gfR (f := 4) (p := 137) f210_134 rfl rfl rfl (Or.inl h6) rfl ?_
    refine r_nmR (fun v4 ev4 => ?_)
    refine r_iln2 (p := 138) f210_137 rfl ?_
    refine le2_gd (fun h7 => ?_)
    refine le2_gd (fun h8 => ?_)
    refine r_iaload (p := 139) f210_138 rfl (dj2 (fun x => x % 1000 = 101) h7 (by decide) (by decide)) h8 rfl ?_
    refine r_isw4 (p := 141) f210_139 rfl rfl ?_
    exact le2_refl _
theorem q210_141 {d : Nat} {m : Mem} {a0 a1 a2 a3 a4 : Int} (hd : 0 < d) (hz : TZ m) : le2 (if a4 < 0 then (if a3 = 0 then (gd (tg m a0 = 11) <| bV (cl (d - 1) 212 [pR a0, pI 125] m) fun m1 => some (.inl none, m1)) else gd (tg m a0 = 11) <| bV (cl (d - 1) 212 [pR a0, pI 93] m) fun m2 => some (.inl none, m2)) else gd (tg m a1 = 13) <| nm (vl m a1 4) fun v4 => gd (tg m v4 = 284101 ∨ tg m v4 = 287101) <| gd ((0 : Int) ≤ a2 ∧ a2 < ln m v4) <| if a4 = (vl m v4 a2) then (rn d 210 163 [pR a0, pR a1, pI a2, pI a3, pI a4] [] m) else gd (tg m a0 = 11) <| bV (cl (d - 1) 212 [pR a0, pI 44] m) fun m3 => rn d 210 163 [pR a0, pR a1, pI a2, pI a3, pI a4] [] m3) (rn d 210 141 [pR a0, pR a1, pI a2, pI a3, pI a4] [] m) := by
  refine r_ilw4 (p := 143) f210_141 rfl ?_
  refine r_iflt (t := 213) (p := 146) f210_143 (by decide) rfl rfl ?_ ?_
  · refine r_aln0 (p := 214) f210_213 rfl ?_
    refine r_iln3 (p := 215) f210_214 rfl ?_
    refine r_ifeq (t := 223) (p := 218) f210_215 (by decide) rfl rfl ?_ ?_
    · refine r_bipush (p := 225) f210_223 rfl (pinD rfl rfl) ?_
      refine le2_gd (fun h1 => ?_)
      refine r_invV (p := 228) f210_225 rfl rfl rfl (Or.inl h1) hd (Nat.le_of_ble_eq_true rfl) rfl rfl rfl (fun _ => rfl) (fun m1 c1 => ?_)
      have hz1 := z_k c1 hz
      exact r_ret f210_228
    · refine r_bipush (p := 220) f210_218 rfl (pinD rfl rfl) ?_
      refine r_goto (p := 225) f210_220 (by decide) rfl ?_
      refine le2_gd (fun h2 => ?_)
      refine r_invV (p := 228) f210_225 rfl rfl rfl (Or.inl h2) hd (Nat.le_of_ble_eq_true rfl) rfl rfl rfl (fun _ => rfl) (fun m2 c2 => ?_)
      have hz2 := z_k c2 hz
      exact r_ret f210_228
  · refine r_ilw4 (p := 148) f210_146 rfl ?_
    refine r_aln1 (p := 149) f210_148 rfl ?_
    refine le2_gd (fun h3 => ?_)
    refine r_gfR (f := 4) (p := 152) f210_149 rfl rfl rfl (Or.inl h3) rfl ?_
    refine r_nmR (fun v4 ev4 => ?_)
    refine r_iln2 (p := 153) f210_152 rfl ?_
    refine le2_gd (fun h4 => ?_)
    refine le2_gd (fun h5 => ?_)
    refine r_iaload (p := 154) f210_153 rfl (dj2 (fun x => x % 1000 = 101) h4 (by decide) (by decide)) h5 rfl ?_
    refine r_iceq (t := 163) (p := 157) f210_154 (by decide) rfl rfl ?_ ?_
    · exact le2_refl _
    · refine r_aln0 (p := 158) f210_157 rfl ?_
      refine r_bipush (p := 160) f210_158 rfl (pinD rfl rfl) ?_
      refine le2_gd (fun h6 => ?_)
      refine r_invV (p := 163) f210_160 rfl rfl rfl (Or.inl h6) hd (Nat.le_of_ble_eq_true rfl) rfl rfl rfl (fun _ => rfl) (fun m3 c3 => ?_)
      have hz3 := z_k c3 hz
      exact le2_refl _
theorem q210_163 {d : Nat} {m : Mem} {a0 a1 a2 a3 a4 : Int} (hd : 0 < d) (hz : TZ m) : le2 (if a3 = 0 then (gd (tg m a1 = 13) <| nm (vl m a1 6) fun v3 => gd (tg m v3 = 284101 ∨ tg m v3 = 287101) <| gd ((0 : Int) ≤ a4 ∧ a4 < ln m v3) <| nm (vl m a1 7) fun v4 => gd (tg m v4 = 284101 ∨ tg m v4 = 287101) <| gd ((0 : Int) ≤ a4 ∧ a4 < ln m v4) <| gd (tg m a0 = 11) <| bV (cl (d - 1) 214 [pR a0, pR a1, pI (vl m v3 a4), pI (vl m v4 a4), pI 34] m) fun m1 => bV (cl (d - 1) 212 [pR a0, pI 58] m1) fun m2 => rn d 210 194 [pR a0, pR a1, pI a2, pI a3, pI a4] [] m2) else rn d 210 194 [pR a0, pR a1, pI a2, pI a3, pI a4] [] m) (rn d 210 163 [pR a0, pR a1, pI a2, pI a3, pI a4] [] m) := by
  refine r_iln3 (p := 164) f210_163 rfl ?_
  refine r_ifne (t := 194) (p := 167) f210_164 (by decide) rfl rfl ?_ ?_
  · refine r_aln0 (p := 168) f210_167 rfl ?_
    refine r_aln1 (p := 169) f210_168 rfl ?_
    refine r_aln1 (p := 170) f210_169 rfl ?_
    refine le2_gd (fun h1 => ?_)
    refine r_gfR (f := 6) (p := 173) f210_170 rfl rfl rfl (Or.inl h1) rfl ?_
    refine r_nmR (fun v3 ev3 => ?_)
    refine r_ilw4 (p := 175) f210_173 rfl ?_
    refine le2_gd (fun h2 => ?_)
    refine le2_gd (fun h3 => ?_)
    refine r_iaload (p := 176) f210_175 rfl (dj2 (fun x => x % 1000 = 101) h2 (by decide) (by decide)) h3 rfl ?_
    refine r_aln1 (p := 177) f210_176 rfl ?_
    refine r_gfR (f := 7) (p := 180) f210_177 rfl rfl rfl (Or.inl h1) rfl ?_
    refine r_nmR (fun v4 ev4 => ?_)
    refine r_ilw4 (p := 182) f210_180 rfl ?_
    refine le2_gd (fun h4 => ?_)
    refine le2_gd (fun h5 => ?_)
    refine r_iaload (p := 183) f210_182 rfl (dj2 (fun x => x % 1000 = 101) h4 (by decide) (by decide)) h5 rfl ?_
    refine r_bipush (p := 185) f210_183 rfl (pinD rfl rfl) ?_
    refine le2_gd (fun h6 => ?_)
    refine r_invV (p := 188) f210_185 rfl rfl rfl (Or.inl h6) hd (Nat.le_of_ble_eq_true rfl) rfl rfl rfl (fun _ => rfl) (fun m1 c1 => ?_)
    have hz1 := z_k c1 hz
    refine r_aln0 (p := 189) f210_188 rfl ?_
    refine r_bipush (p := 191) f210_189 rfl (pinD rfl rfl) ?_
    have h7 := k_t1 c1 hz h6 (by decide)
    refine r_invV (p := 194) f210_191 rfl rfl rfl (Or.inl h7) hd (Nat.le_of_ble_eq_true rfl) rfl rfl rfl (fun _ => rfl) (fun m2 c2 => ?_)
    have hz2 := z_k c2 hz1
    exact le2_refl _
  · exact le2_refl _
theorem q210_194 {d : Nat} {m : Mem} {a0 a1 a2 a3 a4 : Int} (hd : 0 < d) (hz : TZ m) : le2 (gd (tg m a0 = 11) <| bV (cl (d - 1) 210 [pR a0, pR a1, pI a4] m) fun m1 => gd (tg m1 a1 = 13) <| nm (vl m1 a1 5) fun v2 => gd (tg m1 v2 = 284101 ∨ tg m1 v2 = 287101) <| gd ((0 : Int) ≤ a4 ∧ a4 < ln m1 v2) <| rn d 210 141 [pR a0, pR a1, pI a2, pI a3, pI (vl m1 v2 a4)] [] m1) (rn d 210 194 [pR a0, pR a1, pI a2, pI a3, pI a4] [] m) := by
  refine r_aln0 (p := 195) f210_194 rfl ?_
  refine r_aln1 (p := 196) f210_195 rfl ?_
  refine r_ilw4 (p := 198) f210_196 rfl ?_
  refine le2_gd (fun h1 => ?_)
  refine r_invV (p := 201) f210_198 rfl rfl rfl (Or.inl h1) hd (Nat.le_of_ble_eq_true rfl) rfl rfl rfl (fun _ => rfl) (fun m1 c1 => ?_)
  have hz1 := z_k c1 hz
  refine r_aln1 (p := 202) f210_201 rfl ?_
  refine le2_gd (fun h2 => ?_)
  refine r_gfR (f := 5) (p := 205) f210_202 rfl rfl rfl (Or.inl h2) rfl ?_
  refine r_nmR (fun v2 ev2 => ?_)
  refine r_ilw4 (p := 207) f210_205 rfl ?_
  refine le2_gd (fun h3 => ?_)
  refine le2_gd (fun h4 => ?_)
  refine r_iaload (p := 208) f210_207 rfl (dj2 (fun x => x % 1000 = 101) h3 (by decide) (by decide)) h4 rfl ?_
  refine r_isw4 (p := 210) f210_208 rfl rfl ?_
  refine r_goto (p := 141) f210_210 (by decide) rfl ?_
  exact le2_refl _
/-! 211 PathStoreModel.write (Ljava/lang/String;)V -/
def w211_1 : List UInt8 := [167, 255, 236, 177]
abbrev u211_1 : List UInt8 := w211_1 ++ []
def w211_0 : List UInt8 := [3, 61, 28, 43, 182, 0, 175, 162, 0, 18, 42, 43, 28, 182, 0, 179, 182, 1, 3, 132, 2, 1]
abbrev u211_0 : List UInt8 := w211_0 ++ u211_1
theorem s211_0 : (prog_32_method_27_code).data.toList.drop 0 = u211_0 := by decide +kernel
theorem s211_1 : (prog_32_method_27_code).data.toList.drop 22 = u211_1 := dk_seg s211_0 22 rfl rfl
theorem Fm211 {pc len : Nat} {i : Instr} (h : decode (prog_32_method_27_code) pc = .ok (i, len)) (hl : len = ilen i len) : ft 211 pc = some (11, 0, 0, i, len) := ft_mk rfl h hl
theorem f211_0 : ft 211 0 = some (11, 0, 0, .iconst 0, 1) := Fm211 (dk_3 (dk_at s211_0 0 rfl rfl)) rfl
theorem f211_1 : ft 211 1 = some (11, 0, 0, .istore_n 2, 1) := Fm211 (dk_61 (dk_at s211_0 1 rfl rfl)) rfl
theorem f211_2 : ft 211 2 = some (11, 0, 0, .iload_n 2, 1) := Fm211 (dk_28 (dk_at s211_0 2 rfl rfl)) rfl
theorem f211_3 : ft 211 3 = some (11, 0, 0, .aload_n 1, 1) := Fm211 (dk_43 (dk_at s211_0 3 rfl rfl)) rfl
theorem f211_4 : ft 211 4 = some (11, 0, 0, .invokevirtual 175, 3) := Fm211 (dk_182 0 175 (dk_at s211_0 4 rfl rfl)) rfl
theorem f211_7 : ft 211 7 = some (11, 0, 0, .if_icmp .ge 18, 3) := Fm211 (dk_162 0 18 (dk_at s211_0 7 rfl rfl)) rfl
theorem f211_10 : ft 211 10 = some (11, 0, 0, .aload_n 0, 1) := Fm211 (dk_42 (dk_at s211_0 10 rfl rfl)) rfl
theorem f211_11 : ft 211 11 = some (11, 0, 0, .aload_n 1, 1) := Fm211 (dk_43 (dk_at s211_0 11 rfl rfl)) rfl
theorem f211_12 : ft 211 12 = some (11, 0, 0, .iload_n 2, 1) := Fm211 (dk_28 (dk_at s211_0 12 rfl rfl)) rfl
theorem f211_13 : ft 211 13 = some (11, 0, 0, .invokevirtual 179, 3) := Fm211 (dk_182 0 179 (dk_at s211_0 13 rfl rfl)) rfl
theorem f211_16 : ft 211 16 = some (11, 0, 0, .invokevirtual 259, 3) := Fm211 (dk_182 1 3 (dk_at s211_0 16 rfl rfl)) rfl
theorem f211_19 : ft 211 19 = some (11, 0, 0, .iinc 2 1, 3) := Fm211 (dk_132 2 1 (dk_at s211_0 19 rfl rfl)) rfl
theorem f211_22 : ft 211 22 = some (11, 0, 0, .goto (-20), 3) := Fm211 (dk_167 255 236 (dk_at s211_1 0 rfl rfl)) rfl
theorem f211_25 : ft 211 25 = some (11, 0, 0, .return_, 1) := Fm211 (dk_177 (dk_at s211_1 3 rfl rfl)) rfl
theorem q211 {d : Nat} {m : Mem} {a0 a1 : Int} (hz : TZ m) : le2 (rn d 211 2 [pR a0, pR a1, pI 0] [] m) (cl d 211 [pR a0, pR a1] m) := by
  refine q_in (n := 3) (L := [pR a0, pR a1, pU]) rfl rfl rfl ?_
  refine r_iconst (p := 1) f211_0 rfl (pinD rfl rfl) ?_
  refine r_isn2 (p := 2) f211_1 rfl rfl ?_
  exact le2_refl _
theorem q211_2 {d : Nat} {m : Mem} {a0 a1 a2 : Int} (hd : 0 < d) (hz : TZ m) : le2 (gd (tg m a1 = 31) <| bI (cl (d - 1) 349 [pR a1] m) fun v1 m1 => if a2 < v1 then (bI (cl (d - 1) 351 [pR a1, pI a2] m1) fun v2 m2 => gd (tg m2 a0 = 11) <| bV (cl (d - 1) 212 [pR a0, pI v2] m2) fun m3 => rn d 211 2 [pR a0, pR a1, pI (w32 (a2 + 1))] [] m3) else some (.inl none, m1)) (rn d 211 2 [pR a0, pR a1, pI a2] [] m) := by
  refine r_iln2 (p := 3) f211_2 rfl ?_
  refine r_aln1 (p := 4) f211_3 rfl ?_
  refine le2_gd (fun h1 => ?_)
  refine r_invI (p := 7) f211_4 rfl rfl rfl (Or.inl h1) hd (Nat.le_of_ble_eq_true rfl) rfl rfl rfl (fun _ => rfl) (fun v1 m1 c1 => ?_)
  have hz1 := z_k c1 hz
  refine r_icge (t := 25) (p := 10) f211_7 (by decide) rfl rfl ?_ ?_
  · refine r_aln0 (p := 11) f211_10 rfl ?_
    refine r_aln1 (p := 12) f211_11 rfl ?_
    refine r_iln2 (p := 13) f211_12 rfl ?_
    have h2 := k_t1 c1 hz h1 (by decide)
    refine r_invI (p := 16) f211_13 rfl rfl rfl (Or.inl h2) hd (Nat.le_of_ble_eq_true rfl) rfl rfl rfl (fun _ => rfl) (fun v2 m2 c2 => ?_)
    have hz2 := z_k c2 hz1
    refine le2_gd (fun h3 => ?_)
    refine r_invV (p := 19) f211_16 rfl rfl rfl (Or.inl h3) hd (Nat.le_of_ble_eq_true rfl) rfl rfl rfl (fun _ => rfl) (fun m3 c3 => ?_)
    have hz3 := z_k c3 hz2
    refine r_iinc2 (p := 22) f211_19 rfl rfl ?_
    refine r_goto (p := 2) f211_22 (by decide) rfl ?_
    exact le2_refl _
  · exact r_ret f211_25
/-! 212 PathStoreModel.write (I)V -/
def w212_1 : List UInt8 := [145, 84, 42, 89, 180, 0, 252, 4, 96, 181, 0, 252, 177]
abbrev u212_1 : List UInt8 := w212_1 ++ []
def w212_0 : List UInt8 := [42, 180, 0, 252, 18, 70, 161, 0, 9, 42, 4, 181, 0, 255, 177, 42, 180, 0, 98, 42, 180, 0, 252, 27]
abbrev u212_0 : List UInt8 := w212_0 ++ u212_1
theorem s212_0 : (prog_32_method_25_code).data.toList.drop 0 = u212_0 := by decide +kernel
theorem s212_1 : (prog_32_method_25_code).data.toList.drop 24 = u212_1 := dk_seg s212_0 24 rfl rfl
theorem Fm212 {pc len : Nat} {i : Instr} (h : decode (prog_32_method_25_code) pc = .ok (i, len)) (hl : len = ilen i len) : ft 212 pc = some (11, 0, 0, i, len) := ft_mk rfl h hl
theorem f212_0 : ft 212 0 = some (11, 0, 0, .aload_n 0, 1) := Fm212 (dk_42 (dk_at s212_0 0 rfl rfl)) rfl
theorem f212_1 : ft 212 1 = some (11, 0, 0, .getfield 252, 3) := Fm212 (dk_180 0 252 (dk_at s212_0 1 rfl rfl)) rfl
theorem f212_4 : ft 212 4 = some (11, 0, 0, .ldc 70, 2) := Fm212 (dk_18 70 (dk_at s212_0 4 rfl rfl)) rfl
theorem f212_6 : ft 212 6 = some (11, 0, 0, .if_icmp .lt 9, 3) := Fm212 (dk_161 0 9 (dk_at s212_0 6 rfl rfl)) rfl
theorem f212_9 : ft 212 9 = some (11, 0, 0, .aload_n 0, 1) := Fm212 (dk_42 (dk_at s212_0 9 rfl rfl)) rfl
theorem f212_10 : ft 212 10 = some (11, 0, 0, .iconst 1, 1) := Fm212 (dk_4 (dk_at s212_0 10 rfl rfl)) rfl
theorem f212_11 : ft 212 11 = some (11, 0, 0, .putfield 255, 3) := Fm212 (dk_181 0 255 (dk_at s212_0 11 rfl rfl)) rfl
theorem f212_14 : ft 212 14 = some (11, 0, 0, .return_, 1) := Fm212 (dk_177 (dk_at s212_0 14 rfl rfl)) rfl
theorem f212_15 : ft 212 15 = some (11, 0, 0, .aload_n 0, 1) := Fm212 (dk_42 (dk_at s212_0 15 rfl rfl)) rfl
theorem f212_16 : ft 212 16 = some (11, 0, 0, .getfield 98, 3) := Fm212 (dk_180 0 98 (dk_at s212_0 16 rfl rfl)) rfl
theorem f212_19 : ft 212 19 = some (11, 0, 0, .aload_n 0, 1) := Fm212 (dk_42 (dk_at s212_0 19 rfl rfl)) rfl
theorem f212_20 : ft 212 20 = some (11, 0, 0, .getfield 252, 3) := Fm212 (dk_180 0 252 (dk_at s212_0 20 rfl rfl)) rfl
theorem f212_23 : ft 212 23 = some (11, 0, 0, .iload_n 1, 1) := Fm212 (dk_27 (dk_at s212_0 23 rfl rfl)) rfl
theorem f212_24 : ft 212 24 = some (11, 0, 0, .i2b, 1) := Fm212 (dk_145 (dk_at s212_1 0 rfl rfl)) rfl
theorem f212_25 : ft 212 25 = some (11, 0, 0, .bastore, 1) := Fm212 (dk_84 (dk_at s212_1 1 rfl rfl)) rfl
theorem f212_26 : ft 212 26 = some (11, 0, 0, .aload_n 0, 1) := Fm212 (dk_42 (dk_at s212_1 2 rfl rfl)) rfl
theorem f212_27 : ft 212 27 = some (11, 0, 0, .dup, 1) := Fm212 (dk_89 (dk_at s212_1 3 rfl rfl)) rfl
theorem f212_28 : ft 212 28 = some (11, 0, 0, .getfield 252, 3) := Fm212 (dk_180 0 252 (dk_at s212_1 4 rfl rfl)) rfl
theorem f212_31 : ft 212 31 = some (11, 0, 0, .iconst 1, 1) := Fm212 (dk_4 (dk_at s212_1 7 rfl rfl)) rfl
theorem f212_32 : ft 212 32 = some (11, 0, 0, .iadd, 1) := Fm212 (dk_96 (dk_at s212_1 8 rfl rfl)) rfl
theorem f212_33 : ft 212 33 = some (11, 0, 0, .putfield 252, 3) := Fm212 (dk_181 0 252 (dk_at s212_1 9 rfl rfl)) rfl
theorem f212_36 : ft 212 36 = some (11, 0, 0, .return_, 1) := Fm212 (dk_177 (dk_at s212_1 12 rfl rfl)) rfl
theorem q212 {d : Nat} {m : Mem} {a0 a1 : Int} (hz : TZ m) : le2 (gd (tg m a0 = 11) <| nm (vl m a0 16) fun v1 => if v1 < 32768 then (nm (vl m a0 15) fun v2 => gd (tg m v2 = 186103) <| gd ((0 : Int) ≤ v1 ∧ v1 < ln m v2) <| some (.inl none, (mst (mst m v2 v1 (w8 (w8 a1))) a0 16 (w32 (v1 + 1))))) else some (.inl none, (mst m a0 17 1))) (cl d 212 [pR a0, pI a1] m) := by
  refine q_in (n := 2) (L := [pR a0, pI a1]) rfl rfl rfl ?_
  refine r_aln0 (p := 1) f212_0 rfl ?_
  refine le2_gd (fun h1 => ?_)
  refine r_gfI (f := 16) (p := 4) f212_1 rfl rfl rfl (Or.inl h1) rfl ?_
  refine r_nmI (fun v1 ev1 => ?_)
  refine r_ldcI (p := 6) f212_4 rfl rfl (pinD rfl rfl) ?_
  refine r_iclt (t := 15) (p := 9) f212_6 (by decide) rfl rfl ?_ ?_
  · refine r_aln0 (p := 16) f212_15 rfl ?_
    refine r_gfR (f := 15) (p := 19) f212_16 rfl rfl rfl (Or.inl h1) rfl ?_
    refine r_nmR (fun v2 ev2 => ?_)
    refine r_aln0 (p := 20) f212_19 rfl ?_
    refine r_gfI (f := 16) (p := 23) f212_20 rfl rfl rfl (Or.inl h1) ev1.symm ?_
    refine r_iln1 (p := 24) f212_23 rfl ?_
    refine r_i2b (p := 25) f212_24 rfl ?_
    refine le2_gd (fun h2 => ?_)
    refine le2_gd (fun h3 => ?_)
    refine r_bastore (p := 26) f212_25 rfl (dj1 (fun x => 1000 ≤ x ∧ x % 1000 = 103 ∧ Nat.testBit (eM 212) (bix x 0) = true) h2 (by decide)) h3 ?_
    refine r_aln0 (p := 27) f212_26 rfl ?_
    refine r_dup (p := 28) f212_27 rfl rfl ?_
    refine r_gfI (f := 16) (p := 31) f212_28 rfl rfl rfl (Or.inl h1) (Eq.trans (sk_o (ne_oa (dj1 (fun x => x < 100) h1 (by decide)) (dj1 (fun x => ¬ x < 100) h2 (by decide)))) ev1.symm) ?_
    refine r_iconst (p := 32) f212_31 rfl (pinD rfl rfl) ?_
    refine r_iadd (p := 33) f212_32 rfl ?_
    refine r_pfI (f := 16) (p := 36) f212_33 rfl rfl rfl (by decide) (by decide) (Or.inl h1) rfl ?_
    exact r_ret f212_36
  · refine r_aln0 (p := 10) f212_9 rfl ?_
    refine r_iconst (p := 11) f212_10 rfl (pinD rfl rfl) ?_
    refine r_pfZ (f := 17) (p := 14) f212_11 rfl rfl rfl (by decide) (by decide) (Or.inl h1) rfl (by decide) ?_
    exact r_ret f212_14
/-! 213 PathStoreModel.number (J)V -/
def w213_4 : List UInt8 := [167, 255, 208, 177]
abbrev u213_4 : List UInt8 := w213_4 ++ []
def w213_3 : List UInt8 := [156, 0, 9, 22, 7, 117, 167, 0, 5, 22, 7, 136, 96, 182, 1, 3, 22, 5, 20, 0, 237, 109, 55, 5]
abbrev u213_3 : List UInt8 := w213_3 ++ u213_4
def w213_2 : List UInt8 := [9, 148, 158, 0, 47, 31, 22, 5, 109, 20, 0, 237, 113, 55, 7, 42, 16, 48, 22, 7, 9, 148]
abbrev u213_2 : List UInt8 := w213_2 ++ u213_3
def w213_1 : List UInt8 := [31, 33, 109, 20, 1, 6, 148, 157, 0, 12, 33, 20, 0, 237, 105, 66, 167, 255, 230, 33, 55, 5, 22, 5]
abbrev u213_1 : List UInt8 := w213_1 ++ u213_2
def w213_0 : List UInt8 := [31, 9, 148, 156, 0, 9, 42, 16, 45, 182, 1, 3, 10, 66, 31, 33, 109, 20, 0, 237, 148, 156, 0, 13]
abbrev u213_0 : List UInt8 := w213_0 ++ u213_1
theorem s213_0 : (prog_32_method_26_code).data.toList.drop 0 = u213_0 := by decide +kernel
theorem s213_1 : (prog_32_method_26_code).data.toList.drop 24 = u213_1 := dk_seg s213_0 24 rfl rfl
theorem s213_2 : (prog_32_method_26_code).data.toList.drop 48 = u213_2 := dk_seg s213_1 24 rfl rfl
theorem s213_3 : (prog_32_method_26_code).data.toList.drop 70 = u213_3 := dk_seg s213_2 22 rfl rfl
theorem s213_4 : (prog_32_method_26_code).data.toList.drop 94 = u213_4 := dk_seg s213_3 24 rfl rfl
theorem Fm213 {pc len : Nat} {i : Instr} (h : decode (prog_32_method_26_code) pc = .ok (i, len)) (hl : len = ilen i len) : ft 213 pc = some (11, 0, 0, i, len) := ft_mk rfl h hl
theorem f213_0 : ft 213 0 = some (11, 0, 0, .lload_n 1, 1) := Fm213 (dk_31 (dk_at s213_0 0 rfl rfl)) rfl
theorem f213_1 : ft 213 1 = some (11, 0, 0, .lconst 0, 1) := Fm213 (dk_9 (dk_at s213_0 1 rfl rfl)) rfl
theorem f213_2 : ft 213 2 = some (11, 0, 0, .lcmp, 1) := Fm213 (dk_148 (dk_at s213_0 2 rfl rfl)) rfl
theorem f213_3 : ft 213 3 = some (11, 0, 0, .ifCond .ge 9, 3) := Fm213 (dk_156 0 9 (dk_at s213_0 3 rfl rfl)) rfl
theorem f213_6 : ft 213 6 = some (11, 0, 0, .aload_n 0, 1) := Fm213 (dk_42 (dk_at s213_0 6 rfl rfl)) rfl
theorem f213_7 : ft 213 7 = some (11, 0, 0, .bipush 45, 2) := Fm213 (dk_16 45 (dk_at s213_0 7 rfl rfl)) rfl
theorem f213_9 : ft 213 9 = some (11, 0, 0, .invokevirtual 259, 3) := Fm213 (dk_182 1 3 (dk_at s213_0 9 rfl rfl)) rfl
theorem f213_12 : ft 213 12 = some (11, 0, 0, .lconst 1, 1) := Fm213 (dk_10 (dk_at s213_0 12 rfl rfl)) rfl
theorem f213_13 : ft 213 13 = some (11, 0, 0, .lstore_n 3, 1) := Fm213 (dk_66 (dk_at s213_0 13 rfl rfl)) rfl
theorem f213_14 : ft 213 14 = some (11, 0, 0, .lload_n 1, 1) := Fm213 (dk_31 (dk_at s213_0 14 rfl rfl)) rfl
theorem f213_15 : ft 213 15 = some (11, 0, 0, .lload_n 3, 1) := Fm213 (dk_33 (dk_at s213_0 15 rfl rfl)) rfl
theorem f213_16 : ft 213 16 = some (11, 0, 0, .ldiv, 1) := Fm213 (dk_109 (dk_at s213_0 16 rfl rfl)) rfl
theorem f213_17 : ft 213 17 = some (11, 0, 0, .ldc2_w 237, 3) := Fm213 (dk_20 0 237 (dk_at s213_0 17 rfl rfl)) rfl
theorem f213_20 : ft 213 20 = some (11, 0, 0, .lcmp, 1) := Fm213 (dk_148 (dk_at s213_0 20 rfl rfl)) rfl
theorem f213_21 : ft 213 21 = some (11, 0, 0, .ifCond .ge 13, 3) := Fm213 (dk_156 0 13 (dk_at s213_0 21 rfl rfl)) rfl
theorem f213_24 : ft 213 24 = some (11, 0, 0, .lload_n 1, 1) := Fm213 (dk_31 (dk_at s213_1 0 rfl rfl)) rfl
theorem f213_25 : ft 213 25 = some (11, 0, 0, .lload_n 3, 1) := Fm213 (dk_33 (dk_at s213_1 1 rfl rfl)) rfl
theorem f213_26 : ft 213 26 = some (11, 0, 0, .ldiv, 1) := Fm213 (dk_109 (dk_at s213_1 2 rfl rfl)) rfl
theorem f213_27 : ft 213 27 = some (11, 0, 0, .ldc2_w 262, 3) := Fm213 (dk_20 1 6 (dk_at s213_1 3 rfl rfl)) rfl
theorem f213_30 : ft 213 30 = some (11, 0, 0, .lcmp, 1) := Fm213 (dk_148 (dk_at s213_1 6 rfl rfl)) rfl
theorem f213_31 : ft 213 31 = some (11, 0, 0, .ifCond .gt 12, 3) := Fm213 (dk_157 0 12 (dk_at s213_1 7 rfl rfl)) rfl
theorem f213_34 : ft 213 34 = some (11, 0, 0, .lload_n 3, 1) := Fm213 (dk_33 (dk_at s213_1 10 rfl rfl)) rfl
theorem f213_35 : ft 213 35 = some (11, 0, 0, .ldc2_w 237, 3) := Fm213 (dk_20 0 237 (dk_at s213_1 11 rfl rfl)) rfl
theorem f213_38 : ft 213 38 = some (11, 0, 0, .lmul, 1) := Fm213 (dk_105 (dk_at s213_1 14 rfl rfl)) rfl
theorem f213_39 : ft 213 39 = some (11, 0, 0, .lstore_n 3, 1) := Fm213 (dk_66 (dk_at s213_1 15 rfl rfl)) rfl
theorem f213_40 : ft 213 40 = some (11, 0, 0, .goto (-26), 3) := Fm213 (dk_167 255 230 (dk_at s213_1 16 rfl rfl)) rfl
theorem f213_43 : ft 213 43 = some (11, 0, 0, .lload_n 3, 1) := Fm213 (dk_33 (dk_at s213_1 19 rfl rfl)) rfl
theorem f213_44 : ft 213 44 = some (11, 0, 0, .lstore 5, 2) := Fm213 (dk_55 5 (dk_at s213_1 20 rfl rfl)) rfl
theorem f213_46 : ft 213 46 = some (11, 0, 0, .lload 5, 2) := Fm213 (dk_22 5 (dk_at s213_1 22 rfl rfl)) rfl
theorem f213_48 : ft 213 48 = some (11, 0, 0, .lconst 0, 1) := Fm213 (dk_9 (dk_at s213_2 0 rfl rfl)) rfl
theorem f213_49 : ft 213 49 = some (11, 0, 0, .lcmp, 1) := Fm213 (dk_148 (dk_at s213_2 1 rfl rfl)) rfl
theorem f213_50 : ft 213 50 = some (11, 0, 0, .ifCond .le 47, 3) := Fm213 (dk_158 0 47 (dk_at s213_2 2 rfl rfl)) rfl
theorem f213_53 : ft 213 53 = some (11, 0, 0, .lload_n 1, 1) := Fm213 (dk_31 (dk_at s213_2 5 rfl rfl)) rfl
theorem f213_54 : ft 213 54 = some (11, 0, 0, .lload 5, 2) := Fm213 (dk_22 5 (dk_at s213_2 6 rfl rfl)) rfl
theorem f213_56 : ft 213 56 = some (11, 0, 0, .ldiv, 1) := Fm213 (dk_109 (dk_at s213_2 8 rfl rfl)) rfl
theorem f213_57 : ft 213 57 = some (11, 0, 0, .ldc2_w 237, 3) := Fm213 (dk_20 0 237 (dk_at s213_2 9 rfl rfl)) rfl
theorem f213_60 : ft 213 60 = some (11, 0, 0, .lrem, 1) := Fm213 (dk_113 (dk_at s213_2 12 rfl rfl)) rfl
theorem f213_61 : ft 213 61 = some (11, 0, 0, .lstore 7, 2) := Fm213 (dk_55 7 (dk_at s213_2 13 rfl rfl)) rfl
theorem f213_63 : ft 213 63 = some (11, 0, 0, .aload_n 0, 1) := Fm213 (dk_42 (dk_at s213_2 15 rfl rfl)) rfl
theorem f213_64 : ft 213 64 = some (11, 0, 0, .bipush 48, 2) := Fm213 (dk_16 48 (dk_at s213_2 16 rfl rfl)) rfl
theorem f213_66 : ft 213 66 = some (11, 0, 0, .lload 7, 2) := Fm213 (dk_22 7 (dk_at s213_2 18 rfl rfl)) rfl
theorem f213_68 : ft 213 68 = some (11, 0, 0, .lconst 0, 1) := Fm213 (dk_9 (dk_at s213_2 20 rfl rfl)) rfl
theorem f213_69 : ft 213 69 = some (11, 0, 0, .lcmp, 1) := Fm213 (dk_148 (dk_at s213_2 21 rfl rfl)) rfl
theorem f213_70 : ft 213 70 = some (11, 0, 0, .ifCond .ge 9, 3) := Fm213 (dk_156 0 9 (dk_at s213_3 0 rfl rfl)) rfl
theorem f213_73 : ft 213 73 = some (11, 0, 0, .lload 7, 2) := Fm213 (dk_22 7 (dk_at s213_3 3 rfl rfl)) rfl
theorem f213_75 : ft 213 75 = some (11, 0, 0, .lneg, 1) := Fm213 (dk_117 (dk_at s213_3 5 rfl rfl)) rfl
theorem f213_76 : ft 213 76 = some (11, 0, 0, .goto 5, 3) := Fm213 (dk_167 0 5 (dk_at s213_3 6 rfl rfl)) rfl
theorem f213_79 : ft 213 79 = some (11, 0, 0, .lload 7, 2) := Fm213 (dk_22 7 (dk_at s213_3 9 rfl rfl)) rfl
theorem f213_81 : ft 213 81 = some (11, 0, 0, .l2i, 1) := Fm213 (dk_136 (dk_at s213_3 11 rfl rfl)) rfl
theorem f213_82 : ft 213 82 = some (11, 0, 0, .iadd, 1) := Fm213 (dk_96 (dk_at s213_3 12 rfl rfl)) rfl
theorem f213_83 : ft 213 83 = some (11, 0, 0, .invokevirtual 259, 3) := Fm213 (dk_182 1 3 (dk_at s213_3 13 rfl rfl)) rfl
theorem f213_86 : ft 213 86 = some (11, 0, 0, .lload 5, 2) := Fm213 (dk_22 5 (dk_at s213_3 16 rfl rfl)) rfl
theorem f213_88 : ft 213 88 = some (11, 0, 0, .ldc2_w 237, 3) := Fm213 (dk_20 0 237 (dk_at s213_3 18 rfl rfl)) rfl
theorem f213_91 : ft 213 91 = some (11, 0, 0, .ldiv, 1) := Fm213 (dk_109 (dk_at s213_3 21 rfl rfl)) rfl
theorem f213_92 : ft 213 92 = some (11, 0, 0, .lstore 5, 2) := Fm213 (dk_55 5 (dk_at s213_3 22 rfl rfl)) rfl
theorem f213_94 : ft 213 94 = some (11, 0, 0, .goto (-48), 3) := Fm213 (dk_167 255 208 (dk_at s213_4 0 rfl rfl)) rfl
theorem f213_97 : ft 213 97 = some (11, 0, 0, .return_, 1) := Fm213 (dk_177 (dk_at s213_4 3 rfl rfl)) rfl
theorem q213 {d : Nat} {m : Mem} {a0 a1 : Int} (hd : 0 < d) (hz : TZ m) : le2 (if a1 < 0 then (gd (tg m a0 = 11) <| bV (cl (d - 1) 212 [pR a0, pI 45] m) fun m1 => rn d 213 14 [pR a0, pL a1, pU, pL 1, pU, pU, pU, pU, pU] [] m1) else rn d 213 14 [pR a0, pL a1, pU, pL 1, pU, pU, pU, pU, pU] [] m) (cl d 213 [pR a0, pL a1] m) := by
  refine q_in (n := 9) (L := [pR a0, pL a1, pU, pU, pU, pU, pU, pU, pU]) rfl rfl rfl ?_
  refine r_lln1 (p := 1) f213_0 rfl ?_
  refine r_lconst0 (p := 2) f213_1 rfl ?_
  refine r_lcge (p1 := 3) (t := 12) (p := 6) f213_2 rfl f213_3 (by decide) rfl rfl ?_ ?_
  · refine r_aln0 (p := 7) f213_6 rfl ?_
    refine r_bipush (p := 9) f213_7 rfl (pinD rfl rfl) ?_
    refine le2_gd (fun h1 => ?_)
    refine r_invV (p := 12) f213_9 rfl rfl rfl (Or.inl h1) hd (Nat.le_of_ble_eq_true rfl) rfl rfl rfl (fun _ => rfl) (fun m1 c1 => ?_)
    have hz1 := z_k c1 hz
    refine r_lconst1 (p := 13) f213_12 rfl ?_
    refine r_lsn3 (p := 14) f213_13 rfl rfl ?_
    exact le2_refl _
  · refine r_lconst1 (p := 13) f213_12 rfl ?_
    refine r_lsn3 (p := 14) f213_13 rfl rfl ?_
    exact le2_refl _
theorem q213_14 {d : Nat} {m : Mem} {a0 a1 a3 : Int} (hz : TZ m) : le2 (gd (a3 ≠ 0) <| if (w64 (a1.tdiv a3)) < 10 then (gd (a3 ≠ 0) <| if (-10) < (w64 (a1.tdiv a3)) then (rn d 213 46 [pR a0, pL a1, pU, pL a3, pU, pL a3, pU, pU, pU] [] m) else rn d 213 14 [pR a0, pL a1, pU, pL (w64 (a3 * 10)), pU, pU, pU, pU, pU] [] m) else rn d 213 14 [pR a0, pL a1, pU, pL (w64 (a3 * 10)), pU, pU, pU, pU, pU] [] m) (rn d 213 14 [pR a0, pL a1, pU, pL a3, pU, pU, pU, pU, pU] [] m) := by
  refine r_lln1 (p := 15) f213_14 rfl ?_
  refine r_lln3 (p := 16) f213_15 rfl ?_
  refine le2_gd (fun h1 => ?_)
  refine r_ldiv (p := 17) f213_16 rfl h1 ?_
  refine r_ldc2 (p := 20) f213_17 rfl rfl (pinD rfl rfl) ?_
  refine r_lcge (p1 := 21) (t := 34) (p := 24) f213_20 rfl f213_21 (by decide) rfl rfl ?_ ?_
  · refine r_lln1 (p := 25) f213_24 rfl ?_
    refine r_lln3 (p := 26) f213_25 rfl ?_
    refine le2_gd (fun h2 => ?_)
    refine r_ldiv (p := 27) f213_26 rfl h2 ?_
    refine r_ldc2 (p := 30) f213_27 rfl rfl (pinD rfl rfl) ?_
    refine r_lcgt (p1 := 31) (t := 43) (p := 34) f213_30 rfl f213_31 (by decide) rfl rfl ?_ ?_
    · refine r_lln3 (p := 44) f213_43 rfl ?_
      refine r_lsw5 (p := 46) f213_44 rfl rfl ?_
      exact le2_refl _
    · refine r_lln3 (p := 35) f213_34 rfl ?_
      refine r_ldc2 (p := 38) f213_35 rfl rfl (pinD rfl rfl) ?_
      refine r_lmul (p := 39) f213_38 rfl ?_
      refine r_lsn3 (p := 40) f213_39 rfl rfl ?_
      refine r_goto (p := 14) f213_40 (by decide) rfl ?_
      exact le2_refl _
  · refine r_lln3 (p := 35) f213_34 rfl ?_
    refine r_ldc2 (p := 38) f213_35 rfl rfl (pinD rfl rfl) ?_
    refine r_lmul (p := 39) f213_38 rfl ?_
    refine r_lsn3 (p := 40) f213_39 rfl rfl ?_
    refine r_goto (p := 14) f213_40 (by decide) rfl ?_
    exact le2_refl _
theorem q213_46 {d : Nat} {m : Mem} {a0 a1 a3 a5 : Int} {z7 : PV} (hd : 0 < d) (hz : TZ m) : le2 (if 0 < a5 then (gd (a5 ≠ 0) <| nm (w64 (a1.tdiv a5)) fun v3 => nm (w64 (v3 - w64 (v3.tdiv 10) * 10)) fun v4 => if v4 < 0 then (gd (tg m a0 = 11) <| bV (cl (d - 1) 212 [pR a0, pI (w32 (48 + (w32 (w64 (-v4)))))] m) fun m2 => rn d 213 46 [pR a0, pL a1, pU, pL a3, pU, pL (w64 (a5.tdiv 10)), pU, pL v4, pU] [] m2) else gd (tg m a0 = 11) <| bV (cl (d - 1) 212 [pR a0, pI (w32 (48 + (w32 v4)))] m) fun m1 => rn d 213 46 [pR a0, pL a1, pU, pL a3, pU, pL (w64 (a5.tdiv 10)), pU, pL v4, pU] [] m1) else some (.inl none, m)) (rn d 213 46 [pR a0, pL a1, pU, pL a3, pU, pL a5, pU, z7, pU] [] m) := by
  refine r_llw5 (p := 48) f213_46 rfl ?_
  refine r_lconst0 (p := 49) f213_48 rfl ?_
  refine r_lcle (p1 := 50) (t := 97) (p := 53) f213_49 rfl f213_50 (by decide) rfl rfl ?_ ?_
  · refine r_lln1 (p := 54) f213_53 rfl ?_
    refine r_llw5 (p := 56) f213_54 rfl ?_
    refine le2_gd (fun h1 => ?_)
    refine r_ldiv (p := 57) f213_56 rfl h1 ?_
    refine r_nmJ (fun v3 ev3 => ?_)
    refine r_ldc2 (p := 60) f213_57 rfl rfl (pinD rfl rfl) ?_
    refine r_lrem (p := 61) f213_60 rfl (by decide) ?_
    refine r_nmJ (fun v4 ev4 => ?_)
    refine r_lsw7 (p := 63) f213_61 rfl rfl ?_
    refine r_aln0 (p := 64) f213_63 rfl ?_
    refine r_bipush (p := 66) f213_64 rfl (pinD rfl rfl) ?_
    refine r_llw7 (p := 68) f213_66 rfl ?_
    refine r_lconst0 (p := 69) f213_68 rfl ?_
    refine r_lcge (p1 := 70) (t := 79) (p := 73) f213_69 rfl f213_70 (by decide) rfl rfl ?_ ?_
    · refine r_llw7 (p := 75) f213_73 rfl ?_
      refine r_lneg (p := 76) f213_75 rfl ?_
      refine r_goto (p := 81) f213_76 (by decide) rfl ?_
      refine r_l2i (p := 82) f213_81 rfl ?_
      refine r_iadd (p := 83) f213_82 rfl ?_
      refine le2_gd (fun h3 => ?_)
      refine r_invV (p := 86) f213_83 rfl rfl rfl (Or.inl h3) hd (Nat.le_of_ble_eq_true rfl) rfl rfl rfl (fun _ => rfl) (fun m2 c2 => ?_)
      have hz2 := z_k c2 hz
      refine r_llw5 (p := 88) f213_86 rfl ?_
      refine r_ldc2 (p := 91) f213_88 rfl rfl (pinD rfl rfl) ?_
      refine r_ldiv (p := 92) f213_91 rfl (by decide) ?_
      refine r_lsw5 (p := 94) f213_92 rfl rfl ?_
      refine r_goto (p := 46) f213_94 (by decide) rfl ?_
      exact le2_refl _
    · refine r_llw7 (p := 81) f213_79 rfl ?_
      refine r_l2i (p := 82) f213_81 rfl ?_
      refine r_iadd (p := 83) f213_82 rfl ?_
      refine le2_gd (fun h2 => ?_)
      refine r_invV (p := 86) f213_83 rfl rfl rfl (Or.inl h2) hd (Nat.le_of_ble_eq_true rfl) rfl rfl rfl (fun _ => rfl) (fun m1 c1 => ?_)
      have hz1 := z_k c1 hz
      refine r_llw5 (p := 88) f213_86 rfl ?_
      refine r_ldc2 (p := 91) f213_88 rfl rfl (pinD rfl rfl) ?_
      refine r_ldiv (p := 92) f213_91 rfl (by decide) ?_
      refine r_lsw5 (p := 94) f213_92 rfl rfl ?_
      refine r_goto (p := 46) f213_94 (by decide) rfl ?_
      exact le2_refl _
  · exact r_ret f213_97
/-! 214 PathStoreModel.units (LPathStoreModel$Tree;III)V -/
def w214_9 : List UInt8 := [177]
abbrev u214_9 : List UInt8 := w214_9 ++ []
def w214_8 : List UInt8 := [167, 255, 230, 167, 0, 9, 42, 21, 6, 182, 1, 3, 132, 5, 1, 167, 255, 60, 42, 21, 4, 182, 1, 3]
abbrev u214_8 : List UInt8 := w214_8 ++ u214_9
def w214_7 : List UInt8 := [155, 0, 27, 42, 19, 1, 15, 21, 6, 21, 8, 122, 16, 15, 126, 182, 0, 179, 182, 1, 3, 132, 8, 252]
abbrev u214_7 : List UInt8 := w214_7 ++ u214_8
def w214_6 : List UInt8 := [161, 0, 10, 21, 6, 16, 126, 164, 0, 46, 42, 19, 1, 10, 182, 1, 12, 16, 12, 54, 8, 21, 8]
abbrev u214_6 : List UInt8 := w214_6 ++ u214_7
def w214_5 : List UInt8 := [16, 92, 182, 1, 3, 42, 19, 1, 8, 21, 7, 182, 0, 179, 182, 1, 3, 167, 0, 66, 21, 6, 16, 32]
abbrev u214_5 : List UInt8 := w214_5 ++ u214_6
def w214_4 : List UInt8 := [160, 0, 18, 42, 16, 92, 182, 1, 3, 42, 21, 6, 182, 1, 3, 167, 0, 92, 21, 7, 155, 0, 24, 42]
abbrev u214_4 : List UInt8 := w214_4 ++ u214_5
def w214_3 : List UInt8 := [16, 13, 160, 0, 7, 7, 167, 0, 4, 2, 54, 7, 21, 6, 21, 4, 159, 0, 10, 21, 6, 16, 92]
abbrev u214_3 : List UInt8 := w214_3 ++ u214_4
def w214_2 : List UInt8 := [21, 6, 16, 10, 160, 0, 7, 5, 167, 0, 26, 21, 6, 16, 12, 160, 0, 7, 6, 167, 0, 15, 21, 6]
abbrev u214_2 : List UInt8 := w214_2 ++ u214_3
def w214_1 : List UInt8 := [54, 6, 21, 6, 16, 8, 160, 0, 7, 3, 167, 0, 48, 21, 6, 16, 9, 160, 0, 7, 4, 167, 0, 37]
abbrev u214_1 : List UInt8 := w214_1 ++ u214_2
def w214_0 : List UInt8 := [42, 21, 4, 182, 1, 3, 28, 54, 5, 21, 5, 28, 29, 96, 162, 0, 194, 43, 180, 0, 51, 21, 5, 52]
abbrev u214_0 : List UInt8 := w214_0 ++ u214_1
theorem s214_0 : (prog_32_method_28_code).data.toList.drop 0 = u214_0 := by decide +kernel
theorem s214_1 : (prog_32_method_28_code).data.toList.drop 24 = u214_1 := dk_seg s214_0 24 rfl rfl
theorem s214_2 : (prog_32_method_28_code).data.toList.drop 48 = u214_2 := dk_seg s214_1 24 rfl rfl
theorem s214_3 : (prog_32_method_28_code).data.toList.drop 72 = u214_3 := dk_seg s214_2 24 rfl rfl
theorem s214_4 : (prog_32_method_28_code).data.toList.drop 95 = u214_4 := dk_seg s214_3 23 rfl rfl
theorem s214_5 : (prog_32_method_28_code).data.toList.drop 119 = u214_5 := dk_seg s214_4 24 rfl rfl
theorem s214_6 : (prog_32_method_28_code).data.toList.drop 143 = u214_6 := dk_seg s214_5 24 rfl rfl
theorem s214_7 : (prog_32_method_28_code).data.toList.drop 166 = u214_7 := dk_seg s214_6 23 rfl rfl
theorem s214_8 : (prog_32_method_28_code).data.toList.drop 190 = u214_8 := dk_seg s214_7 24 rfl rfl
theorem s214_9 : (prog_32_method_28_code).data.toList.drop 214 = u214_9 := dk_seg s214_8 24 rfl rfl
theorem Fm214 {pc len : Nat} {i : Instr} (h : decode (prog_32_method_28_code) pc = .ok (i, len)) (hl : len = ilen i len) : ft 214 pc = some (11, 0, 0, i, len) := ft_mk rfl h hl
theorem f214_0 : ft 214 0 = some (11, 0, 0, .aload_n 0, 1) := Fm214 (dk_42 (dk_at s214_0 0 rfl rfl)) rfl
theorem f214_1 : ft 214 1 = some (11, 0, 0, .iload 4, 2) := Fm214 (dk_21 4 (dk_at s214_0 1 rfl rfl)) rfl
theorem f214_3 : ft 214 3 = some (11, 0, 0, .invokevirtual 259, 3) := Fm214 (dk_182 1 3 (dk_at s214_0 3 rfl rfl)) rfl
theorem f214_6 : ft 214 6 = some (11, 0, 0, .iload_n 2, 1) := Fm214 (dk_28 (dk_at s214_0 6 rfl rfl)) rfl
theorem f214_7 : ft 214 7 = some (11, 0, 0, .istore 5, 2) := Fm214 (dk_54 5 (dk_at s214_0 7 rfl rfl)) rfl
theorem f214_9 : ft 214 9 = some (11, 0, 0, .iload 5, 2) := Fm214 (dk_21 5 (dk_at s214_0 9 rfl rfl)) rfl
theorem f214_11 : ft 214 11 = some (11, 0, 0, .iload_n 2, 1) := Fm214 (dk_28 (dk_at s214_0 11 rfl rfl)) rfl
theorem f214_12 : ft 214 12 = some (11, 0, 0, .iload_n 3, 1) := Fm214 (dk_29 (dk_at s214_0 12 rfl rfl)) rfl
theorem f214_13 : ft 214 13 = some (11, 0, 0, .iadd, 1) := Fm214 (dk_96 (dk_at s214_0 13 rfl rfl)) rfl
theorem f214_14 : ft 214 14 = some (11, 0, 0, .if_icmp .ge 194, 3) := Fm214 (dk_162 0 194 (dk_at s214_0 14 rfl rfl)) rfl
theorem f214_17 : ft 214 17 = some (11, 0, 0, .aload_n 1, 1) := Fm214 (dk_43 (dk_at s214_0 17 rfl rfl)) rfl
theorem f214_18 : ft 214 18 = some (11, 0, 0, .getfield 51, 3) := Fm214 (dk_180 0 51 (dk_at s214_0 18 rfl rfl)) rfl
theorem f214_21 : ft 214 21 = some (11, 0, 0, .iload 5, 2) := Fm214 (dk_21 5 (dk_at s214_0 21 rfl rfl)) rfl
theorem f214_23 : ft 214 23 = some (11, 0, 0, .caload, 1) := Fm214 (dk_52 (dk_at s214_0 23 rfl rfl)) rfl
theorem f214_24 : ft 214 24 = some (11, 0, 0, .istore 6, 2) := Fm214 (dk_54 6 (dk_at s214_1 0 rfl rfl)) rfl
theorem f214_26 : ft 214 26 = some (11, 0, 0, .iload 6, 2) := Fm214 (dk_21 6 (dk_at s214_1 2 rfl rfl)) rfl
theorem f214_28 : ft 214 28 = some (11, 0, 0, .bipush 8, 2) := Fm214 (dk_16 8 (dk_at s214_1 4 rfl rfl)) rfl
theorem f214_30 : ft 214 30 = some (11, 0, 0, .if_icmp .ne 7, 3) := Fm214 (dk_160 0 7 (dk_at s214_1 6 rfl rfl)) rfl
theorem f214_33 : ft 214 33 = some (11, 0, 0, .iconst 0, 1) := Fm214 (dk_3 (dk_at s214_1 9 rfl rfl)) rfl
theorem f214_34 : ft 214 34 = some (11, 0, 0, .goto 48, 3) := Fm214 (dk_167 0 48 (dk_at s214_1 10 rfl rfl)) rfl
theorem f214_37 : ft 214 37 = some (11, 0, 0, .iload 6, 2) := Fm214 (dk_21 6 (dk_at s214_1 13 rfl rfl)) rfl
theorem f214_39 : ft 214 39 = some (11, 0, 0, .bipush 9, 2) := Fm214 (dk_16 9 (dk_at s214_1 15 rfl rfl)) rfl
theorem f214_41 : ft 214 41 = some (11, 0, 0, .if_icmp .ne 7, 3) := Fm214 (dk_160 0 7 (dk_at s214_1 17 rfl rfl)) rfl
theorem f214_44 : ft 214 44 = some (11, 0, 0, .iconst 1, 1) := Fm214 (dk_4 (dk_at s214_1 20 rfl rfl)) rfl
theorem f214_45 : ft 214 45 = some (11, 0, 0, .goto 37, 3) := Fm214 (dk_167 0 37 (dk_at s214_1 21 rfl rfl)) rfl
theorem f214_48 : ft 214 48 = some (11, 0, 0, .iload 6, 2) := Fm214 (dk_21 6 (dk_at s214_2 0 rfl rfl)) rfl
theorem f214_50 : ft 214 50 = some (11, 0, 0, .bipush 10, 2) := Fm214 (dk_16 10 (dk_at s214_2 2 rfl rfl)) rfl
theorem f214_52 : ft 214 52 = some (11, 0, 0, .if_icmp .ne 7, 3) := Fm214 (dk_160 0 7 (dk_at s214_2 4 rfl rfl)) rfl
theorem f214_55 : ft 214 55 = some (11, 0, 0, .iconst 2, 1) := Fm214 (dk_5 (dk_at s214_2 7 rfl rfl)) rfl
theorem f214_56 : ft 214 56 = some (11, 0, 0, .goto 26, 3) := Fm214 (dk_167 0 26 (dk_at s214_2 8 rfl rfl)) rfl
theorem f214_59 : ft 214 59 = some (11, 0, 0, .iload 6, 2) := Fm214 (dk_21 6 (dk_at s214_2 11 rfl rfl)) rfl
theorem f214_61 : ft 214 61 = some (11, 0, 0, .bipush 12, 2) := Fm214 (dk_16 12 (dk_at s214_2 13 rfl rfl)) rfl
theorem f214_63 : ft 214 63 = some (11, 0, 0, .if_icmp .ne 7, 3) := Fm214 (dk_160 0 7 (dk_at s214_2 15 rfl rfl)) rfl
theorem f214_66 : ft 214 66 = some (11, 0, 0, .iconst 3, 1) := Fm214 (dk_6 (dk_at s214_2 18 rfl rfl)) rfl
theorem f214_67 : ft 214 67 = some (11, 0, 0, .goto 15, 3) := Fm214 (dk_167 0 15 (dk_at s214_2 19 rfl rfl)) rfl
theorem f214_70 : ft 214 70 = some (11, 0, 0, .iload 6, 2) := Fm214 (dk_21 6 (dk_at s214_2 22 rfl rfl)) rfl
theorem f214_72 : ft 214 72 = some (11, 0, 0, .bipush 13, 2) := Fm214 (dk_16 13 (dk_at s214_3 0 rfl rfl)) rfl
theorem f214_74 : ft 214 74 = some (11, 0, 0, .if_icmp .ne 7, 3) := Fm214 (dk_160 0 7 (dk_at s214_3 2 rfl rfl)) rfl
theorem f214_77 : ft 214 77 = some (11, 0, 0, .iconst 4, 1) := Fm214 (dk_7 (dk_at s214_3 5 rfl rfl)) rfl
theorem f214_78 : ft 214 78 = some (11, 0, 0, .goto 4, 3) := Fm214 (dk_167 0 4 (dk_at s214_3 6 rfl rfl)) rfl
theorem f214_81 : ft 214 81 = some (11, 0, 0, .iconst (-1), 1) := Fm214 (dk_2 (dk_at s214_3 9 rfl rfl)) rfl
theorem f214_82 : ft 214 82 = some (11, 0, 0, .istore 7, 2) := Fm214 (dk_54 7 (dk_at s214_3 10 rfl rfl)) rfl
theorem f214_84 : ft 214 84 = some (11, 0, 0, .iload 6, 2) := Fm214 (dk_21 6 (dk_at s214_3 12 rfl rfl)) rfl
theorem f214_86 : ft 214 86 = some (11, 0, 0, .iload 4, 2) := Fm214 (dk_21 4 (dk_at s214_3 14 rfl rfl)) rfl
theorem f214_88 : ft 214 88 = some (11, 0, 0, .if_icmp .eq 10, 3) := Fm214 (dk_159 0 10 (dk_at s214_3 16 rfl rfl)) rfl
theorem f214_91 : ft 214 91 = some (11, 0, 0, .iload 6, 2) := Fm214 (dk_21 6 (dk_at s214_3 19 rfl rfl)) rfl
theorem f214_93 : ft 214 93 = some (11, 0, 0, .bipush 92, 2) := Fm214 (dk_16 92 (dk_at s214_3 21 rfl rfl)) rfl
theorem f214_95 : ft 214 95 = some (11, 0, 0, .if_icmp .ne 18, 3) := Fm214 (dk_160 0 18 (dk_at s214_4 0 rfl rfl)) rfl
theorem f214_98 : ft 214 98 = some (11, 0, 0, .aload_n 0, 1) := Fm214 (dk_42 (dk_at s214_4 3 rfl rfl)) rfl
theorem f214_99 : ft 214 99 = some (11, 0, 0, .bipush 92, 2) := Fm214 (dk_16 92 (dk_at s214_4 4 rfl rfl)) rfl
theorem f214_101 : ft 214 101 = some (11, 0, 0, .invokevirtual 259, 3) := Fm214 (dk_182 1 3 (dk_at s214_4 6 rfl rfl)) rfl
theorem f214_104 : ft 214 104 = some (11, 0, 0, .aload_n 0, 1) := Fm214 (dk_42 (dk_at s214_4 9 rfl rfl)) rfl
theorem f214_105 : ft 214 105 = some (11, 0, 0, .iload 6, 2) := Fm214 (dk_21 6 (dk_at s214_4 10 rfl rfl)) rfl
theorem f214_107 : ft 214 107 = some (11, 0, 0, .invokevirtual 259, 3) := Fm214 (dk_182 1 3 (dk_at s214_4 12 rfl rfl)) rfl
theorem f214_110 : ft 214 110 = some (11, 0, 0, .goto 92, 3) := Fm214 (dk_167 0 92 (dk_at s214_4 15 rfl rfl)) rfl
theorem f214_113 : ft 214 113 = some (11, 0, 0, .iload 7, 2) := Fm214 (dk_21 7 (dk_at s214_4 18 rfl rfl)) rfl
theorem f214_115 : ft 214 115 = some (11, 0, 0, .ifCond .lt 24, 3) := Fm214 (dk_155 0 24 (dk_at s214_4 20 rfl rfl)) rfl
theorem f214_118 : ft 214 118 = some (11, 0, 0, .aload_n 0, 1) := Fm214 (dk_42 (dk_at s214_4 23 rfl rfl)) rfl
theorem f214_119 : ft 214 119 = some (11, 0, 0, .bipush 92, 2) := Fm214 (dk_16 92 (dk_at s214_5 0 rfl rfl)) rfl
theorem f214_121 : ft 214 121 = some (11, 0, 0, .invokevirtual 259, 3) := Fm214 (dk_182 1 3 (dk_at s214_5 2 rfl rfl)) rfl
theorem f214_124 : ft 214 124 = some (11, 0, 0, .aload_n 0, 1) := Fm214 (dk_42 (dk_at s214_5 5 rfl rfl)) rfl
theorem f214_125 : ft 214 125 = some (11, 0, 0, .ldc_w 264, 3) := Fm214 (dk_19 1 8 (dk_at s214_5 6 rfl rfl)) rfl
theorem f214_128 : ft 214 128 = some (11, 0, 0, .iload 7, 2) := Fm214 (dk_21 7 (dk_at s214_5 9 rfl rfl)) rfl
theorem f214_130 : ft 214 130 = some (11, 0, 0, .invokevirtual 179, 3) := Fm214 (dk_182 0 179 (dk_at s214_5 11 rfl rfl)) rfl
theorem f214_133 : ft 214 133 = some (11, 0, 0, .invokevirtual 259, 3) := Fm214 (dk_182 1 3 (dk_at s214_5 14 rfl rfl)) rfl
theorem f214_136 : ft 214 136 = some (11, 0, 0, .goto 66, 3) := Fm214 (dk_167 0 66 (dk_at s214_5 17 rfl rfl)) rfl
theorem f214_139 : ft 214 139 = some (11, 0, 0, .iload 6, 2) := Fm214 (dk_21 6 (dk_at s214_5 20 rfl rfl)) rfl
theorem f214_141 : ft 214 141 = some (11, 0, 0, .bipush 32, 2) := Fm214 (dk_16 32 (dk_at s214_5 22 rfl rfl)) rfl
theorem f214_143 : ft 214 143 = some (11, 0, 0, .if_icmp .lt 10, 3) := Fm214 (dk_161 0 10 (dk_at s214_6 0 rfl rfl)) rfl
theorem f214_146 : ft 214 146 = some (11, 0, 0, .iload 6, 2) := Fm214 (dk_21 6 (dk_at s214_6 3 rfl rfl)) rfl
theorem f214_148 : ft 214 148 = some (11, 0, 0, .bipush 126, 2) := Fm214 (dk_16 126 (dk_at s214_6 5 rfl rfl)) rfl
theorem f214_150 : ft 214 150 = some (11, 0, 0, .if_icmp .le 46, 3) := Fm214 (dk_164 0 46 (dk_at s214_6 7 rfl rfl)) rfl
theorem f214_153 : ft 214 153 = some (11, 0, 0, .aload_n 0, 1) := Fm214 (dk_42 (dk_at s214_6 10 rfl rfl)) rfl
theorem f214_154 : ft 214 154 = some (11, 0, 0, .ldc_w 266, 3) := Fm214 (dk_19 1 10 (dk_at s214_6 11 rfl rfl)) rfl
theorem f214_157 : ft 214 157 = some (11, 0, 0, .invokevirtual 268, 3) := Fm214 (dk_182 1 12 (dk_at s214_6 14 rfl rfl)) rfl
theorem f214_160 : ft 214 160 = some (11, 0, 0, .bipush 12, 2) := Fm214 (dk_16 12 (dk_at s214_6 17 rfl rfl)) rfl
theorem f214_162 : ft 214 162 = some (11, 0, 0, .istore 8, 2) := Fm214 (dk_54 8 (dk_at s214_6 19 rfl rfl)) rfl
theorem f214_164 : ft 214 164 = some (11, 0, 0, .iload 8, 2) := Fm214 (dk_21 8 (dk_at s214_6 21 rfl rfl)) rfl
theorem f214_166 : ft 214 166 = some (11, 0, 0, .ifCond .lt 27, 3) := Fm214 (dk_155 0 27 (dk_at s214_7 0 rfl rfl)) rfl
theorem f214_169 : ft 214 169 = some (11, 0, 0, .aload_n 0, 1) := Fm214 (dk_42 (dk_at s214_7 3 rfl rfl)) rfl
theorem f214_170 : ft 214 170 = some (11, 0, 0, .ldc_w 271, 3) := Fm214 (dk_19 1 15 (dk_at s214_7 4 rfl rfl)) rfl
theorem f214_173 : ft 214 173 = some (11, 0, 0, .iload 6, 2) := Fm214 (dk_21 6 (dk_at s214_7 7 rfl rfl)) rfl
theorem f214_175 : ft 214 175 = some (11, 0, 0, .iload 8, 2) := Fm214 (dk_21 8 (dk_at s214_7 9 rfl rfl)) rfl
theorem f214_177 : ft 214 177 = some (11, 0, 0, .ishr, 1) := Fm214 (dk_122 (dk_at s214_7 11 rfl rfl)) rfl
theorem f214_178 : ft 214 178 = some (11, 0, 0, .bipush 15, 2) := Fm214 (dk_16 15 (dk_at s214_7 12 rfl rfl)) rfl
theorem f214_180 : ft 214 180 = some (11, 0, 0, .iand, 1) := Fm214 (dk_126 (dk_at s214_7 14 rfl rfl)) rfl
theorem f214_181 : ft 214 181 = some (11, 0, 0, .invokevirtual 179, 3) := Fm214 (dk_182 0 179 (dk_at s214_7 15 rfl rfl)) rfl
theorem f214_184 : ft 214 184 = some (11, 0, 0, .invokevirtual 259, 3) := Fm214 (dk_182 1 3 (dk_at s214_7 18 rfl rfl)) rfl
theorem f214_187 : ft 214 187 = some (11, 0, 0, .iinc 8 (-4), 3) := Fm214 (dk_132 8 252 (dk_at s214_7 21 rfl rfl)) rfl
theorem f214_190 : ft 214 190 = some (11, 0, 0, .goto (-26), 3) := Fm214 (dk_167 255 230 (dk_at s214_8 0 rfl rfl)) rfl
theorem f214_193 : ft 214 193 = some (11, 0, 0, .goto 9, 3) := Fm214 (dk_167 0 9 (dk_at s214_8 3 rfl rfl)) rfl
theorem f214_196 : ft 214 196 = some (11, 0, 0, .aload_n 0, 1) := Fm214 (dk_42 (dk_at s214_8 6 rfl rfl)) rfl
theorem f214_197 : ft 214 197 = some (11, 0, 0, .iload 6, 2) := Fm214 (dk_21 6 (dk_at s214_8 7 rfl rfl)) rfl
theorem f214_199 : ft 214 199 = some (11, 0, 0, .invokevirtual 259, 3) := Fm214 (dk_182 1 3 (dk_at s214_8 9 rfl rfl)) rfl
theorem f214_202 : ft 214 202 = some (11, 0, 0, .iinc 5 1, 3) := Fm214 (dk_132 5 1 (dk_at s214_8 12 rfl rfl)) rfl
theorem f214_205 : ft 214 205 = some (11, 0, 0, .goto (-196), 3) := Fm214 (dk_167 255 60 (dk_at s214_8 15 rfl rfl)) rfl
theorem f214_208 : ft 214 208 = some (11, 0, 0, .aload_n 0, 1) := Fm214 (dk_42 (dk_at s214_8 18 rfl rfl)) rfl
theorem f214_209 : ft 214 209 = some (11, 0, 0, .iload 4, 2) := Fm214 (dk_21 4 (dk_at s214_8 19 rfl rfl)) rfl
theorem f214_211 : ft 214 211 = some (11, 0, 0, .invokevirtual 259, 3) := Fm214 (dk_182 1 3 (dk_at s214_8 21 rfl rfl)) rfl
theorem f214_214 : ft 214 214 = some (11, 0, 0, .return_, 1) := Fm214 (dk_177 (dk_at s214_9 0 rfl rfl)) rfl
theorem q214 {d : Nat} {m : Mem} {a0 a1 a2 a3 a4 : Int} (hd : 0 < d) (hz : TZ m) : le2 (gd (tg m a0 = 11) <| bV (cl (d - 1) 212 [pR a0, pI a4] m) fun m1 => rn d 214 9 [pR a0, pR a1, pI a2, pI a3, pI a4, pI a2, pU, pU, pU] [] m1) (cl d 214 [pR a0, pR a1, pI a2, pI a3, pI a4] m) := by
  refine q_in (n := 9) (L := [pR a0, pR a1, pI a2, pI a3, pI a4, pU, pU, pU, pU]) rfl rfl rfl ?_
  refine r_aln0 (p := 1) f214_0 rfl ?_
  refine r_ilw4 (p := 3) f214_1 rfl ?_
  refine le2_gd (fun h1 => ?_)
  refine r_invV (p := 6) f214_3 rfl rfl rfl (Or.inl h1) hd (Nat.le_of_ble_eq_true rfl) rfl rfl rfl (fun _ => rfl) (fun m1 c1 => ?_)
  have hz1 := z_k c1 hz
  refine r_iln2 (p := 7) f214_6 rfl ?_
  refine r_isw5 (p := 9) f214_7 rfl rfl ?_
  exact le2_refl _
theorem q214_9 {d : Nat} {m : Mem} {a0 a1 a2 a3 a4 a5 : Int} {z6 z7 z8 : PV} (hd : 0 < d) (hz : TZ m) (hcz6 : cat z6 = 1) (hcz7 : cat z7 = 1) (hcz8 : cat z8 = 1) : le2 (if a5 < (w32 (a2 + a3)) then (gd (tg m a1 = 13) <| nm (vl m a1 11) fun v2 => gd (tg m v2 = 284104 ∨ tg m v2 = 288104) <| gd ((0 : Int) ≤ a5 ∧ a5 < ln m v2) <| nm (vl m v2 a5) fun v3 => if v3 = 8 then (rn d 214 82 [pR a0, pR a1, pI a2, pI a3, pI a4, pI a5, pI v3, z7, z8] [pI 0] m) else if v3 = 9 then (rn d 214 82 [pR a0, pR a1, pI a2, pI a3, pI a4, pI a5, pI v3, z7, z8] [pI 1] m) else if v3 = 10 then (rn d 214 82 [pR a0, pR a1, pI a2, pI a3, pI a4, pI a5, pI v3, z7, z8] [pI 2] m) else if v3 = 12 then (rn d 214 82 [pR a0, pR a1, pI a2, pI a3, pI a4, pI a5, pI v3, z7, z8] [pI 3] m) else if v3 = 13 then (rn d 214 82 [pR a0, pR a1, pI a2, pI a3, pI a4, pI a5, pI v3, z7, z8] [pI 4] m) else rn d 214 82 [pR a0, pR a1, pI a2, pI a3, pI a4, pI a5, pI v3, z7, z8] [pI (-1)] m) else gd (tg m a0 = 11) <| bV (cl (d - 1) 212 [pR a0, pI a4] m) fun m1 => some (.inl none, m1)) (rn d 214 9 [pR a0, pR a1, pI a2, pI a3, pI a4, pI a5, z6, z7, z8] [] m) := by
  refine r_ilw5 (p := 11) f214_9 rfl ?_
  refine r_iln2 (p := 12) f214_11 rfl ?_
  refine r_iln3 (p := 13) f214_12 rfl ?_
  refine r_iadd (p := 14) f214_13 rfl ?_
  refine r_icge (t := 208) (p := 17) f214_14 (by decide) rfl rfl ?_ ?_
  · refine r_aln1 (p := 18) f214_17 rfl ?_
    refine le2_gd (fun h2 => ?_)
    refine r_gfR (f := 11) (p := 21) f214_18 rfl rfl rfl (Or.inl h2) rfl ?_
    refine r_nmR (fun v2 ev2 => ?_)
    refine r_ilw5 (p := 23) f214_21 rfl ?_
    refine le2_gd (fun h3 => ?_)
    refine le2_gd (fun h4 => ?_)
    refine r_caload (p := 24) f214_23 rfl (dj2 (fun x => x % 1000 = 104) h3 (by decide) (by decide)) h4 rfl ?_
    refine r_nmI (fun v3 ev3 => ?_)
    refine r_isw6 (p := 26) f214_24 rfl rfl ?_
    refine r_ilw6 (p := 28) f214_26 rfl ?_
    refine r_bipush (p := 30) f214_28 rfl (pinD rfl rfl) ?_
    refine r_icne (t := 37) (p := 33) f214_30 (by decide) rfl rfl ?_ ?_
    · refine r_iconst (p := 34) f214_33 rfl (pinD rfl rfl) ?_
      refine r_goto (p := 82) f214_34 (by decide) rfl ?_
      exact le2_refl _
    · refine r_ilw6 (p := 39) f214_37 rfl ?_
      refine r_bipush (p := 41) f214_39 rfl (pinD rfl rfl) ?_
      refine r_icne (t := 48) (p := 44) f214_41 (by decide) rfl rfl ?_ ?_
      · refine r_iconst (p := 45) f214_44 rfl (pinD rfl rfl) ?_
        refine r_goto (p := 82) f214_45 (by decide) rfl ?_
        exact le2_refl _
      · refine r_ilw6 (p := 50) f214_48 rfl ?_
        refine r_bipush (p := 52) f214_50 rfl (pinD rfl rfl) ?_
        refine r_icne (t := 59) (p := 55) f214_52 (by decide) rfl rfl ?_ ?_
        · refine r_iconst (p := 56) f214_55 rfl (pinD rfl rfl) ?_
          refine r_goto (p := 82) f214_56 (by decide) rfl ?_
          exact le2_refl _
        · refine r_ilw6 (p := 61) f214_59 rfl ?_
          refine r_bipush (p := 63) f214_61 rfl (pinD rfl rfl) ?_
          refine r_icne (t := 70) (p := 66) f214_63 (by decide) rfl rfl ?_ ?_
          · refine r_iconst (p := 67) f214_66 rfl (pinD rfl rfl) ?_
            refine r_goto (p := 82) f214_67 (by decide) rfl ?_
            exact le2_refl _
          · refine r_ilw6 (p := 72) f214_70 rfl ?_
            refine r_bipush (p := 74) f214_72 rfl (pinD rfl rfl) ?_
            refine r_icne (t := 81) (p := 77) f214_74 (by decide) rfl rfl ?_ ?_
            · refine r_iconst (p := 78) f214_77 rfl (pinD rfl rfl) ?_
              refine r_goto (p := 82) f214_78 (by decide) rfl ?_
              exact le2_refl _
            · refine r_iconst (p := 82) f214_81 rfl (pinD rfl rfl) ?_
              exact le2_refl _
  · refine r_aln0 (p := 209) f214_208 rfl ?_
    refine r_ilw4 (p := 211) f214_209 rfl ?_
    refine le2_gd (fun h1 => ?_)
    refine r_invV (p := 214) f214_211 rfl rfl rfl (Or.inl h1) hd (Nat.le_of_ble_eq_true rfl) rfl rfl rfl (fun _ => rfl) (fun m1 c1 => ?_)
    have hz1 := z_k c1 hz
    exact r_ret f214_214
theorem q214_82 {d : Nat} {m : Mem} {a0 a1 a2 a3 a4 a5 a6 s0 : Int} {z7 z8 : PV} (hd : 0 < d) (hz : TZ m) (hcz7 : cat z7 = 1) (hcz8 : cat z8 = 1) : le2 (if a6 = a4 then (rn d 214 98 [pR a0, pR a1, pI a2, pI a3, pI a4, pI a5, pI a6, pI s0, z8] [] m) else if a6 = 92 then (rn d 214 98 [pR a0, pR a1, pI a2, pI a3, pI a4, pI a5, pI a6, pI s0, z8] [] m) else if s0 < 0 then (if a6 < 32 then (gd (tg m a0 = 11) <| bV (cl (d - 1) 211 [pR a0, pR 56] m) fun m1 => rn d 214 164 [pR a0, pR a1, pI a2, pI a3, pI a4, pI a5, pI a6, pI s0, pI 12] [] m1) else if 126 < a6 then (gd (tg m a0 = 11) <| bV (cl (d - 1) 211 [pR a0, pR 56] m) fun m3 => rn d 214 164 [pR a0, pR a1, pI a2, pI a3, pI a4, pI a5, pI a6, pI s0, pI 12] [] m3) else gd (tg m a0 = 11) <| bV (cl (d - 1) 212 [pR a0, pI a6] m) fun m2 => rn d 214 9 [pR a0, pR a1, pI a2, pI a3, pI a4, pI (w32 (a5 + 1)), pI a6, pI s0, z8] [] m2) else gd (tg m a0 = 11) <| bV (cl (d - 1) 212 [pR a0, pI 92] m) fun m4 => gd (tg m4 54 = 31) <| bI (cl (d - 1) 351 [pR 54, pI s0] m4) fun v5 m5 => bV (cl (d - 1) 212 [pR a0, pI v5] m5) fun m6 => rn d 214 9 [pR a0, pR a1, pI a2, pI a3, pI a4, pI (w32 (a5 + 1)), pI a6, pI s0, z8] [] m6) (rn d 214 82 [pR a0, pR a1, pI a2, pI a3, pI a4, pI a5, pI a6, z7, z8] [pI s0] m) := by
  refine r_isw7 (p := 84) f214_82 rfl rfl ?_
  refine r_ilw6 (p := 86) f214_84 rfl ?_
  refine r_ilw4 (p := 88) f214_86 rfl ?_
  refine r_iceq (t := 98) (p := 91) f214_88 (by decide) rfl rfl ?_ ?_
  · exact le2_refl _
  · refine r_ilw6 (p := 93) f214_91 rfl ?_
    refine r_bipush (p := 95) f214_93 rfl (pinD rfl rfl) ?_
    refine r_icne (t := 113) (p := 98) f214_95 (by decide) rfl rfl ?_ ?_
    · exact le2_refl _
    · refine r_ilw7 (p := 115) f214_113 rfl ?_
      refine r_iflt (t := 139) (p := 118) f214_115 (by decide) rfl rfl ?_ ?_
      · refine r_ilw6 (p := 141) f214_139 rfl ?_
        refine r_bipush (p := 143) f214_141 rfl (pinD rfl rfl) ?_
        refine r_iclt (t := 153) (p := 146) f214_143 (by decide) rfl rfl ?_ ?_
        · refine r_aln0 (p := 154) f214_153 rfl ?_
          refine r_ldc_wR (p := 157) f214_154 rfl rfl ?_
          refine le2_gd (fun h1 => ?_)
          refine r_invV (p := 160) f214_157 rfl rfl rfl (Or.inl h1) hd (Nat.le_of_ble_eq_true rfl) rfl rfl rfl (fun _ => rfl) (fun m1 c1 => ?_)
          have hz1 := z_k c1 hz
          refine r_bipush (p := 162) f214_160 rfl (pinD rfl rfl) ?_
          refine r_isw8 (p := 164) f214_162 rfl rfl ?_
          exact le2_refl _
        · refine r_ilw6 (p := 148) f214_146 rfl ?_
          refine r_bipush (p := 150) f214_148 rfl (pinD rfl rfl) ?_
          refine r_icle (t := 196) (p := 153) f214_150 (by decide) rfl rfl ?_ ?_
          · refine r_aln0 (p := 154) f214_153 rfl ?_
            refine r_ldc_wR (p := 157) f214_154 rfl rfl ?_
            refine le2_gd (fun h3 => ?_)
            refine r_invV (p := 160) f214_157 rfl rfl rfl (Or.inl h3) hd (Nat.le_of_ble_eq_true rfl) rfl rfl rfl (fun _ => rfl) (fun m3 c3 => ?_)
            have hz3 := z_k c3 hz
            refine r_bipush (p := 162) f214_160 rfl (pinD rfl rfl) ?_
            refine r_isw8 (p := 164) f214_162 rfl rfl ?_
            exact le2_refl _
          · refine r_aln0 (p := 197) f214_196 rfl ?_
            refine r_ilw6 (p := 199) f214_197 rfl ?_
            refine le2_gd (fun h2 => ?_)
            refine r_invV (p := 202) f214_199 rfl rfl rfl (Or.inl h2) hd (Nat.le_of_ble_eq_true rfl) rfl rfl rfl (fun _ => rfl) (fun m2 c2 => ?_)
            have hz2 := z_k c2 hz
            refine r_iinc5 (p := 205) f214_202 rfl rfl ?_
            refine r_goto (p := 9) f214_205 (by decide) rfl ?_
            exact le2_refl _
      · refine r_aln0 (p := 119) f214_118 rfl ?_
        refine r_bipush (p := 121) f214_119 rfl (pinD rfl rfl) ?_
        refine le2_gd (fun h4 => ?_)
        refine r_invV (p := 124) f214_121 rfl rfl rfl (Or.inl h4) hd (Nat.le_of_ble_eq_true rfl) rfl rfl rfl (fun _ => rfl) (fun m4 c4 => ?_)
        have hz4 := z_k c4 hz
        refine r_aln0 (p := 125) f214_124 rfl ?_
        refine r_ldc_wR (p := 128) f214_125 rfl rfl ?_
        refine r_ilw7 (p := 130) f214_128 rfl ?_
        refine le2_gd (fun h5 => ?_)
        refine r_invI (p := 133) f214_130 rfl rfl rfl (Or.inl h5) hd (Nat.le_of_ble_eq_true rfl) rfl rfl rfl (fun _ => rfl) (fun v5 m5 c5 => ?_)
        have hz5 := z_k c5 hz4
        have h6 := k_t1 c4 hz h4 (by decide)
        have h7 := k_t1 c5 hz4 h6 (by decide)
        refine r_invV (p := 136) f214_133 rfl rfl rfl (Or.inl h7) hd (Nat.le_of_ble_eq_true rfl) rfl rfl rfl (fun _ => rfl) (fun m6 c6 => ?_)
        have hz6 := z_k c6 hz5
        refine r_goto (p := 202) f214_136 (by decide) rfl ?_
        refine r_iinc5 (p := 205) f214_202 rfl rfl ?_
        refine r_goto (p := 9) f214_205 (by decide) rfl ?_
        exact le2_refl _
theorem q214_98 {d : Nat} {m : Mem} {a0 a1 a2 a3 a4 a5 a6 a7 : Int} {z8 : PV} (hd : 0 < d) (hz : TZ m) (hcz8 : cat z8 = 1) : le2 (gd (tg m a0 = 11) <| bV (cl (d - 1) 212 [pR a0, pI 92] m) fun m1 => bV (cl (d - 1) 212 [pR a0, pI a6] m1) fun m2 => rn d 214 9 [pR a0, pR a1, pI a2, pI a3, pI a4, pI (w32 (a5 + 1)), pI a6, pI a7, z8] [] m2) (rn d 214 98 [pR a0, pR a1, pI a2, pI a3, pI a4, pI a5, pI a6, pI a7, z8] [] m) := by
  refine r_aln0 (p := 99) f214_98 rfl ?_
  refine r_bipush (p := 101) f214_99 rfl (pinD rfl rfl) ?_
  refine le2_gd (fun h1 => ?_)
  refine r_invV (p := 104) f214_101 rfl rfl rfl (Or.inl h1) hd (Nat.le_of_ble_eq_true rfl) rfl rfl rfl (fun _ => rfl) (fun m1 c1 => ?_)
  have hz1 := z_k c1 hz
  refine r_aln0 (p := 105) f214_104 rfl ?_
  refine r_ilw6 (p := 107) f214_105 rfl ?_
  have h2 := k_t1 c1 hz h1 (by decide)
  refine r_invV (p := 110) f214_107 rfl rfl rfl (Or.inl h2) hd (Nat.le_of_ble_eq_true rfl) rfl rfl rfl (fun _ => rfl) (fun m2 c2 => ?_)
  have hz2 := z_k c2 hz1
  refine r_goto (p := 202) f214_110 (by decide) rfl ?_
  refine r_iinc5 (p := 205) f214_202 rfl rfl ?_
  refine r_goto (p := 9) f214_205 (by decide) rfl ?_
  exact le2_refl _
theorem q214_164 {d : Nat} {m : Mem} {a0 a1 a2 a3 a4 a5 a6 a7 a8 : Int} (hd : 0 < d) (hz : TZ m) : le2 (if a8 < 0 then (rn d 214 9 [pR a0, pR a1, pI a2, pI a3, pI a4, pI (w32 (a5 + 1)), pI a6, pI a7, pI a8] [] m) else gd (tg m 58 = 31) <| bI (cl (d - 1) 351 [pR 58, pI (pAnd (pShr a6 a8) 15)] m) fun v1 m1 => gd (tg m1 a0 = 11) <| bV (cl (d - 1) 212 [pR a0, pI v1] m1) fun m2 => rn d 214 164 [pR a0, pR a1, pI a2, pI a3, pI a4, pI a5, pI a6, pI a7, pI (w32 (a8 + (-4)))] [] m2) (rn d 214 164 [pR a0, pR a1, pI a2, pI a3, pI a4, pI a5, pI a6, pI a7, pI a8] [] m) := by
  refine r_ilw8 (p := 166) f214_164 rfl ?_
  refine r_iflt (t := 193) (p := 169) f214_166 (by decide) rfl rfl ?_ ?_
  · refine r_goto (p := 202) f214_193 (by decide) rfl ?_
    refine r_iinc5 (p := 205) f214_202 rfl rfl ?_
    refine r_goto (p := 9) f214_205 (by decide) rfl ?_
    exact le2_refl _
  · refine r_aln0 (p := 170) f214_169 rfl ?_
    refine r_ldc_wR (p := 173) f214_170 rfl rfl ?_
    refine r_ilw6 (p := 175) f214_173 rfl ?_
    refine r_ilw8 (p := 177) f214_175 rfl ?_
    refine r_ishr (p := 178) f214_177 rfl ?_
    refine r_bipush (p := 180) f214_178 rfl (pinD rfl rfl) ?_
    refine r_iand (p := 181) f214_180 rfl ?_
    refine le2_gd (fun h1 => ?_)
    refine r_invI (p := 184) f214_181 rfl rfl rfl (Or.inl h1) hd (Nat.le_of_ble_eq_true rfl) rfl rfl rfl (fun _ => rfl) (fun v1 m1 c1 => ?_)
    have hz1 := z_k c1 hz
    refine le2_gd (fun h2 => ?_)
    refine r_invV (p := 187) f214_184 rfl rfl rfl (Or.inl h2) hd (Nat.le_of_ble_eq_true rfl) rfl rfl rfl (fun _ => rfl) (fun m2 c2 => ?_)
    have hz2 := z_k c2 hz1
    refine r_iinc8 (p := 190) f214_187 rfl rfl ?_
    refine r_goto (p := 164) f214_190 (by decide) rfl ?_
    exact le2_refl _
/-! 215 PathStoreModel.comes ()Z -/
def w215_0 : List UInt8 := [42, 180, 0, 78, 155, 0, 11, 42, 180, 0, 78, 6, 160, 0, 7, 4, 167, 0, 4, 3, 172]
abbrev u215_0 : List UInt8 := w215_0 ++ []
theorem s215_0 : (prog_32_method_35_code).data.toList.drop 0 = u215_0 := by decide +kernel
theorem Fm215 {pc len : Nat} {i : Instr} (h : decode (prog_32_method_35_code) pc = .ok (i, len)) (hl : len = ilen i len) : ft 215 pc = some (11, 4, 0, i, len) := ft_mk rfl h hl
theorem f215_0 : ft 215 0 = some (11, 4, 0, .aload_n 0, 1) := Fm215 (dk_42 (dk_at s215_0 0 rfl rfl)) rfl
theorem f215_1 : ft 215 1 = some (11, 4, 0, .getfield 78, 3) := Fm215 (dk_180 0 78 (dk_at s215_0 1 rfl rfl)) rfl
theorem f215_4 : ft 215 4 = some (11, 4, 0, .ifCond .lt 11, 3) := Fm215 (dk_155 0 11 (dk_at s215_0 4 rfl rfl)) rfl
theorem f215_7 : ft 215 7 = some (11, 4, 0, .aload_n 0, 1) := Fm215 (dk_42 (dk_at s215_0 7 rfl rfl)) rfl
theorem f215_8 : ft 215 8 = some (11, 4, 0, .getfield 78, 3) := Fm215 (dk_180 0 78 (dk_at s215_0 8 rfl rfl)) rfl
theorem f215_11 : ft 215 11 = some (11, 4, 0, .iconst 3, 1) := Fm215 (dk_6 (dk_at s215_0 11 rfl rfl)) rfl
theorem f215_12 : ft 215 12 = some (11, 4, 0, .if_icmp .ne 7, 3) := Fm215 (dk_160 0 7 (dk_at s215_0 12 rfl rfl)) rfl
theorem f215_15 : ft 215 15 = some (11, 4, 0, .iconst 1, 1) := Fm215 (dk_4 (dk_at s215_0 15 rfl rfl)) rfl
theorem f215_16 : ft 215 16 = some (11, 4, 0, .goto 4, 3) := Fm215 (dk_167 0 4 (dk_at s215_0 16 rfl rfl)) rfl
theorem f215_19 : ft 215 19 = some (11, 4, 0, .iconst 0, 1) := Fm215 (dk_3 (dk_at s215_0 19 rfl rfl)) rfl
theorem f215_20 : ft 215 20 = some (11, 4, 0, .ireturn, 1) := Fm215 (dk_172 (dk_at s215_0 20 rfl rfl)) rfl
theorem q215 {d : Nat} {m : Mem} {a0 : Int} (hz : TZ m) : le2 (gd (tg m a0 = 11) <| nm (vl m a0 7) fun v1 => if v1 < 0 then (some (.inl (some (pI 1)), m)) else if v1 = 3 then (some (.inl (some (pI 1)), m)) else some (.inl (some (pI 0)), m)) (cl d 215 [pR a0] m) := by
  refine q_in (n := 1) (L := [pR a0]) rfl rfl rfl ?_
  refine r_aln0 (p := 1) f215_0 rfl ?_
  refine le2_gd (fun h1 => ?_)
  refine r_gfI (f := 7) (p := 4) f215_1 rfl rfl rfl (Or.inl h1) rfl ?_
  refine r_nmI (fun v1 ev1 => ?_)
  refine r_iflt (t := 15) (p := 7) f215_4 (by decide) rfl rfl ?_ ?_
  · refine r_iconst (p := 16) f215_15 rfl (pinD rfl rfl) ?_
    refine r_goto (p := 20) f215_16 (by decide) rfl ?_
    exact r_iret4 f215_20 (by decide)
  · refine r_aln0 (p := 8) f215_7 rfl ?_
    refine r_gfI (f := 7) (p := 11) f215_8 rfl rfl rfl (Or.inl h1) ev1.symm ?_
    refine r_iconst (p := 12) f215_11 rfl (pinD rfl rfl) ?_
    refine r_icne (t := 19) (p := 15) f215_12 (by decide) rfl rfl ?_ ?_
    · refine r_iconst (p := 16) f215_15 rfl (pinD rfl rfl) ?_
      refine r_goto (p := 20) f215_16 (by decide) rfl ?_
      exact r_iret4 f215_20 (by decide)
    · refine r_iconst (p := 20) f215_19 rfl (pinD rfl rfl) ?_
      exact r_iret4 f215_20 (by decide)
/-! 216 PathStoreModel.changed ()Z -/
def w216_1 : List UInt8 := [172]
abbrev u216_1 : List UInt8 := w216_1 ++ []
def w216_0 : List UInt8 := [42, 182, 1, 33, 60, 42, 2, 181, 0, 78, 42, 27, 154, 0, 7, 4, 167, 0, 4, 3, 5, 182, 0, 142]
abbrev u216_0 : List UInt8 := w216_0 ++ u216_1
theorem s216_0 : (prog_32_method_36_code).data.toList.drop 0 = u216_0 := by decide +kernel
theorem s216_1 : (prog_32_method_36_code).data.toList.drop 24 = u216_1 := dk_seg s216_0 24 rfl rfl
theorem Fm216 {pc len : Nat} {i : Instr} (h : decode (prog_32_method_36_code) pc = .ok (i, len)) (hl : len = ilen i len) : ft 216 pc = some (11, 4, 0, i, len) := ft_mk rfl h hl
theorem f216_0 : ft 216 0 = some (11, 4, 0, .aload_n 0, 1) := Fm216 (dk_42 (dk_at s216_0 0 rfl rfl)) rfl
theorem f216_1 : ft 216 1 = some (11, 4, 0, .invokevirtual 289, 3) := Fm216 (dk_182 1 33 (dk_at s216_0 1 rfl rfl)) rfl
theorem f216_4 : ft 216 4 = some (11, 4, 0, .istore_n 1, 1) := Fm216 (dk_60 (dk_at s216_0 4 rfl rfl)) rfl
theorem f216_5 : ft 216 5 = some (11, 4, 0, .aload_n 0, 1) := Fm216 (dk_42 (dk_at s216_0 5 rfl rfl)) rfl
theorem f216_6 : ft 216 6 = some (11, 4, 0, .iconst (-1), 1) := Fm216 (dk_2 (dk_at s216_0 6 rfl rfl)) rfl
theorem f216_7 : ft 216 7 = some (11, 4, 0, .putfield 78, 3) := Fm216 (dk_181 0 78 (dk_at s216_0 7 rfl rfl)) rfl
theorem f216_10 : ft 216 10 = some (11, 4, 0, .aload_n 0, 1) := Fm216 (dk_42 (dk_at s216_0 10 rfl rfl)) rfl
theorem f216_11 : ft 216 11 = some (11, 4, 0, .iload_n 1, 1) := Fm216 (dk_27 (dk_at s216_0 11 rfl rfl)) rfl
theorem f216_12 : ft 216 12 = some (11, 4, 0, .ifCond .ne 7, 3) := Fm216 (dk_154 0 7 (dk_at s216_0 12 rfl rfl)) rfl
theorem f216_15 : ft 216 15 = some (11, 4, 0, .iconst 1, 1) := Fm216 (dk_4 (dk_at s216_0 15 rfl rfl)) rfl
theorem f216_16 : ft 216 16 = some (11, 4, 0, .goto 4, 3) := Fm216 (dk_167 0 4 (dk_at s216_0 16 rfl rfl)) rfl
theorem f216_19 : ft 216 19 = some (11, 4, 0, .iconst 0, 1) := Fm216 (dk_3 (dk_at s216_0 19 rfl rfl)) rfl
theorem f216_20 : ft 216 20 = some (11, 4, 0, .iconst 2, 1) := Fm216 (dk_5 (dk_at s216_0 20 rfl rfl)) rfl
theorem f216_21 : ft 216 21 = some (11, 4, 0, .invokevirtual 142, 3) := Fm216 (dk_182 0 142 (dk_at s216_0 21 rfl rfl)) rfl
theorem f216_24 : ft 216 24 = some (11, 4, 0, .ireturn, 1) := Fm216 (dk_172 (dk_at s216_1 0 rfl rfl)) rfl
theorem q216 {d : Nat} {m : Mem} {a0 : Int} (hd : 0 < d) (hz : TZ m) : le2 (gd (tg m a0 = 11) <| bI (cl (d - 1) 217 [pR a0] m) fun v1 m1 => if v1 = 0 then (bI (cl (d - 1) 188 [pR a0, pI 1, pI 2] (mst m1 a0 7 (-1))) fun v3 m3 => gd (v3 = 0 ∨ v3 = 1) <| some (.inl (some (pI v3)), m3)) else bI (cl (d - 1) 188 [pR a0, pI 0, pI 2] (mst m1 a0 7 (-1))) fun v2 m2 => gd (v2 = 0 ∨ v2 = 1) <| some (.inl (some (pI v2)), m2)) (cl d 216 [pR a0] m) := by
  refine q_in (n := 2) (L := [pR a0, pU]) rfl rfl rfl ?_
  refine r_aln0 (p := 1) f216_0 rfl ?_
  refine le2_gd (fun h1 => ?_)
  refine r_invI (p := 4) f216_1 rfl rfl rfl (Or.inl h1) hd (Nat.le_of_ble_eq_true rfl) rfl rfl rfl (fun _ => rfl) (fun v1 m1 c1 => ?_)
  have hz1 := z_k c1 hz
  refine r_isn1 (p := 5) f216_4 rfl rfl ?_
  refine r_aln0 (p := 6) f216_5 rfl ?_
  refine r_iconst (p := 7) f216_6 rfl (pinD rfl rfl) ?_
  have h2 := k_t1 c1 hz h1 (by decide)
  refine r_pfI (f := 7) (p := 10) f216_7 rfl rfl rfl (by decide) (by decide) (Or.inl h2) rfl ?_
  refine r_aln0 (p := 11) f216_10 rfl ?_
  refine r_iln1 (p := 12) f216_11 rfl ?_
  refine r_ifne (t := 19) (p := 15) f216_12 (by decide) rfl rfl ?_ ?_
  · refine r_iconst (p := 16) f216_15 rfl (pinD rfl rfl) ?_
    refine r_goto (p := 20) f216_16 (by decide) rfl ?_
    refine r_iconst (p := 21) f216_20 rfl (pinD rfl rfl) ?_
    refine r_invI (p := 24) f216_21 rfl rfl rfl (Or.inl h2) hd (Nat.le_of_ble_eq_true rfl) rfl rfl rfl (fun _ => rfl) (fun v3 m3 c3 => ?_)
    have hz3 := z_k c3 hz1
    refine le2_gd (fun h4 => ?_)
    exact r_iret4 f216_24 h4
  · refine r_iconst (p := 20) f216_19 rfl (pinD rfl rfl) ?_
    refine r_iconst (p := 21) f216_20 rfl (pinD rfl rfl) ?_
    refine r_invI (p := 24) f216_21 rfl rfl rfl (Or.inl h2) hd (Nat.le_of_ble_eq_true rfl) rfl rfl rfl (fun _ => rfl) (fun v2 m2 c2 => ?_)
    have hz2 := z_k c2 hz1
    refine le2_gd (fun h3 => ?_)
    exact r_iret4 f216_24 h3
/-! 217 PathStoreModel.goes ()Z -/
def w217_1 : List UInt8 := [180, 0, 88, 27, 50, 3, 181, 1, 30, 132, 1, 1, 167, 255, 237, 4, 172]
abbrev u217_1 : List UInt8 := w217_1 ++ []
def w217_0 : List UInt8 := [42, 180, 0, 78, 156, 0, 5, 3, 172, 42, 4, 181, 1, 27, 3, 60, 27, 16, 8, 162, 0, 19, 42]
abbrev u217_0 : List UInt8 := w217_0 ++ u217_1
theorem s217_0 : (prog_32_method_34_code).data.toList.drop 0 = u217_0 := by decide +kernel
theorem s217_1 : (prog_32_method_34_code).data.toList.drop 23 = u217_1 := dk_seg s217_0 23 rfl rfl
theorem Fm217 {pc len : Nat} {i : Instr} (h : decode (prog_32_method_34_code) pc = .ok (i, len)) (hl : len = ilen i len) : ft 217 pc = some (11, 4, 0, i, len) := ft_mk rfl h hl
theorem f217_0 : ft 217 0 = some (11, 4, 0, .aload_n 0, 1) := Fm217 (dk_42 (dk_at s217_0 0 rfl rfl)) rfl
theorem f217_1 : ft 217 1 = some (11, 4, 0, .getfield 78, 3) := Fm217 (dk_180 0 78 (dk_at s217_0 1 rfl rfl)) rfl
theorem f217_4 : ft 217 4 = some (11, 4, 0, .ifCond .ge 5, 3) := Fm217 (dk_156 0 5 (dk_at s217_0 4 rfl rfl)) rfl
theorem f217_7 : ft 217 7 = some (11, 4, 0, .iconst 0, 1) := Fm217 (dk_3 (dk_at s217_0 7 rfl rfl)) rfl
theorem f217_8 : ft 217 8 = some (11, 4, 0, .ireturn, 1) := Fm217 (dk_172 (dk_at s217_0 8 rfl rfl)) rfl
theorem f217_9 : ft 217 9 = some (11, 4, 0, .aload_n 0, 1) := Fm217 (dk_42 (dk_at s217_0 9 rfl rfl)) rfl
theorem f217_10 : ft 217 10 = some (11, 4, 0, .iconst 1, 1) := Fm217 (dk_4 (dk_at s217_0 10 rfl rfl)) rfl
theorem f217_11 : ft 217 11 = some (11, 4, 0, .putfield 283, 3) := Fm217 (dk_181 1 27 (dk_at s217_0 11 rfl rfl)) rfl
theorem f217_14 : ft 217 14 = some (11, 4, 0, .iconst 0, 1) := Fm217 (dk_3 (dk_at s217_0 14 rfl rfl)) rfl
theorem f217_15 : ft 217 15 = some (11, 4, 0, .istore_n 1, 1) := Fm217 (dk_60 (dk_at s217_0 15 rfl rfl)) rfl
theorem f217_16 : ft 217 16 = some (11, 4, 0, .iload_n 1, 1) := Fm217 (dk_27 (dk_at s217_0 16 rfl rfl)) rfl
theorem f217_17 : ft 217 17 = some (11, 4, 0, .bipush 8, 2) := Fm217 (dk_16 8 (dk_at s217_0 17 rfl rfl)) rfl
theorem f217_19 : ft 217 19 = some (11, 4, 0, .if_icmp .ge 19, 3) := Fm217 (dk_162 0 19 (dk_at s217_0 19 rfl rfl)) rfl
theorem f217_22 : ft 217 22 = some (11, 4, 0, .aload_n 0, 1) := Fm217 (dk_42 (dk_at s217_0 22 rfl rfl)) rfl
theorem f217_23 : ft 217 23 = some (11, 4, 0, .getfield 88, 3) := Fm217 (dk_180 0 88 (dk_at s217_1 0 rfl rfl)) rfl
theorem f217_26 : ft 217 26 = some (11, 4, 0, .iload_n 1, 1) := Fm217 (dk_27 (dk_at s217_1 3 rfl rfl)) rfl
theorem f217_27 : ft 217 27 = some (11, 4, 0, .aaload, 1) := Fm217 (dk_50 (dk_at s217_1 4 rfl rfl)) rfl
theorem f217_28 : ft 217 28 = some (11, 4, 0, .iconst 0, 1) := Fm217 (dk_3 (dk_at s217_1 5 rfl rfl)) rfl
theorem f217_29 : ft 217 29 = some (11, 4, 0, .putfield 286, 3) := Fm217 (dk_181 1 30 (dk_at s217_1 6 rfl rfl)) rfl
theorem f217_32 : ft 217 32 = some (11, 4, 0, .iinc 1 1, 3) := Fm217 (dk_132 1 1 (dk_at s217_1 9 rfl rfl)) rfl
theorem f217_35 : ft 217 35 = some (11, 4, 0, .goto (-19), 3) := Fm217 (dk_167 255 237 (dk_at s217_1 12 rfl rfl)) rfl
theorem f217_38 : ft 217 38 = some (11, 4, 0, .iconst 1, 1) := Fm217 (dk_4 (dk_at s217_1 15 rfl rfl)) rfl
theorem f217_39 : ft 217 39 = some (11, 4, 0, .ireturn, 1) := Fm217 (dk_172 (dk_at s217_1 16 rfl rfl)) rfl
theorem q217 {d : Nat} {m : Mem} {a0 : Int} (hz : TZ m) : le2 (gd (tg m a0 = 11) <| if (vl m a0 7) < 0 then (some (.inl (some (pI 0)), m)) else rn d 217 16 [pR a0, pI 0] [] (mst m a0 6 1)) (cl d 217 [pR a0] m) := by
  refine q_in (n := 2) (L := [pR a0, pU]) rfl rfl rfl ?_
  refine r_aln0 (p := 1) f217_0 rfl ?_
  refine le2_gd (fun h1 => ?_)
  refine r_gfI (f := 7) (p := 4) f217_1 rfl rfl rfl (Or.inl h1) rfl ?_
  refine r_ifge (t := 9) (p := 7) f217_4 (by decide) rfl rfl ?_ ?_
  · refine r_iconst (p := 8) f217_7 rfl (pinD rfl rfl) ?_
    exact r_iret4 f217_8 (by decide)
  · refine r_aln0 (p := 10) f217_9 rfl ?_
    refine r_iconst (p := 11) f217_10 rfl (pinD rfl rfl) ?_
    refine r_pfZ (f := 6) (p := 14) f217_11 rfl rfl rfl (by decide) (by decide) (Or.inl h1) rfl (by decide) ?_
    refine r_iconst (p := 15) f217_14 rfl (pinD rfl rfl) ?_
    refine r_isn1 (p := 16) f217_15 rfl rfl ?_
    exact le2_refl _
theorem q217_16 {d : Nat} {m : Mem} {a0 a1 : Int} (hz : TZ m) : le2 (if a1 < 8 then (gd (tg m a0 = 11) <| nm (vl m a0 9) fun v1 => gd (tg m v1 = 186117) <| gd ((0 : Int) ≤ a1 ∧ a1 < ln m v1) <| nm (vl m v1 a1) fun v2 => gd (tg m v2 = 12) <| rn d 217 16 [pR a0, pI (w32 (a1 + 1))] [] (mst m v2 4 0)) else some (.inl (some (pI 1)), m)) (rn d 217 16 [pR a0, pI a1] [] m) := by
  refine r_iln1 (p := 17) f217_16 rfl ?_
  refine r_bipush (p := 19) f217_17 rfl (pinD rfl rfl) ?_
  refine r_icge (t := 38) (p := 22) f217_19 (by decide) rfl rfl ?_ ?_
  · refine r_aln0 (p := 23) f217_22 rfl ?_
    refine le2_gd (fun h1 => ?_)
    refine r_gfR (f := 9) (p := 26) f217_23 rfl rfl rfl (Or.inl h1) rfl ?_
    refine r_nmR (fun v1 ev1 => ?_)
    refine r_iln1 (p := 27) f217_26 rfl ?_
    refine le2_gd (fun h2 => ?_)
    refine le2_gd (fun h3 => ?_)
    refine r_aaload (p := 28) f217_27 rfl (dj1 (fun x => 110 < x % 1000 ∧ x % 1000 < 119) h2 (by decide)) h3 rfl ?_
    refine r_nmR (fun v2 ev2 => ?_)
    refine r_iconst (p := 29) f217_28 rfl (pinD rfl rfl) ?_
    refine le2_gd (fun h4 => ?_)
    refine r_pfZ (f := 4) (p := 32) f217_29 rfl rfl rfl (by decide) (by decide) (Or.inl h4) rfl (by decide) ?_
    refine r_iinc1 (p := 35) f217_32 rfl rfl ?_
    refine r_goto (p := 16) f217_35 (by decide) rfl ?_
    exact le2_refl _
  · refine r_iconst (p := 39) f217_38 rfl (pinD rfl rfl) ?_
    exact r_iret4 f217_39 (by decide)
/-! 218 PathStoreModel.get (II)I -/
def w218_5 : List UInt8 := [180, 0, 150, 172]
abbrev u218_5 : List UInt8 := w218_5 ++ []
def w218_4 : List UInt8 := [42, 180, 0, 71, 21, 5, 45, 180, 1, 69, 21, 4, 50, 21, 5, 51, 84, 132, 5, 1, 167, 255, 227, 42]
abbrev u218_4 : List UInt8 := w218_4 ++ u218_5
def w218_3 : List UInt8 := [172, 42, 45, 180, 1, 68, 21, 4, 46, 181, 0, 150, 3, 54, 5, 21, 5, 42, 180, 0, 150, 162, 0, 26]
abbrev u218_3 : List UInt8 := w218_3 ++ u218_4
def w218_2 : List UInt8 := [182, 1, 49, 54, 4, 42, 21, 4, 155, 0, 7, 4, 167, 0, 4, 3, 6, 182, 0, 142, 154, 0, 5, 3]
abbrev u218_2 : List UInt8 := w218_2 ++ u218_3
def w218_1 : List UInt8 := [4, 182, 0, 142, 154, 0, 5, 3, 172, 42, 27, 182, 1, 64, 78, 45, 199, 0, 5, 3, 172, 45, 28]
abbrev u218_1 : List UInt8 := w218_1 ++ u218_2
def w218_0 : List UInt8 := [42, 27, 2, 161, 0, 20, 27, 16, 7, 163, 0, 14, 28, 184, 1, 37, 153, 0, 7, 4, 167, 0, 4, 3]
abbrev u218_0 : List UInt8 := w218_0 ++ u218_1
theorem s218_0 : (prog_32_method_39_code).data.toList.drop 0 = u218_0 := by decide +kernel
theorem s218_1 : (prog_32_method_39_code).data.toList.drop 24 = u218_1 := dk_seg s218_0 24 rfl rfl
theorem s218_2 : (prog_32_method_39_code).data.toList.drop 47 = u218_2 := dk_seg s218_1 23 rfl rfl
theorem s218_3 : (prog_32_method_39_code).data.toList.drop 71 = u218_3 := dk_seg s218_2 24 rfl rfl
theorem s218_4 : (prog_32_method_39_code).data.toList.drop 95 = u218_4 := dk_seg s218_3 24 rfl rfl
theorem s218_5 : (prog_32_method_39_code).data.toList.drop 119 = u218_5 := dk_seg s218_4 24 rfl rfl
theorem Fm218 {pc len : Nat} {i : Instr} (h : decode (prog_32_method_39_code) pc = .ok (i, len)) (hl : len = ilen i len) : ft 218 pc = some (11, 1, 0, i, len) := ft_mk rfl h hl
theorem f218_0 : ft 218 0 = some (11, 1, 0, .aload_n 0, 1) := Fm218 (dk_42 (dk_at s218_0 0 rfl rfl)) rfl
theorem f218_1 : ft 218 1 = some (11, 1, 0, .iload_n 1, 1) := Fm218 (dk_27 (dk_at s218_0 1 rfl rfl)) rfl
theorem f218_2 : ft 218 2 = some (11, 1, 0, .iconst (-1), 1) := Fm218 (dk_2 (dk_at s218_0 2 rfl rfl)) rfl
theorem f218_3 : ft 218 3 = some (11, 1, 0, .if_icmp .lt 20, 3) := Fm218 (dk_161 0 20 (dk_at s218_0 3 rfl rfl)) rfl
theorem f218_6 : ft 218 6 = some (11, 1, 0, .iload_n 1, 1) := Fm218 (dk_27 (dk_at s218_0 6 rfl rfl)) rfl
theorem f218_7 : ft 218 7 = some (11, 1, 0, .bipush 7, 2) := Fm218 (dk_16 7 (dk_at s218_0 7 rfl rfl)) rfl
theorem f218_9 : ft 218 9 = some (11, 1, 0, .if_icmp .gt 14, 3) := Fm218 (dk_163 0 14 (dk_at s218_0 9 rfl rfl)) rfl
theorem f218_12 : ft 218 12 = some (11, 1, 0, .iload_n 2, 1) := Fm218 (dk_28 (dk_at s218_0 12 rfl rfl)) rfl
theorem f218_13 : ft 218 13 = some (11, 1, 0, .invokestatic 293, 3) := Fm218 (dk_184 1 37 (dk_at s218_0 13 rfl rfl)) rfl
theorem f218_16 : ft 218 16 = some (11, 1, 0, .ifCond .eq 7, 3) := Fm218 (dk_153 0 7 (dk_at s218_0 16 rfl rfl)) rfl
theorem f218_19 : ft 218 19 = some (11, 1, 0, .iconst 1, 1) := Fm218 (dk_4 (dk_at s218_0 19 rfl rfl)) rfl
theorem f218_20 : ft 218 20 = some (11, 1, 0, .goto 4, 3) := Fm218 (dk_167 0 4 (dk_at s218_0 20 rfl rfl)) rfl
theorem f218_23 : ft 218 23 = some (11, 1, 0, .iconst 0, 1) := Fm218 (dk_3 (dk_at s218_0 23 rfl rfl)) rfl
theorem f218_24 : ft 218 24 = some (11, 1, 0, .iconst 1, 1) := Fm218 (dk_4 (dk_at s218_1 0 rfl rfl)) rfl
theorem f218_25 : ft 218 25 = some (11, 1, 0, .invokevirtual 142, 3) := Fm218 (dk_182 0 142 (dk_at s218_1 1 rfl rfl)) rfl
theorem f218_28 : ft 218 28 = some (11, 1, 0, .ifCond .ne 5, 3) := Fm218 (dk_154 0 5 (dk_at s218_1 4 rfl rfl)) rfl
theorem f218_31 : ft 218 31 = some (11, 1, 0, .iconst 0, 1) := Fm218 (dk_3 (dk_at s218_1 7 rfl rfl)) rfl
theorem f218_32 : ft 218 32 = some (11, 1, 0, .ireturn, 1) := Fm218 (dk_172 (dk_at s218_1 8 rfl rfl)) rfl
theorem f218_33 : ft 218 33 = some (11, 1, 0, .aload_n 0, 1) := Fm218 (dk_42 (dk_at s218_1 9 rfl rfl)) rfl
theorem f218_34 : ft 218 34 = some (11, 1, 0, .iload_n 1, 1) := Fm218 (dk_27 (dk_at s218_1 10 rfl rfl)) rfl
theorem f218_35 : ft 218 35 = some (11, 1, 0, .invokevirtual 320, 3) := Fm218 (dk_182 1 64 (dk_at s218_1 11 rfl rfl)) rfl
theorem f218_38 : ft 218 38 = some (11, 1, 0, .astore_n 3, 1) := Fm218 (dk_78 (dk_at s218_1 14 rfl rfl)) rfl
theorem f218_39 : ft 218 39 = some (11, 1, 0, .aload_n 3, 1) := Fm218 (dk_45 (dk_at s218_1 15 rfl rfl)) rfl
theorem f218_40 : ft 218 40 = some (11, 1, 0, .ifnonnull 5, 3) := Fm218 (dk_199 0 5 (dk_at s218_1 16 rfl rfl)) rfl
theorem f218_43 : ft 218 43 = some (11, 1, 0, .iconst 0, 1) := Fm218 (dk_3 (dk_at s218_1 19 rfl rfl)) rfl
theorem f218_44 : ft 218 44 = some (11, 1, 0, .ireturn, 1) := Fm218 (dk_172 (dk_at s218_1 20 rfl rfl)) rfl
theorem f218_45 : ft 218 45 = some (11, 1, 0, .aload_n 3, 1) := Fm218 (dk_45 (dk_at s218_1 21 rfl rfl)) rfl
theorem f218_46 : ft 218 46 = some (11, 1, 0, .iload_n 2, 1) := Fm218 (dk_28 (dk_at s218_1 22 rfl rfl)) rfl
theorem f218_47 : ft 218 47 = some (11, 1, 0, .invokevirtual 305, 3) := Fm218 (dk_182 1 49 (dk_at s218_2 0 rfl rfl)) rfl
theorem f218_50 : ft 218 50 = some (11, 1, 0, .istore 4, 2) := Fm218 (dk_54 4 (dk_at s218_2 3 rfl rfl)) rfl
theorem f218_52 : ft 218 52 = some (11, 1, 0, .aload_n 0, 1) := Fm218 (dk_42 (dk_at s218_2 5 rfl rfl)) rfl
theorem f218_53 : ft 218 53 = some (11, 1, 0, .iload 4, 2) := Fm218 (dk_21 4 (dk_at s218_2 6 rfl rfl)) rfl
theorem f218_55 : ft 218 55 = some (11, 1, 0, .ifCond .lt 7, 3) := Fm218 (dk_155 0 7 (dk_at s218_2 8 rfl rfl)) rfl
theorem f218_58 : ft 218 58 = some (11, 1, 0, .iconst 1, 1) := Fm218 (dk_4 (dk_at s218_2 11 rfl rfl)) rfl
theorem f218_59 : ft 218 59 = some (11, 1, 0, .goto 4, 3) := Fm218 (dk_167 0 4 (dk_at s218_2 12 rfl rfl)) rfl
theorem f218_62 : ft 218 62 = some (11, 1, 0, .iconst 0, 1) := Fm218 (dk_3 (dk_at s218_2 15 rfl rfl)) rfl
theorem f218_63 : ft 218 63 = some (11, 1, 0, .iconst 3, 1) := Fm218 (dk_6 (dk_at s218_2 16 rfl rfl)) rfl
theorem f218_64 : ft 218 64 = some (11, 1, 0, .invokevirtual 142, 3) := Fm218 (dk_182 0 142 (dk_at s218_2 17 rfl rfl)) rfl
theorem f218_67 : ft 218 67 = some (11, 1, 0, .ifCond .ne 5, 3) := Fm218 (dk_154 0 5 (dk_at s218_2 20 rfl rfl)) rfl
theorem f218_70 : ft 218 70 = some (11, 1, 0, .iconst 0, 1) := Fm218 (dk_3 (dk_at s218_2 23 rfl rfl)) rfl
theorem f218_71 : ft 218 71 = some (11, 1, 0, .ireturn, 1) := Fm218 (dk_172 (dk_at s218_3 0 rfl rfl)) rfl
theorem f218_72 : ft 218 72 = some (11, 1, 0, .aload_n 0, 1) := Fm218 (dk_42 (dk_at s218_3 1 rfl rfl)) rfl
theorem f218_73 : ft 218 73 = some (11, 1, 0, .aload_n 3, 1) := Fm218 (dk_45 (dk_at s218_3 2 rfl rfl)) rfl
theorem f218_74 : ft 218 74 = some (11, 1, 0, .getfield 324, 3) := Fm218 (dk_180 1 68 (dk_at s218_3 3 rfl rfl)) rfl
theorem f218_77 : ft 218 77 = some (11, 1, 0, .iload 4, 2) := Fm218 (dk_21 4 (dk_at s218_3 6 rfl rfl)) rfl
theorem f218_79 : ft 218 79 = some (11, 1, 0, .iaload, 1) := Fm218 (dk_46 (dk_at s218_3 8 rfl rfl)) rfl
theorem f218_80 : ft 218 80 = some (11, 1, 0, .putfield 150, 3) := Fm218 (dk_181 0 150 (dk_at s218_3 9 rfl rfl)) rfl
theorem f218_83 : ft 218 83 = some (11, 1, 0, .iconst 0, 1) := Fm218 (dk_3 (dk_at s218_3 12 rfl rfl)) rfl
theorem f218_84 : ft 218 84 = some (11, 1, 0, .istore 5, 2) := Fm218 (dk_54 5 (dk_at s218_3 13 rfl rfl)) rfl
theorem f218_86 : ft 218 86 = some (11, 1, 0, .iload 5, 2) := Fm218 (dk_21 5 (dk_at s218_3 15 rfl rfl)) rfl
theorem f218_88 : ft 218 88 = some (11, 1, 0, .aload_n 0, 1) := Fm218 (dk_42 (dk_at s218_3 17 rfl rfl)) rfl
theorem f218_89 : ft 218 89 = some (11, 1, 0, .getfield 150, 3) := Fm218 (dk_180 0 150 (dk_at s218_3 18 rfl rfl)) rfl
theorem f218_92 : ft 218 92 = some (11, 1, 0, .if_icmp .ge 26, 3) := Fm218 (dk_162 0 26 (dk_at s218_3 21 rfl rfl)) rfl
theorem f218_95 : ft 218 95 = some (11, 1, 0, .aload_n 0, 1) := Fm218 (dk_42 (dk_at s218_4 0 rfl rfl)) rfl
theorem f218_96 : ft 218 96 = some (11, 1, 0, .getfield 71, 3) := Fm218 (dk_180 0 71 (dk_at s218_4 1 rfl rfl)) rfl
theorem f218_99 : ft 218 99 = some (11, 1, 0, .iload 5, 2) := Fm218 (dk_21 5 (dk_at s218_4 4 rfl rfl)) rfl
theorem f218_101 : ft 218 101 = some (11, 1, 0, .aload_n 3, 1) := Fm218 (dk_45 (dk_at s218_4 6 rfl rfl)) rfl
theorem f218_102 : ft 218 102 = some (11, 1, 0, .getfield 325, 3) := Fm218 (dk_180 1 69 (dk_at s218_4 7 rfl rfl)) rfl
theorem f218_105 : ft 218 105 = some (11, 1, 0, .iload 4, 2) := Fm218 (dk_21 4 (dk_at s218_4 10 rfl rfl)) rfl
theorem f218_107 : ft 218 107 = some (11, 1, 0, .aaload, 1) := Fm218 (dk_50 (dk_at s218_4 12 rfl rfl)) rfl
theorem f218_108 : ft 218 108 = some (11, 1, 0, .iload 5, 2) := Fm218 (dk_21 5 (dk_at s218_4 13 rfl rfl)) rfl
theorem f218_110 : ft 218 110 = some (11, 1, 0, .baload, 1) := Fm218 (dk_51 (dk_at s218_4 15 rfl rfl)) rfl
theorem f218_111 : ft 218 111 = some (11, 1, 0, .bastore, 1) := Fm218 (dk_84 (dk_at s218_4 16 rfl rfl)) rfl
theorem f218_112 : ft 218 112 = some (11, 1, 0, .iinc 5 1, 3) := Fm218 (dk_132 5 1 (dk_at s218_4 17 rfl rfl)) rfl
theorem f218_115 : ft 218 115 = some (11, 1, 0, .goto (-29), 3) := Fm218 (dk_167 255 227 (dk_at s218_4 20 rfl rfl)) rfl
theorem f218_118 : ft 218 118 = some (11, 1, 0, .aload_n 0, 1) := Fm218 (dk_42 (dk_at s218_4 23 rfl rfl)) rfl
theorem f218_119 : ft 218 119 = some (11, 1, 0, .getfield 150, 3) := Fm218 (dk_180 0 150 (dk_at s218_5 0 rfl rfl)) rfl
theorem f218_122 : ft 218 122 = some (11, 1, 0, .ireturn, 1) := Fm218 (dk_172 (dk_at s218_5 3 rfl rfl)) rfl
theorem q218 {d : Nat} {m : Mem} {a0 a1 a2 : Int} (hd : 0 < d) (hz : TZ m) : le2 (if a1 < (-1) then (rn d 218 24 [pR a0, pI a1, pI a2, pU, pU, pU] [pI 0, pR a0] m) else if 7 < a1 then (rn d 218 24 [pR a0, pI a1, pI a2, pU, pU, pU] [pI 0, pR a0] m) else bI (cl (d - 1) 194 [pI a2] m) fun v1 m1 => if v1 = 0 then (rn d 218 24 [pR a0, pI a1, pI a2, pU, pU, pU] [pI 0, pR a0] m1) else rn d 218 24 [pR a0, pI a1, pI a2, pU, pU, pU] [pI 1, pR a0] m1) (cl d 218 [pR a0, pI a1, pI a2] m) := by
  refine q_in (n := 6) (L := [pR a0, pI a1, pI a2, pU, pU, pU]) rfl rfl rfl ?_
  refine r_aln0 (p := 1) f218_0 rfl ?_
  refine r_iln1 (p := 2) f218_1 rfl ?_
  refine r_iconst (p := 3) f218_2 rfl (pinD rfl rfl) ?_
  refine r_iclt (t := 23) (p := 6) f218_3 (by decide) rfl rfl ?_ ?_
  · refine r_iconst (p := 24) f218_23 rfl (pinD rfl rfl) ?_
    exact le2_refl _
  · refine r_iln1 (p := 7) f218_6 rfl ?_
    refine r_bipush (p := 9) f218_7 rfl (pinD rfl rfl) ?_
    refine r_icgt (t := 23) (p := 12) f218_9 (by decide) rfl rfl ?_ ?_
    · refine r_iconst (p := 24) f218_23 rfl (pinD rfl rfl) ?_
      exact le2_refl _
    · refine r_iln2 (p := 13) f218_12 rfl ?_
      refine r_istI (p := 16) f218_13 rfl rfl rfl hd (Nat.le_of_ble_eq_true rfl) rfl rfl rfl (fun _ => rfl) (fun v1 m1 c1 => ?_)
      have hz1 := z_k c1 hz
      refine r_ifeq (t := 23) (p := 19) f218_16 (by decide) rfl rfl ?_ ?_
      · refine r_iconst (p := 24) f218_23 rfl (pinD rfl rfl) ?_
        exact le2_refl _
      · refine r_iconst (p := 20) f218_19 rfl (pinD rfl rfl) ?_
        refine r_goto (p := 24) f218_20 (by decide) rfl ?_
        exact le2_refl _
theorem q218_24 {d : Nat} {m : Mem} {a0 a1 a2 s1 s0 : Int} (hd : 0 < d) (hz : TZ m) : le2 (gd (tg m s0 = 11) <| bI (cl (d - 1) 188 [pR s0, pI s1, pI 1] m) fun v1 m1 => if v1 = 0 then (some (.inl (some (pI 0)), m1)) else gd (tg m1 a0 = 11) <| bR (cl (d - 1) 219 [pR a0, pI a1] m1) fun v2 m2 => if v2 = 0 then (some (.inl (some (pI 0)), m2)) else gd (tg m2 v2 = 12) <| bI (cl (d - 1) 278 [pR v2, pI a2] m2) fun v3 m3 => if v3 < 0 then (rn d 218 63 [pR a0, pI a1, pI a2, pR v2, pI v3, pU] [pI 0, pR a0] m3) else rn d 218 63 [pR a0, pI a1, pI a2, pR v2, pI v3, pU] [pI 1, pR a0] m3) (rn d 218 24 [pR a0, pI a1, pI a2, pU, pU, pU] [pI s1, pR s0] m) := by
  refine r_iconst (p := 25) f218_24 rfl (pinD rfl rfl) ?_
  refine le2_gd (fun h1 => ?_)
  refine r_invI (p := 28) f218_25 rfl rfl rfl (Or.inl h1) hd (Nat.le_of_ble_eq_true rfl) rfl rfl rfl (fun _ => rfl) (fun v1 m1 c1 => ?_)
  have hz1 := z_k c1 hz
  refine r_ifne (t := 33) (p := 31) f218_28 (by decide) rfl rfl ?_ ?_
  · refine r_iconst (p := 32) f218_31 rfl (pinD rfl rfl) ?_
    exact r_iret1 f218_32
  · refine r_aln0 (p := 34) f218_33 rfl ?_
    refine r_iln1 (p := 35) f218_34 rfl ?_
    refine le2_gd (fun h2 => ?_)
    refine r_invR (p := 38) f218_35 rfl rfl rfl (Or.inl h2) hd (Nat.le_of_ble_eq_true rfl) rfl rfl rfl (fun _ => rfl) (fun v2 m2 c2 => ?_)
    have hz2 := z_k c2 hz1
    refine r_asn3 (p := 39) f218_38 rfl rfl ?_
    refine r_aln3 (p := 40) f218_39 rfl ?_
    refine r_ifnonnull (t := 45) (p := 43) f218_40 (by decide) rfl rfl ?_ ?_
    · refine r_iconst (p := 44) f218_43 rfl (pinD rfl rfl) ?_
      exact r_iret1 f218_44
    · refine r_aln3 (p := 46) f218_45 rfl ?_
      refine r_iln2 (p := 47) f218_46 rfl ?_
      refine le2_gd (fun h3 => ?_)
      refine r_invI (p := 50) f218_47 rfl rfl rfl (Or.inl h3) hd (Nat.le_of_ble_eq_true rfl) rfl rfl rfl (fun _ => rfl) (fun v3 m3 c3 => ?_)
      have hz3 := z_k c3 hz2
      refine r_isw4 (p := 52) f218_50 rfl rfl ?_
      refine r_aln0 (p := 53) f218_52 rfl ?_
      refine r_ilw4 (p := 55) f218_53 rfl ?_
      refine r_iflt (t := 62) (p := 58) f218_55 (by decide) rfl rfl ?_ ?_
      · refine r_iconst (p := 63) f218_62 rfl (pinD rfl rfl) ?_
        exact le2_refl _
      · refine r_iconst (p := 59) f218_58 rfl (pinD rfl rfl) ?_
        refine r_goto (p := 63) f218_59 (by decide) rfl ?_
        exact le2_refl _
theorem q218_63 {d : Nat} {m : Mem} {a0 a1 a2 a3 a4 s1 s0 : Int} (hd : 0 < d) (hz : TZ m) : le2 (gd (tg m s0 = 11) <| bI (cl (d - 1) 188 [pR s0, pI s1, pI 3] m) fun v1 m1 => if v1 = 0 then (some (.inl (some (pI 0)), m1)) else gd (tg m1 a3 = 12) <| nm (vl m1 a3 1) fun v2 => gd (tg m1 v2 = 278101) <| gd ((0 : Int) ≤ a4 ∧ a4 < ln m1 v2) <| gd (tg m1 a0 = 11) <| rn d 218 86 [pR a0, pI a1, pI a2, pR a3, pI a4, pI 0] [] (mst m1 a0 3 (vl m1 v2 a4))) (rn d 218 63 [pR a0, pI a1, pI a2, pR a3, pI a4, pU] [pI s1, pR s0] m) := by
  refine r_iconst (p := 64) f218_63 rfl (pinD rfl rfl) ?_
  refine le2_gd (fun h1 => ?_)
  refine r_invI (p := 67) f218_64 rfl rfl rfl (Or.inl h1) hd (Nat.le_of_ble_eq_true rfl) rfl rfl rfl (fun _ => rfl) (fun v1 m1 c1 => ?_)
  have hz1 := z_k c1 hz
  refine r_ifne (t := 72) (p := 70) f218_67 (by decide) rfl rfl ?_ ?_
  · refine r_iconst (p := 71) f218_70 rfl (pinD rfl rfl) ?_
    exact r_iret1 f218_71
  · refine r_aln0 (p := 73) f218_72 rfl ?_
    refine r_aln3 (p := 74) f218_73 rfl ?_
    refine le2_gd (fun h2 => ?_)
    refine r_gfR (f := 1) (p := 77) f218_74 rfl rfl rfl (Or.inl h2) rfl ?_
    refine r_nmR (fun v2 ev2 => ?_)
    refine r_ilw4 (p := 79) f218_77 rfl ?_
    refine le2_gd (fun h3 => ?_)
    refine le2_gd (fun h4 => ?_)
    refine r_iaload (p := 80) f218_79 rfl (dj1 (fun x => x % 1000 = 101) h3 (by decide)) h4 rfl ?_
    refine le2_gd (fun h5 => ?_)
    refine r_pfI (f := 3) (p := 83) f218_80 rfl rfl rfl (by decide) (by decide) (Or.inl h5) rfl ?_
    refine r_iconst (p := 84) f218_83 rfl (pinD rfl rfl) ?_
    refine r_isw5 (p := 86) f218_84 rfl rfl ?_
    exact le2_refl _
theorem q218_86 {d : Nat} {m : Mem} {a0 a1 a2 a3 a4 a5 : Int} (hz : TZ m) : le2 (gd (tg m a0 = 11) <| nm (vl m a0 3) fun v1 => if a5 < v1 then (nm (vl m a0 2) fun v2 => gd (tg m a3 = 12) <| nm (vl m a3 2) fun v3 => gd (tg m v3 = 278118) <| gd ((0 : Int) ≤ a4 ∧ a4 < ln m v3) <| nm (vl m v3 a4) fun v4 => gd (tg m v4 = 278103) <| gd ((0 : Int) ≤ a5 ∧ a5 < ln m v4) <| gd (tg m v2 = 186103) <| gd ((0 : Int) ≤ a5 ∧ a5 < ln m v2) <| rn d 218 86 [pR a0, pI a1, pI a2, pR a3, pI a4, pI (w32 (a5 + 1))] [] (mst m v2 a5 (w8 (vl m v4 a5)))) else some (.inl (some (pI v1)), m)) (rn d 218 86 [pR a0, pI a1, pI a2, pR a3, pI a4, pI a5] [] m) := by
  refine r_ilw5 (p := 88) f218_86 rfl ?_
  refine r_aln0 (p := 89) f218_88 rfl ?_
  refine le2_gd (fun h1 => ?_)
  refine r_gfI (f := 3) (p := 92) f218_89 rfl rfl rfl (Or.inl h1) rfl ?_
  refine r_nmI (fun v1 ev1 => ?_)
  refine r_icge (t := 118) (p := 95) f218_92 (by decide) rfl rfl ?_ ?_
  · refine r_aln0 (p := 96) f218_95 rfl ?_
    refine r_gfR (f := 2) (p := 99) f218_96 rfl rfl rfl (Or.inl h1) rfl ?_
    refine r_nmR (fun v2 ev2 => ?_)
    refine r_ilw5 (p := 101) f218_99 rfl ?_
    refine r_aln3 (p := 102) f218_101 rfl ?_
    refine le2_gd (fun h2 => ?_)
    refine r_gfR (f := 2) (p := 105) f218_102 rfl rfl rfl (Or.inl h2) rfl ?_
    refine r_nmR (fun v3 ev3 => ?_)
    refine r_ilw4 (p := 107) f218_105 rfl ?_
    refine le2_gd (fun h3 => ?_)
    refine le2_gd (fun h4 => ?_)
    refine r_aaload (p := 108) f218_107 rfl (dj1 (fun x => 110 < x % 1000 ∧ x % 1000 < 119) h3 (by decide)) h4 rfl ?_
    refine r_nmR (fun v4 ev4 => ?_)
    refine r_ilw5 (p := 110) f218_108 rfl ?_
    refine le2_gd (fun h5 => ?_)
    refine le2_gd (fun h6 => ?_)
    refine r_baload (p := 111) f218_110 rfl (dj1 (fun x => x % 1000 = 103 ∨ x % 1000 = 105) h5 (by decide)) h6 rfl ?_
    refine le2_gd (fun h7 => ?_)
    refine le2_gd (fun h8 => ?_)
    refine r_bastore (p := 112) f218_111 rfl (dj1 (fun x => 1000 ≤ x ∧ x % 1000 = 103 ∧ Nat.testBit (eM 218) (bix x 0) = true) h7 (by decide)) h8 ?_
    refine r_iinc5 (p := 115) f218_112 rfl rfl ?_
    refine r_goto (p := 86) f218_115 (by decide) rfl ?_
    exact le2_refl _
  · refine r_aln0 (p := 119) f218_118 rfl ?_
    refine r_gfI (f := 3) (p := 122) f218_119 rfl rfl rfl (Or.inl h1) ev1.symm ?_
    exact r_iret1 f218_122
/-! 219 PathStoreModel.version (I)LPathStoreModel$Store; -/
def w219_2 : List UInt8 := [167, 0, 9, 42, 180, 0, 88, 27, 50, 176]
abbrev u219_2 : List UInt8 := w219_2 ++ []
def w219_1 : List UInt8 := [4, 167, 0, 4, 3, 5, 182, 0, 142, 154, 0, 5, 1, 176, 27, 156, 0, 10, 42, 180, 0, 84]
abbrev u219_1 : List UInt8 := w219_1 ++ u219_2
def w219_0 : List UInt8 := [42, 42, 180, 1, 27, 154, 0, 23, 27, 155, 0, 15, 42, 180, 0, 88, 27, 50, 180, 1, 30, 153, 0, 7]
abbrev u219_0 : List UInt8 := w219_0 ++ u219_1
theorem s219_0 : (prog_32_method_38_code).data.toList.drop 0 = u219_0 := by decide +kernel
theorem s219_1 : (prog_32_method_38_code).data.toList.drop 24 = u219_1 := dk_seg s219_0 24 rfl rfl
theorem s219_2 : (prog_32_method_38_code).data.toList.drop 46 = u219_2 := dk_seg s219_1 22 rfl rfl
theorem Fm219 {pc len : Nat} {i : Instr} (h : decode (prog_32_method_38_code) pc = .ok (i, len)) (hl : len = ilen i len) : ft 219 pc = some (11, 3, 0, i, len) := ft_mk rfl h hl
theorem f219_0 : ft 219 0 = some (11, 3, 0, .aload_n 0, 1) := Fm219 (dk_42 (dk_at s219_0 0 rfl rfl)) rfl
theorem f219_1 : ft 219 1 = some (11, 3, 0, .aload_n 0, 1) := Fm219 (dk_42 (dk_at s219_0 1 rfl rfl)) rfl
theorem f219_2 : ft 219 2 = some (11, 3, 0, .getfield 283, 3) := Fm219 (dk_180 1 27 (dk_at s219_0 2 rfl rfl)) rfl
theorem f219_5 : ft 219 5 = some (11, 3, 0, .ifCond .ne 23, 3) := Fm219 (dk_154 0 23 (dk_at s219_0 5 rfl rfl)) rfl
theorem f219_8 : ft 219 8 = some (11, 3, 0, .iload_n 1, 1) := Fm219 (dk_27 (dk_at s219_0 8 rfl rfl)) rfl
theorem f219_9 : ft 219 9 = some (11, 3, 0, .ifCond .lt 15, 3) := Fm219 (dk_155 0 15 (dk_at s219_0 9 rfl rfl)) rfl
theorem f219_12 : ft 219 12 = some (11, 3, 0, .aload_n 0, 1) := Fm219 (dk_42 (dk_at s219_0 12 rfl rfl)) rfl
theorem f219_13 : ft 219 13 = some (11, 3, 0, .getfield 88, 3) := Fm219 (dk_180 0 88 (dk_at s219_0 13 rfl rfl)) rfl
theorem f219_16 : ft 219 16 = some (11, 3, 0, .iload_n 1, 1) := Fm219 (dk_27 (dk_at s219_0 16 rfl rfl)) rfl
theorem f219_17 : ft 219 17 = some (11, 3, 0, .aaload, 1) := Fm219 (dk_50 (dk_at s219_0 17 rfl rfl)) rfl
theorem f219_18 : ft 219 18 = some (11, 3, 0, .getfield 286, 3) := Fm219 (dk_180 1 30 (dk_at s219_0 18 rfl rfl)) rfl
theorem f219_21 : ft 219 21 = some (11, 3, 0, .ifCond .eq 7, 3) := Fm219 (dk_153 0 7 (dk_at s219_0 21 rfl rfl)) rfl
theorem f219_24 : ft 219 24 = some (11, 3, 0, .iconst 1, 1) := Fm219 (dk_4 (dk_at s219_1 0 rfl rfl)) rfl
theorem f219_25 : ft 219 25 = some (11, 3, 0, .goto 4, 3) := Fm219 (dk_167 0 4 (dk_at s219_1 1 rfl rfl)) rfl
theorem f219_28 : ft 219 28 = some (11, 3, 0, .iconst 0, 1) := Fm219 (dk_3 (dk_at s219_1 4 rfl rfl)) rfl
theorem f219_29 : ft 219 29 = some (11, 3, 0, .iconst 2, 1) := Fm219 (dk_5 (dk_at s219_1 5 rfl rfl)) rfl
theorem f219_30 : ft 219 30 = some (11, 3, 0, .invokevirtual 142, 3) := Fm219 (dk_182 0 142 (dk_at s219_1 6 rfl rfl)) rfl
theorem f219_33 : ft 219 33 = some (11, 3, 0, .ifCond .ne 5, 3) := Fm219 (dk_154 0 5 (dk_at s219_1 9 rfl rfl)) rfl
theorem f219_36 : ft 219 36 = some (11, 3, 0, .aconst_null, 1) := Fm219 (dk_1 (dk_at s219_1 12 rfl rfl)) rfl
theorem f219_37 : ft 219 37 = some (11, 3, 0, .areturn, 1) := Fm219 (dk_176 (dk_at s219_1 13 rfl rfl)) rfl
theorem f219_38 : ft 219 38 = some (11, 3, 0, .iload_n 1, 1) := Fm219 (dk_27 (dk_at s219_1 14 rfl rfl)) rfl
theorem f219_39 : ft 219 39 = some (11, 3, 0, .ifCond .ge 10, 3) := Fm219 (dk_156 0 10 (dk_at s219_1 15 rfl rfl)) rfl
theorem f219_42 : ft 219 42 = some (11, 3, 0, .aload_n 0, 1) := Fm219 (dk_42 (dk_at s219_1 18 rfl rfl)) rfl
theorem f219_43 : ft 219 43 = some (11, 3, 0, .getfield 84, 3) := Fm219 (dk_180 0 84 (dk_at s219_1 19 rfl rfl)) rfl
theorem f219_46 : ft 219 46 = some (11, 3, 0, .goto 9, 3) := Fm219 (dk_167 0 9 (dk_at s219_2 0 rfl rfl)) rfl
theorem f219_49 : ft 219 49 = some (11, 3, 0, .aload_n 0, 1) := Fm219 (dk_42 (dk_at s219_2 3 rfl rfl)) rfl
theorem f219_50 : ft 219 50 = some (11, 3, 0, .getfield 88, 3) := Fm219 (dk_180 0 88 (dk_at s219_2 4 rfl rfl)) rfl
theorem f219_53 : ft 219 53 = some (11, 3, 0, .iload_n 1, 1) := Fm219 (dk_27 (dk_at s219_2 7 rfl rfl)) rfl
theorem f219_54 : ft 219 54 = some (11, 3, 0, .aaload, 1) := Fm219 (dk_50 (dk_at s219_2 8 rfl rfl)) rfl
theorem f219_55 : ft 219 55 = some (11, 3, 0, .areturn, 1) := Fm219 (dk_176 (dk_at s219_2 9 rfl rfl)) rfl
theorem q219 {d : Nat} {m : Mem} {a0 a1 : Int} (hz : TZ m) : le2 (gd (tg m a0 = 11) <| if (vl m a0 6) = 0 then (if a1 < 0 then (rn d 219 29 [pR a0, pI a1] [pI 1, pR a0] m) else nm (vl m a0 9) fun v1 => gd (tg m v1 = 186117) <| gd ((0 : Int) ≤ a1 ∧ a1 < ln m v1) <| nm (vl m v1 a1) fun v2 => gd (tg m v2 = 12) <| if (vl m v2 4) = 0 then (rn d 219 29 [pR a0, pI a1] [pI 0, pR a0] m) else rn d 219 29 [pR a0, pI a1] [pI 1, pR a0] m) else rn d 219 29 [pR a0, pI a1] [pI 0, pR a0] m) (cl d 219 [pR a0, pI a1] m) := by
  refine q_in (n := 2) (L := [pR a0, pI a1]) rfl rfl rfl ?_
  refine r_aln0 (p := 1) f219_0 rfl ?_
  refine r_aln0 (p := 2) f219_1 rfl ?_
  refine le2_gd (fun h1 => ?_)
  refine r_gfIZ (f := 6) (p := 5) f219_2 rfl rfl rfl (Or.inl h1) rfl ?_
  refine r_ifne (t := 28) (p := 8) f219_5 (by decide) rfl rfl ?_ ?_
  · refine r_iln1 (p := 9) f219_8 rfl ?_
    refine r_iflt (t := 24) (p := 12) f219_9 (by decide) rfl rfl ?_ ?_
    · refine r_iconst (p := 25) f219_24 rfl (pinD rfl rfl) ?_
      refine r_goto (p := 29) f219_25 (by decide) rfl ?_
      exact le2_refl _
    · refine r_aln0 (p := 13) f219_12 rfl ?_
      refine r_gfR (f := 9) (p := 16) f219_13 rfl rfl rfl (Or.inl h1) rfl ?_
      refine r_nmR (fun v1 ev1 => ?_)
      refine r_iln1 (p := 17) f219_16 rfl ?_
      refine le2_gd (fun h2 => ?_)
      refine le2_gd (fun h3 => ?_)
      refine r_aaload (p := 18) f219_17 rfl (dj1 (fun x => 110 < x % 1000 ∧ x % 1000 < 119) h2 (by decide)) h3 rfl ?_
      refine r_nmR (fun v2 ev2 => ?_)
      refine le2_gd (fun h4 => ?_)
      refine r_gfIZ (f := 4) (p := 21) f219_18 rfl rfl rfl (Or.inl h4) rfl ?_
      refine r_ifeq (t := 28) (p := 24) f219_21 (by decide) rfl rfl ?_ ?_
      · refine r_iconst (p := 29) f219_28 rfl (pinD rfl rfl) ?_
        exact le2_refl _
      · refine r_iconst (p := 25) f219_24 rfl (pinD rfl rfl) ?_
        refine r_goto (p := 29) f219_25 (by decide) rfl ?_
        exact le2_refl _
  · refine r_iconst (p := 29) f219_28 rfl (pinD rfl rfl) ?_
    exact le2_refl _
theorem q219_29 {d : Nat} {m : Mem} {a0 a1 s1 s0 : Int} (hd : 0 < d) (hz : TZ m) : le2 (gd (tg m s0 = 11) <| bI (cl (d - 1) 188 [pR s0, pI s1, pI 2] m) fun v1 m1 => if v1 = 0 then (some (.inl (some (pR 0)), m1)) else if a1 < 0 then (gd (tg m1 a0 = 11) <| some (.inl (some (pR (vl m1 a0 8))), m1)) else gd (tg m1 a0 = 11) <| nm (vl m1 a0 9) fun v2 => gd (tg m1 v2 = 186117) <| gd ((0 : Int) ≤ a1 ∧ a1 < ln m1 v2) <| some (.inl (some (pR (vl m1 v2 a1))), m1)) (rn d 219 29 [pR a0, pI a1] [pI s1, pR s0] m) := by
  refine r_iconst (p := 30) f219_29 rfl (pinD rfl rfl) ?_
  refine le2_gd (fun h1 => ?_)
  refine r_invI (p := 33) f219_30 rfl rfl rfl (Or.inl h1) hd (Nat.le_of_ble_eq_true rfl) rfl rfl rfl (fun _ => rfl) (fun v1 m1 c1 => ?_)
  have hz1 := z_k c1 hz
  refine r_ifne (t := 38) (p := 36) f219_33 (by decide) rfl rfl ?_ ?_
  · refine r_anull (p := 37) f219_36 rfl ?_
    exact r_aret f219_37
  · refine r_iln1 (p := 39) f219_38 rfl ?_
    refine r_ifge (t := 49) (p := 42) f219_39 (by decide) rfl rfl ?_ ?_
    · refine r_aln0 (p := 43) f219_42 rfl ?_
      refine le2_gd (fun h5 => ?_)
      refine r_gfR (f := 8) (p := 46) f219_43 rfl rfl rfl (Or.inl h5) rfl ?_
      refine r_goto (p := 55) f219_46 (by decide) rfl ?_
      exact r_aret f219_55
    · refine r_aln0 (p := 50) f219_49 rfl ?_
      refine le2_gd (fun h2 => ?_)
      refine r_gfR (f := 9) (p := 53) f219_50 rfl rfl rfl (Or.inl h2) rfl ?_
      refine r_nmR (fun v2 ev2 => ?_)
      refine r_iln1 (p := 54) f219_53 rfl ?_
      refine le2_gd (fun h3 => ?_)
      refine le2_gd (fun h4 => ?_)
      refine r_aaload (p := 55) f219_54 rfl (dj1 (fun x => 110 < x % 1000 ∧ x % 1000 < 119) h3 (by decide)) h4 rfl ?_
      exact r_aret f219_55
/-! 220 PathStoreModel.out (I)I -/
def w220_4 : List UInt8 := [3, 172]
abbrev u220_4 : List UInt8 := w220_4 ++ []
def w220_3 : List UInt8 := [180, 0, 84, 28, 182, 1, 72, 42, 182, 1, 61, 153, 0, 13, 42, 180, 0, 84, 180, 1, 51, 167, 0, 4]
abbrev u220_3 : List UInt8 := w220_3 ++ u220_4
def w220_2 : List UInt8 := [4, 167, 0, 4, 3, 6, 182, 0, 142, 154, 0, 5, 3, 172, 42, 182, 1, 54, 153, 0, 11, 42]
abbrev u220_2 : List UInt8 := w220_2 ++ u220_3
def w220_1 : List UInt8 := [3, 5, 182, 0, 142, 154, 0, 5, 3, 172, 42, 180, 0, 84, 27, 182, 1, 49, 61, 42, 28, 155, 0, 7]
abbrev u220_1 : List UInt8 := w220_1 ++ u220_2
def w220_0 : List UInt8 := [42, 27, 184, 1, 37, 4, 182, 0, 142, 153, 0, 23, 42, 42, 180, 1, 27, 154, 0, 7, 4, 167, 0, 4]
abbrev u220_0 : List UInt8 := w220_0 ++ u220_1
theorem s220_0 : (prog_32_method_40_code).data.toList.drop 0 = u220_0 := by decide +kernel
theorem s220_1 : (prog_32_method_40_code).data.toList.drop 24 = u220_1 := dk_seg s220_0 24 rfl rfl
theorem s220_2 : (prog_32_method_40_code).data.toList.drop 48 = u220_2 := dk_seg s220_1 24 rfl rfl
theorem s220_3 : (prog_32_method_40_code).data.toList.drop 70 = u220_3 := dk_seg s220_2 22 rfl rfl
theorem s220_4 : (prog_32_method_40_code).data.toList.drop 94 = u220_4 := dk_seg s220_3 24 rfl rfl
theorem Fm220 {pc len : Nat} {i : Instr} (h : decode (prog_32_method_40_code) pc = .ok (i, len)) (hl : len = ilen i len) : ft 220 pc = some (11, 1, 0, i, len) := ft_mk rfl h hl
theorem f220_0 : ft 220 0 = some (11, 1, 0, .aload_n 0, 1) := Fm220 (dk_42 (dk_at s220_0 0 rfl rfl)) rfl
theorem f220_1 : ft 220 1 = some (11, 1, 0, .iload_n 1, 1) := Fm220 (dk_27 (dk_at s220_0 1 rfl rfl)) rfl
theorem f220_2 : ft 220 2 = some (11, 1, 0, .invokestatic 293, 3) := Fm220 (dk_184 1 37 (dk_at s220_0 2 rfl rfl)) rfl
theorem f220_5 : ft 220 5 = some (11, 1, 0, .iconst 1, 1) := Fm220 (dk_4 (dk_at s220_0 5 rfl rfl)) rfl
theorem f220_6 : ft 220 6 = some (11, 1, 0, .invokevirtual 142, 3) := Fm220 (dk_182 0 142 (dk_at s220_0 6 rfl rfl)) rfl
theorem f220_9 : ft 220 9 = some (11, 1, 0, .ifCond .eq 23, 3) := Fm220 (dk_153 0 23 (dk_at s220_0 9 rfl rfl)) rfl
theorem f220_12 : ft 220 12 = some (11, 1, 0, .aload_n 0, 1) := Fm220 (dk_42 (dk_at s220_0 12 rfl rfl)) rfl
theorem f220_13 : ft 220 13 = some (11, 1, 0, .aload_n 0, 1) := Fm220 (dk_42 (dk_at s220_0 13 rfl rfl)) rfl
theorem f220_14 : ft 220 14 = some (11, 1, 0, .getfield 283, 3) := Fm220 (dk_180 1 27 (dk_at s220_0 14 rfl rfl)) rfl
theorem f220_17 : ft 220 17 = some (11, 1, 0, .ifCond .ne 7, 3) := Fm220 (dk_154 0 7 (dk_at s220_0 17 rfl rfl)) rfl
theorem f220_20 : ft 220 20 = some (11, 1, 0, .iconst 1, 1) := Fm220 (dk_4 (dk_at s220_0 20 rfl rfl)) rfl
theorem f220_21 : ft 220 21 = some (11, 1, 0, .goto 4, 3) := Fm220 (dk_167 0 4 (dk_at s220_0 21 rfl rfl)) rfl
theorem f220_24 : ft 220 24 = some (11, 1, 0, .iconst 0, 1) := Fm220 (dk_3 (dk_at s220_1 0 rfl rfl)) rfl
theorem f220_25 : ft 220 25 = some (11, 1, 0, .iconst 2, 1) := Fm220 (dk_5 (dk_at s220_1 1 rfl rfl)) rfl
theorem f220_26 : ft 220 26 = some (11, 1, 0, .invokevirtual 142, 3) := Fm220 (dk_182 0 142 (dk_at s220_1 2 rfl rfl)) rfl
theorem f220_29 : ft 220 29 = some (11, 1, 0, .ifCond .ne 5, 3) := Fm220 (dk_154 0 5 (dk_at s220_1 5 rfl rfl)) rfl
theorem f220_32 : ft 220 32 = some (11, 1, 0, .iconst 0, 1) := Fm220 (dk_3 (dk_at s220_1 8 rfl rfl)) rfl
theorem f220_33 : ft 220 33 = some (11, 1, 0, .ireturn, 1) := Fm220 (dk_172 (dk_at s220_1 9 rfl rfl)) rfl
theorem f220_34 : ft 220 34 = some (11, 1, 0, .aload_n 0, 1) := Fm220 (dk_42 (dk_at s220_1 10 rfl rfl)) rfl
theorem f220_35 : ft 220 35 = some (11, 1, 0, .getfield 84, 3) := Fm220 (dk_180 0 84 (dk_at s220_1 11 rfl rfl)) rfl
theorem f220_38 : ft 220 38 = some (11, 1, 0, .iload_n 1, 1) := Fm220 (dk_27 (dk_at s220_1 14 rfl rfl)) rfl
theorem f220_39 : ft 220 39 = some (11, 1, 0, .invokevirtual 305, 3) := Fm220 (dk_182 1 49 (dk_at s220_1 15 rfl rfl)) rfl
theorem f220_42 : ft 220 42 = some (11, 1, 0, .istore_n 2, 1) := Fm220 (dk_61 (dk_at s220_1 18 rfl rfl)) rfl
theorem f220_43 : ft 220 43 = some (11, 1, 0, .aload_n 0, 1) := Fm220 (dk_42 (dk_at s220_1 19 rfl rfl)) rfl
theorem f220_44 : ft 220 44 = some (11, 1, 0, .iload_n 2, 1) := Fm220 (dk_28 (dk_at s220_1 20 rfl rfl)) rfl
theorem f220_45 : ft 220 45 = some (11, 1, 0, .ifCond .lt 7, 3) := Fm220 (dk_155 0 7 (dk_at s220_1 21 rfl rfl)) rfl
theorem f220_48 : ft 220 48 = some (11, 1, 0, .iconst 1, 1) := Fm220 (dk_4 (dk_at s220_2 0 rfl rfl)) rfl
theorem f220_49 : ft 220 49 = some (11, 1, 0, .goto 4, 3) := Fm220 (dk_167 0 4 (dk_at s220_2 1 rfl rfl)) rfl
theorem f220_52 : ft 220 52 = some (11, 1, 0, .iconst 0, 1) := Fm220 (dk_3 (dk_at s220_2 4 rfl rfl)) rfl
theorem f220_53 : ft 220 53 = some (11, 1, 0, .iconst 3, 1) := Fm220 (dk_6 (dk_at s220_2 5 rfl rfl)) rfl
theorem f220_54 : ft 220 54 = some (11, 1, 0, .invokevirtual 142, 3) := Fm220 (dk_182 0 142 (dk_at s220_2 6 rfl rfl)) rfl
theorem f220_57 : ft 220 57 = some (11, 1, 0, .ifCond .ne 5, 3) := Fm220 (dk_154 0 5 (dk_at s220_2 9 rfl rfl)) rfl
theorem f220_60 : ft 220 60 = some (11, 1, 0, .iconst 0, 1) := Fm220 (dk_3 (dk_at s220_2 12 rfl rfl)) rfl
theorem f220_61 : ft 220 61 = some (11, 1, 0, .ireturn, 1) := Fm220 (dk_172 (dk_at s220_2 13 rfl rfl)) rfl
theorem f220_62 : ft 220 62 = some (11, 1, 0, .aload_n 0, 1) := Fm220 (dk_42 (dk_at s220_2 14 rfl rfl)) rfl
theorem f220_63 : ft 220 63 = some (11, 1, 0, .invokevirtual 310, 3) := Fm220 (dk_182 1 54 (dk_at s220_2 15 rfl rfl)) rfl
theorem f220_66 : ft 220 66 = some (11, 1, 0, .ifCond .eq 11, 3) := Fm220 (dk_153 0 11 (dk_at s220_2 18 rfl rfl)) rfl
theorem f220_69 : ft 220 69 = some (11, 1, 0, .aload_n 0, 1) := Fm220 (dk_42 (dk_at s220_2 21 rfl rfl)) rfl
theorem f220_70 : ft 220 70 = some (11, 1, 0, .getfield 84, 3) := Fm220 (dk_180 0 84 (dk_at s220_3 0 rfl rfl)) rfl
theorem f220_73 : ft 220 73 = some (11, 1, 0, .iload_n 2, 1) := Fm220 (dk_28 (dk_at s220_3 3 rfl rfl)) rfl
theorem f220_74 : ft 220 74 = some (11, 1, 0, .invokevirtual 328, 3) := Fm220 (dk_182 1 72 (dk_at s220_3 4 rfl rfl)) rfl
theorem f220_77 : ft 220 77 = some (11, 1, 0, .aload_n 0, 1) := Fm220 (dk_42 (dk_at s220_3 7 rfl rfl)) rfl
theorem f220_78 : ft 220 78 = some (11, 1, 0, .invokevirtual 317, 3) := Fm220 (dk_182 1 61 (dk_at s220_3 8 rfl rfl)) rfl
theorem f220_81 : ft 220 81 = some (11, 1, 0, .ifCond .eq 13, 3) := Fm220 (dk_153 0 13 (dk_at s220_3 11 rfl rfl)) rfl
theorem f220_84 : ft 220 84 = some (11, 1, 0, .aload_n 0, 1) := Fm220 (dk_42 (dk_at s220_3 14 rfl rfl)) rfl
theorem f220_85 : ft 220 85 = some (11, 1, 0, .getfield 84, 3) := Fm220 (dk_180 0 84 (dk_at s220_3 15 rfl rfl)) rfl
theorem f220_88 : ft 220 88 = some (11, 1, 0, .getfield 307, 3) := Fm220 (dk_180 1 51 (dk_at s220_3 18 rfl rfl)) rfl
theorem f220_91 : ft 220 91 = some (11, 1, 0, .goto 4, 3) := Fm220 (dk_167 0 4 (dk_at s220_3 21 rfl rfl)) rfl
theorem f220_94 : ft 220 94 = some (11, 1, 0, .iconst 0, 1) := Fm220 (dk_3 (dk_at s220_4 0 rfl rfl)) rfl
theorem f220_95 : ft 220 95 = some (11, 1, 0, .ireturn, 1) := Fm220 (dk_172 (dk_at s220_4 1 rfl rfl)) rfl
theorem q220 {d : Nat} {m : Mem} {a0 a1 : Int} (hd : 0 < d) (hz : TZ m) : le2 (bI (cl (d - 1) 194 [pI a1] m) fun v1 m1 => gd (tg m1 a0 = 11) <| bI (cl (d - 1) 188 [pR a0, pI v1, pI 1] m1) fun v2 m2 => if v2 = 0 then (some (.inl (some (pI 0)), m2)) else if (vl m2 a0 6) = 0 then (rn d 220 25 [pR a0, pI a1, pU] [pI 1, pR a0] m2) else rn d 220 25 [pR a0, pI a1, pU] [pI 0, pR a0] m2) (cl d 220 [pR a0, pI a1] m) := by
  refine q_in (n := 3) (L := [pR a0, pI a1, pU]) rfl rfl rfl ?_
  refine r_aln0 (p := 1) f220_0 rfl ?_
  refine r_iln1 (p := 2) f220_1 rfl ?_
  refine r_istI (p := 5) f220_2 rfl rfl rfl hd (Nat.le_of_ble_eq_true rfl) rfl rfl rfl (fun _ => rfl) (fun v1 m1 c1 => ?_)
  have hz1 := z_k c1 hz
  refine r_iconst (p := 6) f220_5 rfl (pinD rfl rfl) ?_
  refine le2_gd (fun h1 => ?_)
  refine r_invI (p := 9) f220_6 rfl rfl rfl (Or.inl h1) hd (Nat.le_of_ble_eq_true rfl) rfl rfl rfl (fun _ => rfl) (fun v2 m2 c2 => ?_)
  have hz2 := z_k c2 hz1
  refine r_ifeq (t := 32) (p := 12) f220_9 (by decide) rfl rfl ?_ ?_
  · refine r_iconst (p := 33) f220_32 rfl (pinD rfl rfl) ?_
    exact r_iret1 f220_33
  · refine r_aln0 (p := 13) f220_12 rfl ?_
    refine r_aln0 (p := 14) f220_13 rfl ?_
    have h2 := k_t1 c2 hz1 h1 (by decide)
    refine r_gfIZ (f := 6) (p := 17) f220_14 rfl rfl rfl (Or.inl h2) rfl ?_
    refine r_ifne (t := 24) (p := 20) f220_17 (by decide) rfl rfl ?_ ?_
    · refine r_iconst (p := 21) f220_20 rfl (pinD rfl rfl) ?_
      refine r_goto (p := 25) f220_21 (by decide) rfl ?_
      exact le2_refl _
    · refine r_iconst (p := 25) f220_24 rfl (pinD rfl rfl) ?_
      exact le2_refl _
theorem q220_25 {d : Nat} {m : Mem} {a0 a1 s1 s0 : Int} (hd : 0 < d) (hz : TZ m) : le2 (gd (tg m s0 = 11) <| bI (cl (d - 1) 188 [pR s0, pI s1, pI 2] m) fun v1 m1 => if v1 = 0 then (some (.inl (some (pI 0)), m1)) else gd (tg m1 a0 = 11) <| nm (vl m1 a0 8) fun v3 => gd (tg m1 v3 = 12) <| bI (cl (d - 1) 278 [pR v3, pI a1] m1) fun v2 m2 => if v2 < 0 then (rn d 220 53 [pR a0, pI a1, pI v2] [pI 0, pR a0] m2) else rn d 220 53 [pR a0, pI a1, pI v2] [pI 1, pR a0] m2) (rn d 220 25 [pR a0, pI a1, pU] [pI s1, pR s0] m) := by
  refine r_iconst (p := 26) f220_25 rfl (pinD rfl rfl) ?_
  refine le2_gd (fun h1 => ?_)
  refine r_invI (p := 29) f220_26 rfl rfl rfl (Or.inl h1) hd (Nat.le_of_ble_eq_true rfl) rfl rfl rfl (fun _ => rfl) (fun v1 m1 c1 => ?_)
  have hz1 := z_k c1 hz
  refine r_ifne (t := 34) (p := 32) f220_29 (by decide) rfl rfl ?_ ?_
  · refine r_iconst (p := 33) f220_32 rfl (pinD rfl rfl) ?_
    exact r_iret1 f220_33
  · refine r_aln0 (p := 35) f220_34 rfl ?_
    refine le2_gd (fun h2 => ?_)
    refine r_gfR (f := 8) (p := 38) f220_35 rfl rfl rfl (Or.inl h2) rfl ?_
    refine r_nmR (fun v3 ev3 => ?_)
    refine r_iln1 (p := 39) f220_38 rfl ?_
    refine le2_gd (fun h3 => ?_)
    refine r_invI (p := 42) f220_39 rfl rfl rfl (Or.inl h3) hd (Nat.le_of_ble_eq_true rfl) rfl rfl rfl (fun _ => rfl) (fun v2 m2 c2 => ?_)
    have hz2 := z_k c2 hz1
    refine r_isn2 (p := 43) f220_42 rfl rfl ?_
    refine r_aln0 (p := 44) f220_43 rfl ?_
    refine r_iln2 (p := 45) f220_44 rfl ?_
    refine r_iflt (t := 52) (p := 48) f220_45 (by decide) rfl rfl ?_ ?_
    · refine r_iconst (p := 53) f220_52 rfl (pinD rfl rfl) ?_
      exact le2_refl _
    · refine r_iconst (p := 49) f220_48 rfl (pinD rfl rfl) ?_
      refine r_goto (p := 53) f220_49 (by decide) rfl ?_
      exact le2_refl _
theorem q220_53 {d : Nat} {m : Mem} {a0 a1 a2 s1 s0 : Int} (hd : 0 < d) (hz : TZ m) : le2 (gd (tg m s0 = 11) <| bI (cl (d - 1) 188 [pR s0, pI s1, pI 3] m) fun v1 m1 => if v1 = 0 then (some (.inl (some (pI 0)), m1)) else gd (tg m1 a0 = 11) <| bI (cl (d - 1) 215 [pR a0] m1) fun v2 m2 => if v2 = 0 then (rn d 220 77 [pR a0, pI a1, pI a2] [] m2) else nm (vl m2 a0 8) fun v4 => gd (tg m2 v4 = 12) <| bV (cl (d - 1) 281 [pR v4, pI a2] m2) fun m3 => rn d 220 77 [pR a0, pI a1, pI a2] [] m3) (rn d 220 53 [pR a0, pI a1, pI a2] [pI s1, pR s0] m) := by
  refine r_iconst (p := 54) f220_53 rfl (pinD rfl rfl) ?_
  refine le2_gd (fun h1 => ?_)
  refine r_invI (p := 57) f220_54 rfl rfl rfl (Or.inl h1) hd (Nat.le_of_ble_eq_true rfl) rfl rfl rfl (fun _ => rfl) (fun v1 m1 c1 => ?_)
  have hz1 := z_k c1 hz
  refine r_ifne (t := 62) (p := 60) f220_57 (by decide) rfl rfl ?_ ?_
  · refine r_iconst (p := 61) f220_60 rfl (pinD rfl rfl) ?_
    exact r_iret1 f220_61
  · refine r_aln0 (p := 63) f220_62 rfl ?_
    refine le2_gd (fun h2 => ?_)
    refine r_invI (p := 66) f220_63 rfl rfl rfl (Or.inl h2) hd (Nat.le_of_ble_eq_true rfl) rfl rfl rfl (fun _ => rfl) (fun v2 m2 c2 => ?_)
    have hz2 := z_k c2 hz1
    refine r_ifeq (t := 77) (p := 69) f220_66 (by decide) rfl rfl ?_ ?_
    · exact le2_refl _
    · refine r_aln0 (p := 70) f220_69 rfl ?_
      have h3 := k_t1 c2 hz1 h2 (by decide)
      refine r_gfR (f := 8) (p := 73) f220_70 rfl rfl rfl (Or.inl h3) rfl ?_
      refine r_nmR (fun v4 ev4 => ?_)
      refine r_iln2 (p := 74) f220_73 rfl ?_
      refine le2_gd (fun h4 => ?_)
      refine r_invV (p := 77) f220_74 rfl rfl rfl (Or.inl h4) hd (Nat.le_of_ble_eq_true rfl) rfl rfl rfl (fun _ => rfl) (fun m3 c3 => ?_)
      have hz3 := z_k c3 hz2
      exact le2_refl _
theorem q220_77 {d : Nat} {m : Mem} {a0 a1 a2 : Int} (hd : 0 < d) (hz : TZ m) : le2 (gd (tg m a0 = 11) <| bI (cl (d - 1) 216 [pR a0] m) fun v1 m1 => if v1 = 0 then (some (.inl (some (pI 0)), m1)) else nm (vl m1 a0 8) fun v2 => gd (tg m1 v2 = 12) <| some (.inl (some (pI (vl m1 v2 3))), m1)) (rn d 220 77 [pR a0, pI a1, pI a2] [] m) := by
  refine r_aln0 (p := 78) f220_77 rfl ?_
  refine le2_gd (fun h1 => ?_)
  refine r_invI (p := 81) f220_78 rfl rfl rfl (Or.inl h1) hd (Nat.le_of_ble_eq_true rfl) rfl rfl rfl (fun _ => rfl) (fun v1 m1 c1 => ?_)
  have hz1 := z_k c1 hz
  refine r_ifeq (t := 94) (p := 84) f220_81 (by decide) rfl rfl ?_ ?_
  · refine r_iconst (p := 95) f220_94 rfl (pinD rfl rfl) ?_
    exact r_iret1 f220_95
  · refine r_aln0 (p := 85) f220_84 rfl ?_
    have h2 := k_t1 c1 hz h1 (by decide)
    refine r_gfR (f := 8) (p := 88) f220_85 rfl rfl rfl (Or.inl h2) rfl ?_
    refine r_nmR (fun v2 ev2 => ?_)
    refine le2_gd (fun h3 => ?_)
    refine r_gfI (f := 3) (p := 91) f220_88 rfl rfl rfl (Or.inl h3) rfl ?_
    refine r_goto (p := 95) f220_91 (by decide) rfl ?_
    exact r_iret1 f220_95
/-! 221 PathStoreModel.clear ()I -/
def w221_3 : List UInt8 := [153, 0, 7, 27, 167, 0, 4, 3, 172]
abbrev u221_3 : List UInt8 := w221_3 ++ []
def w221_2 : List UInt8 := [182, 1, 33, 61, 42, 2, 181, 0, 78, 42, 28, 154, 0, 7, 4, 167, 0, 4, 3, 4, 182, 0, 142]
abbrev u221_2 : List UInt8 := w221_2 ++ u221_3
def w221_1 : List UInt8 := [180, 0, 84, 180, 1, 51, 60, 42, 182, 1, 54, 153, 0, 11, 42, 180, 0, 84, 3, 181, 1, 51, 42]
abbrev u221_1 : List UInt8 := w221_1 ++ u221_2
def w221_0 : List UInt8 := [42, 42, 180, 1, 27, 154, 0, 7, 4, 167, 0, 4, 3, 4, 182, 0, 142, 154, 0, 5, 3, 172, 42]
abbrev u221_0 : List UInt8 := w221_0 ++ u221_1
theorem s221_0 : (prog_32_method_41_code).data.toList.drop 0 = u221_0 := by decide +kernel
theorem s221_1 : (prog_32_method_41_code).data.toList.drop 23 = u221_1 := dk_seg s221_0 23 rfl rfl
theorem s221_2 : (prog_32_method_41_code).data.toList.drop 46 = u221_2 := dk_seg s221_1 23 rfl rfl
theorem s221_3 : (prog_32_method_41_code).data.toList.drop 69 = u221_3 := dk_seg s221_2 23 rfl rfl
theorem Fm221 {pc len : Nat} {i : Instr} (h : decode (prog_32_method_41_code) pc = .ok (i, len)) (hl : len = ilen i len) : ft 221 pc = some (11, 1, 0, i, len) := ft_mk rfl h hl
theorem f221_0 : ft 221 0 = some (11, 1, 0, .aload_n 0, 1) := Fm221 (dk_42 (dk_at s221_0 0 rfl rfl)) rfl
theorem f221_1 : ft 221 1 = some (11, 1, 0, .aload_n 0, 1) := Fm221 (dk_42 (dk_at s221_0 1 rfl rfl)) rfl
theorem f221_2 : ft 221 2 = some (11, 1, 0, .getfield 283, 3) := Fm221 (dk_180 1 27 (dk_at s221_0 2 rfl rfl)) rfl
theorem f221_5 : ft 221 5 = some (11, 1, 0, .ifCond .ne 7, 3) := Fm221 (dk_154 0 7 (dk_at s221_0 5 rfl rfl)) rfl
theorem f221_8 : ft 221 8 = some (11, 1, 0, .iconst 1, 1) := Fm221 (dk_4 (dk_at s221_0 8 rfl rfl)) rfl
theorem f221_9 : ft 221 9 = some (11, 1, 0, .goto 4, 3) := Fm221 (dk_167 0 4 (dk_at s221_0 9 rfl rfl)) rfl
theorem f221_12 : ft 221 12 = some (11, 1, 0, .iconst 0, 1) := Fm221 (dk_3 (dk_at s221_0 12 rfl rfl)) rfl
theorem f221_13 : ft 221 13 = some (11, 1, 0, .iconst 1, 1) := Fm221 (dk_4 (dk_at s221_0 13 rfl rfl)) rfl
theorem f221_14 : ft 221 14 = some (11, 1, 0, .invokevirtual 142, 3) := Fm221 (dk_182 0 142 (dk_at s221_0 14 rfl rfl)) rfl
theorem f221_17 : ft 221 17 = some (11, 1, 0, .ifCond .ne 5, 3) := Fm221 (dk_154 0 5 (dk_at s221_0 17 rfl rfl)) rfl
theorem f221_20 : ft 221 20 = some (11, 1, 0, .iconst 0, 1) := Fm221 (dk_3 (dk_at s221_0 20 rfl rfl)) rfl
theorem f221_21 : ft 221 21 = some (11, 1, 0, .ireturn, 1) := Fm221 (dk_172 (dk_at s221_0 21 rfl rfl)) rfl
theorem f221_22 : ft 221 22 = some (11, 1, 0, .aload_n 0, 1) := Fm221 (dk_42 (dk_at s221_0 22 rfl rfl)) rfl
theorem f221_23 : ft 221 23 = some (11, 1, 0, .getfield 84, 3) := Fm221 (dk_180 0 84 (dk_at s221_1 0 rfl rfl)) rfl
theorem f221_26 : ft 221 26 = some (11, 1, 0, .getfield 307, 3) := Fm221 (dk_180 1 51 (dk_at s221_1 3 rfl rfl)) rfl
theorem f221_29 : ft 221 29 = some (11, 1, 0, .istore_n 1, 1) := Fm221 (dk_60 (dk_at s221_1 6 rfl rfl)) rfl
theorem f221_30 : ft 221 30 = some (11, 1, 0, .aload_n 0, 1) := Fm221 (dk_42 (dk_at s221_1 7 rfl rfl)) rfl
theorem f221_31 : ft 221 31 = some (11, 1, 0, .invokevirtual 310, 3) := Fm221 (dk_182 1 54 (dk_at s221_1 8 rfl rfl)) rfl
theorem f221_34 : ft 221 34 = some (11, 1, 0, .ifCond .eq 11, 3) := Fm221 (dk_153 0 11 (dk_at s221_1 11 rfl rfl)) rfl
theorem f221_37 : ft 221 37 = some (11, 1, 0, .aload_n 0, 1) := Fm221 (dk_42 (dk_at s221_1 14 rfl rfl)) rfl
theorem f221_38 : ft 221 38 = some (11, 1, 0, .getfield 84, 3) := Fm221 (dk_180 0 84 (dk_at s221_1 15 rfl rfl)) rfl
theorem f221_41 : ft 221 41 = some (11, 1, 0, .iconst 0, 1) := Fm221 (dk_3 (dk_at s221_1 18 rfl rfl)) rfl
theorem f221_42 : ft 221 42 = some (11, 1, 0, .putfield 307, 3) := Fm221 (dk_181 1 51 (dk_at s221_1 19 rfl rfl)) rfl
theorem f221_45 : ft 221 45 = some (11, 1, 0, .aload_n 0, 1) := Fm221 (dk_42 (dk_at s221_1 22 rfl rfl)) rfl
theorem f221_46 : ft 221 46 = some (11, 1, 0, .invokevirtual 289, 3) := Fm221 (dk_182 1 33 (dk_at s221_2 0 rfl rfl)) rfl
theorem f221_49 : ft 221 49 = some (11, 1, 0, .istore_n 2, 1) := Fm221 (dk_61 (dk_at s221_2 3 rfl rfl)) rfl
theorem f221_50 : ft 221 50 = some (11, 1, 0, .aload_n 0, 1) := Fm221 (dk_42 (dk_at s221_2 4 rfl rfl)) rfl
theorem f221_51 : ft 221 51 = some (11, 1, 0, .iconst (-1), 1) := Fm221 (dk_2 (dk_at s221_2 5 rfl rfl)) rfl
theorem f221_52 : ft 221 52 = some (11, 1, 0, .putfield 78, 3) := Fm221 (dk_181 0 78 (dk_at s221_2 6 rfl rfl)) rfl
theorem f221_55 : ft 221 55 = some (11, 1, 0, .aload_n 0, 1) := Fm221 (dk_42 (dk_at s221_2 9 rfl rfl)) rfl
theorem f221_56 : ft 221 56 = some (11, 1, 0, .iload_n 2, 1) := Fm221 (dk_28 (dk_at s221_2 10 rfl rfl)) rfl
theorem f221_57 : ft 221 57 = some (11, 1, 0, .ifCond .ne 7, 3) := Fm221 (dk_154 0 7 (dk_at s221_2 11 rfl rfl)) rfl
theorem f221_60 : ft 221 60 = some (11, 1, 0, .iconst 1, 1) := Fm221 (dk_4 (dk_at s221_2 14 rfl rfl)) rfl
theorem f221_61 : ft 221 61 = some (11, 1, 0, .goto 4, 3) := Fm221 (dk_167 0 4 (dk_at s221_2 15 rfl rfl)) rfl
theorem f221_64 : ft 221 64 = some (11, 1, 0, .iconst 0, 1) := Fm221 (dk_3 (dk_at s221_2 18 rfl rfl)) rfl
theorem f221_65 : ft 221 65 = some (11, 1, 0, .iconst 1, 1) := Fm221 (dk_4 (dk_at s221_2 19 rfl rfl)) rfl
theorem f221_66 : ft 221 66 = some (11, 1, 0, .invokevirtual 142, 3) := Fm221 (dk_182 0 142 (dk_at s221_2 20 rfl rfl)) rfl
theorem f221_69 : ft 221 69 = some (11, 1, 0, .ifCond .eq 7, 3) := Fm221 (dk_153 0 7 (dk_at s221_3 0 rfl rfl)) rfl
theorem f221_72 : ft 221 72 = some (11, 1, 0, .iload_n 1, 1) := Fm221 (dk_27 (dk_at s221_3 3 rfl rfl)) rfl
theorem f221_73 : ft 221 73 = some (11, 1, 0, .goto 4, 3) := Fm221 (dk_167 0 4 (dk_at s221_3 4 rfl rfl)) rfl
theorem f221_76 : ft 221 76 = some (11, 1, 0, .iconst 0, 1) := Fm221 (dk_3 (dk_at s221_3 7 rfl rfl)) rfl
theorem f221_77 : ft 221 77 = some (11, 1, 0, .ireturn, 1) := Fm221 (dk_172 (dk_at s221_3 8 rfl rfl)) rfl
theorem q221 {d : Nat} {m : Mem} {a0 : Int} (hz : TZ m) : le2 (gd (tg m a0 = 11) <| if (vl m a0 6) = 0 then (rn d 221 13 [pR a0, pU, pU] [pI 1, pR a0] m) else rn d 221 13 [pR a0, pU, pU] [pI 0, pR a0] m) (cl d 221 [pR a0] m) := by
  refine q_in (n := 3) (L := [pR a0, pU, pU]) rfl rfl rfl ?_
  refine r_aln0 (p := 1) f221_0 rfl ?_
  refine r_aln0 (p := 2) f221_1 rfl ?_
  refine le2_gd (fun h1 => ?_)
  refine r_gfIZ (f := 6) (p := 5) f221_2 rfl rfl rfl (Or.inl h1) rfl ?_
  refine r_ifne (t := 12) (p := 8) f221_5 (by decide) rfl rfl ?_ ?_
  · refine r_iconst (p := 9) f221_8 rfl (pinD rfl rfl) ?_
    refine r_goto (p := 13) f221_9 (by decide) rfl ?_
    exact le2_refl _
  · refine r_iconst (p := 13) f221_12 rfl (pinD rfl rfl) ?_
    exact le2_refl _
theorem q221_13 {d : Nat} {m : Mem} {a0 s1 s0 : Int} (hd : 0 < d) (hz : TZ m) : le2 (gd (tg m s0 = 11) <| bI (cl (d - 1) 188 [pR s0, pI s1, pI 1] m) fun v1 m1 => if v1 = 0 then (some (.inl (some (pI 0)), m1)) else gd (tg m1 a0 = 11) <| nm (vl m1 a0 8) fun v3 => gd (tg m1 v3 = 12) <| nm (vl m1 v3 3) fun v4 => bI (cl (d - 1) 215 [pR a0] m1) fun v2 m2 => if v2 = 0 then (rn d 221 45 [pR a0, pI v4, pU] [] m2) else nm (vl m2 a0 8) fun v5 => gd (tg m2 v5 = 12) <| rn d 221 45 [pR a0, pI v4, pU] [] (mst m2 v5 3 0)) (rn d 221 13 [pR a0, pU, pU] [pI s1, pR s0] m) := by
  refine r_iconst (p := 14) f221_13 rfl (pinD rfl rfl) ?_
  refine le2_gd (fun h1 => ?_)
  refine r_invI (p := 17) f221_14 rfl rfl rfl (Or.inl h1) hd (Nat.le_of_ble_eq_true rfl) rfl rfl rfl (fun _ => rfl) (fun v1 m1 c1 => ?_)
  have hz1 := z_k c1 hz
  refine r_ifne (t := 22) (p := 20) f221_17 (by decide) rfl rfl ?_ ?_
  · refine r_iconst (p := 21) f221_20 rfl (pinD rfl rfl) ?_
    exact r_iret1 f221_21
  · refine r_aln0 (p := 23) f221_22 rfl ?_
    refine le2_gd (fun h2 => ?_)
    refine r_gfR (f := 8) (p := 26) f221_23 rfl rfl rfl (Or.inl h2) rfl ?_
    refine r_nmR (fun v3 ev3 => ?_)
    refine le2_gd (fun h3 => ?_)
    refine r_gfI (f := 3) (p := 29) f221_26 rfl rfl rfl (Or.inl h3) rfl ?_
    refine r_nmI (fun v4 ev4 => ?_)
    refine r_isn1 (p := 30) f221_29 rfl rfl ?_
    refine r_aln0 (p := 31) f221_30 rfl ?_
    refine r_invI (p := 34) f221_31 rfl rfl rfl (Or.inl h2) hd (Nat.le_of_ble_eq_true rfl) rfl rfl rfl (fun _ => rfl) (fun v2 m2 c2 => ?_)
    have hz2 := z_k c2 hz1
    refine r_ifeq (t := 45) (p := 37) f221_34 (by decide) rfl rfl ?_ ?_
    · exact le2_refl _
    · refine r_aln0 (p := 38) f221_37 rfl ?_
      have h4 := k_t1 c2 hz1 h2 (by decide)
      refine r_gfR (f := 8) (p := 41) f221_38 rfl rfl rfl (Or.inl h4) rfl ?_
      refine r_nmR (fun v5 ev5 => ?_)
      refine r_iconst (p := 42) f221_41 rfl (pinD rfl rfl) ?_
      refine le2_gd (fun h5 => ?_)
      refine r_pfI (f := 3) (p := 45) f221_42 rfl rfl rfl (by decide) (by decide) (Or.inl h5) rfl ?_
      exact le2_refl _
theorem q221_45 {d : Nat} {m : Mem} {a0 a1 : Int} (hd : 0 < d) (hz : TZ m) : le2 (gd (tg m a0 = 11) <| bI (cl (d - 1) 217 [pR a0] m) fun v1 m1 => if v1 = 0 then (bI (cl (d - 1) 188 [pR a0, pI 1, pI 1] (mst m1 a0 7 (-1))) fun v3 m3 => if v3 = 0 then (some (.inl (some (pI 0)), m3)) else some (.inl (some (pI a1)), m3)) else bI (cl (d - 1) 188 [pR a0, pI 0, pI 1] (mst m1 a0 7 (-1))) fun v2 m2 => if v2 = 0 then (some (.inl (some (pI 0)), m2)) else some (.inl (some (pI a1)), m2)) (rn d 221 45 [pR a0, pI a1, pU] [] m) := by
  refine r_aln0 (p := 46) f221_45 rfl ?_
  refine le2_gd (fun h1 => ?_)
  refine r_invI (p := 49) f221_46 rfl rfl rfl (Or.inl h1) hd (Nat.le_of_ble_eq_true rfl) rfl rfl rfl (fun _ => rfl) (fun v1 m1 c1 => ?_)
  have hz1 := z_k c1 hz
  refine r_isn2 (p := 50) f221_49 rfl rfl ?_
  refine r_aln0 (p := 51) f221_50 rfl ?_
  refine r_iconst (p := 52) f221_51 rfl (pinD rfl rfl) ?_
  have h2 := k_t1 c1 hz h1 (by decide)
  refine r_pfI (f := 7) (p := 55) f221_52 rfl rfl rfl (by decide) (by decide) (Or.inl h2) rfl ?_
  refine r_aln0 (p := 56) f221_55 rfl ?_
  refine r_iln2 (p := 57) f221_56 rfl ?_
  refine r_ifne (t := 64) (p := 60) f221_57 (by decide) rfl rfl ?_ ?_
  · refine r_iconst (p := 61) f221_60 rfl (pinD rfl rfl) ?_
    refine r_goto (p := 65) f221_61 (by decide) rfl ?_
    refine r_iconst (p := 66) f221_65 rfl (pinD rfl rfl) ?_
    refine r_invI (p := 69) f221_66 rfl rfl rfl (Or.inl h2) hd (Nat.le_of_ble_eq_true rfl) rfl rfl rfl (fun _ => rfl) (fun v3 m3 c3 => ?_)
    have hz3 := z_k c3 hz1
    refine r_ifeq (t := 76) (p := 72) f221_69 (by decide) rfl rfl ?_ ?_
    · refine r_iconst (p := 77) f221_76 rfl (pinD rfl rfl) ?_
      exact r_iret1 f221_77
    · refine r_iln1 (p := 73) f221_72 rfl ?_
      refine r_goto (p := 77) f221_73 (by decide) rfl ?_
      exact r_iret1 f221_77
  · refine r_iconst (p := 65) f221_64 rfl (pinD rfl rfl) ?_
    refine r_iconst (p := 66) f221_65 rfl (pinD rfl rfl) ?_
    refine r_invI (p := 69) f221_66 rfl rfl rfl (Or.inl h2) hd (Nat.le_of_ble_eq_true rfl) rfl rfl rfl (fun _ => rfl) (fun v2 m2 c2 => ?_)
    have hz2 := z_k c2 hz1
    refine r_ifeq (t := 76) (p := 72) f221_69 (by decide) rfl rfl ?_ ?_
    · refine r_iconst (p := 77) f221_76 rfl (pinD rfl rfl) ?_
      exact r_iret1 f221_77
    · refine r_iln1 (p := 73) f221_72 rfl ?_
      refine r_goto (p := 77) f221_73 (by decide) rfl ?_
      exact r_iret1 f221_77
/-! 222 PathStoreModel.open (I)V -/
def w222_3 : List UInt8 := [180, 0, 88, 27, 50, 4, 181, 1, 30, 177]
abbrev u222_3 : List UInt8 := w222_3 ++ []
def w222_2 : List UInt8 := [5, 182, 0, 142, 154, 0, 4, 177, 42, 180, 0, 88, 27, 50, 42, 180, 0, 84, 182, 1, 75, 42]
abbrev u222_2 : List UInt8 := w222_2 ++ u222_3
def w222_1 : List UInt8 := [42, 180, 1, 27, 154, 0, 19, 42, 180, 0, 88, 27, 50, 180, 1, 30, 154, 0, 7, 4, 167, 0, 4, 3]
abbrev u222_1 : List UInt8 := w222_1 ++ u222_2
def w222_0 : List UInt8 := [42, 27, 155, 0, 13, 27, 16, 7, 163, 0, 7, 4, 167, 0, 4, 3, 4, 182, 0, 142, 153, 0, 35, 42]
abbrev u222_0 : List UInt8 := w222_0 ++ u222_1
theorem s222_0 : (prog_32_method_42_code).data.toList.drop 0 = u222_0 := by decide +kernel
theorem s222_1 : (prog_32_method_42_code).data.toList.drop 24 = u222_1 := dk_seg s222_0 24 rfl rfl
theorem s222_2 : (prog_32_method_42_code).data.toList.drop 48 = u222_2 := dk_seg s222_1 24 rfl rfl
theorem s222_3 : (prog_32_method_42_code).data.toList.drop 70 = u222_3 := dk_seg s222_2 22 rfl rfl
theorem Fm222 {pc len : Nat} {i : Instr} (h : decode (prog_32_method_42_code) pc = .ok (i, len)) (hl : len = ilen i len) : ft 222 pc = some (11, 0, 0, i, len) := ft_mk rfl h hl
theorem f222_0 : ft 222 0 = some (11, 0, 0, .aload_n 0, 1) := Fm222 (dk_42 (dk_at s222_0 0 rfl rfl)) rfl
theorem f222_1 : ft 222 1 = some (11, 0, 0, .iload_n 1, 1) := Fm222 (dk_27 (dk_at s222_0 1 rfl rfl)) rfl
theorem f222_2 : ft 222 2 = some (11, 0, 0, .ifCond .lt 13, 3) := Fm222 (dk_155 0 13 (dk_at s222_0 2 rfl rfl)) rfl
theorem f222_5 : ft 222 5 = some (11, 0, 0, .iload_n 1, 1) := Fm222 (dk_27 (dk_at s222_0 5 rfl rfl)) rfl
theorem f222_6 : ft 222 6 = some (11, 0, 0, .bipush 7, 2) := Fm222 (dk_16 7 (dk_at s222_0 6 rfl rfl)) rfl
theorem f222_8 : ft 222 8 = some (11, 0, 0, .if_icmp .gt 7, 3) := Fm222 (dk_163 0 7 (dk_at s222_0 8 rfl rfl)) rfl
theorem f222_11 : ft 222 11 = some (11, 0, 0, .iconst 1, 1) := Fm222 (dk_4 (dk_at s222_0 11 rfl rfl)) rfl
theorem f222_12 : ft 222 12 = some (11, 0, 0, .goto 4, 3) := Fm222 (dk_167 0 4 (dk_at s222_0 12 rfl rfl)) rfl
theorem f222_15 : ft 222 15 = some (11, 0, 0, .iconst 0, 1) := Fm222 (dk_3 (dk_at s222_0 15 rfl rfl)) rfl
theorem f222_16 : ft 222 16 = some (11, 0, 0, .iconst 1, 1) := Fm222 (dk_4 (dk_at s222_0 16 rfl rfl)) rfl
theorem f222_17 : ft 222 17 = some (11, 0, 0, .invokevirtual 142, 3) := Fm222 (dk_182 0 142 (dk_at s222_0 17 rfl rfl)) rfl
theorem f222_20 : ft 222 20 = some (11, 0, 0, .ifCond .eq 35, 3) := Fm222 (dk_153 0 35 (dk_at s222_0 20 rfl rfl)) rfl
theorem f222_23 : ft 222 23 = some (11, 0, 0, .aload_n 0, 1) := Fm222 (dk_42 (dk_at s222_0 23 rfl rfl)) rfl
theorem f222_24 : ft 222 24 = some (11, 0, 0, .aload_n 0, 1) := Fm222 (dk_42 (dk_at s222_1 0 rfl rfl)) rfl
theorem f222_25 : ft 222 25 = some (11, 0, 0, .getfield 283, 3) := Fm222 (dk_180 1 27 (dk_at s222_1 1 rfl rfl)) rfl
theorem f222_28 : ft 222 28 = some (11, 0, 0, .ifCond .ne 19, 3) := Fm222 (dk_154 0 19 (dk_at s222_1 4 rfl rfl)) rfl
theorem f222_31 : ft 222 31 = some (11, 0, 0, .aload_n 0, 1) := Fm222 (dk_42 (dk_at s222_1 7 rfl rfl)) rfl
theorem f222_32 : ft 222 32 = some (11, 0, 0, .getfield 88, 3) := Fm222 (dk_180 0 88 (dk_at s222_1 8 rfl rfl)) rfl
theorem f222_35 : ft 222 35 = some (11, 0, 0, .iload_n 1, 1) := Fm222 (dk_27 (dk_at s222_1 11 rfl rfl)) rfl
theorem f222_36 : ft 222 36 = some (11, 0, 0, .aaload, 1) := Fm222 (dk_50 (dk_at s222_1 12 rfl rfl)) rfl
theorem f222_37 : ft 222 37 = some (11, 0, 0, .getfield 286, 3) := Fm222 (dk_180 1 30 (dk_at s222_1 13 rfl rfl)) rfl
theorem f222_40 : ft 222 40 = some (11, 0, 0, .ifCond .ne 7, 3) := Fm222 (dk_154 0 7 (dk_at s222_1 16 rfl rfl)) rfl
theorem f222_43 : ft 222 43 = some (11, 0, 0, .iconst 1, 1) := Fm222 (dk_4 (dk_at s222_1 19 rfl rfl)) rfl
theorem f222_44 : ft 222 44 = some (11, 0, 0, .goto 4, 3) := Fm222 (dk_167 0 4 (dk_at s222_1 20 rfl rfl)) rfl
theorem f222_47 : ft 222 47 = some (11, 0, 0, .iconst 0, 1) := Fm222 (dk_3 (dk_at s222_1 23 rfl rfl)) rfl
theorem f222_48 : ft 222 48 = some (11, 0, 0, .iconst 2, 1) := Fm222 (dk_5 (dk_at s222_2 0 rfl rfl)) rfl
theorem f222_49 : ft 222 49 = some (11, 0, 0, .invokevirtual 142, 3) := Fm222 (dk_182 0 142 (dk_at s222_2 1 rfl rfl)) rfl
theorem f222_52 : ft 222 52 = some (11, 0, 0, .ifCond .ne 4, 3) := Fm222 (dk_154 0 4 (dk_at s222_2 4 rfl rfl)) rfl
theorem f222_55 : ft 222 55 = some (11, 0, 0, .return_, 1) := Fm222 (dk_177 (dk_at s222_2 7 rfl rfl)) rfl
theorem f222_56 : ft 222 56 = some (11, 0, 0, .aload_n 0, 1) := Fm222 (dk_42 (dk_at s222_2 8 rfl rfl)) rfl
theorem f222_57 : ft 222 57 = some (11, 0, 0, .getfield 88, 3) := Fm222 (dk_180 0 88 (dk_at s222_2 9 rfl rfl)) rfl
theorem f222_60 : ft 222 60 = some (11, 0, 0, .iload_n 1, 1) := Fm222 (dk_27 (dk_at s222_2 12 rfl rfl)) rfl
theorem f222_61 : ft 222 61 = some (11, 0, 0, .aaload, 1) := Fm222 (dk_50 (dk_at s222_2 13 rfl rfl)) rfl
theorem f222_62 : ft 222 62 = some (11, 0, 0, .aload_n 0, 1) := Fm222 (dk_42 (dk_at s222_2 14 rfl rfl)) rfl
theorem f222_63 : ft 222 63 = some (11, 0, 0, .getfield 84, 3) := Fm222 (dk_180 0 84 (dk_at s222_2 15 rfl rfl)) rfl
theorem f222_66 : ft 222 66 = some (11, 0, 0, .invokevirtual 331, 3) := Fm222 (dk_182 1 75 (dk_at s222_2 18 rfl rfl)) rfl
theorem f222_69 : ft 222 69 = some (11, 0, 0, .aload_n 0, 1) := Fm222 (dk_42 (dk_at s222_2 21 rfl rfl)) rfl
theorem f222_70 : ft 222 70 = some (11, 0, 0, .getfield 88, 3) := Fm222 (dk_180 0 88 (dk_at s222_3 0 rfl rfl)) rfl
theorem f222_73 : ft 222 73 = some (11, 0, 0, .iload_n 1, 1) := Fm222 (dk_27 (dk_at s222_3 3 rfl rfl)) rfl
theorem f222_74 : ft 222 74 = some (11, 0, 0, .aaload, 1) := Fm222 (dk_50 (dk_at s222_3 4 rfl rfl)) rfl
theorem f222_75 : ft 222 75 = some (11, 0, 0, .iconst 1, 1) := Fm222 (dk_4 (dk_at s222_3 5 rfl rfl)) rfl
theorem f222_76 : ft 222 76 = some (11, 0, 0, .putfield 286, 3) := Fm222 (dk_181 1 30 (dk_at s222_3 6 rfl rfl)) rfl
theorem f222_79 : ft 222 79 = some (11, 0, 0, .return_, 1) := Fm222 (dk_177 (dk_at s222_3 9 rfl rfl)) rfl
theorem q222 {d : Nat} {m : Mem} {a0 a1 : Int} (hz : TZ m) : le2 (if a1 < 0 then (rn d 222 16 [pR a0, pI a1] [pI 0, pR a0] m) else if 7 < a1 then (rn d 222 16 [pR a0, pI a1] [pI 0, pR a0] m) else rn d 222 16 [pR a0, pI a1] [pI 1, pR a0] m) (cl d 222 [pR a0, pI a1] m) := by
  refine q_in (n := 2) (L := [pR a0, pI a1]) rfl rfl rfl ?_
  refine r_aln0 (p := 1) f222_0 rfl ?_
  refine r_iln1 (p := 2) f222_1 rfl ?_
  refine r_iflt (t := 15) (p := 5) f222_2 (by decide) rfl rfl ?_ ?_
  · refine r_iconst (p := 16) f222_15 rfl (pinD rfl rfl) ?_
    exact le2_refl _
  · refine r_iln1 (p := 6) f222_5 rfl ?_
    refine r_bipush (p := 8) f222_6 rfl (pinD rfl rfl) ?_
    refine r_icgt (t := 15) (p := 11) f222_8 (by decide) rfl rfl ?_ ?_
    · refine r_iconst (p := 16) f222_15 rfl (pinD rfl rfl) ?_
      exact le2_refl _
    · refine r_iconst (p := 12) f222_11 rfl (pinD rfl rfl) ?_
      refine r_goto (p := 16) f222_12 (by decide) rfl ?_
      exact le2_refl _
theorem q222_16 {d : Nat} {m : Mem} {a0 a1 s1 s0 : Int} (hd : 0 < d) (hz : TZ m) : le2 (gd (tg m s0 = 11) <| bI (cl (d - 1) 188 [pR s0, pI s1, pI 1] m) fun v1 m1 => if v1 = 0 then (some (.inl none, m1)) else gd (tg m1 a0 = 11) <| if (vl m1 a0 6) = 0 then (nm (vl m1 a0 9) fun v2 => gd (tg m1 v2 = 186117) <| gd ((0 : Int) ≤ a1 ∧ a1 < ln m1 v2) <| nm (vl m1 v2 a1) fun v3 => gd (tg m1 v3 = 12) <| if (vl m1 v3 4) = 0 then (rn d 222 48 [pR a0, pI a1] [pI 1, pR a0] m1) else rn d 222 48 [pR a0, pI a1] [pI 0, pR a0] m1) else rn d 222 48 [pR a0, pI a1] [pI 0, pR a0] m1) (rn d 222 16 [pR a0, pI a1] [pI s1, pR s0] m) := by
  refine r_iconst (p := 17) f222_16 rfl (pinD rfl rfl) ?_
  refine le2_gd (fun h1 => ?_)
  refine r_invI (p := 20) f222_17 rfl rfl rfl (Or.inl h1) hd (Nat.le_of_ble_eq_true rfl) rfl rfl rfl (fun _ => rfl) (fun v1 m1 c1 => ?_)
  have hz1 := z_k c1 hz
  refine r_ifeq (t := 55) (p := 23) f222_20 (by decide) rfl rfl ?_ ?_
  · exact r_ret f222_55
  · refine r_aln0 (p := 24) f222_23 rfl ?_
    refine r_aln0 (p := 25) f222_24 rfl ?_
    refine le2_gd (fun h2 => ?_)
    refine r_gfIZ (f := 6) (p := 28) f222_25 rfl rfl rfl (Or.inl h2) rfl ?_
    refine r_ifne (t := 47) (p := 31) f222_28 (by decide) rfl rfl ?_ ?_
    · refine r_aln0 (p := 32) f222_31 rfl ?_
      refine r_gfR (f := 9) (p := 35) f222_32 rfl rfl rfl (Or.inl h2) rfl ?_
      refine r_nmR (fun v2 ev2 => ?_)
      refine r_iln1 (p := 36) f222_35 rfl ?_
      refine le2_gd (fun h3 => ?_)
      refine le2_gd (fun h4 => ?_)
      refine r_aaload (p := 37) f222_36 rfl (dj1 (fun x => 110 < x % 1000 ∧ x % 1000 < 119) h3 (by decide)) h4 rfl ?_
      refine r_nmR (fun v3 ev3 => ?_)
      refine le2_gd (fun h5 => ?_)
      refine r_gfIZ (f := 4) (p := 40) f222_37 rfl rfl rfl (Or.inl h5) rfl ?_
      refine r_ifne (t := 47) (p := 43) f222_40 (by decide) rfl rfl ?_ ?_
      · refine r_iconst (p := 44) f222_43 rfl (pinD rfl rfl) ?_
        refine r_goto (p := 48) f222_44 (by decide) rfl ?_
        exact le2_refl _
      · refine r_iconst (p := 48) f222_47 rfl (pinD rfl rfl) ?_
        exact le2_refl _
    · refine r_iconst (p := 48) f222_47 rfl (pinD rfl rfl) ?_
      exact le2_refl _
theorem q222_48 {d : Nat} {m : Mem} {a0 a1 s1 s0 : Int} (hd : 0 < d) (hz : TZ m) : le2 (gd (tg m s0 = 11) <| bI (cl (d - 1) 188 [pR s0, pI s1, pI 2] m) fun v1 m1 => if v1 = 0 then (some (.inl none, m1)) else gd (tg m1 a0 = 11) <| nm (vl m1 a0 9) fun v3 => gd (tg m1 v3 = 186117) <| gd ((0 : Int) ≤ a1 ∧ a1 < ln m1 v3) <| nm (vl m1 v3 a1) fun v4 => gd (tg m1 v4 = 12) <| bV (cl (d - 1) 282 [pR v4, pR (vl m1 a0 8)] m1) fun m2 => nm (vl m2 a0 9) fun v5 => gd (tg m2 v5 = 186117) <| gd ((0 : Int) ≤ a1 ∧ a1 < ln m2 v5) <| nm (vl m2 v5 a1) fun v6 => gd (tg m2 v6 = 12) <| some (.inl none, (mst m2 v6 4 1))) (rn d 222 48 [pR a0, pI a1] [pI s1, pR s0] m) := by
  refine r_iconst (p := 49) f222_48 rfl (pinD rfl rfl) ?_
  refine le2_gd (fun h1 => ?_)
  refine r_invI (p := 52) f222_49 rfl rfl rfl (Or.inl h1) hd (Nat.le_of_ble_eq_true rfl) rfl rfl rfl (fun _ => rfl) (fun v1 m1 c1 => ?_)
  have hz1 := z_k c1 hz
  refine r_ifne (t := 56) (p := 55) f222_52 (by decide) rfl rfl ?_ ?_
  · exact r_ret f222_55
  · refine r_aln0 (p := 57) f222_56 rfl ?_
    refine le2_gd (fun h2 => ?_)
    refine r_gfR (f := 9) (p := 60) f222_57 rfl rfl rfl (Or.inl h2) rfl ?_
    refine r_nmR (fun v3 ev3 => ?_)
    refine r_iln1 (p := 61) f222_60 rfl ?_
    refine le2_gd (fun h3 => ?_)
    refine le2_gd (fun h4 => ?_)
    refine r_aaload (p := 62) f222_61 rfl (dj1 (fun x => 110 < x % 1000 ∧ x % 1000 < 119) h3 (by decide)) h4 rfl ?_
    refine r_nmR (fun v4 ev4 => ?_)
    refine r_aln0 (p := 63) f222_62 rfl ?_
    refine r_gfR (f := 8) (p := 66) f222_63 rfl rfl rfl (Or.inl h2) rfl ?_
    refine le2_gd (fun h5 => ?_)
    refine r_invV (p := 69) f222_66 rfl rfl rfl (Or.inl h5) hd (Nat.le_of_ble_eq_true rfl) rfl rfl rfl (fun _ => rfl) (fun m2 c2 => ?_)
    have hz2 := z_k c2 hz1
    refine r_aln0 (p := 70) f222_69 rfl ?_
    have h6 := k_t1 c2 hz1 h2 (by decide)
    refine r_gfR (f := 9) (p := 73) f222_70 rfl rfl rfl (Or.inl h6) rfl ?_
    refine r_nmR (fun v5 ev5 => ?_)
    refine r_iln1 (p := 74) f222_73 rfl ?_
    refine le2_gd (fun h7 => ?_)
    refine le2_gd (fun h8 => ?_)
    refine r_aaload (p := 75) f222_74 rfl (dj1 (fun x => 110 < x % 1000 ∧ x % 1000 < 119) h7 (by decide)) h8 rfl ?_
    refine r_nmR (fun v6 ev6 => ?_)
    refine r_iconst (p := 76) f222_75 rfl (pinD rfl rfl) ?_
    refine le2_gd (fun h9 => ?_)
    refine r_pfZ (f := 4) (p := 79) f222_76 rfl rfl rfl (by decide) (by decide) (Or.inl h9) rfl (by decide) ?_
    exact r_ret f222_79
/-! 223 PathStoreModel.close (I)V -/
def w223_2 : List UInt8 := [5, 182, 0, 142, 154, 0, 4, 177, 42, 180, 0, 88, 27, 50, 3, 181, 1, 30, 177]
abbrev u223_2 : List UInt8 := w223_2 ++ []
def w223_1 : List UInt8 := [42, 180, 1, 27, 154, 0, 19, 42, 180, 0, 88, 27, 50, 180, 1, 30, 153, 0, 7, 4, 167, 0, 4, 3]
abbrev u223_1 : List UInt8 := w223_1 ++ u223_2
def w223_0 : List UInt8 := [42, 27, 155, 0, 13, 27, 16, 7, 163, 0, 7, 4, 167, 0, 4, 3, 4, 182, 0, 142, 153, 0, 35, 42]
abbrev u223_0 : List UInt8 := w223_0 ++ u223_1
theorem s223_0 : (prog_32_method_43_code).data.toList.drop 0 = u223_0 := by decide +kernel
theorem s223_1 : (prog_32_method_43_code).data.toList.drop 24 = u223_1 := dk_seg s223_0 24 rfl rfl
theorem s223_2 : (prog_32_method_43_code).data.toList.drop 48 = u223_2 := dk_seg s223_1 24 rfl rfl
theorem Fm223 {pc len : Nat} {i : Instr} (h : decode (prog_32_method_43_code) pc = .ok (i, len)) (hl : len = ilen i len) : ft 223 pc = some (11, 0, 0, i, len) := ft_mk rfl h hl
theorem f223_0 : ft 223 0 = some (11, 0, 0, .aload_n 0, 1) := Fm223 (dk_42 (dk_at s223_0 0 rfl rfl)) rfl
theorem f223_1 : ft 223 1 = some (11, 0, 0, .iload_n 1, 1) := Fm223 (dk_27 (dk_at s223_0 1 rfl rfl)) rfl
theorem f223_2 : ft 223 2 = some (11, 0, 0, .ifCond .lt 13, 3) := Fm223 (dk_155 0 13 (dk_at s223_0 2 rfl rfl)) rfl
theorem f223_5 : ft 223 5 = some (11, 0, 0, .iload_n 1, 1) := Fm223 (dk_27 (dk_at s223_0 5 rfl rfl)) rfl
theorem f223_6 : ft 223 6 = some (11, 0, 0, .bipush 7, 2) := Fm223 (dk_16 7 (dk_at s223_0 6 rfl rfl)) rfl
theorem f223_8 : ft 223 8 = some (11, 0, 0, .if_icmp .gt 7, 3) := Fm223 (dk_163 0 7 (dk_at s223_0 8 rfl rfl)) rfl
theorem f223_11 : ft 223 11 = some (11, 0, 0, .iconst 1, 1) := Fm223 (dk_4 (dk_at s223_0 11 rfl rfl)) rfl
theorem f223_12 : ft 223 12 = some (11, 0, 0, .goto 4, 3) := Fm223 (dk_167 0 4 (dk_at s223_0 12 rfl rfl)) rfl
theorem f223_15 : ft 223 15 = some (11, 0, 0, .iconst 0, 1) := Fm223 (dk_3 (dk_at s223_0 15 rfl rfl)) rfl
theorem f223_16 : ft 223 16 = some (11, 0, 0, .iconst 1, 1) := Fm223 (dk_4 (dk_at s223_0 16 rfl rfl)) rfl
theorem f223_17 : ft 223 17 = some (11, 0, 0, .invokevirtual 142, 3) := Fm223 (dk_182 0 142 (dk_at s223_0 17 rfl rfl)) rfl
theorem f223_20 : ft 223 20 = some (11, 0, 0, .ifCond .eq 35, 3) := Fm223 (dk_153 0 35 (dk_at s223_0 20 rfl rfl)) rfl
theorem f223_23 : ft 223 23 = some (11, 0, 0, .aload_n 0, 1) := Fm223 (dk_42 (dk_at s223_0 23 rfl rfl)) rfl
theorem f223_24 : ft 223 24 = some (11, 0, 0, .aload_n 0, 1) := Fm223 (dk_42 (dk_at s223_1 0 rfl rfl)) rfl
theorem f223_25 : ft 223 25 = some (11, 0, 0, .getfield 283, 3) := Fm223 (dk_180 1 27 (dk_at s223_1 1 rfl rfl)) rfl
theorem f223_28 : ft 223 28 = some (11, 0, 0, .ifCond .ne 19, 3) := Fm223 (dk_154 0 19 (dk_at s223_1 4 rfl rfl)) rfl
theorem f223_31 : ft 223 31 = some (11, 0, 0, .aload_n 0, 1) := Fm223 (dk_42 (dk_at s223_1 7 rfl rfl)) rfl
theorem f223_32 : ft 223 32 = some (11, 0, 0, .getfield 88, 3) := Fm223 (dk_180 0 88 (dk_at s223_1 8 rfl rfl)) rfl
theorem f223_35 : ft 223 35 = some (11, 0, 0, .iload_n 1, 1) := Fm223 (dk_27 (dk_at s223_1 11 rfl rfl)) rfl
theorem f223_36 : ft 223 36 = some (11, 0, 0, .aaload, 1) := Fm223 (dk_50 (dk_at s223_1 12 rfl rfl)) rfl
theorem f223_37 : ft 223 37 = some (11, 0, 0, .getfield 286, 3) := Fm223 (dk_180 1 30 (dk_at s223_1 13 rfl rfl)) rfl
theorem f223_40 : ft 223 40 = some (11, 0, 0, .ifCond .eq 7, 3) := Fm223 (dk_153 0 7 (dk_at s223_1 16 rfl rfl)) rfl
theorem f223_43 : ft 223 43 = some (11, 0, 0, .iconst 1, 1) := Fm223 (dk_4 (dk_at s223_1 19 rfl rfl)) rfl
theorem f223_44 : ft 223 44 = some (11, 0, 0, .goto 4, 3) := Fm223 (dk_167 0 4 (dk_at s223_1 20 rfl rfl)) rfl
theorem f223_47 : ft 223 47 = some (11, 0, 0, .iconst 0, 1) := Fm223 (dk_3 (dk_at s223_1 23 rfl rfl)) rfl
theorem f223_48 : ft 223 48 = some (11, 0, 0, .iconst 2, 1) := Fm223 (dk_5 (dk_at s223_2 0 rfl rfl)) rfl
theorem f223_49 : ft 223 49 = some (11, 0, 0, .invokevirtual 142, 3) := Fm223 (dk_182 0 142 (dk_at s223_2 1 rfl rfl)) rfl
theorem f223_52 : ft 223 52 = some (11, 0, 0, .ifCond .ne 4, 3) := Fm223 (dk_154 0 4 (dk_at s223_2 4 rfl rfl)) rfl
theorem f223_55 : ft 223 55 = some (11, 0, 0, .return_, 1) := Fm223 (dk_177 (dk_at s223_2 7 rfl rfl)) rfl
theorem f223_56 : ft 223 56 = some (11, 0, 0, .aload_n 0, 1) := Fm223 (dk_42 (dk_at s223_2 8 rfl rfl)) rfl
theorem f223_57 : ft 223 57 = some (11, 0, 0, .getfield 88, 3) := Fm223 (dk_180 0 88 (dk_at s223_2 9 rfl rfl)) rfl
theorem f223_60 : ft 223 60 = some (11, 0, 0, .iload_n 1, 1) := Fm223 (dk_27 (dk_at s223_2 12 rfl rfl)) rfl
theorem f223_61 : ft 223 61 = some (11, 0, 0, .aaload, 1) := Fm223 (dk_50 (dk_at s223_2 13 rfl rfl)) rfl
theorem f223_62 : ft 223 62 = some (11, 0, 0, .iconst 0, 1) := Fm223 (dk_3 (dk_at s223_2 14 rfl rfl)) rfl
theorem f223_63 : ft 223 63 = some (11, 0, 0, .putfield 286, 3) := Fm223 (dk_181 1 30 (dk_at s223_2 15 rfl rfl)) rfl
theorem f223_66 : ft 223 66 = some (11, 0, 0, .return_, 1) := Fm223 (dk_177 (dk_at s223_2 18 rfl rfl)) rfl
theorem q223 {d : Nat} {m : Mem} {a0 a1 : Int} (hz : TZ m) : le2 (if a1 < 0 then (rn d 223 16 [pR a0, pI a1] [pI 0, pR a0] m) else if 7 < a1 then (rn d 223 16 [pR a0, pI a1] [pI 0, pR a0] m) else rn d 223 16 [pR a0, pI a1] [pI 1, pR a0] m) (cl d 223 [pR a0, pI a1] m) := by
  refine q_in (n := 2) (L := [pR a0, pI a1]) rfl rfl rfl ?_
  refine r_aln0 (p := 1) f223_0 rfl ?_
  refine r_iln1 (p := 2) f223_1 rfl ?_
  refine r_iflt (t := 15) (p := 5) f223_2 (by decide) rfl rfl ?_ ?_
  · refine r_iconst (p := 16) f223_15 rfl (pinD rfl rfl) ?_
    exact le2_refl _
  · refine r_iln1 (p := 6) f223_5 rfl ?_
    refine r_bipush (p := 8) f223_6 rfl (pinD rfl rfl) ?_
    refine r_icgt (t := 15) (p := 11) f223_8 (by decide) rfl rfl ?_ ?_
    · refine r_iconst (p := 16) f223_15 rfl (pinD rfl rfl) ?_
      exact le2_refl _
    · refine r_iconst (p := 12) f223_11 rfl (pinD rfl rfl) ?_
      refine r_goto (p := 16) f223_12 (by decide) rfl ?_
      exact le2_refl _
theorem q223_16 {d : Nat} {m : Mem} {a0 a1 s1 s0 : Int} (hd : 0 < d) (hz : TZ m) : le2 (gd (tg m s0 = 11) <| bI (cl (d - 1) 188 [pR s0, pI s1, pI 1] m) fun v1 m1 => if v1 = 0 then (some (.inl none, m1)) else gd (tg m1 a0 = 11) <| if (vl m1 a0 6) = 0 then (nm (vl m1 a0 9) fun v2 => gd (tg m1 v2 = 186117) <| gd ((0 : Int) ≤ a1 ∧ a1 < ln m1 v2) <| nm (vl m1 v2 a1) fun v3 => gd (tg m1 v3 = 12) <| if (vl m1 v3 4) = 0 then (rn d 223 48 [pR a0, pI a1] [pI 0, pR a0] m1) else rn d 223 48 [pR a0, pI a1] [pI 1, pR a0] m1) else rn d 223 48 [pR a0, pI a1] [pI 0, pR a0] m1) (rn d 223 16 [pR a0, pI a1] [pI s1, pR s0] m) := by
  refine r_iconst (p := 17) f223_16 rfl (pinD rfl rfl) ?_
  refine le2_gd (fun h1 => ?_)
  refine r_invI (p := 20) f223_17 rfl rfl rfl (Or.inl h1) hd (Nat.le_of_ble_eq_true rfl) rfl rfl rfl (fun _ => rfl) (fun v1 m1 c1 => ?_)
  have hz1 := z_k c1 hz
  refine r_ifeq (t := 55) (p := 23) f223_20 (by decide) rfl rfl ?_ ?_
  · exact r_ret f223_55
  · refine r_aln0 (p := 24) f223_23 rfl ?_
    refine r_aln0 (p := 25) f223_24 rfl ?_
    refine le2_gd (fun h2 => ?_)
    refine r_gfIZ (f := 6) (p := 28) f223_25 rfl rfl rfl (Or.inl h2) rfl ?_
    refine r_ifne (t := 47) (p := 31) f223_28 (by decide) rfl rfl ?_ ?_
    · refine r_aln0 (p := 32) f223_31 rfl ?_
      refine r_gfR (f := 9) (p := 35) f223_32 rfl rfl rfl (Or.inl h2) rfl ?_
      refine r_nmR (fun v2 ev2 => ?_)
      refine r_iln1 (p := 36) f223_35 rfl ?_
      refine le2_gd (fun h3 => ?_)
      refine le2_gd (fun h4 => ?_)
      refine r_aaload (p := 37) f223_36 rfl (dj1 (fun x => 110 < x % 1000 ∧ x % 1000 < 119) h3 (by decide)) h4 rfl ?_
      refine r_nmR (fun v3 ev3 => ?_)
      refine le2_gd (fun h5 => ?_)
      refine r_gfIZ (f := 4) (p := 40) f223_37 rfl rfl rfl (Or.inl h5) rfl ?_
      refine r_ifeq (t := 47) (p := 43) f223_40 (by decide) rfl rfl ?_ ?_
      · refine r_iconst (p := 48) f223_47 rfl (pinD rfl rfl) ?_
        exact le2_refl _
      · refine r_iconst (p := 44) f223_43 rfl (pinD rfl rfl) ?_
        refine r_goto (p := 48) f223_44 (by decide) rfl ?_
        exact le2_refl _
    · refine r_iconst (p := 48) f223_47 rfl (pinD rfl rfl) ?_
      exact le2_refl _
theorem q223_48 {d : Nat} {m : Mem} {a0 a1 s1 s0 : Int} (hd : 0 < d) (hz : TZ m) : le2 (gd (tg m s0 = 11) <| bI (cl (d - 1) 188 [pR s0, pI s1, pI 2] m) fun v1 m1 => if v1 = 0 then (some (.inl none, m1)) else gd (tg m1 a0 = 11) <| nm (vl m1 a0 9) fun v2 => gd (tg m1 v2 = 186117) <| gd ((0 : Int) ≤ a1 ∧ a1 < ln m1 v2) <| nm (vl m1 v2 a1) fun v3 => gd (tg m1 v3 = 12) <| some (.inl none, (mst m1 v3 4 0))) (rn d 223 48 [pR a0, pI a1] [pI s1, pR s0] m) := by
  refine r_iconst (p := 49) f223_48 rfl (pinD rfl rfl) ?_
  refine le2_gd (fun h1 => ?_)
  refine r_invI (p := 52) f223_49 rfl rfl rfl (Or.inl h1) hd (Nat.le_of_ble_eq_true rfl) rfl rfl rfl (fun _ => rfl) (fun v1 m1 c1 => ?_)
  have hz1 := z_k c1 hz
  refine r_ifne (t := 56) (p := 55) f223_52 (by decide) rfl rfl ?_ ?_
  · exact r_ret f223_55
  · refine r_aln0 (p := 57) f223_56 rfl ?_
    refine le2_gd (fun h2 => ?_)
    refine r_gfR (f := 9) (p := 60) f223_57 rfl rfl rfl (Or.inl h2) rfl ?_
    refine r_nmR (fun v2 ev2 => ?_)
    refine r_iln1 (p := 61) f223_60 rfl ?_
    refine le2_gd (fun h3 => ?_)
    refine le2_gd (fun h4 => ?_)
    refine r_aaload (p := 62) f223_61 rfl (dj1 (fun x => 110 < x % 1000 ∧ x % 1000 < 119) h3 (by decide)) h4 rfl ?_
    refine r_nmR (fun v3 ev3 => ?_)
    refine r_iconst (p := 63) f223_62 rfl (pinD rfl rfl) ?_
    refine le2_gd (fun h5 => ?_)
    refine r_pfZ (f := 4) (p := 66) f223_63 rfl rfl rfl (by decide) (by decide) (Or.inl h5) rfl (by decide) ?_
    exact r_ret f223_66
/-! 224 PathStoreModel.cut (I)V -/
def w224_2 : List UInt8 := [177]
abbrev u224_2 : List UInt8 := w224_2 ++ []
def w224_1 : List UInt8 := [180, 1, 27, 154, 0, 7, 4, 167, 0, 4, 3, 5, 182, 0, 142, 154, 0, 4, 177, 42, 27, 181, 0, 78]
abbrev u224_1 : List UInt8 := w224_1 ++ u224_2
def w224_0 : List UInt8 := [42, 27, 155, 0, 12, 27, 6, 163, 0, 7, 4, 167, 0, 4, 3, 4, 182, 0, 142, 153, 0, 23, 42, 42]
abbrev u224_0 : List UInt8 := w224_0 ++ u224_1
theorem s224_0 : (prog_32_method_44_code).data.toList.drop 0 = u224_0 := by decide +kernel
theorem s224_1 : (prog_32_method_44_code).data.toList.drop 24 = u224_1 := dk_seg s224_0 24 rfl rfl
theorem s224_2 : (prog_32_method_44_code).data.toList.drop 48 = u224_2 := dk_seg s224_1 24 rfl rfl
theorem Fm224 {pc len : Nat} {i : Instr} (h : decode (prog_32_method_44_code) pc = .ok (i, len)) (hl : len = ilen i len) : ft 224 pc = some (11, 0, 0, i, len) := ft_mk rfl h hl
theorem f224_0 : ft 224 0 = some (11, 0, 0, .aload_n 0, 1) := Fm224 (dk_42 (dk_at s224_0 0 rfl rfl)) rfl
theorem f224_1 : ft 224 1 = some (11, 0, 0, .iload_n 1, 1) := Fm224 (dk_27 (dk_at s224_0 1 rfl rfl)) rfl
theorem f224_2 : ft 224 2 = some (11, 0, 0, .ifCond .lt 12, 3) := Fm224 (dk_155 0 12 (dk_at s224_0 2 rfl rfl)) rfl
theorem f224_5 : ft 224 5 = some (11, 0, 0, .iload_n 1, 1) := Fm224 (dk_27 (dk_at s224_0 5 rfl rfl)) rfl
theorem f224_6 : ft 224 6 = some (11, 0, 0, .iconst 3, 1) := Fm224 (dk_6 (dk_at s224_0 6 rfl rfl)) rfl
theorem f224_7 : ft 224 7 = some (11, 0, 0, .if_icmp .gt 7, 3) := Fm224 (dk_163 0 7 (dk_at s224_0 7 rfl rfl)) rfl
theorem f224_10 : ft 224 10 = some (11, 0, 0, .iconst 1, 1) := Fm224 (dk_4 (dk_at s224_0 10 rfl rfl)) rfl
theorem f224_11 : ft 224 11 = some (11, 0, 0, .goto 4, 3) := Fm224 (dk_167 0 4 (dk_at s224_0 11 rfl rfl)) rfl
theorem f224_14 : ft 224 14 = some (11, 0, 0, .iconst 0, 1) := Fm224 (dk_3 (dk_at s224_0 14 rfl rfl)) rfl
theorem f224_15 : ft 224 15 = some (11, 0, 0, .iconst 1, 1) := Fm224 (dk_4 (dk_at s224_0 15 rfl rfl)) rfl
theorem f224_16 : ft 224 16 = some (11, 0, 0, .invokevirtual 142, 3) := Fm224 (dk_182 0 142 (dk_at s224_0 16 rfl rfl)) rfl
theorem f224_19 : ft 224 19 = some (11, 0, 0, .ifCond .eq 23, 3) := Fm224 (dk_153 0 23 (dk_at s224_0 19 rfl rfl)) rfl
theorem f224_22 : ft 224 22 = some (11, 0, 0, .aload_n 0, 1) := Fm224 (dk_42 (dk_at s224_0 22 rfl rfl)) rfl
theorem f224_23 : ft 224 23 = some (11, 0, 0, .aload_n 0, 1) := Fm224 (dk_42 (dk_at s224_0 23 rfl rfl)) rfl
theorem f224_24 : ft 224 24 = some (11, 0, 0, .getfield 283, 3) := Fm224 (dk_180 1 27 (dk_at s224_1 0 rfl rfl)) rfl
theorem f224_27 : ft 224 27 = some (11, 0, 0, .ifCond .ne 7, 3) := Fm224 (dk_154 0 7 (dk_at s224_1 3 rfl rfl)) rfl
theorem f224_30 : ft 224 30 = some (11, 0, 0, .iconst 1, 1) := Fm224 (dk_4 (dk_at s224_1 6 rfl rfl)) rfl
theorem f224_31 : ft 224 31 = some (11, 0, 0, .goto 4, 3) := Fm224 (dk_167 0 4 (dk_at s224_1 7 rfl rfl)) rfl
theorem f224_34 : ft 224 34 = some (11, 0, 0, .iconst 0, 1) := Fm224 (dk_3 (dk_at s224_1 10 rfl rfl)) rfl
theorem f224_35 : ft 224 35 = some (11, 0, 0, .iconst 2, 1) := Fm224 (dk_5 (dk_at s224_1 11 rfl rfl)) rfl
theorem f224_36 : ft 224 36 = some (11, 0, 0, .invokevirtual 142, 3) := Fm224 (dk_182 0 142 (dk_at s224_1 12 rfl rfl)) rfl
theorem f224_39 : ft 224 39 = some (11, 0, 0, .ifCond .ne 4, 3) := Fm224 (dk_154 0 4 (dk_at s224_1 15 rfl rfl)) rfl
theorem f224_42 : ft 224 42 = some (11, 0, 0, .return_, 1) := Fm224 (dk_177 (dk_at s224_1 18 rfl rfl)) rfl
theorem f224_43 : ft 224 43 = some (11, 0, 0, .aload_n 0, 1) := Fm224 (dk_42 (dk_at s224_1 19 rfl rfl)) rfl
theorem f224_44 : ft 224 44 = some (11, 0, 0, .iload_n 1, 1) := Fm224 (dk_27 (dk_at s224_1 20 rfl rfl)) rfl
theorem f224_45 : ft 224 45 = some (11, 0, 0, .putfield 78, 3) := Fm224 (dk_181 0 78 (dk_at s224_1 21 rfl rfl)) rfl
theorem f224_48 : ft 224 48 = some (11, 0, 0, .return_, 1) := Fm224 (dk_177 (dk_at s224_2 0 rfl rfl)) rfl
theorem q224 {d : Nat} {m : Mem} {a0 a1 : Int} (hz : TZ m) : le2 (if a1 < 0 then (rn d 224 15 [pR a0, pI a1] [pI 0, pR a0] m) else if 3 < a1 then (rn d 224 15 [pR a0, pI a1] [pI 0, pR a0] m) else rn d 224 15 [pR a0, pI a1] [pI 1, pR a0] m) (cl d 224 [pR a0, pI a1] m) := by
  refine q_in (n := 2) (L := [pR a0, pI a1]) rfl rfl rfl ?_
  refine r_aln0 (p := 1) f224_0 rfl ?_
  refine r_iln1 (p := 2) f224_1 rfl ?_
  refine r_iflt (t := 14) (p := 5) f224_2 (by decide) rfl rfl ?_ ?_
  · refine r_iconst (p := 15) f224_14 rfl (pinD rfl rfl) ?_
    exact le2_refl _
  · refine r_iln1 (p := 6) f224_5 rfl ?_
    refine r_iconst (p := 7) f224_6 rfl (pinD rfl rfl) ?_
    refine r_icgt (t := 14) (p := 10) f224_7 (by decide) rfl rfl ?_ ?_
    · refine r_iconst (p := 15) f224_14 rfl (pinD rfl rfl) ?_
      exact le2_refl _
    · refine r_iconst (p := 11) f224_10 rfl (pinD rfl rfl) ?_
      refine r_goto (p := 15) f224_11 (by decide) rfl ?_
      exact le2_refl _
theorem q224_15 {d : Nat} {m : Mem} {a0 a1 s1 s0 : Int} (hd : 0 < d) (hz : TZ m) : le2 (gd (tg m s0 = 11) <| bI (cl (d - 1) 188 [pR s0, pI s1, pI 1] m) fun v1 m1 => if v1 = 0 then (some (.inl none, m1)) else gd (tg m1 a0 = 11) <| if (vl m1 a0 6) = 0 then (bI (cl (d - 1) 188 [pR a0, pI 1, pI 2] m1) fun v3 m3 => if v3 = 0 then (some (.inl none, m3)) else some (.inl none, (mst m3 a0 7 a1))) else bI (cl (d - 1) 188 [pR a0, pI 0, pI 2] m1) fun v2 m2 => if v2 = 0 then (some (.inl none, m2)) else some (.inl none, (mst m2 a0 7 a1))) (rn d 224 15 [pR a0, pI a1] [pI s1, pR s0] m) := by
  refine r_iconst (p := 16) f224_15 rfl (pinD rfl rfl) ?_
  refine le2_gd (fun h1 => ?_)
  refine r_invI (p := 19) f224_16 rfl rfl rfl (Or.inl h1) hd (Nat.le_of_ble_eq_true rfl) rfl rfl rfl (fun _ => rfl) (fun v1 m1 c1 => ?_)
  have hz1 := z_k c1 hz
  refine r_ifeq (t := 42) (p := 22) f224_19 (by decide) rfl rfl ?_ ?_
  · exact r_ret f224_42
  · refine r_aln0 (p := 23) f224_22 rfl ?_
    refine r_aln0 (p := 24) f224_23 rfl ?_
    refine le2_gd (fun h2 => ?_)
    refine r_gfIZ (f := 6) (p := 27) f224_24 rfl rfl rfl (Or.inl h2) rfl ?_
    refine r_ifne (t := 34) (p := 30) f224_27 (by decide) rfl rfl ?_ ?_
    · refine r_iconst (p := 31) f224_30 rfl (pinD rfl rfl) ?_
      refine r_goto (p := 35) f224_31 (by decide) rfl ?_
      refine r_iconst (p := 36) f224_35 rfl (pinD rfl rfl) ?_
      refine r_invI (p := 39) f224_36 rfl rfl rfl (Or.inl h2) hd (Nat.le_of_ble_eq_true rfl) rfl rfl rfl (fun _ => rfl) (fun v3 m3 c3 => ?_)
      have hz3 := z_k c3 hz1
      refine r_ifne (t := 43) (p := 42) f224_39 (by decide) rfl rfl ?_ ?_
      · exact r_ret f224_42
      · refine r_aln0 (p := 44) f224_43 rfl ?_
        refine r_iln1 (p := 45) f224_44 rfl ?_
        have h4 := k_t1 c3 hz1 h2 (by decide)
        refine r_pfI (f := 7) (p := 48) f224_45 rfl rfl rfl (by decide) (by decide) (Or.inl h4) rfl ?_
        exact r_ret f224_48
    · refine r_iconst (p := 35) f224_34 rfl (pinD rfl rfl) ?_
      refine r_iconst (p := 36) f224_35 rfl (pinD rfl rfl) ?_
      refine r_invI (p := 39) f224_36 rfl rfl rfl (Or.inl h2) hd (Nat.le_of_ble_eq_true rfl) rfl rfl rfl (fun _ => rfl) (fun v2 m2 c2 => ?_)
      have hz2 := z_k c2 hz1
      refine r_ifne (t := 43) (p := 42) f224_39 (by decide) rfl rfl ?_ ?_
      · exact r_ret f224_42
      · refine r_aln0 (p := 44) f224_43 rfl ?_
        refine r_iln1 (p := 45) f224_44 rfl ?_
        have h3 := k_t1 c2 hz1 h2 (by decide)
        refine r_pfI (f := 7) (p := 48) f224_45 rfl rfl rfl (by decide) (by decide) (Or.inl h3) rfl ?_
        exact r_ret f224_48
/-! 225 PathStoreModel.mount ()I -/
def w225_0 : List UInt8 := [42, 3, 181, 0, 136, 42, 3, 181, 1, 27, 42, 2, 181, 0, 78, 42, 180, 0, 84, 180, 1, 51, 172]
abbrev u225_0 : List UInt8 := w225_0 ++ []
theorem s225_0 : (prog_32_method_45_code).data.toList.drop 0 = u225_0 := by decide +kernel
theorem Fm225 {pc len : Nat} {i : Instr} (h : decode (prog_32_method_45_code) pc = .ok (i, len)) (hl : len = ilen i len) : ft 225 pc = some (11, 1, 0, i, len) := ft_mk rfl h hl
theorem f225_0 : ft 225 0 = some (11, 1, 0, .aload_n 0, 1) := Fm225 (dk_42 (dk_at s225_0 0 rfl rfl)) rfl
theorem f225_1 : ft 225 1 = some (11, 1, 0, .iconst 0, 1) := Fm225 (dk_3 (dk_at s225_0 1 rfl rfl)) rfl
theorem f225_2 : ft 225 2 = some (11, 1, 0, .putfield 136, 3) := Fm225 (dk_181 0 136 (dk_at s225_0 2 rfl rfl)) rfl
theorem f225_5 : ft 225 5 = some (11, 1, 0, .aload_n 0, 1) := Fm225 (dk_42 (dk_at s225_0 5 rfl rfl)) rfl
theorem f225_6 : ft 225 6 = some (11, 1, 0, .iconst 0, 1) := Fm225 (dk_3 (dk_at s225_0 6 rfl rfl)) rfl
theorem f225_7 : ft 225 7 = some (11, 1, 0, .putfield 283, 3) := Fm225 (dk_181 1 27 (dk_at s225_0 7 rfl rfl)) rfl
theorem f225_10 : ft 225 10 = some (11, 1, 0, .aload_n 0, 1) := Fm225 (dk_42 (dk_at s225_0 10 rfl rfl)) rfl
theorem f225_11 : ft 225 11 = some (11, 1, 0, .iconst (-1), 1) := Fm225 (dk_2 (dk_at s225_0 11 rfl rfl)) rfl
theorem f225_12 : ft 225 12 = some (11, 1, 0, .putfield 78, 3) := Fm225 (dk_181 0 78 (dk_at s225_0 12 rfl rfl)) rfl
theorem f225_15 : ft 225 15 = some (11, 1, 0, .aload_n 0, 1) := Fm225 (dk_42 (dk_at s225_0 15 rfl rfl)) rfl
theorem f225_16 : ft 225 16 = some (11, 1, 0, .getfield 84, 3) := Fm225 (dk_180 0 84 (dk_at s225_0 16 rfl rfl)) rfl
theorem f225_19 : ft 225 19 = some (11, 1, 0, .getfield 307, 3) := Fm225 (dk_180 1 51 (dk_at s225_0 19 rfl rfl)) rfl
theorem f225_22 : ft 225 22 = some (11, 1, 0, .ireturn, 1) := Fm225 (dk_172 (dk_at s225_0 22 rfl rfl)) rfl
theorem q225 {d : Nat} {m : Mem} {a0 : Int} (hz : TZ m) : le2 (gd (tg m a0 = 11) <| nm (vl m a0 8) fun v1 => gd (tg m v1 = 12) <| some (.inl (some (pI (vl m v1 3))), (mst (mst (mst m a0 4 0) a0 6 0) a0 7 (-1)))) (cl d 225 [pR a0] m) := by
  refine q_in (n := 1) (L := [pR a0]) rfl rfl rfl ?_
  refine r_aln0 (p := 1) f225_0 rfl ?_
  refine r_iconst (p := 2) f225_1 rfl (pinD rfl rfl) ?_
  refine le2_gd (fun h1 => ?_)
  refine r_pfI (f := 4) (p := 5) f225_2 rfl rfl rfl (by decide) (by decide) (Or.inl h1) rfl ?_
  refine r_aln0 (p := 6) f225_5 rfl ?_
  refine r_iconst (p := 7) f225_6 rfl (pinD rfl rfl) ?_
  refine r_pfZ (f := 6) (p := 10) f225_7 rfl rfl rfl (by decide) (by decide) (Or.inl h1) rfl (by decide) ?_
  refine r_aln0 (p := 11) f225_10 rfl ?_
  refine r_iconst (p := 12) f225_11 rfl (pinD rfl rfl) ?_
  refine r_pfI (f := 7) (p := 15) f225_12 rfl rfl rfl (by decide) (by decide) (Or.inl h1) rfl ?_
  refine r_aln0 (p := 16) f225_15 rfl ?_
  refine r_gfR (f := 8) (p := 19) f225_16 rfl rfl rfl (Or.inl h1) (Eq.trans (sk_f (by decide)) (Eq.trans (sk_f (by decide)) (sk_f (by decide)))) ?_
  refine r_nmR (fun v1 ev1 => ?_)
  refine le2_gd (fun h2 => ?_)
  refine r_gfI (f := 3) (p := 22) f225_19 rfl rfl rfl (Or.inl h2) (Eq.trans (sk_f (by decide)) (Eq.trans (sk_f (by decide)) (sk_f (by decide)))) ?_
  exact r_iret1 f225_22
