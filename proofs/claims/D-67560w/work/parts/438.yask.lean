/-! what methods do, written by wip/D-67560w/tools/gen_parts.py -/
set_option maxRecDepth 100000
set_option maxHeartbeats 4000000
/-! 262 PathStoreModel.ask (II)I -/
def w262_7 : List UInt8 := [96, 181, 1, 246, 42, 21, 4, 6, 182, 1, 186, 54, 4, 167, 255, 114, 29, 172]
abbrev u262_7 : List UInt8 := w262_7 ++ []
def w262_6 : List UInt8 := [21, 7, 96, 42, 180, 0, 130, 21, 5, 21, 7, 96, 46, 79, 132, 7, 1, 167, 255, 227, 42, 29, 21, 6]
abbrev u262_6 : List UInt8 := w262_6 ++ u262_7
def w262_5 : List UInt8 := [180, 1, 246, 21, 5, 100, 54, 6, 3, 54, 7, 21, 7, 21, 6, 162, 0, 28, 42, 180, 0, 130, 29]
abbrev u262_5 : List UInt8 := w262_5 ++ u262_6
def w262_4 : List UInt8 := [167, 0, 16, 42, 21, 4, 42, 180, 0, 130, 21, 6, 46, 182, 2, 2, 132, 6, 1, 167, 255, 199, 42]
abbrev u262_4 : List UInt8 := w262_4 ++ u262_5
def w262_3 : List UInt8 := [21, 4, 4, 182, 1, 186, 4, 160, 0, 19, 42, 21, 4, 42, 180, 0, 130, 21, 6, 46, 182, 1, 255]
abbrev u262_3 : List UInt8 := w262_3 ++ u262_4
def w262_2 : List UInt8 := [180, 1, 246, 54, 5, 29, 54, 6, 21, 6, 21, 5, 162, 0, 56, 42, 180, 1, 240, 154, 0, 49, 42]
abbrev u262_2 : List UInt8 := w262_2 ++ u262_3
def w262_1 : List UInt8 := [182, 1, 252, 42, 27, 5, 182, 1, 186, 54, 4, 21, 4, 155, 0, 143, 42, 180, 1, 240, 154, 0, 136, 42]
abbrev u262_1 : List UInt8 := w262_1 ++ u262_2
def w262_0 : List UInt8 := [42, 180, 1, 246, 62, 42, 42, 27, 4, 182, 1, 186, 4, 160, 0, 10, 42, 180, 1, 249, 167, 0, 4, 28]
abbrev u262_0 : List UInt8 := w262_0 ++ u262_1
theorem s262_0 : (prog_32_method_80_code).data.toList.drop 0 = u262_0 := by decide +kernel
theorem s262_1 : (prog_32_method_80_code).data.toList.drop 24 = u262_1 := dk_seg s262_0 24 rfl rfl
theorem s262_2 : (prog_32_method_80_code).data.toList.drop 48 = u262_2 := dk_seg s262_1 24 rfl rfl
theorem s262_3 : (prog_32_method_80_code).data.toList.drop 71 = u262_3 := dk_seg s262_2 23 rfl rfl
theorem s262_4 : (prog_32_method_80_code).data.toList.drop 94 = u262_4 := dk_seg s262_3 23 rfl rfl
theorem s262_5 : (prog_32_method_80_code).data.toList.drop 117 = u262_5 := dk_seg s262_4 23 rfl rfl
theorem s262_6 : (prog_32_method_80_code).data.toList.drop 140 = u262_6 := dk_seg s262_5 23 rfl rfl
theorem s262_7 : (prog_32_method_80_code).data.toList.drop 164 = u262_7 := dk_seg s262_6 24 rfl rfl
theorem Fm262 {pc len : Nat} {i : Instr} (h : decode (prog_32_method_80_code) pc = .ok (i, len)) (hl : len = ilen i len) : ft 262 pc = some (11, 1, 0, i, len) := ft_mk rfl h hl
theorem f262_0 : ft 262 0 = some (11, 1, 0, .aload_n 0, 1) := Fm262 (dk_42 (dk_at s262_0 0 rfl rfl)) rfl
theorem f262_1 : ft 262 1 = some (11, 1, 0, .getfield 502, 3) := Fm262 (dk_180 1 246 (dk_at s262_0 1 rfl rfl)) rfl
theorem f262_4 : ft 262 4 = some (11, 1, 0, .istore_n 3, 1) := Fm262 (dk_62 (dk_at s262_0 4 rfl rfl)) rfl
theorem f262_5 : ft 262 5 = some (11, 1, 0, .aload_n 0, 1) := Fm262 (dk_42 (dk_at s262_0 5 rfl rfl)) rfl
theorem f262_6 : ft 262 6 = some (11, 1, 0, .aload_n 0, 1) := Fm262 (dk_42 (dk_at s262_0 6 rfl rfl)) rfl
theorem f262_7 : ft 262 7 = some (11, 1, 0, .iload_n 1, 1) := Fm262 (dk_27 (dk_at s262_0 7 rfl rfl)) rfl
theorem f262_8 : ft 262 8 = some (11, 1, 0, .iconst 1, 1) := Fm262 (dk_4 (dk_at s262_0 8 rfl rfl)) rfl
theorem f262_9 : ft 262 9 = some (11, 1, 0, .invokevirtual 442, 3) := Fm262 (dk_182 1 186 (dk_at s262_0 9 rfl rfl)) rfl
theorem f262_12 : ft 262 12 = some (11, 1, 0, .iconst 1, 1) := Fm262 (dk_4 (dk_at s262_0 12 rfl rfl)) rfl
theorem f262_13 : ft 262 13 = some (11, 1, 0, .if_icmp .ne 10, 3) := Fm262 (dk_160 0 10 (dk_at s262_0 13 rfl rfl)) rfl
theorem f262_16 : ft 262 16 = some (11, 1, 0, .aload_n 0, 1) := Fm262 (dk_42 (dk_at s262_0 16 rfl rfl)) rfl
theorem f262_17 : ft 262 17 = some (11, 1, 0, .getfield 505, 3) := Fm262 (dk_180 1 249 (dk_at s262_0 17 rfl rfl)) rfl
theorem f262_20 : ft 262 20 = some (11, 1, 0, .goto 4, 3) := Fm262 (dk_167 0 4 (dk_at s262_0 20 rfl rfl)) rfl
theorem f262_23 : ft 262 23 = some (11, 1, 0, .iload_n 2, 1) := Fm262 (dk_28 (dk_at s262_0 23 rfl rfl)) rfl
theorem f262_24 : ft 262 24 = some (11, 1, 0, .invokevirtual 508, 3) := Fm262 (dk_182 1 252 (dk_at s262_1 0 rfl rfl)) rfl
theorem f262_27 : ft 262 27 = some (11, 1, 0, .aload_n 0, 1) := Fm262 (dk_42 (dk_at s262_1 3 rfl rfl)) rfl
theorem f262_28 : ft 262 28 = some (11, 1, 0, .iload_n 1, 1) := Fm262 (dk_27 (dk_at s262_1 4 rfl rfl)) rfl
theorem f262_29 : ft 262 29 = some (11, 1, 0, .iconst 2, 1) := Fm262 (dk_5 (dk_at s262_1 5 rfl rfl)) rfl
theorem f262_30 : ft 262 30 = some (11, 1, 0, .invokevirtual 442, 3) := Fm262 (dk_182 1 186 (dk_at s262_1 6 rfl rfl)) rfl
theorem f262_33 : ft 262 33 = some (11, 1, 0, .istore 4, 2) := Fm262 (dk_54 4 (dk_at s262_1 9 rfl rfl)) rfl
theorem f262_35 : ft 262 35 = some (11, 1, 0, .iload 4, 2) := Fm262 (dk_21 4 (dk_at s262_1 11 rfl rfl)) rfl
theorem f262_37 : ft 262 37 = some (11, 1, 0, .ifCond .lt 143, 3) := Fm262 (dk_155 0 143 (dk_at s262_1 13 rfl rfl)) rfl
theorem f262_40 : ft 262 40 = some (11, 1, 0, .aload_n 0, 1) := Fm262 (dk_42 (dk_at s262_1 16 rfl rfl)) rfl
theorem f262_41 : ft 262 41 = some (11, 1, 0, .getfield 496, 3) := Fm262 (dk_180 1 240 (dk_at s262_1 17 rfl rfl)) rfl
theorem f262_44 : ft 262 44 = some (11, 1, 0, .ifCond .ne 136, 3) := Fm262 (dk_154 0 136 (dk_at s262_1 20 rfl rfl)) rfl
theorem f262_47 : ft 262 47 = some (11, 1, 0, .aload_n 0, 1) := Fm262 (dk_42 (dk_at s262_1 23 rfl rfl)) rfl
theorem f262_48 : ft 262 48 = some (11, 1, 0, .getfield 502, 3) := Fm262 (dk_180 1 246 (dk_at s262_2 0 rfl rfl)) rfl
theorem f262_51 : ft 262 51 = some (11, 1, 0, .istore 5, 2) := Fm262 (dk_54 5 (dk_at s262_2 3 rfl rfl)) rfl
theorem f262_53 : ft 262 53 = some (11, 1, 0, .iload_n 3, 1) := Fm262 (dk_29 (dk_at s262_2 5 rfl rfl)) rfl
theorem f262_54 : ft 262 54 = some (11, 1, 0, .istore 6, 2) := Fm262 (dk_54 6 (dk_at s262_2 6 rfl rfl)) rfl
theorem f262_56 : ft 262 56 = some (11, 1, 0, .iload 6, 2) := Fm262 (dk_21 6 (dk_at s262_2 8 rfl rfl)) rfl
theorem f262_58 : ft 262 58 = some (11, 1, 0, .iload 5, 2) := Fm262 (dk_21 5 (dk_at s262_2 10 rfl rfl)) rfl
theorem f262_60 : ft 262 60 = some (11, 1, 0, .if_icmp .ge 56, 3) := Fm262 (dk_162 0 56 (dk_at s262_2 12 rfl rfl)) rfl
theorem f262_63 : ft 262 63 = some (11, 1, 0, .aload_n 0, 1) := Fm262 (dk_42 (dk_at s262_2 15 rfl rfl)) rfl
theorem f262_64 : ft 262 64 = some (11, 1, 0, .getfield 496, 3) := Fm262 (dk_180 1 240 (dk_at s262_2 16 rfl rfl)) rfl
theorem f262_67 : ft 262 67 = some (11, 1, 0, .ifCond .ne 49, 3) := Fm262 (dk_154 0 49 (dk_at s262_2 19 rfl rfl)) rfl
theorem f262_70 : ft 262 70 = some (11, 1, 0, .aload_n 0, 1) := Fm262 (dk_42 (dk_at s262_2 22 rfl rfl)) rfl
theorem f262_71 : ft 262 71 = some (11, 1, 0, .iload 4, 2) := Fm262 (dk_21 4 (dk_at s262_3 0 rfl rfl)) rfl
theorem f262_73 : ft 262 73 = some (11, 1, 0, .iconst 1, 1) := Fm262 (dk_4 (dk_at s262_3 2 rfl rfl)) rfl
theorem f262_74 : ft 262 74 = some (11, 1, 0, .invokevirtual 442, 3) := Fm262 (dk_182 1 186 (dk_at s262_3 3 rfl rfl)) rfl
theorem f262_77 : ft 262 77 = some (11, 1, 0, .iconst 1, 1) := Fm262 (dk_4 (dk_at s262_3 6 rfl rfl)) rfl
theorem f262_78 : ft 262 78 = some (11, 1, 0, .if_icmp .ne 19, 3) := Fm262 (dk_160 0 19 (dk_at s262_3 7 rfl rfl)) rfl
theorem f262_81 : ft 262 81 = some (11, 1, 0, .aload_n 0, 1) := Fm262 (dk_42 (dk_at s262_3 10 rfl rfl)) rfl
theorem f262_82 : ft 262 82 = some (11, 1, 0, .iload 4, 2) := Fm262 (dk_21 4 (dk_at s262_3 11 rfl rfl)) rfl
theorem f262_84 : ft 262 84 = some (11, 1, 0, .aload_n 0, 1) := Fm262 (dk_42 (dk_at s262_3 13 rfl rfl)) rfl
theorem f262_85 : ft 262 85 = some (11, 1, 0, .getfield 130, 3) := Fm262 (dk_180 0 130 (dk_at s262_3 14 rfl rfl)) rfl
theorem f262_88 : ft 262 88 = some (11, 1, 0, .iload 6, 2) := Fm262 (dk_21 6 (dk_at s262_3 17 rfl rfl)) rfl
theorem f262_90 : ft 262 90 = some (11, 1, 0, .iaload, 1) := Fm262 (dk_46 (dk_at s262_3 19 rfl rfl)) rfl
theorem f262_91 : ft 262 91 = some (11, 1, 0, .invokevirtual 511, 3) := Fm262 (dk_182 1 255 (dk_at s262_3 20 rfl rfl)) rfl
theorem f262_94 : ft 262 94 = some (11, 1, 0, .goto 16, 3) := Fm262 (dk_167 0 16 (dk_at s262_4 0 rfl rfl)) rfl
theorem f262_97 : ft 262 97 = some (11, 1, 0, .aload_n 0, 1) := Fm262 (dk_42 (dk_at s262_4 3 rfl rfl)) rfl
theorem f262_98 : ft 262 98 = some (11, 1, 0, .iload 4, 2) := Fm262 (dk_21 4 (dk_at s262_4 4 rfl rfl)) rfl
theorem f262_100 : ft 262 100 = some (11, 1, 0, .aload_n 0, 1) := Fm262 (dk_42 (dk_at s262_4 6 rfl rfl)) rfl
theorem f262_101 : ft 262 101 = some (11, 1, 0, .getfield 130, 3) := Fm262 (dk_180 0 130 (dk_at s262_4 7 rfl rfl)) rfl
theorem f262_104 : ft 262 104 = some (11, 1, 0, .iload 6, 2) := Fm262 (dk_21 6 (dk_at s262_4 10 rfl rfl)) rfl
theorem f262_106 : ft 262 106 = some (11, 1, 0, .iaload, 1) := Fm262 (dk_46 (dk_at s262_4 12 rfl rfl)) rfl
theorem f262_107 : ft 262 107 = some (11, 1, 0, .invokevirtual 514, 3) := Fm262 (dk_182 2 2 (dk_at s262_4 13 rfl rfl)) rfl
theorem f262_110 : ft 262 110 = some (11, 1, 0, .iinc 6 1, 3) := Fm262 (dk_132 6 1 (dk_at s262_4 16 rfl rfl)) rfl
theorem f262_113 : ft 262 113 = some (11, 1, 0, .goto (-57), 3) := Fm262 (dk_167 255 199 (dk_at s262_4 19 rfl rfl)) rfl
theorem f262_116 : ft 262 116 = some (11, 1, 0, .aload_n 0, 1) := Fm262 (dk_42 (dk_at s262_4 22 rfl rfl)) rfl
theorem f262_117 : ft 262 117 = some (11, 1, 0, .getfield 502, 3) := Fm262 (dk_180 1 246 (dk_at s262_5 0 rfl rfl)) rfl
theorem f262_120 : ft 262 120 = some (11, 1, 0, .iload 5, 2) := Fm262 (dk_21 5 (dk_at s262_5 3 rfl rfl)) rfl
theorem f262_122 : ft 262 122 = some (11, 1, 0, .isub, 1) := Fm262 (dk_100 (dk_at s262_5 5 rfl rfl)) rfl
theorem f262_123 : ft 262 123 = some (11, 1, 0, .istore 6, 2) := Fm262 (dk_54 6 (dk_at s262_5 6 rfl rfl)) rfl
theorem f262_125 : ft 262 125 = some (11, 1, 0, .iconst 0, 1) := Fm262 (dk_3 (dk_at s262_5 8 rfl rfl)) rfl
theorem f262_126 : ft 262 126 = some (11, 1, 0, .istore 7, 2) := Fm262 (dk_54 7 (dk_at s262_5 9 rfl rfl)) rfl
theorem f262_128 : ft 262 128 = some (11, 1, 0, .iload 7, 2) := Fm262 (dk_21 7 (dk_at s262_5 11 rfl rfl)) rfl
theorem f262_130 : ft 262 130 = some (11, 1, 0, .iload 6, 2) := Fm262 (dk_21 6 (dk_at s262_5 13 rfl rfl)) rfl
theorem f262_132 : ft 262 132 = some (11, 1, 0, .if_icmp .ge 28, 3) := Fm262 (dk_162 0 28 (dk_at s262_5 15 rfl rfl)) rfl
theorem f262_135 : ft 262 135 = some (11, 1, 0, .aload_n 0, 1) := Fm262 (dk_42 (dk_at s262_5 18 rfl rfl)) rfl
theorem f262_136 : ft 262 136 = some (11, 1, 0, .getfield 130, 3) := Fm262 (dk_180 0 130 (dk_at s262_5 19 rfl rfl)) rfl
theorem f262_139 : ft 262 139 = some (11, 1, 0, .iload_n 3, 1) := Fm262 (dk_29 (dk_at s262_5 22 rfl rfl)) rfl
theorem f262_140 : ft 262 140 = some (11, 1, 0, .iload 7, 2) := Fm262 (dk_21 7 (dk_at s262_6 0 rfl rfl)) rfl
theorem f262_142 : ft 262 142 = some (11, 1, 0, .iadd, 1) := Fm262 (dk_96 (dk_at s262_6 2 rfl rfl)) rfl
theorem f262_143 : ft 262 143 = some (11, 1, 0, .aload_n 0, 1) := Fm262 (dk_42 (dk_at s262_6 3 rfl rfl)) rfl
theorem f262_144 : ft 262 144 = some (11, 1, 0, .getfield 130, 3) := Fm262 (dk_180 0 130 (dk_at s262_6 4 rfl rfl)) rfl
theorem f262_147 : ft 262 147 = some (11, 1, 0, .iload 5, 2) := Fm262 (dk_21 5 (dk_at s262_6 7 rfl rfl)) rfl
theorem f262_149 : ft 262 149 = some (11, 1, 0, .iload 7, 2) := Fm262 (dk_21 7 (dk_at s262_6 9 rfl rfl)) rfl
theorem f262_151 : ft 262 151 = some (11, 1, 0, .iadd, 1) := Fm262 (dk_96 (dk_at s262_6 11 rfl rfl)) rfl
theorem f262_152 : ft 262 152 = some (11, 1, 0, .iaload, 1) := Fm262 (dk_46 (dk_at s262_6 12 rfl rfl)) rfl
theorem f262_153 : ft 262 153 = some (11, 1, 0, .iastore, 1) := Fm262 (dk_79 (dk_at s262_6 13 rfl rfl)) rfl
theorem f262_154 : ft 262 154 = some (11, 1, 0, .iinc 7 1, 3) := Fm262 (dk_132 7 1 (dk_at s262_6 14 rfl rfl)) rfl
theorem f262_157 : ft 262 157 = some (11, 1, 0, .goto (-29), 3) := Fm262 (dk_167 255 227 (dk_at s262_6 17 rfl rfl)) rfl
theorem f262_160 : ft 262 160 = some (11, 1, 0, .aload_n 0, 1) := Fm262 (dk_42 (dk_at s262_6 20 rfl rfl)) rfl
theorem f262_161 : ft 262 161 = some (11, 1, 0, .iload_n 3, 1) := Fm262 (dk_29 (dk_at s262_6 21 rfl rfl)) rfl
theorem f262_162 : ft 262 162 = some (11, 1, 0, .iload 6, 2) := Fm262 (dk_21 6 (dk_at s262_6 22 rfl rfl)) rfl
theorem f262_164 : ft 262 164 = some (11, 1, 0, .iadd, 1) := Fm262 (dk_96 (dk_at s262_7 0 rfl rfl)) rfl
theorem f262_165 : ft 262 165 = some (11, 1, 0, .putfield 502, 3) := Fm262 (dk_181 1 246 (dk_at s262_7 1 rfl rfl)) rfl
theorem f262_168 : ft 262 168 = some (11, 1, 0, .aload_n 0, 1) := Fm262 (dk_42 (dk_at s262_7 4 rfl rfl)) rfl
theorem f262_169 : ft 262 169 = some (11, 1, 0, .iload 4, 2) := Fm262 (dk_21 4 (dk_at s262_7 5 rfl rfl)) rfl
theorem f262_171 : ft 262 171 = some (11, 1, 0, .iconst 3, 1) := Fm262 (dk_6 (dk_at s262_7 7 rfl rfl)) rfl
theorem f262_172 : ft 262 172 = some (11, 1, 0, .invokevirtual 442, 3) := Fm262 (dk_182 1 186 (dk_at s262_7 8 rfl rfl)) rfl
theorem f262_175 : ft 262 175 = some (11, 1, 0, .istore 4, 2) := Fm262 (dk_54 4 (dk_at s262_7 11 rfl rfl)) rfl
theorem f262_177 : ft 262 177 = some (11, 1, 0, .goto (-142), 3) := Fm262 (dk_167 255 114 (dk_at s262_7 13 rfl rfl)) rfl
theorem f262_180 : ft 262 180 = some (11, 1, 0, .iload_n 3, 1) := Fm262 (dk_29 (dk_at s262_7 16 rfl rfl)) rfl
theorem f262_181 : ft 262 181 = some (11, 1, 0, .ireturn, 1) := Fm262 (dk_172 (dk_at s262_7 17 rfl rfl)) rfl
theorem q262 {d : Nat} {m : Mem} {a0 a1 a2 : Int} (hd : 0 < d) (hz : TZ m) : le2 (gd (tg m a0 = 11) <| nm (vl m a0 33) fun v6 => bI (cl (d - 1) 251 [pR a0, pI a1, pI 1] m) fun v1 m1 => if v1 = 1 then (bV (cl (d - 1) 263 [pR a0, pI (vl m1 a0 36)] m1) fun m4 => bI (cl (d - 1) 251 [pR a0, pI a1, pI 2] m4) fun v5 m5 => rn d 262 35 [pR a0, pI a1, pI a2, pI v6, pI v5, pU, pU, pU] [] m5) else bV (cl (d - 1) 263 [pR a0, pI a2] m1) fun m2 => bI (cl (d - 1) 251 [pR a0, pI a1, pI 2] m2) fun v3 m3 => rn d 262 35 [pR a0, pI a1, pI a2, pI v6, pI v3, pU, pU, pU] [] m3) (cl d 262 [pR a0, pI a1, pI a2] m) := by
  refine q_in (n := 8) (L := [pR a0, pI a1, pI a2, pU, pU, pU, pU, pU]) rfl rfl rfl ?_
  refine r_aln0 (p := 1) f262_0 rfl ?_
  refine le2_gd (fun h1 => ?_)
  refine r_gfI (f := 33) (p := 4) f262_1 rfl rfl rfl (Or.inl h1) rfl ?_
  refine r_nmI (fun v6 ev6 => ?_)
  refine r_isn3 (p := 5) f262_4 rfl rfl ?_
  refine r_aln0 (p := 6) f262_5 rfl ?_
  refine r_aln0 (p := 7) f262_6 rfl ?_
  refine r_iln1 (p := 8) f262_7 rfl ?_
  refine r_iconst (p := 9) f262_8 rfl (pinD rfl rfl) ?_
  refine r_invI (p := 12) f262_9 rfl rfl rfl (Or.inl h1) hd (Nat.le_of_ble_eq_true rfl) rfl rfl rfl (fun _ => rfl) (fun v1 m1 c1 => ?_)
  have hz1 := z_k c1 hz
  refine r_iconst (p := 13) f262_12 rfl (pinD rfl rfl) ?_
  refine r_icne (t := 23) (p := 16) f262_13 (by decide) rfl rfl ?_ ?_
  · refine r_aln0 (p := 17) f262_16 rfl ?_
    have h4 := k_t1 c1 hz h1 (by decide)
    refine r_gfI (f := 36) (p := 20) f262_17 rfl rfl rfl (Or.inl h4) rfl ?_
    refine r_goto (p := 24) f262_20 (by decide) rfl ?_
    refine r_invV (p := 27) f262_24 rfl rfl rfl (Or.inl h4) hd (Nat.le_of_ble_eq_true rfl) rfl rfl rfl (fun _ => rfl) (fun m4 c4 => ?_)
    have hz4 := z_k c4 hz1
    refine r_aln0 (p := 28) f262_27 rfl ?_
    refine r_iln1 (p := 29) f262_28 rfl ?_
    refine r_iconst (p := 30) f262_29 rfl (pinD rfl rfl) ?_
    have h5 := k_t1 c4 hz1 h4 (by decide)
    refine r_invI (p := 33) f262_30 rfl rfl rfl (Or.inl h5) hd (Nat.le_of_ble_eq_true rfl) rfl rfl rfl (fun _ => rfl) (fun v5 m5 c5 => ?_)
    have hz5 := z_k c5 hz4
    refine r_isw4 (p := 35) f262_33 rfl rfl ?_
    exact le2_refl _
  · refine r_iln2 (p := 24) f262_23 rfl ?_
    have h2 := k_t1 c1 hz h1 (by decide)
    refine r_invV (p := 27) f262_24 rfl rfl rfl (Or.inl h2) hd (Nat.le_of_ble_eq_true rfl) rfl rfl rfl (fun _ => rfl) (fun m2 c2 => ?_)
    have hz2 := z_k c2 hz1
    refine r_aln0 (p := 28) f262_27 rfl ?_
    refine r_iln1 (p := 29) f262_28 rfl ?_
    refine r_iconst (p := 30) f262_29 rfl (pinD rfl rfl) ?_
    have h3 := k_t1 c2 hz1 h2 (by decide)
    refine r_invI (p := 33) f262_30 rfl rfl rfl (Or.inl h3) hd (Nat.le_of_ble_eq_true rfl) rfl rfl rfl (fun _ => rfl) (fun v3 m3 c3 => ?_)
    have hz3 := z_k c3 hz2
    refine r_isw4 (p := 35) f262_33 rfl rfl ?_
    exact le2_refl _
theorem q262_35 {d : Nat} {m : Mem} {a0 a1 a2 a3 a4 : Int} {z5 z6 z7 : PV} (hz : TZ m) (hcz5 : cat z5 = 1) (hcz6 : cat z6 = 1) (hcz7 : cat z7 = 1) : le2 (if a4 < 0 then (some (.inl (some (pI a3)), m)) else gd (tg m a0 = 11) <| if (vl m a0 35) = 0 then (rn d 262 56 [pR a0, pI a1, pI a2, pI a3, pI a4, pI (vl m a0 33), pI a3, z7] [] m) else some (.inl (some (pI a3)), m)) (rn d 262 35 [pR a0, pI a1, pI a2, pI a3, pI a4, z5, z6, z7] [] m) := by
  refine r_ilw4 (p := 37) f262_35 rfl ?_
  refine r_iflt (t := 180) (p := 40) f262_37 (by decide) rfl rfl ?_ ?_
  · refine r_iln3 (p := 181) f262_180 rfl ?_
    exact r_iret1 f262_181
  · refine r_aln0 (p := 41) f262_40 rfl ?_
    refine le2_gd (fun h1 => ?_)
    refine r_gfIZ (f := 35) (p := 44) f262_41 rfl rfl rfl (Or.inl h1) rfl ?_
    refine r_ifne (t := 180) (p := 47) f262_44 (by decide) rfl rfl ?_ ?_
    · refine r_aln0 (p := 48) f262_47 rfl ?_
      refine r_gfI (f := 33) (p := 51) f262_48 rfl rfl rfl (Or.inl h1) rfl ?_
      refine r_isw5 (p := 53) f262_51 rfl rfl ?_
      refine r_iln3 (p := 54) f262_53 rfl ?_
      refine r_isw6 (p := 56) f262_54 rfl rfl ?_
      exact le2_refl _
    · refine r_iln3 (p := 181) f262_180 rfl ?_
      exact r_iret1 f262_181
theorem q262_56 {d : Nat} {m : Mem} {a0 a1 a2 a3 a4 a5 a6 : Int} {z7 : PV} (hd : 0 < d) (hz : TZ m) (hcz7 : cat z7 = 1) : le2 (if a6 < a5 then (gd (tg m a0 = 11) <| if (vl m a0 35) = 0 then (bI (cl (d - 1) 251 [pR a0, pI a4, pI 1] m) fun v1 m1 => if v1 = 1 then (nm (vl m1 a0 32) fun v4 => gd (tg m1 v4 = 186101) <| gd ((0 : Int) ≤ a6 ∧ a6 < ln m1 v4) <| bV (cl (d - 1) 265 [pR a0, pI a4, pI (vl m1 v4 a6)] m1) fun m3 => rn d 262 56 [pR a0, pI a1, pI a2, pI a3, pI a4, pI a5, pI (w32 (a6 + 1)), z7] [] m3) else nm (vl m1 a0 32) fun v5 => gd (tg m1 v5 = 186101) <| gd ((0 : Int) ≤ a6 ∧ a6 < ln m1 v5) <| bV (cl (d - 1) 266 [pR a0, pI a4, pI (vl m1 v5 a6)] m1) fun m2 => rn d 262 56 [pR a0, pI a1, pI a2, pI a3, pI a4, pI a5, pI (w32 (a6 + 1)), z7] [] m2) else rn d 262 128 [pR a0, pI a1, pI a2, pI a3, pI a4, pI a5, pI (w32 ((vl m a0 33) - a5)), pI 0] [] m) else gd (tg m a0 = 11) <| rn d 262 128 [pR a0, pI a1, pI a2, pI a3, pI a4, pI a5, pI (w32 ((vl m a0 33) - a5)), pI 0] [] m) (rn d 262 56 [pR a0, pI a1, pI a2, pI a3, pI a4, pI a5, pI a6, z7] [] m) := by
  refine r_ilw6 (p := 58) f262_56 rfl ?_
  refine r_ilw5 (p := 60) f262_58 rfl ?_
  refine r_icge (t := 116) (p := 63) f262_60 (by decide) rfl rfl ?_ ?_
  · refine r_aln0 (p := 64) f262_63 rfl ?_
    refine le2_gd (fun h2 => ?_)
    refine r_gfIZ (f := 35) (p := 67) f262_64 rfl rfl rfl (Or.inl h2) rfl ?_
    refine r_ifne (t := 116) (p := 70) f262_67 (by decide) rfl rfl ?_ ?_
    · refine r_aln0 (p := 71) f262_70 rfl ?_
      refine r_ilw4 (p := 73) f262_71 rfl ?_
      refine r_iconst (p := 74) f262_73 rfl (pinD rfl rfl) ?_
      refine r_invI (p := 77) f262_74 rfl rfl rfl (Or.inl h2) hd (Nat.le_of_ble_eq_true rfl) rfl rfl rfl (fun _ => rfl) (fun v1 m1 c1 => ?_)
      have hz1 := z_k c1 hz
      refine r_iconst (p := 78) f262_77 rfl (pinD rfl rfl) ?_
      refine r_icne (t := 97) (p := 81) f262_78 (by decide) rfl rfl ?_ ?_
      · refine r_aln0 (p := 82) f262_81 rfl ?_
        refine r_ilw4 (p := 84) f262_82 rfl ?_
        refine r_aln0 (p := 85) f262_84 rfl ?_
        have h6 := k_t1 c1 hz h2 (by decide)
        refine r_gfR (f := 32) (p := 88) f262_85 rfl rfl rfl (Or.inl h6) rfl ?_
        refine r_nmR (fun v4 ev4 => ?_)
        refine r_ilw6 (p := 90) f262_88 rfl ?_
        refine le2_gd (fun h7 => ?_)
        refine le2_gd (fun h8 => ?_)
        refine r_iaload (p := 91) f262_90 rfl (dj1 (fun x => x % 1000 = 101) h7 (by decide)) h8 rfl ?_
        refine r_invV (p := 94) f262_91 rfl rfl rfl (Or.inl h6) hd (Nat.le_of_ble_eq_true rfl) rfl rfl rfl (fun _ => rfl) (fun m3 c3 => ?_)
        have hz3 := z_k c3 hz1
        refine r_goto (p := 110) f262_94 (by decide) rfl ?_
        refine r_iinc6 (p := 113) f262_110 rfl rfl ?_
        refine r_goto (p := 56) f262_113 (by decide) rfl ?_
        exact le2_refl _
      · refine r_aln0 (p := 98) f262_97 rfl ?_
        refine r_ilw4 (p := 100) f262_98 rfl ?_
        refine r_aln0 (p := 101) f262_100 rfl ?_
        have h3 := k_t1 c1 hz h2 (by decide)
        refine r_gfR (f := 32) (p := 104) f262_101 rfl rfl rfl (Or.inl h3) rfl ?_
        refine r_nmR (fun v5 ev5 => ?_)
        refine r_ilw6 (p := 106) f262_104 rfl ?_
        refine le2_gd (fun h4 => ?_)
        refine le2_gd (fun h5 => ?_)
        refine r_iaload (p := 107) f262_106 rfl (dj1 (fun x => x % 1000 = 101) h4 (by decide)) h5 rfl ?_
        refine r_invV (p := 110) f262_107 rfl rfl rfl (Or.inl h3) hd (Nat.le_of_ble_eq_true rfl) rfl rfl rfl (fun _ => rfl) (fun m2 c2 => ?_)
        have hz2 := z_k c2 hz1
        refine r_iinc6 (p := 113) f262_110 rfl rfl ?_
        refine r_goto (p := 56) f262_113 (by decide) rfl ?_
        exact le2_refl _
    · refine r_aln0 (p := 117) f262_116 rfl ?_
      refine r_gfI (f := 33) (p := 120) f262_117 rfl rfl rfl (Or.inl h2) rfl ?_
      refine r_ilw5 (p := 122) f262_120 rfl ?_
      refine r_isub (p := 123) f262_122 rfl ?_
      refine r_isw6 (p := 125) f262_123 rfl rfl ?_
      refine r_iconst (p := 126) f262_125 rfl (pinD rfl rfl) ?_
      refine r_isw7 (p := 128) f262_126 rfl rfl ?_
      exact le2_refl _
  · refine r_aln0 (p := 117) f262_116 rfl ?_
    refine le2_gd (fun h1 => ?_)
    refine r_gfI (f := 33) (p := 120) f262_117 rfl rfl rfl (Or.inl h1) rfl ?_
    refine r_ilw5 (p := 122) f262_120 rfl ?_
    refine r_isub (p := 123) f262_122 rfl ?_
    refine r_isw6 (p := 125) f262_123 rfl rfl ?_
    refine r_iconst (p := 126) f262_125 rfl (pinD rfl rfl) ?_
    refine r_isw7 (p := 128) f262_126 rfl rfl ?_
    exact le2_refl _
theorem q262_128 {d : Nat} {m : Mem} {a0 a1 a2 a3 a4 a5 a6 a7 : Int} (hd : 0 < d) (hz : TZ m) : le2 (if a7 < a6 then (gd (tg m a0 = 11) <| nm (vl m a0 32) fun v2 => nm (w32 (a3 + a7)) fun v3 => nm (w32 (a5 + a7)) fun v4 => gd (tg m v2 = 186101) <| gd ((0 : Int) ≤ v4 ∧ v4 < ln m v2) <| gd ((0 : Int) ≤ v3 ∧ v3 < ln m v2) <| rn d 262 128 [pR a0, pI a1, pI a2, pI a3, pI a4, pI a5, pI a6, pI (w32 (a7 + 1))] [] (mst m v2 v3 (vl m v2 v4))) else gd (tg m a0 = 11) <| bI (cl (d - 1) 251 [pR a0, pI a4, pI 3] (mst m a0 33 (w32 (a3 + a6)))) fun v1 m1 => rn d 262 35 [pR a0, pI a1, pI a2, pI a3, pI v1, pI a5, pI a6, pI a7] [] m1) (rn d 262 128 [pR a0, pI a1, pI a2, pI a3, pI a4, pI a5, pI a6, pI a7] [] m) := by
  refine r_ilw7 (p := 130) f262_128 rfl ?_
  refine r_ilw6 (p := 132) f262_130 rfl ?_
  refine r_icge (t := 160) (p := 135) f262_132 (by decide) rfl rfl ?_ ?_
  · refine r_aln0 (p := 136) f262_135 rfl ?_
    refine le2_gd (fun h2 => ?_)
    refine r_gfR (f := 32) (p := 139) f262_136 rfl rfl rfl (Or.inl h2) rfl ?_
    refine r_nmR (fun v2 ev2 => ?_)
    refine r_iln3 (p := 140) f262_139 rfl ?_
    refine r_ilw7 (p := 142) f262_140 rfl ?_
    refine r_iadd (p := 143) f262_142 rfl ?_
    refine r_nmI (fun v3 ev3 => ?_)
    refine r_aln0 (p := 144) f262_143 rfl ?_
    refine r_gfR (f := 32) (p := 147) f262_144 rfl rfl rfl (Or.inl h2) ev2.symm ?_
    refine r_ilw5 (p := 149) f262_147 rfl ?_
    refine r_ilw7 (p := 151) f262_149 rfl ?_
    refine r_iadd (p := 152) f262_151 rfl ?_
    refine r_nmI (fun v4 ev4 => ?_)
    refine le2_gd (fun h3 => ?_)
    refine le2_gd (fun h4 => ?_)
    refine r_iaload (p := 153) f262_152 rfl (dj1 (fun x => x % 1000 = 101) h3 (by decide)) h4 rfl ?_
    refine le2_gd (fun h5 => ?_)
    refine r_iastore (p := 154) f262_153 rfl (dj1 (fun x => 1000 ≤ x ∧ x % 1000 = 101 ∧ Nat.testBit (eM 262) (bix x 0) = true) h3 (by decide)) h5 ?_
    refine r_iinc7 (p := 157) f262_154 rfl rfl ?_
    refine r_goto (p := 128) f262_157 (by decide) rfl ?_
    exact le2_refl _
  · refine r_aln0 (p := 161) f262_160 rfl ?_
    refine r_iln3 (p := 162) f262_161 rfl ?_
    refine r_ilw6 (p := 164) f262_162 rfl ?_
    refine r_iadd (p := 165) f262_164 rfl ?_
    refine le2_gd (fun h1 => ?_)
    refine r_pfI (f := 33) (p := 168) f262_165 rfl rfl rfl (by decide) (by decide) (Or.inl h1) rfl ?_
    refine r_aln0 (p := 169) f262_168 rfl ?_
    refine r_ilw4 (p := 171) f262_169 rfl ?_
    refine r_iconst (p := 172) f262_171 rfl (pinD rfl rfl) ?_
    refine r_invI (p := 175) f262_172 rfl rfl rfl (Or.inl h1) hd (Nat.le_of_ble_eq_true rfl) rfl rfl rfl (fun _ => rfl) (fun v1 m1 c1 => ?_)
    have hz1 := z_k c1 hz
    refine r_isw4 (p := 177) f262_175 rfl rfl ?_
    refine r_goto (p := 35) f262_177 (by decide) rfl ?_
    exact le2_refl _
/-! 263 PathStoreModel.choose (I)V -/
def w263_1 : List UInt8 := [96, 181, 1, 246, 177]
abbrev u263_1 : List UInt8 := w263_1 ++ []
def w263_0 : List UInt8 := [42, 182, 1, 243, 154, 0, 4, 177, 42, 180, 0, 130, 42, 180, 1, 246, 27, 79, 42, 89, 180, 1, 246, 4]
abbrev u263_0 : List UInt8 := w263_0 ++ u263_1
theorem s263_0 : (prog_32_method_79_code).data.toList.drop 0 = u263_0 := by decide +kernel
theorem s263_1 : (prog_32_method_79_code).data.toList.drop 24 = u263_1 := dk_seg s263_0 24 rfl rfl
theorem Fm263 {pc len : Nat} {i : Instr} (h : decode (prog_32_method_79_code) pc = .ok (i, len)) (hl : len = ilen i len) : ft 263 pc = some (11, 0, 0, i, len) := ft_mk rfl h hl
theorem f263_0 : ft 263 0 = some (11, 0, 0, .aload_n 0, 1) := Fm263 (dk_42 (dk_at s263_0 0 rfl rfl)) rfl
theorem f263_1 : ft 263 1 = some (11, 0, 0, .invokevirtual 499, 3) := Fm263 (dk_182 1 243 (dk_at s263_0 1 rfl rfl)) rfl
theorem f263_4 : ft 263 4 = some (11, 0, 0, .ifCond .ne 4, 3) := Fm263 (dk_154 0 4 (dk_at s263_0 4 rfl rfl)) rfl
theorem f263_7 : ft 263 7 = some (11, 0, 0, .return_, 1) := Fm263 (dk_177 (dk_at s263_0 7 rfl rfl)) rfl
theorem f263_8 : ft 263 8 = some (11, 0, 0, .aload_n 0, 1) := Fm263 (dk_42 (dk_at s263_0 8 rfl rfl)) rfl
theorem f263_9 : ft 263 9 = some (11, 0, 0, .getfield 130, 3) := Fm263 (dk_180 0 130 (dk_at s263_0 9 rfl rfl)) rfl
theorem f263_12 : ft 263 12 = some (11, 0, 0, .aload_n 0, 1) := Fm263 (dk_42 (dk_at s263_0 12 rfl rfl)) rfl
theorem f263_13 : ft 263 13 = some (11, 0, 0, .getfield 502, 3) := Fm263 (dk_180 1 246 (dk_at s263_0 13 rfl rfl)) rfl
theorem f263_16 : ft 263 16 = some (11, 0, 0, .iload_n 1, 1) := Fm263 (dk_27 (dk_at s263_0 16 rfl rfl)) rfl
theorem f263_17 : ft 263 17 = some (11, 0, 0, .iastore, 1) := Fm263 (dk_79 (dk_at s263_0 17 rfl rfl)) rfl
theorem f263_18 : ft 263 18 = some (11, 0, 0, .aload_n 0, 1) := Fm263 (dk_42 (dk_at s263_0 18 rfl rfl)) rfl
theorem f263_19 : ft 263 19 = some (11, 0, 0, .dup, 1) := Fm263 (dk_89 (dk_at s263_0 19 rfl rfl)) rfl
theorem f263_20 : ft 263 20 = some (11, 0, 0, .getfield 502, 3) := Fm263 (dk_180 1 246 (dk_at s263_0 20 rfl rfl)) rfl
theorem f263_23 : ft 263 23 = some (11, 0, 0, .iconst 1, 1) := Fm263 (dk_4 (dk_at s263_0 23 rfl rfl)) rfl
theorem f263_24 : ft 263 24 = some (11, 0, 0, .iadd, 1) := Fm263 (dk_96 (dk_at s263_1 0 rfl rfl)) rfl
theorem f263_25 : ft 263 25 = some (11, 0, 0, .putfield 502, 3) := Fm263 (dk_181 1 246 (dk_at s263_1 1 rfl rfl)) rfl
theorem f263_28 : ft 263 28 = some (11, 0, 0, .return_, 1) := Fm263 (dk_177 (dk_at s263_1 4 rfl rfl)) rfl
theorem q263 {d : Nat} {m : Mem} {a0 a1 : Int} (hd : 0 < d) (hz : TZ m) : le2 (gd (tg m a0 = 11) <| bI (cl (d - 1) 264 [pR a0] m) fun v1 m1 => if v1 = 0 then (some (.inl none, m1)) else nm (vl m1 a0 32) fun v2 => nm (vl m1 a0 33) fun v3 => gd (tg m1 v2 = 186101) <| gd ((0 : Int) ≤ v3 ∧ v3 < ln m1 v2) <| some (.inl none, (mst (mst m1 v2 v3 a1) a0 33 (w32 (v3 + 1))))) (cl d 263 [pR a0, pI a1] m) := by
  refine q_in (n := 2) (L := [pR a0, pI a1]) rfl rfl rfl ?_
  refine r_aln0 (p := 1) f263_0 rfl ?_
  refine le2_gd (fun h1 => ?_)
  refine r_invI (p := 4) f263_1 rfl rfl rfl (Or.inl h1) hd (Nat.le_of_ble_eq_true rfl) rfl rfl rfl (fun _ => rfl) (fun v1 m1 c1 => ?_)
  have hz1 := z_k c1 hz
  refine r_ifne (t := 8) (p := 7) f263_4 (by decide) rfl rfl ?_ ?_
  · exact r_ret f263_7
  · refine r_aln0 (p := 9) f263_8 rfl ?_
    have h2 := k_t1 c1 hz h1 (by decide)
    refine r_gfR (f := 32) (p := 12) f263_9 rfl rfl rfl (Or.inl h2) rfl ?_
    refine r_nmR (fun v2 ev2 => ?_)
    refine r_aln0 (p := 13) f263_12 rfl ?_
    refine r_gfI (f := 33) (p := 16) f263_13 rfl rfl rfl (Or.inl h2) rfl ?_
    refine r_nmI (fun v3 ev3 => ?_)
    refine r_iln1 (p := 17) f263_16 rfl ?_
    refine le2_gd (fun h3 => ?_)
    refine le2_gd (fun h4 => ?_)
    refine r_iastore (p := 18) f263_17 rfl (dj1 (fun x => 1000 ≤ x ∧ x % 1000 = 101 ∧ Nat.testBit (eM 263) (bix x 0) = true) h3 (by decide)) h4 ?_
    refine r_aln0 (p := 19) f263_18 rfl ?_
    refine r_dup (p := 20) f263_19 rfl rfl ?_
    refine r_gfI (f := 33) (p := 23) f263_20 rfl rfl rfl (Or.inl h2) (Eq.trans (sk_o (ne_oa (dj1 (fun x => x < 100) h2 (by decide)) (dj1 (fun x => ¬ x < 100) h3 (by decide)))) ev3.symm) ?_
    refine r_iconst (p := 24) f263_23 rfl (pinD rfl rfl) ?_
    refine r_iadd (p := 25) f263_24 rfl ?_
    refine r_pfI (f := 33) (p := 28) f263_25 rfl rfl rfl (by decide) (by decide) (Or.inl h2) rfl ?_
    exact r_ret f263_28
/-! 264 PathStoreModel.worked ()Z -/
def w264_1 : List UInt8 := [181, 1, 240, 42, 180, 1, 240, 154, 0, 7, 4, 167, 0, 4, 3, 172]
abbrev u264_1 : List UInt8 := w264_1 ++ []
def w264_0 : List UInt8 := [42, 89, 180, 1, 237, 4, 96, 181, 1, 237, 42, 180, 1, 237, 17, 39, 16, 164, 0, 8, 42, 4]
abbrev u264_0 : List UInt8 := w264_0 ++ u264_1
theorem s264_0 : (prog_32_method_78_code).data.toList.drop 0 = u264_0 := by decide +kernel
theorem s264_1 : (prog_32_method_78_code).data.toList.drop 22 = u264_1 := dk_seg s264_0 22 rfl rfl
theorem Fm264 {pc len : Nat} {i : Instr} (h : decode (prog_32_method_78_code) pc = .ok (i, len)) (hl : len = ilen i len) : ft 264 pc = some (11, 4, 0, i, len) := ft_mk rfl h hl
theorem f264_0 : ft 264 0 = some (11, 4, 0, .aload_n 0, 1) := Fm264 (dk_42 (dk_at s264_0 0 rfl rfl)) rfl
theorem f264_1 : ft 264 1 = some (11, 4, 0, .dup, 1) := Fm264 (dk_89 (dk_at s264_0 1 rfl rfl)) rfl
theorem f264_2 : ft 264 2 = some (11, 4, 0, .getfield 493, 3) := Fm264 (dk_180 1 237 (dk_at s264_0 2 rfl rfl)) rfl
theorem f264_5 : ft 264 5 = some (11, 4, 0, .iconst 1, 1) := Fm264 (dk_4 (dk_at s264_0 5 rfl rfl)) rfl
theorem f264_6 : ft 264 6 = some (11, 4, 0, .iadd, 1) := Fm264 (dk_96 (dk_at s264_0 6 rfl rfl)) rfl
theorem f264_7 : ft 264 7 = some (11, 4, 0, .putfield 493, 3) := Fm264 (dk_181 1 237 (dk_at s264_0 7 rfl rfl)) rfl
theorem f264_10 : ft 264 10 = some (11, 4, 0, .aload_n 0, 1) := Fm264 (dk_42 (dk_at s264_0 10 rfl rfl)) rfl
theorem f264_11 : ft 264 11 = some (11, 4, 0, .getfield 493, 3) := Fm264 (dk_180 1 237 (dk_at s264_0 11 rfl rfl)) rfl
theorem f264_14 : ft 264 14 = some (11, 4, 0, .sipush 10000, 3) := Fm264 (dk_17 39 16 (dk_at s264_0 14 rfl rfl)) rfl
theorem f264_17 : ft 264 17 = some (11, 4, 0, .if_icmp .le 8, 3) := Fm264 (dk_164 0 8 (dk_at s264_0 17 rfl rfl)) rfl
theorem f264_20 : ft 264 20 = some (11, 4, 0, .aload_n 0, 1) := Fm264 (dk_42 (dk_at s264_0 20 rfl rfl)) rfl
theorem f264_21 : ft 264 21 = some (11, 4, 0, .iconst 1, 1) := Fm264 (dk_4 (dk_at s264_0 21 rfl rfl)) rfl
theorem f264_22 : ft 264 22 = some (11, 4, 0, .putfield 496, 3) := Fm264 (dk_181 1 240 (dk_at s264_1 0 rfl rfl)) rfl
theorem f264_25 : ft 264 25 = some (11, 4, 0, .aload_n 0, 1) := Fm264 (dk_42 (dk_at s264_1 3 rfl rfl)) rfl
theorem f264_26 : ft 264 26 = some (11, 4, 0, .getfield 496, 3) := Fm264 (dk_180 1 240 (dk_at s264_1 4 rfl rfl)) rfl
theorem f264_29 : ft 264 29 = some (11, 4, 0, .ifCond .ne 7, 3) := Fm264 (dk_154 0 7 (dk_at s264_1 7 rfl rfl)) rfl
theorem f264_32 : ft 264 32 = some (11, 4, 0, .iconst 1, 1) := Fm264 (dk_4 (dk_at s264_1 10 rfl rfl)) rfl
theorem f264_33 : ft 264 33 = some (11, 4, 0, .goto 4, 3) := Fm264 (dk_167 0 4 (dk_at s264_1 11 rfl rfl)) rfl
theorem f264_36 : ft 264 36 = some (11, 4, 0, .iconst 0, 1) := Fm264 (dk_3 (dk_at s264_1 14 rfl rfl)) rfl
theorem f264_37 : ft 264 37 = some (11, 4, 0, .ireturn, 1) := Fm264 (dk_172 (dk_at s264_1 15 rfl rfl)) rfl
theorem q264 {d : Nat} {m : Mem} {a0 : Int} (hz : TZ m) : le2 (gd (tg m a0 = 11) <| nm (w32 ((vl m a0 34) + 1)) fun v1 => if 10000 < v1 then (if (1 : Int) = 0 then (some (.inl (some (pI 1)), (mst (mst m a0 34 v1) a0 35 1))) else some (.inl (some (pI 0)), (mst (mst m a0 34 v1) a0 35 1))) else if (vl m a0 35) = 0 then (some (.inl (some (pI 1)), (mst m a0 34 v1))) else some (.inl (some (pI 0)), (mst m a0 34 v1))) (cl d 264 [pR a0] m) := by
  refine q_in (n := 1) (L := [pR a0]) rfl rfl rfl ?_
  refine r_aln0 (p := 1) f264_0 rfl ?_
  refine r_dup (p := 2) f264_1 rfl rfl ?_
  refine le2_gd (fun h1 => ?_)
  refine r_gfI (f := 34) (p := 5) f264_2 rfl rfl rfl (Or.inl h1) rfl ?_
  refine r_iconst (p := 6) f264_5 rfl (pinD rfl rfl) ?_
  refine r_iadd (p := 7) f264_6 rfl ?_
  refine r_nmI (fun v1 ev1 => ?_)
  refine r_pfI (f := 34) (p := 10) f264_7 rfl rfl rfl (by decide) (by decide) (Or.inl h1) rfl ?_
  refine r_aln0 (p := 11) f264_10 rfl ?_
  refine r_gfI (f := 34) (p := 14) f264_11 rfl rfl rfl (Or.inl h1) sk_s ?_
  refine r_sipush (p := 17) f264_14 rfl (pinD rfl rfl) ?_
  refine r_icle (t := 25) (p := 20) f264_17 (by decide) rfl rfl ?_ ?_
  · refine r_aln0 (p := 21) f264_20 rfl ?_
    refine r_iconst (p := 22) f264_21 rfl (pinD rfl rfl) ?_
    refine r_pfZ (f := 35) (p := 25) f264_22 rfl rfl rfl (by decide) (by decide) (Or.inl h1) rfl (by decide) ?_
    refine r_aln0 (p := 26) f264_25 rfl ?_
    refine r_gfIZ (f := 35) (p := 29) f264_26 rfl rfl rfl (Or.inl h1) sk_s ?_
    refine r_ifne (t := 36) (p := 32) f264_29 (by decide) rfl rfl ?_ ?_
    · refine r_iconst (p := 33) f264_32 rfl (pinD rfl rfl) ?_
      refine r_goto (p := 37) f264_33 (by decide) rfl ?_
      exact r_iret4 f264_37 (by decide)
    · refine r_iconst (p := 37) f264_36 rfl (pinD rfl rfl) ?_
      exact r_iret4 f264_37 (by decide)
  · refine r_aln0 (p := 26) f264_25 rfl ?_
    refine r_gfIZ (f := 35) (p := 29) f264_26 rfl rfl rfl (Or.inl h1) (sk_f (by decide)) ?_
    refine r_ifne (t := 36) (p := 32) f264_29 (by decide) rfl rfl ?_ ?_
    · refine r_iconst (p := 33) f264_32 rfl (pinD rfl rfl) ?_
      refine r_goto (p := 37) f264_33 (by decide) rfl ?_
      exact r_iret4 f264_37 (by decide)
    · refine r_iconst (p := 37) f264_36 rfl (pinD rfl rfl) ?_
      exact r_iret4 f264_37 (by decide)
/-! 265 PathStoreModel.descend (II)V -/
def w265_2 : List UInt8 := [29, 46, 62, 167, 255, 229, 177]
abbrev u265_2 : List UInt8 := w265_2 ++ []
def w265_1 : List UInt8 := [29, 155, 0, 29, 42, 180, 1, 240, 154, 0, 22, 42, 27, 29, 182, 1, 255, 42, 180, 0, 102, 180, 0, 24]
abbrev u265_1 : List UInt8 := w265_1 ++ u265_2
def w265_0 : List UInt8 := [42, 182, 1, 243, 154, 0, 4, 177, 42, 27, 28, 182, 2, 2, 42, 180, 0, 102, 180, 0, 17, 28, 46, 62]
abbrev u265_0 : List UInt8 := w265_0 ++ u265_1
theorem s265_0 : (prog_32_method_81_code).data.toList.drop 0 = u265_0 := by decide +kernel
theorem s265_1 : (prog_32_method_81_code).data.toList.drop 24 = u265_1 := dk_seg s265_0 24 rfl rfl
theorem s265_2 : (prog_32_method_81_code).data.toList.drop 48 = u265_2 := dk_seg s265_1 24 rfl rfl
theorem Fm265 {pc len : Nat} {i : Instr} (h : decode (prog_32_method_81_code) pc = .ok (i, len)) (hl : len = ilen i len) : ft 265 pc = some (11, 0, 0, i, len) := ft_mk rfl h hl
theorem f265_0 : ft 265 0 = some (11, 0, 0, .aload_n 0, 1) := Fm265 (dk_42 (dk_at s265_0 0 rfl rfl)) rfl
theorem f265_1 : ft 265 1 = some (11, 0, 0, .invokevirtual 499, 3) := Fm265 (dk_182 1 243 (dk_at s265_0 1 rfl rfl)) rfl
theorem f265_4 : ft 265 4 = some (11, 0, 0, .ifCond .ne 4, 3) := Fm265 (dk_154 0 4 (dk_at s265_0 4 rfl rfl)) rfl
theorem f265_7 : ft 265 7 = some (11, 0, 0, .return_, 1) := Fm265 (dk_177 (dk_at s265_0 7 rfl rfl)) rfl
theorem f265_8 : ft 265 8 = some (11, 0, 0, .aload_n 0, 1) := Fm265 (dk_42 (dk_at s265_0 8 rfl rfl)) rfl
theorem f265_9 : ft 265 9 = some (11, 0, 0, .iload_n 1, 1) := Fm265 (dk_27 (dk_at s265_0 9 rfl rfl)) rfl
theorem f265_10 : ft 265 10 = some (11, 0, 0, .iload_n 2, 1) := Fm265 (dk_28 (dk_at s265_0 10 rfl rfl)) rfl
theorem f265_11 : ft 265 11 = some (11, 0, 0, .invokevirtual 514, 3) := Fm265 (dk_182 2 2 (dk_at s265_0 11 rfl rfl)) rfl
theorem f265_14 : ft 265 14 = some (11, 0, 0, .aload_n 0, 1) := Fm265 (dk_42 (dk_at s265_0 14 rfl rfl)) rfl
theorem f265_15 : ft 265 15 = some (11, 0, 0, .getfield 102, 3) := Fm265 (dk_180 0 102 (dk_at s265_0 15 rfl rfl)) rfl
theorem f265_18 : ft 265 18 = some (11, 0, 0, .getfield 17, 3) := Fm265 (dk_180 0 17 (dk_at s265_0 18 rfl rfl)) rfl
theorem f265_21 : ft 265 21 = some (11, 0, 0, .iload_n 2, 1) := Fm265 (dk_28 (dk_at s265_0 21 rfl rfl)) rfl
theorem f265_22 : ft 265 22 = some (11, 0, 0, .iaload, 1) := Fm265 (dk_46 (dk_at s265_0 22 rfl rfl)) rfl
theorem f265_23 : ft 265 23 = some (11, 0, 0, .istore_n 3, 1) := Fm265 (dk_62 (dk_at s265_0 23 rfl rfl)) rfl
theorem f265_24 : ft 265 24 = some (11, 0, 0, .iload_n 3, 1) := Fm265 (dk_29 (dk_at s265_1 0 rfl rfl)) rfl
theorem f265_25 : ft 265 25 = some (11, 0, 0, .ifCond .lt 29, 3) := Fm265 (dk_155 0 29 (dk_at s265_1 1 rfl rfl)) rfl
theorem f265_28 : ft 265 28 = some (11, 0, 0, .aload_n 0, 1) := Fm265 (dk_42 (dk_at s265_1 4 rfl rfl)) rfl
theorem f265_29 : ft 265 29 = some (11, 0, 0, .getfield 496, 3) := Fm265 (dk_180 1 240 (dk_at s265_1 5 rfl rfl)) rfl
theorem f265_32 : ft 265 32 = some (11, 0, 0, .ifCond .ne 22, 3) := Fm265 (dk_154 0 22 (dk_at s265_1 8 rfl rfl)) rfl
theorem f265_35 : ft 265 35 = some (11, 0, 0, .aload_n 0, 1) := Fm265 (dk_42 (dk_at s265_1 11 rfl rfl)) rfl
theorem f265_36 : ft 265 36 = some (11, 0, 0, .iload_n 1, 1) := Fm265 (dk_27 (dk_at s265_1 12 rfl rfl)) rfl
theorem f265_37 : ft 265 37 = some (11, 0, 0, .iload_n 3, 1) := Fm265 (dk_29 (dk_at s265_1 13 rfl rfl)) rfl
theorem f265_38 : ft 265 38 = some (11, 0, 0, .invokevirtual 511, 3) := Fm265 (dk_182 1 255 (dk_at s265_1 14 rfl rfl)) rfl
theorem f265_41 : ft 265 41 = some (11, 0, 0, .aload_n 0, 1) := Fm265 (dk_42 (dk_at s265_1 17 rfl rfl)) rfl
theorem f265_42 : ft 265 42 = some (11, 0, 0, .getfield 102, 3) := Fm265 (dk_180 0 102 (dk_at s265_1 18 rfl rfl)) rfl
theorem f265_45 : ft 265 45 = some (11, 0, 0, .getfield 24, 3) := Fm265 (dk_180 0 24 (dk_at s265_1 21 rfl rfl)) rfl
theorem f265_48 : ft 265 48 = some (11, 0, 0, .iload_n 3, 1) := Fm265 (dk_29 (dk_at s265_2 0 rfl rfl)) rfl
theorem f265_49 : ft 265 49 = some (11, 0, 0, .iaload, 1) := Fm265 (dk_46 (dk_at s265_2 1 rfl rfl)) rfl
theorem f265_50 : ft 265 50 = some (11, 0, 0, .istore_n 3, 1) := Fm265 (dk_62 (dk_at s265_2 2 rfl rfl)) rfl
theorem f265_51 : ft 265 51 = some (11, 0, 0, .goto (-27), 3) := Fm265 (dk_167 255 229 (dk_at s265_2 3 rfl rfl)) rfl
theorem f265_54 : ft 265 54 = some (11, 0, 0, .return_, 1) := Fm265 (dk_177 (dk_at s265_2 6 rfl rfl)) rfl
theorem q265 {d : Nat} {m : Mem} {a0 a1 a2 : Int} (hd : 0 < d) (hz : TZ m) : le2 (gd (tg m a0 = 11) <| bI (cl (d - 1) 264 [pR a0] m) fun v1 m1 => if v1 = 0 then (some (.inl none, m1)) else bV (cl (d - 1) 266 [pR a0, pI a1, pI a2] m1) fun m2 => nm (vl m2 a0 18) fun v3 => gd (tg m2 v3 = 13) <| nm (vl m2 v3 4) fun v4 => gd (tg m2 v4 = 284101 ∨ tg m2 v4 = 287101) <| gd ((0 : Int) ≤ a2 ∧ a2 < ln m2 v4) <| rn d 265 24 [pR a0, pI a1, pI a2, pI (vl m2 v4 a2)] [] m2) (cl d 265 [pR a0, pI a1, pI a2] m) := by
  refine q_in (n := 4) (L := [pR a0, pI a1, pI a2, pU]) rfl rfl rfl ?_
  refine r_aln0 (p := 1) f265_0 rfl ?_
  refine le2_gd (fun h1 => ?_)
  refine r_invI (p := 4) f265_1 rfl rfl rfl (Or.inl h1) hd (Nat.le_of_ble_eq_true rfl) rfl rfl rfl (fun _ => rfl) (fun v1 m1 c1 => ?_)
  have hz1 := z_k c1 hz
  refine r_ifne (t := 8) (p := 7) f265_4 (by decide) rfl rfl ?_ ?_
  · exact r_ret f265_7
  · refine r_aln0 (p := 9) f265_8 rfl ?_
    refine r_iln1 (p := 10) f265_9 rfl ?_
    refine r_iln2 (p := 11) f265_10 rfl ?_
    have h2 := k_t1 c1 hz h1 (by decide)
    refine r_invV (p := 14) f265_11 rfl rfl rfl (Or.inl h2) hd (Nat.le_of_ble_eq_true rfl) rfl rfl rfl (fun _ => rfl) (fun m2 c2 => ?_)
    have hz2 := z_k c2 hz1
    refine r_aln0 (p := 15) f265_14 rfl ?_
    have h3 := k_t1 c2 hz1 h2 (by decide)
    refine r_gfR (f := 18) (p := 18) f265_15 rfl rfl rfl (Or.inl h3) rfl ?_
    refine r_nmR (fun v3 ev3 => ?_)
    refine le2_gd (fun h4 => ?_)
    refine r_gfR (f := 4) (p := 21) f265_18 rfl rfl rfl (Or.inl h4) rfl ?_
    refine r_nmR (fun v4 ev4 => ?_)
    refine r_iln2 (p := 22) f265_21 rfl ?_
    refine le2_gd (fun h5 => ?_)
    refine le2_gd (fun h6 => ?_)
    refine r_iaload (p := 23) f265_22 rfl (dj2 (fun x => x % 1000 = 101) h5 (by decide) (by decide)) h6 rfl ?_
    refine r_isn3 (p := 24) f265_23 rfl rfl ?_
    exact le2_refl _
theorem q265_24 {d : Nat} {m : Mem} {a0 a1 a2 a3 : Int} (hd : 0 < d) (hz : TZ m) : le2 (if a3 < 0 then (some (.inl none, m)) else gd (tg m a0 = 11) <| if (vl m a0 35) = 0 then (bV (cl (d - 1) 265 [pR a0, pI a1, pI a3] m) fun m1 => nm (vl m1 a0 18) fun v2 => gd (tg m1 v2 = 13) <| nm (vl m1 v2 5) fun v3 => gd (tg m1 v3 = 284101 ∨ tg m1 v3 = 287101) <| gd ((0 : Int) ≤ a3 ∧ a3 < ln m1 v3) <| rn d 265 24 [pR a0, pI a1, pI a2, pI (vl m1 v3 a3)] [] m1) else some (.inl none, m)) (rn d 265 24 [pR a0, pI a1, pI a2, pI a3] [] m) := by
  refine r_iln3 (p := 25) f265_24 rfl ?_
  refine r_iflt (t := 54) (p := 28) f265_25 (by decide) rfl rfl ?_ ?_
  · exact r_ret f265_54
  · refine r_aln0 (p := 29) f265_28 rfl ?_
    refine le2_gd (fun h1 => ?_)
    refine r_gfIZ (f := 35) (p := 32) f265_29 rfl rfl rfl (Or.inl h1) rfl ?_
    refine r_ifne (t := 54) (p := 35) f265_32 (by decide) rfl rfl ?_ ?_
    · refine r_aln0 (p := 36) f265_35 rfl ?_
      refine r_iln1 (p := 37) f265_36 rfl ?_
      refine r_iln3 (p := 38) f265_37 rfl ?_
      refine r_invV (p := 41) f265_38 rfl rfl rfl (Or.inl h1) hd (Nat.le_of_ble_eq_true rfl) rfl rfl rfl (fun _ => rfl) (fun m1 c1 => ?_)
      have hz1 := z_k c1 hz
      refine r_aln0 (p := 42) f265_41 rfl ?_
      have h2 := k_t1 c1 hz h1 (by decide)
      refine r_gfR (f := 18) (p := 45) f265_42 rfl rfl rfl (Or.inl h2) rfl ?_
      refine r_nmR (fun v2 ev2 => ?_)
      refine le2_gd (fun h3 => ?_)
      refine r_gfR (f := 5) (p := 48) f265_45 rfl rfl rfl (Or.inl h3) rfl ?_
      refine r_nmR (fun v3 ev3 => ?_)
      refine r_iln3 (p := 49) f265_48 rfl ?_
      refine le2_gd (fun h4 => ?_)
      refine le2_gd (fun h5 => ?_)
      refine r_iaload (p := 50) f265_49 rfl (dj2 (fun x => x % 1000 = 101) h4 (by decide) (by decide)) h5 rfl ?_
      refine r_isn3 (p := 51) f265_50 rfl rfl ?_
      refine r_goto (p := 24) f265_51 (by decide) rfl ?_
      exact le2_refl _
    · exact r_ret f265_54
/-! 266 PathStoreModel.select (II)V -/
def w266_9 : List UInt8 := [167, 255, 182, 42, 29, 4, 182, 1, 186, 62, 167, 255, 44, 177]
abbrev u266_9 : List UInt8 := w266_9 ++ []
def w266_8 : List UInt8 := [180, 1, 240, 154, 0, 9, 42, 21, 5, 182, 1, 252, 42, 180, 0, 102, 180, 0, 24, 21, 5, 46, 54, 5]
abbrev u266_8 : List UInt8 := w266_8 ++ u266_9
def w266_7 : List UInt8 := [182, 1, 243, 153, 0, 31, 42, 42, 29, 5, 182, 1, 186, 21, 5, 182, 2, 7, 153, 0, 16, 42]
abbrev u266_7 : List UInt8 := w266_7 ++ u266_8
def w266_6 : List UInt8 := [180, 1, 240, 154, 0, 68, 21, 4, 5, 160, 0, 12, 42, 21, 5, 182, 1, 252, 167, 0, 38, 42]
abbrev u266_6 : List UInt8 := w266_6 ++ u266_7
def w266_5 : List UInt8 := [28, 182, 2, 5, 167, 0, 91, 42, 180, 0, 102, 180, 0, 17, 28, 46, 54, 5, 21, 5, 155, 0, 75, 42]
abbrev u266_5 : List UInt8 := w266_5 ++ u266_6
def w266_4 : List UInt8 := [159, 0, 9, 21, 4, 7, 160, 0, 25, 42, 180, 0, 102, 180, 0, 1, 28, 46, 8, 160, 0, 100, 42, 29]
abbrev u266_4 : List UInt8 := w266_4 ++ u266_5
def w266_3 : List UInt8 := [167, 0, 4, 2, 54, 5, 21, 5, 155, 0, 9, 42, 21, 5, 182, 1, 252, 167, 0, 125, 21, 4, 6]
abbrev u266_3 : List UInt8 := w266_3 ++ u266_4
def w266_2 : List UInt8 := [180, 0, 102, 28, 42, 180, 0, 127, 42, 29, 5, 182, 1, 186, 42, 29, 6, 182, 1, 186, 182, 0, 37]
abbrev u266_2 : List UInt8 := w266_2 ++ u266_3
def w266_1 : List UInt8 := [54, 4, 21, 4, 4, 160, 0, 61, 42, 180, 0, 102, 180, 0, 1, 28, 46, 16, 6, 160, 0, 30, 42]
abbrev u266_1 : List UInt8 := w266_1 ++ u266_2
def w266_0 : List UInt8 := [42, 27, 5, 182, 1, 186, 62, 29, 155, 0, 214, 42, 180, 1, 240, 154, 0, 207, 42, 29, 3, 182, 1, 186]
abbrev u266_0 : List UInt8 := w266_0 ++ u266_1
theorem s266_0 : (prog_32_method_82_code).data.toList.drop 0 = u266_0 := by decide +kernel
theorem s266_1 : (prog_32_method_82_code).data.toList.drop 24 = u266_1 := dk_seg s266_0 24 rfl rfl
theorem s266_2 : (prog_32_method_82_code).data.toList.drop 47 = u266_2 := dk_seg s266_1 23 rfl rfl
theorem s266_3 : (prog_32_method_82_code).data.toList.drop 70 = u266_3 := dk_seg s266_2 23 rfl rfl
theorem s266_4 : (prog_32_method_82_code).data.toList.drop 93 = u266_4 := dk_seg s266_3 23 rfl rfl
theorem s266_5 : (prog_32_method_82_code).data.toList.drop 117 = u266_5 := dk_seg s266_4 24 rfl rfl
theorem s266_6 : (prog_32_method_82_code).data.toList.drop 141 = u266_6 := dk_seg s266_5 24 rfl rfl
theorem s266_7 : (prog_32_method_82_code).data.toList.drop 163 = u266_7 := dk_seg s266_6 22 rfl rfl
theorem s266_8 : (prog_32_method_82_code).data.toList.drop 185 = u266_8 := dk_seg s266_7 22 rfl rfl
theorem s266_9 : (prog_32_method_82_code).data.toList.drop 209 = u266_9 := dk_seg s266_8 24 rfl rfl
theorem Fm266 {pc len : Nat} {i : Instr} (h : decode (prog_32_method_82_code) pc = .ok (i, len)) (hl : len = ilen i len) : ft 266 pc = some (11, 0, 0, i, len) := ft_mk rfl h hl
theorem f266_0 : ft 266 0 = some (11, 0, 0, .aload_n 0, 1) := Fm266 (dk_42 (dk_at s266_0 0 rfl rfl)) rfl
theorem f266_1 : ft 266 1 = some (11, 0, 0, .iload_n 1, 1) := Fm266 (dk_27 (dk_at s266_0 1 rfl rfl)) rfl
theorem f266_2 : ft 266 2 = some (11, 0, 0, .iconst 2, 1) := Fm266 (dk_5 (dk_at s266_0 2 rfl rfl)) rfl
theorem f266_3 : ft 266 3 = some (11, 0, 0, .invokevirtual 442, 3) := Fm266 (dk_182 1 186 (dk_at s266_0 3 rfl rfl)) rfl
theorem f266_6 : ft 266 6 = some (11, 0, 0, .istore_n 3, 1) := Fm266 (dk_62 (dk_at s266_0 6 rfl rfl)) rfl
theorem f266_7 : ft 266 7 = some (11, 0, 0, .iload_n 3, 1) := Fm266 (dk_29 (dk_at s266_0 7 rfl rfl)) rfl
theorem f266_8 : ft 266 8 = some (11, 0, 0, .ifCond .lt 214, 3) := Fm266 (dk_155 0 214 (dk_at s266_0 8 rfl rfl)) rfl
theorem f266_11 : ft 266 11 = some (11, 0, 0, .aload_n 0, 1) := Fm266 (dk_42 (dk_at s266_0 11 rfl rfl)) rfl
theorem f266_12 : ft 266 12 = some (11, 0, 0, .getfield 496, 3) := Fm266 (dk_180 1 240 (dk_at s266_0 12 rfl rfl)) rfl
theorem f266_15 : ft 266 15 = some (11, 0, 0, .ifCond .ne 207, 3) := Fm266 (dk_154 0 207 (dk_at s266_0 15 rfl rfl)) rfl
theorem f266_18 : ft 266 18 = some (11, 0, 0, .aload_n 0, 1) := Fm266 (dk_42 (dk_at s266_0 18 rfl rfl)) rfl
theorem f266_19 : ft 266 19 = some (11, 0, 0, .iload_n 3, 1) := Fm266 (dk_29 (dk_at s266_0 19 rfl rfl)) rfl
theorem f266_20 : ft 266 20 = some (11, 0, 0, .iconst 0, 1) := Fm266 (dk_3 (dk_at s266_0 20 rfl rfl)) rfl
theorem f266_21 : ft 266 21 = some (11, 0, 0, .invokevirtual 442, 3) := Fm266 (dk_182 1 186 (dk_at s266_0 21 rfl rfl)) rfl
theorem f266_24 : ft 266 24 = some (11, 0, 0, .istore 4, 2) := Fm266 (dk_54 4 (dk_at s266_1 0 rfl rfl)) rfl
theorem f266_26 : ft 266 26 = some (11, 0, 0, .iload 4, 2) := Fm266 (dk_21 4 (dk_at s266_1 2 rfl rfl)) rfl
theorem f266_28 : ft 266 28 = some (11, 0, 0, .iconst 1, 1) := Fm266 (dk_4 (dk_at s266_1 4 rfl rfl)) rfl
theorem f266_29 : ft 266 29 = some (11, 0, 0, .if_icmp .ne 61, 3) := Fm266 (dk_160 0 61 (dk_at s266_1 5 rfl rfl)) rfl
theorem f266_32 : ft 266 32 = some (11, 0, 0, .aload_n 0, 1) := Fm266 (dk_42 (dk_at s266_1 8 rfl rfl)) rfl
theorem f266_33 : ft 266 33 = some (11, 0, 0, .getfield 102, 3) := Fm266 (dk_180 0 102 (dk_at s266_1 9 rfl rfl)) rfl
theorem f266_36 : ft 266 36 = some (11, 0, 0, .getfield 1, 3) := Fm266 (dk_180 0 1 (dk_at s266_1 12 rfl rfl)) rfl
theorem f266_39 : ft 266 39 = some (11, 0, 0, .iload_n 2, 1) := Fm266 (dk_28 (dk_at s266_1 15 rfl rfl)) rfl
theorem f266_40 : ft 266 40 = some (11, 0, 0, .iaload, 1) := Fm266 (dk_46 (dk_at s266_1 16 rfl rfl)) rfl
theorem f266_41 : ft 266 41 = some (11, 0, 0, .bipush 6, 2) := Fm266 (dk_16 6 (dk_at s266_1 17 rfl rfl)) rfl
theorem f266_43 : ft 266 43 = some (11, 0, 0, .if_icmp .ne 30, 3) := Fm266 (dk_160 0 30 (dk_at s266_1 19 rfl rfl)) rfl
theorem f266_46 : ft 266 46 = some (11, 0, 0, .aload_n 0, 1) := Fm266 (dk_42 (dk_at s266_1 22 rfl rfl)) rfl
theorem f266_47 : ft 266 47 = some (11, 0, 0, .getfield 102, 3) := Fm266 (dk_180 0 102 (dk_at s266_2 0 rfl rfl)) rfl
theorem f266_50 : ft 266 50 = some (11, 0, 0, .iload_n 2, 1) := Fm266 (dk_28 (dk_at s266_2 3 rfl rfl)) rfl
theorem f266_51 : ft 266 51 = some (11, 0, 0, .aload_n 0, 1) := Fm266 (dk_42 (dk_at s266_2 4 rfl rfl)) rfl
theorem f266_52 : ft 266 52 = some (11, 0, 0, .getfield 127, 3) := Fm266 (dk_180 0 127 (dk_at s266_2 5 rfl rfl)) rfl
theorem f266_55 : ft 266 55 = some (11, 0, 0, .aload_n 0, 1) := Fm266 (dk_42 (dk_at s266_2 8 rfl rfl)) rfl
theorem f266_56 : ft 266 56 = some (11, 0, 0, .iload_n 3, 1) := Fm266 (dk_29 (dk_at s266_2 9 rfl rfl)) rfl
theorem f266_57 : ft 266 57 = some (11, 0, 0, .iconst 2, 1) := Fm266 (dk_5 (dk_at s266_2 10 rfl rfl)) rfl
theorem f266_58 : ft 266 58 = some (11, 0, 0, .invokevirtual 442, 3) := Fm266 (dk_182 1 186 (dk_at s266_2 11 rfl rfl)) rfl
theorem f266_61 : ft 266 61 = some (11, 0, 0, .aload_n 0, 1) := Fm266 (dk_42 (dk_at s266_2 14 rfl rfl)) rfl
theorem f266_62 : ft 266 62 = some (11, 0, 0, .iload_n 3, 1) := Fm266 (dk_29 (dk_at s266_2 15 rfl rfl)) rfl
theorem f266_63 : ft 266 63 = some (11, 0, 0, .iconst 3, 1) := Fm266 (dk_6 (dk_at s266_2 16 rfl rfl)) rfl
theorem f266_64 : ft 266 64 = some (11, 0, 0, .invokevirtual 442, 3) := Fm266 (dk_182 1 186 (dk_at s266_2 17 rfl rfl)) rfl
theorem f266_67 : ft 266 67 = some (11, 0, 0, .invokevirtual 37, 3) := Fm266 (dk_182 0 37 (dk_at s266_2 20 rfl rfl)) rfl
theorem f266_70 : ft 266 70 = some (11, 0, 0, .goto 4, 3) := Fm266 (dk_167 0 4 (dk_at s266_3 0 rfl rfl)) rfl
theorem f266_73 : ft 266 73 = some (11, 0, 0, .iconst (-1), 1) := Fm266 (dk_2 (dk_at s266_3 3 rfl rfl)) rfl
theorem f266_74 : ft 266 74 = some (11, 0, 0, .istore 5, 2) := Fm266 (dk_54 5 (dk_at s266_3 4 rfl rfl)) rfl
theorem f266_76 : ft 266 76 = some (11, 0, 0, .iload 5, 2) := Fm266 (dk_21 5 (dk_at s266_3 6 rfl rfl)) rfl
theorem f266_78 : ft 266 78 = some (11, 0, 0, .ifCond .lt 9, 3) := Fm266 (dk_155 0 9 (dk_at s266_3 8 rfl rfl)) rfl
theorem f266_81 : ft 266 81 = some (11, 0, 0, .aload_n 0, 1) := Fm266 (dk_42 (dk_at s266_3 11 rfl rfl)) rfl
theorem f266_82 : ft 266 82 = some (11, 0, 0, .iload 5, 2) := Fm266 (dk_21 5 (dk_at s266_3 12 rfl rfl)) rfl
theorem f266_84 : ft 266 84 = some (11, 0, 0, .invokevirtual 508, 3) := Fm266 (dk_182 1 252 (dk_at s266_3 14 rfl rfl)) rfl
theorem f266_87 : ft 266 87 = some (11, 0, 0, .goto 125, 3) := Fm266 (dk_167 0 125 (dk_at s266_3 17 rfl rfl)) rfl
theorem f266_90 : ft 266 90 = some (11, 0, 0, .iload 4, 2) := Fm266 (dk_21 4 (dk_at s266_3 20 rfl rfl)) rfl
theorem f266_92 : ft 266 92 = some (11, 0, 0, .iconst 3, 1) := Fm266 (dk_6 (dk_at s266_3 22 rfl rfl)) rfl
theorem f266_93 : ft 266 93 = some (11, 0, 0, .if_icmp .eq 9, 3) := Fm266 (dk_159 0 9 (dk_at s266_4 0 rfl rfl)) rfl
theorem f266_96 : ft 266 96 = some (11, 0, 0, .iload 4, 2) := Fm266 (dk_21 4 (dk_at s266_4 3 rfl rfl)) rfl
theorem f266_98 : ft 266 98 = some (11, 0, 0, .iconst 4, 1) := Fm266 (dk_7 (dk_at s266_4 5 rfl rfl)) rfl
theorem f266_99 : ft 266 99 = some (11, 0, 0, .if_icmp .ne 25, 3) := Fm266 (dk_160 0 25 (dk_at s266_4 6 rfl rfl)) rfl
theorem f266_102 : ft 266 102 = some (11, 0, 0, .aload_n 0, 1) := Fm266 (dk_42 (dk_at s266_4 9 rfl rfl)) rfl
theorem f266_103 : ft 266 103 = some (11, 0, 0, .getfield 102, 3) := Fm266 (dk_180 0 102 (dk_at s266_4 10 rfl rfl)) rfl
theorem f266_106 : ft 266 106 = some (11, 0, 0, .getfield 1, 3) := Fm266 (dk_180 0 1 (dk_at s266_4 13 rfl rfl)) rfl
theorem f266_109 : ft 266 109 = some (11, 0, 0, .iload_n 2, 1) := Fm266 (dk_28 (dk_at s266_4 16 rfl rfl)) rfl
theorem f266_110 : ft 266 110 = some (11, 0, 0, .iaload, 1) := Fm266 (dk_46 (dk_at s266_4 17 rfl rfl)) rfl
theorem f266_111 : ft 266 111 = some (11, 0, 0, .iconst 5, 1) := Fm266 (dk_8 (dk_at s266_4 18 rfl rfl)) rfl
theorem f266_112 : ft 266 112 = some (11, 0, 0, .if_icmp .ne 100, 3) := Fm266 (dk_160 0 100 (dk_at s266_4 19 rfl rfl)) rfl
theorem f266_115 : ft 266 115 = some (11, 0, 0, .aload_n 0, 1) := Fm266 (dk_42 (dk_at s266_4 22 rfl rfl)) rfl
theorem f266_116 : ft 266 116 = some (11, 0, 0, .iload_n 3, 1) := Fm266 (dk_29 (dk_at s266_4 23 rfl rfl)) rfl
theorem f266_117 : ft 266 117 = some (11, 0, 0, .iload_n 2, 1) := Fm266 (dk_28 (dk_at s266_5 0 rfl rfl)) rfl
theorem f266_118 : ft 266 118 = some (11, 0, 0, .invokevirtual 517, 3) := Fm266 (dk_182 2 5 (dk_at s266_5 1 rfl rfl)) rfl
theorem f266_121 : ft 266 121 = some (11, 0, 0, .goto 91, 3) := Fm266 (dk_167 0 91 (dk_at s266_5 4 rfl rfl)) rfl
theorem f266_124 : ft 266 124 = some (11, 0, 0, .aload_n 0, 1) := Fm266 (dk_42 (dk_at s266_5 7 rfl rfl)) rfl
theorem f266_125 : ft 266 125 = some (11, 0, 0, .getfield 102, 3) := Fm266 (dk_180 0 102 (dk_at s266_5 8 rfl rfl)) rfl
theorem f266_128 : ft 266 128 = some (11, 0, 0, .getfield 17, 3) := Fm266 (dk_180 0 17 (dk_at s266_5 11 rfl rfl)) rfl
theorem f266_131 : ft 266 131 = some (11, 0, 0, .iload_n 2, 1) := Fm266 (dk_28 (dk_at s266_5 14 rfl rfl)) rfl
theorem f266_132 : ft 266 132 = some (11, 0, 0, .iaload, 1) := Fm266 (dk_46 (dk_at s266_5 15 rfl rfl)) rfl
theorem f266_133 : ft 266 133 = some (11, 0, 0, .istore 5, 2) := Fm266 (dk_54 5 (dk_at s266_5 16 rfl rfl)) rfl
theorem f266_135 : ft 266 135 = some (11, 0, 0, .iload 5, 2) := Fm266 (dk_21 5 (dk_at s266_5 18 rfl rfl)) rfl
theorem f266_137 : ft 266 137 = some (11, 0, 0, .ifCond .lt 75, 3) := Fm266 (dk_155 0 75 (dk_at s266_5 20 rfl rfl)) rfl
theorem f266_140 : ft 266 140 = some (11, 0, 0, .aload_n 0, 1) := Fm266 (dk_42 (dk_at s266_5 23 rfl rfl)) rfl
theorem f266_141 : ft 266 141 = some (11, 0, 0, .getfield 496, 3) := Fm266 (dk_180 1 240 (dk_at s266_6 0 rfl rfl)) rfl
theorem f266_144 : ft 266 144 = some (11, 0, 0, .ifCond .ne 68, 3) := Fm266 (dk_154 0 68 (dk_at s266_6 3 rfl rfl)) rfl
theorem f266_147 : ft 266 147 = some (11, 0, 0, .iload 4, 2) := Fm266 (dk_21 4 (dk_at s266_6 6 rfl rfl)) rfl
theorem f266_149 : ft 266 149 = some (11, 0, 0, .iconst 2, 1) := Fm266 (dk_5 (dk_at s266_6 8 rfl rfl)) rfl
theorem f266_150 : ft 266 150 = some (11, 0, 0, .if_icmp .ne 12, 3) := Fm266 (dk_160 0 12 (dk_at s266_6 9 rfl rfl)) rfl
theorem f266_153 : ft 266 153 = some (11, 0, 0, .aload_n 0, 1) := Fm266 (dk_42 (dk_at s266_6 12 rfl rfl)) rfl
theorem f266_154 : ft 266 154 = some (11, 0, 0, .iload 5, 2) := Fm266 (dk_21 5 (dk_at s266_6 13 rfl rfl)) rfl
theorem f266_156 : ft 266 156 = some (11, 0, 0, .invokevirtual 508, 3) := Fm266 (dk_182 1 252 (dk_at s266_6 15 rfl rfl)) rfl
theorem f266_159 : ft 266 159 = some (11, 0, 0, .goto 38, 3) := Fm266 (dk_167 0 38 (dk_at s266_6 18 rfl rfl)) rfl
theorem f266_162 : ft 266 162 = some (11, 0, 0, .aload_n 0, 1) := Fm266 (dk_42 (dk_at s266_6 21 rfl rfl)) rfl
theorem f266_163 : ft 266 163 = some (11, 0, 0, .invokevirtual 499, 3) := Fm266 (dk_182 1 243 (dk_at s266_7 0 rfl rfl)) rfl
theorem f266_166 : ft 266 166 = some (11, 0, 0, .ifCond .eq 31, 3) := Fm266 (dk_153 0 31 (dk_at s266_7 3 rfl rfl)) rfl
theorem f266_169 : ft 266 169 = some (11, 0, 0, .aload_n 0, 1) := Fm266 (dk_42 (dk_at s266_7 6 rfl rfl)) rfl
theorem f266_170 : ft 266 170 = some (11, 0, 0, .aload_n 0, 1) := Fm266 (dk_42 (dk_at s266_7 7 rfl rfl)) rfl
theorem f266_171 : ft 266 171 = some (11, 0, 0, .iload_n 3, 1) := Fm266 (dk_29 (dk_at s266_7 8 rfl rfl)) rfl
theorem f266_172 : ft 266 172 = some (11, 0, 0, .iconst 2, 1) := Fm266 (dk_5 (dk_at s266_7 9 rfl rfl)) rfl
theorem f266_173 : ft 266 173 = some (11, 0, 0, .invokevirtual 442, 3) := Fm266 (dk_182 1 186 (dk_at s266_7 10 rfl rfl)) rfl
theorem f266_176 : ft 266 176 = some (11, 0, 0, .iload 5, 2) := Fm266 (dk_21 5 (dk_at s266_7 13 rfl rfl)) rfl
theorem f266_178 : ft 266 178 = some (11, 0, 0, .invokevirtual 519, 3) := Fm266 (dk_182 2 7 (dk_at s266_7 15 rfl rfl)) rfl
theorem f266_181 : ft 266 181 = some (11, 0, 0, .ifCond .eq 16, 3) := Fm266 (dk_153 0 16 (dk_at s266_7 18 rfl rfl)) rfl
theorem f266_184 : ft 266 184 = some (11, 0, 0, .aload_n 0, 1) := Fm266 (dk_42 (dk_at s266_7 21 rfl rfl)) rfl
theorem f266_185 : ft 266 185 = some (11, 0, 0, .getfield 496, 3) := Fm266 (dk_180 1 240 (dk_at s266_8 0 rfl rfl)) rfl
theorem f266_188 : ft 266 188 = some (11, 0, 0, .ifCond .ne 9, 3) := Fm266 (dk_154 0 9 (dk_at s266_8 3 rfl rfl)) rfl
theorem f266_191 : ft 266 191 = some (11, 0, 0, .aload_n 0, 1) := Fm266 (dk_42 (dk_at s266_8 6 rfl rfl)) rfl
theorem f266_192 : ft 266 192 = some (11, 0, 0, .iload 5, 2) := Fm266 (dk_21 5 (dk_at s266_8 7 rfl rfl)) rfl
theorem f266_194 : ft 266 194 = some (11, 0, 0, .invokevirtual 508, 3) := Fm266 (dk_182 1 252 (dk_at s266_8 9 rfl rfl)) rfl
theorem f266_197 : ft 266 197 = some (11, 0, 0, .aload_n 0, 1) := Fm266 (dk_42 (dk_at s266_8 12 rfl rfl)) rfl
theorem f266_198 : ft 266 198 = some (11, 0, 0, .getfield 102, 3) := Fm266 (dk_180 0 102 (dk_at s266_8 13 rfl rfl)) rfl
theorem f266_201 : ft 266 201 = some (11, 0, 0, .getfield 24, 3) := Fm266 (dk_180 0 24 (dk_at s266_8 16 rfl rfl)) rfl
theorem f266_204 : ft 266 204 = some (11, 0, 0, .iload 5, 2) := Fm266 (dk_21 5 (dk_at s266_8 19 rfl rfl)) rfl
theorem f266_206 : ft 266 206 = some (11, 0, 0, .iaload, 1) := Fm266 (dk_46 (dk_at s266_8 21 rfl rfl)) rfl
theorem f266_207 : ft 266 207 = some (11, 0, 0, .istore 5, 2) := Fm266 (dk_54 5 (dk_at s266_8 22 rfl rfl)) rfl
theorem f266_209 : ft 266 209 = some (11, 0, 0, .goto (-74), 3) := Fm266 (dk_167 255 182 (dk_at s266_9 0 rfl rfl)) rfl
theorem f266_212 : ft 266 212 = some (11, 0, 0, .aload_n 0, 1) := Fm266 (dk_42 (dk_at s266_9 3 rfl rfl)) rfl
theorem f266_213 : ft 266 213 = some (11, 0, 0, .iload_n 3, 1) := Fm266 (dk_29 (dk_at s266_9 4 rfl rfl)) rfl
theorem f266_214 : ft 266 214 = some (11, 0, 0, .iconst 1, 1) := Fm266 (dk_4 (dk_at s266_9 5 rfl rfl)) rfl
theorem f266_215 : ft 266 215 = some (11, 0, 0, .invokevirtual 442, 3) := Fm266 (dk_182 1 186 (dk_at s266_9 6 rfl rfl)) rfl
theorem f266_218 : ft 266 218 = some (11, 0, 0, .istore_n 3, 1) := Fm266 (dk_62 (dk_at s266_9 9 rfl rfl)) rfl
theorem f266_219 : ft 266 219 = some (11, 0, 0, .goto (-212), 3) := Fm266 (dk_167 255 44 (dk_at s266_9 10 rfl rfl)) rfl
theorem f266_222 : ft 266 222 = some (11, 0, 0, .return_, 1) := Fm266 (dk_177 (dk_at s266_9 13 rfl rfl)) rfl
theorem q266 {d : Nat} {m : Mem} {a0 a1 a2 : Int} (hd : 0 < d) (hz : TZ m) : le2 (gd (tg m a0 = 11) <| bI (cl (d - 1) 251 [pR a0, pI a1, pI 2] m) fun v1 m1 => rn d 266 7 [pR a0, pI a1, pI a2, pI v1, pU, pU] [] m1) (cl d 266 [pR a0, pI a1, pI a2] m) := by
  refine q_in (n := 6) (L := [pR a0, pI a1, pI a2, pU, pU, pU]) rfl rfl rfl ?_
  refine r_aln0 (p := 1) f266_0 rfl ?_
  refine r_iln1 (p := 2) f266_1 rfl ?_
  refine r_iconst (p := 3) f266_2 rfl (pinD rfl rfl) ?_
  refine le2_gd (fun h1 => ?_)
  refine r_invI (p := 6) f266_3 rfl rfl rfl (Or.inl h1) hd (Nat.le_of_ble_eq_true rfl) rfl rfl rfl (fun _ => rfl) (fun v1 m1 c1 => ?_)
  have hz1 := z_k c1 hz
  refine r_isn3 (p := 7) f266_6 rfl rfl ?_
  exact le2_refl _
theorem q266_7 {d : Nat} {m : Mem} {a0 a1 a2 a3 : Int} {z4 z5 : PV} (hd : 0 < d) (hz : TZ m) (hcz4 : cat z4 = 1) (hcz5 : cat z5 = 1) : le2 (if a3 < 0 then (some (.inl none, m)) else gd (tg m a0 = 11) <| if (vl m a0 35) = 0 then (bI (cl (d - 1) 251 [pR a0, pI a3, pI 0] m) fun v1 m1 => if v1 = 1 then (nm (vl m1 a0 18) fun v5 => gd (tg m1 v5 = 13) <| nm (vl m1 v5 0) fun v6 => gd (tg m1 v6 = 284101 ∨ tg m1 v6 = 287101) <| gd ((0 : Int) ≤ a2 ∧ a2 < ln m1 v6) <| if (vl m1 v6 a2) = 6 then (bI (cl (d - 1) 251 [pR a0, pI a3, pI 2] m1) fun v2 m2 => bI (cl (d - 1) 251 [pR a0, pI a3, pI 3] m2) fun v3 m3 => bI (cl (d - 1) 288 [pR v5, pI a2, pR (vl m1 a0 30), pI v2, pI v3] m3) fun v4 m4 => rn d 266 74 [pR a0, pI a1, pI a2, pI a3, pI v1, z5] [pI v4] m4) else rn d 266 74 [pR a0, pI a1, pI a2, pI a3, pI v1, z5] [pI (-1)] m1) else if v1 = 3 then (rn d 266 102 [pR a0, pI a1, pI a2, pI a3, pI v1, z5] [] m1) else if v1 = 4 then (rn d 266 102 [pR a0, pI a1, pI a2, pI a3, pI v1, z5] [] m1) else nm (vl m1 a0 18) fun v7 => gd (tg m1 v7 = 13) <| nm (vl m1 v7 4) fun v8 => gd (tg m1 v8 = 284101 ∨ tg m1 v8 = 287101) <| gd ((0 : Int) ≤ a2 ∧ a2 < ln m1 v8) <| rn d 266 135 [pR a0, pI a1, pI a2, pI a3, pI v1, pI (vl m1 v8 a2)] [] m1) else some (.inl none, m)) (rn d 266 7 [pR a0, pI a1, pI a2, pI a3, z4, z5] [] m) := by
  refine r_iln3 (p := 8) f266_7 rfl ?_
  refine r_iflt (t := 222) (p := 11) f266_8 (by decide) rfl rfl ?_ ?_
  · exact r_ret f266_222
  · refine r_aln0 (p := 12) f266_11 rfl ?_
    refine le2_gd (fun h1 => ?_)
    refine r_gfIZ (f := 35) (p := 15) f266_12 rfl rfl rfl (Or.inl h1) rfl ?_
    refine r_ifne (t := 222) (p := 18) f266_15 (by decide) rfl rfl ?_ ?_
    · refine r_aln0 (p := 19) f266_18 rfl ?_
      refine r_iln3 (p := 20) f266_19 rfl ?_
      refine r_iconst (p := 21) f266_20 rfl (pinD rfl rfl) ?_
      refine r_invI (p := 24) f266_21 rfl rfl rfl (Or.inl h1) hd (Nat.le_of_ble_eq_true rfl) rfl rfl rfl (fun _ => rfl) (fun v1 m1 c1 => ?_)
      have hz1 := z_k c1 hz
      refine r_isw4 (p := 26) f266_24 rfl rfl ?_
      refine r_ilw4 (p := 28) f266_26 rfl ?_
      refine r_iconst (p := 29) f266_28 rfl (pinD rfl rfl) ?_
      refine r_icne (t := 90) (p := 32) f266_29 (by decide) rfl rfl ?_ ?_
      · refine r_aln0 (p := 33) f266_32 rfl ?_
        have h6 := k_t1 c1 hz h1 (by decide)
        refine r_gfR (f := 18) (p := 36) f266_33 rfl rfl rfl (Or.inl h6) rfl ?_
        refine r_nmR (fun v5 ev5 => ?_)
        refine le2_gd (fun h7 => ?_)
        refine r_gfR (f := 0) (p := 39) f266_36 rfl rfl rfl (Or.inl h7) rfl ?_
        refine r_nmR (fun v6 ev6 => ?_)
        refine r_iln2 (p := 40) f266_39 rfl ?_
        refine le2_gd (fun h8 => ?_)
        refine le2_gd (fun h9 => ?_)
        refine r_iaload (p := 41) f266_40 rfl (dj2 (fun x => x % 1000 = 101) h8 (by decide) (by decide)) h9 rfl ?_
        refine r_bipush (p := 43) f266_41 rfl (pinD rfl rfl) ?_
        refine r_icne (t := 73) (p := 46) f266_43 (by decide) rfl rfl ?_ ?_
        · refine r_aln0 (p := 47) f266_46 rfl ?_
          refine r_gfR (f := 18) (p := 50) f266_47 rfl rfl rfl (Or.inl h6) ev5.symm ?_
          refine r_iln2 (p := 51) f266_50 rfl ?_
          refine r_aln0 (p := 52) f266_51 rfl ?_
          refine r_gfR (f := 30) (p := 55) f266_52 rfl rfl rfl (Or.inl h6) rfl ?_
          refine r_aln0 (p := 56) f266_55 rfl ?_
          refine r_iln3 (p := 57) f266_56 rfl ?_
          refine r_iconst (p := 58) f266_57 rfl (pinD rfl rfl) ?_
          refine r_invI (p := 61) f266_58 rfl rfl rfl (Or.inl h6) hd (Nat.le_of_ble_eq_true rfl) rfl rfl rfl (fun _ => rfl) (fun v2 m2 c2 => ?_)
          have hz2 := z_k c2 hz1
          refine r_aln0 (p := 62) f266_61 rfl ?_
          refine r_iln3 (p := 63) f266_62 rfl ?_
          refine r_iconst (p := 64) f266_63 rfl (pinD rfl rfl) ?_
          have h10 := k_t1 c2 hz1 h6 (by decide)
          refine r_invI (p := 67) f266_64 rfl rfl rfl (Or.inl h10) hd (Nat.le_of_ble_eq_true rfl) rfl rfl rfl (fun _ => rfl) (fun v3 m3 c3 => ?_)
          have hz3 := z_k c3 hz2
          have h11 := k_t1 c2 hz1 h7 (by decide)
          have h12 := k_t1 c3 hz2 h11 (by decide)
          refine r_invI (p := 70) f266_67 rfl rfl rfl (Or.inl h12) hd (Nat.le_of_ble_eq_true rfl) rfl rfl rfl (fun _ => rfl) (fun v4 m4 c4 => ?_)
          have hz4 := z_k c4 hz3
          refine r_goto (p := 74) f266_70 (by decide) rfl ?_
          exact le2_refl _
        · refine r_iconst (p := 74) f266_73 rfl (pinD rfl rfl) ?_
          exact le2_refl _
      · refine r_ilw4 (p := 92) f266_90 rfl ?_
        refine r_iconst (p := 93) f266_92 rfl (pinD rfl rfl) ?_
        refine r_iceq (t := 102) (p := 96) f266_93 (by decide) rfl rfl ?_ ?_
        · exact le2_refl _
        · refine r_ilw4 (p := 98) f266_96 rfl ?_
          refine r_iconst (p := 99) f266_98 rfl (pinD rfl rfl) ?_
          refine r_icne (t := 124) (p := 102) f266_99 (by decide) rfl rfl ?_ ?_
          · exact le2_refl _
          · refine r_aln0 (p := 125) f266_124 rfl ?_
            have h2 := k_t1 c1 hz h1 (by decide)
            refine r_gfR (f := 18) (p := 128) f266_125 rfl rfl rfl (Or.inl h2) rfl ?_
            refine r_nmR (fun v7 ev7 => ?_)
            refine le2_gd (fun h3 => ?_)
            refine r_gfR (f := 4) (p := 131) f266_128 rfl rfl rfl (Or.inl h3) rfl ?_
            refine r_nmR (fun v8 ev8 => ?_)
            refine r_iln2 (p := 132) f266_131 rfl ?_
            refine le2_gd (fun h4 => ?_)
            refine le2_gd (fun h5 => ?_)
            refine r_iaload (p := 133) f266_132 rfl (dj2 (fun x => x % 1000 = 101) h4 (by decide) (by decide)) h5 rfl ?_
            refine r_isw5 (p := 135) f266_133 rfl rfl ?_
            exact le2_refl _
    · exact r_ret f266_222
theorem q266_74 {d : Nat} {m : Mem} {a0 a1 a2 a3 a4 s0 : Int} {z5 : PV} (hd : 0 < d) (hz : TZ m) (hcz5 : cat z5 = 1) : le2 (if s0 < 0 then (gd (tg m a0 = 11) <| bI (cl (d - 1) 251 [pR a0, pI a3, pI 1] m) fun v1 m1 => rn d 266 7 [pR a0, pI a1, pI a2, pI v1, pI a4, pI s0] [] m1) else gd (tg m a0 = 11) <| bV (cl (d - 1) 263 [pR a0, pI s0] m) fun m2 => bI (cl (d - 1) 251 [pR a0, pI a3, pI 1] m2) fun v3 m3 => rn d 266 7 [pR a0, pI a1, pI a2, pI v3, pI a4, pI s0] [] m3) (rn d 266 74 [pR a0, pI a1, pI a2, pI a3, pI a4, z5] [pI s0] m) := by
  refine r_isw5 (p := 76) f266_74 rfl rfl ?_
  refine r_ilw5 (p := 78) f266_76 rfl ?_
  refine r_iflt (t := 87) (p := 81) f266_78 (by decide) rfl rfl ?_ ?_
  · refine r_goto (p := 212) f266_87 (by decide) rfl ?_
    refine r_aln0 (p := 213) f266_212 rfl ?_
    refine r_iln3 (p := 214) f266_213 rfl ?_
    refine r_iconst (p := 215) f266_214 rfl (pinD rfl rfl) ?_
    refine le2_gd (fun h1 => ?_)
    refine r_invI (p := 218) f266_215 rfl rfl rfl (Or.inl h1) hd (Nat.le_of_ble_eq_true rfl) rfl rfl rfl (fun _ => rfl) (fun v1 m1 c1 => ?_)
    have hz1 := z_k c1 hz
    refine r_isn3 (p := 219) f266_218 rfl rfl ?_
    refine r_goto (p := 7) f266_219 (by decide) rfl ?_
    exact le2_refl _
  · refine r_aln0 (p := 82) f266_81 rfl ?_
    refine r_ilw5 (p := 84) f266_82 rfl ?_
    refine le2_gd (fun h2 => ?_)
    refine r_invV (p := 87) f266_84 rfl rfl rfl (Or.inl h2) hd (Nat.le_of_ble_eq_true rfl) rfl rfl rfl (fun _ => rfl) (fun m2 c2 => ?_)
    have hz2 := z_k c2 hz
    refine r_goto (p := 212) f266_87 (by decide) rfl ?_
    refine r_aln0 (p := 213) f266_212 rfl ?_
    refine r_iln3 (p := 214) f266_213 rfl ?_
    refine r_iconst (p := 215) f266_214 rfl (pinD rfl rfl) ?_
    have h3 := k_t1 c2 hz h2 (by decide)
    refine r_invI (p := 218) f266_215 rfl rfl rfl (Or.inl h3) hd (Nat.le_of_ble_eq_true rfl) rfl rfl rfl (fun _ => rfl) (fun v3 m3 c3 => ?_)
    have hz3 := z_k c3 hz2
    refine r_isn3 (p := 219) f266_218 rfl rfl ?_
    refine r_goto (p := 7) f266_219 (by decide) rfl ?_
    exact le2_refl _
theorem q266_102 {d : Nat} {m : Mem} {a0 a1 a2 a3 a4 : Int} {z5 : PV} (hd : 0 < d) (hz : TZ m) (hcz5 : cat z5 = 1) : le2 (gd (tg m a0 = 11) <| nm (vl m a0 18) fun v4 => gd (tg m v4 = 13) <| nm (vl m v4 0) fun v5 => gd (tg m v5 = 284101 ∨ tg m v5 = 287101) <| gd ((0 : Int) ≤ a2 ∧ a2 < ln m v5) <| if (vl m v5 a2) = 5 then (bV (cl (d - 1) 267 [pR a0, pI a3, pI a2] m) fun m2 => bI (cl (d - 1) 251 [pR a0, pI a3, pI 1] m2) fun v3 m3 => rn d 266 7 [pR a0, pI a1, pI a2, pI v3, pI a4, z5] [] m3) else bI (cl (d - 1) 251 [pR a0, pI a3, pI 1] m) fun v1 m1 => rn d 266 7 [pR a0, pI a1, pI a2, pI v1, pI a4, z5] [] m1) (rn d 266 102 [pR a0, pI a1, pI a2, pI a3, pI a4, z5] [] m) := by
  refine r_aln0 (p := 103) f266_102 rfl ?_
  refine le2_gd (fun h1 => ?_)
  refine r_gfR (f := 18) (p := 106) f266_103 rfl rfl rfl (Or.inl h1) rfl ?_
  refine r_nmR (fun v4 ev4 => ?_)
  refine le2_gd (fun h2 => ?_)
  refine r_gfR (f := 0) (p := 109) f266_106 rfl rfl rfl (Or.inl h2) rfl ?_
  refine r_nmR (fun v5 ev5 => ?_)
  refine r_iln2 (p := 110) f266_109 rfl ?_
  refine le2_gd (fun h3 => ?_)
  refine le2_gd (fun h4 => ?_)
  refine r_iaload (p := 111) f266_110 rfl (dj2 (fun x => x % 1000 = 101) h3 (by decide) (by decide)) h4 rfl ?_
  refine r_iconst (p := 112) f266_111 rfl (pinD rfl rfl) ?_
  refine r_icne (t := 212) (p := 115) f266_112 (by decide) rfl rfl ?_ ?_
  · refine r_aln0 (p := 116) f266_115 rfl ?_
    refine r_iln3 (p := 117) f266_116 rfl ?_
    refine r_iln2 (p := 118) f266_117 rfl ?_
    refine r_invV (p := 121) f266_118 rfl rfl rfl (Or.inl h1) hd (Nat.le_of_ble_eq_true rfl) rfl rfl rfl (fun _ => rfl) (fun m2 c2 => ?_)
    have hz2 := z_k c2 hz
    refine r_goto (p := 212) f266_121 (by decide) rfl ?_
    refine r_aln0 (p := 213) f266_212 rfl ?_
    refine r_iln3 (p := 214) f266_213 rfl ?_
    refine r_iconst (p := 215) f266_214 rfl (pinD rfl rfl) ?_
    have h5 := k_t1 c2 hz h1 (by decide)
    refine r_invI (p := 218) f266_215 rfl rfl rfl (Or.inl h5) hd (Nat.le_of_ble_eq_true rfl) rfl rfl rfl (fun _ => rfl) (fun v3 m3 c3 => ?_)
    have hz3 := z_k c3 hz2
    refine r_isn3 (p := 219) f266_218 rfl rfl ?_
    refine r_goto (p := 7) f266_219 (by decide) rfl ?_
    exact le2_refl _
  · refine r_aln0 (p := 213) f266_212 rfl ?_
    refine r_iln3 (p := 214) f266_213 rfl ?_
    refine r_iconst (p := 215) f266_214 rfl (pinD rfl rfl) ?_
    refine r_invI (p := 218) f266_215 rfl rfl rfl (Or.inl h1) hd (Nat.le_of_ble_eq_true rfl) rfl rfl rfl (fun _ => rfl) (fun v1 m1 c1 => ?_)
    have hz1 := z_k c1 hz
    refine r_isn3 (p := 219) f266_218 rfl rfl ?_
    refine r_goto (p := 7) f266_219 (by decide) rfl ?_
    exact le2_refl _
theorem q266_135 {d : Nat} {m : Mem} {a0 a1 a2 a3 a4 a5 : Int} (hd : 0 < d) (hz : TZ m) : le2 (if a5 < 0 then (gd (tg m a0 = 11) <| bI (cl (d - 1) 251 [pR a0, pI a3, pI 1] m) fun v1 m1 => rn d 266 7 [pR a0, pI a1, pI a2, pI v1, pI a4, pI a5] [] m1) else gd (tg m a0 = 11) <| if (vl m a0 35) = 0 then (if a4 = 2 then (bV (cl (d - 1) 263 [pR a0, pI a5] m) fun m7 => nm (vl m7 a0 18) fun v8 => gd (tg m7 v8 = 13) <| nm (vl m7 v8 5) fun v9 => gd (tg m7 v9 = 284101 ∨ tg m7 v9 = 287101) <| gd ((0 : Int) ≤ a5 ∧ a5 < ln m7 v9) <| rn d 266 135 [pR a0, pI a1, pI a2, pI a3, pI a4, pI (vl m7 v9 a5)] [] m7) else bI (cl (d - 1) 264 [pR a0] m) fun v3 m3 => if v3 = 0 then (nm (vl m3 a0 18) fun v10 => gd (tg m3 v10 = 13) <| nm (vl m3 v10 5) fun v11 => gd (tg m3 v11 = 284101 ∨ tg m3 v11 = 287101) <| gd ((0 : Int) ≤ a5 ∧ a5 < ln m3 v11) <| rn d 266 135 [pR a0, pI a1, pI a2, pI a3, pI a4, pI (vl m3 v11 a5)] [] m3) else bI (cl (d - 1) 251 [pR a0, pI a3, pI 2] m3) fun v4 m4 => bI (cl (d - 1) 268 [pR a0, pI v4, pI a5] m4) fun v5 m5 => if v5 = 0 then (nm (vl m5 a0 18) fun v12 => gd (tg m5 v12 = 13) <| nm (vl m5 v12 5) fun v13 => gd (tg m5 v13 = 284101 ∨ tg m5 v13 = 287101) <| gd ((0 : Int) ≤ a5 ∧ a5 < ln m5 v13) <| rn d 266 135 [pR a0, pI a1, pI a2, pI a3, pI a4, pI (vl m5 v13 a5)] [] m5) else if (vl m5 a0 35) = 0 then (bV (cl (d - 1) 263 [pR a0, pI a5] m5) fun m6 => nm (vl m6 a0 18) fun v14 => gd (tg m6 v14 = 13) <| nm (vl m6 v14 5) fun v15 => gd (tg m6 v15 = 284101 ∨ tg m6 v15 = 287101) <| gd ((0 : Int) ≤ a5 ∧ a5 < ln m6 v15) <| rn d 266 135 [pR a0, pI a1, pI a2, pI a3, pI a4, pI (vl m6 v15 a5)] [] m6) else nm (vl m5 a0 18) fun v16 => gd (tg m5 v16 = 13) <| nm (vl m5 v16 5) fun v17 => gd (tg m5 v17 = 284101 ∨ tg m5 v17 = 287101) <| gd ((0 : Int) ≤ a5 ∧ a5 < ln m5 v17) <| rn d 266 135 [pR a0, pI a1, pI a2, pI a3, pI a4, pI (vl m5 v17 a5)] [] m5) else bI (cl (d - 1) 251 [pR a0, pI a3, pI 1] m) fun v2 m2 => rn d 266 7 [pR a0, pI a1, pI a2, pI v2, pI a4, pI a5] [] m2) (rn d 266 135 [pR a0, pI a1, pI a2, pI a3, pI a4, pI a5] [] m) := by
  refine r_ilw5 (p := 137) f266_135 rfl ?_
  refine r_iflt (t := 212) (p := 140) f266_137 (by decide) rfl rfl ?_ ?_
  · refine r_aln0 (p := 213) f266_212 rfl ?_
    refine r_iln3 (p := 214) f266_213 rfl ?_
    refine r_iconst (p := 215) f266_214 rfl (pinD rfl rfl) ?_
    refine le2_gd (fun h1 => ?_)
    refine r_invI (p := 218) f266_215 rfl rfl rfl (Or.inl h1) hd (Nat.le_of_ble_eq_true rfl) rfl rfl rfl (fun _ => rfl) (fun v1 m1 c1 => ?_)
    have hz1 := z_k c1 hz
    refine r_isn3 (p := 219) f266_218 rfl rfl ?_
    refine r_goto (p := 7) f266_219 (by decide) rfl ?_
    exact le2_refl _
  · refine r_aln0 (p := 141) f266_140 rfl ?_
    refine le2_gd (fun h2 => ?_)
    refine r_gfIZ (f := 35) (p := 144) f266_141 rfl rfl rfl (Or.inl h2) rfl ?_
    refine r_ifne (t := 212) (p := 147) f266_144 (by decide) rfl rfl ?_ ?_
    · refine r_ilw4 (p := 149) f266_147 rfl ?_
      refine r_iconst (p := 150) f266_149 rfl (pinD rfl rfl) ?_
      refine r_icne (t := 162) (p := 153) f266_150 (by decide) rfl rfl ?_ ?_
      · refine r_aln0 (p := 154) f266_153 rfl ?_
        refine r_ilw5 (p := 156) f266_154 rfl ?_
        refine r_invV (p := 159) f266_156 rfl rfl rfl (Or.inl h2) hd (Nat.le_of_ble_eq_true rfl) rfl rfl rfl (fun _ => rfl) (fun m7 c7 => ?_)
        have hz7 := z_k c7 hz
        refine r_goto (p := 197) f266_159 (by decide) rfl ?_
        refine r_aln0 (p := 198) f266_197 rfl ?_
        have h21 := k_t1 c7 hz h2 (by decide)
        refine r_gfR (f := 18) (p := 201) f266_198 rfl rfl rfl (Or.inl h21) rfl ?_
        refine r_nmR (fun v8 ev8 => ?_)
        refine le2_gd (fun h22 => ?_)
        refine r_gfR (f := 5) (p := 204) f266_201 rfl rfl rfl (Or.inl h22) rfl ?_
        refine r_nmR (fun v9 ev9 => ?_)
        refine r_ilw5 (p := 206) f266_204 rfl ?_
        refine le2_gd (fun h23 => ?_)
        refine le2_gd (fun h24 => ?_)
        refine r_iaload (p := 207) f266_206 rfl (dj2 (fun x => x % 1000 = 101) h23 (by decide) (by decide)) h24 rfl ?_
        refine r_isw5 (p := 209) f266_207 rfl rfl ?_
        refine r_goto (p := 135) f266_209 (by decide) rfl ?_
        exact le2_refl _
      · refine r_aln0 (p := 163) f266_162 rfl ?_
        refine r_invI (p := 166) f266_163 rfl rfl rfl (Or.inl h2) hd (Nat.le_of_ble_eq_true rfl) rfl rfl rfl (fun _ => rfl) (fun v3 m3 c3 => ?_)
        have hz3 := z_k c3 hz
        refine r_ifeq (t := 197) (p := 169) f266_166 (by decide) rfl rfl ?_ ?_
        · refine r_aln0 (p := 198) f266_197 rfl ?_
          have h3 := k_t1 c3 hz h2 (by decide)
          refine r_gfR (f := 18) (p := 201) f266_198 rfl rfl rfl (Or.inl h3) rfl ?_
          refine r_nmR (fun v10 ev10 => ?_)
          refine le2_gd (fun h4 => ?_)
          refine r_gfR (f := 5) (p := 204) f266_201 rfl rfl rfl (Or.inl h4) rfl ?_
          refine r_nmR (fun v11 ev11 => ?_)
          refine r_ilw5 (p := 206) f266_204 rfl ?_
          refine le2_gd (fun h5 => ?_)
          refine le2_gd (fun h6 => ?_)
          refine r_iaload (p := 207) f266_206 rfl (dj2 (fun x => x % 1000 = 101) h5 (by decide) (by decide)) h6 rfl ?_
          refine r_isw5 (p := 209) f266_207 rfl rfl ?_
          refine r_goto (p := 135) f266_209 (by decide) rfl ?_
          exact le2_refl _
        · refine r_aln0 (p := 170) f266_169 rfl ?_
          refine r_aln0 (p := 171) f266_170 rfl ?_
          refine r_iln3 (p := 172) f266_171 rfl ?_
          refine r_iconst (p := 173) f266_172 rfl (pinD rfl rfl) ?_
          have h7 := k_t1 c3 hz h2 (by decide)
          refine r_invI (p := 176) f266_173 rfl rfl rfl (Or.inl h7) hd (Nat.le_of_ble_eq_true rfl) rfl rfl rfl (fun _ => rfl) (fun v4 m4 c4 => ?_)
          have hz4 := z_k c4 hz3
          refine r_ilw5 (p := 178) f266_176 rfl ?_
          have h8 := k_t1 c4 hz3 h7 (by decide)
          refine r_invI (p := 181) f266_178 rfl rfl rfl (Or.inl h8) hd (Nat.le_of_ble_eq_true rfl) rfl rfl rfl (fun _ => rfl) (fun v5 m5 c5 => ?_)
          have hz5 := z_k c5 hz4
          refine r_ifeq (t := 197) (p := 184) f266_181 (by decide) rfl rfl ?_ ?_
          · refine r_aln0 (p := 198) f266_197 rfl ?_
            have h9 := k_t1 c5 hz4 h8 (by decide)
            refine r_gfR (f := 18) (p := 201) f266_198 rfl rfl rfl (Or.inl h9) rfl ?_
            refine r_nmR (fun v12 ev12 => ?_)
            refine le2_gd (fun h10 => ?_)
            refine r_gfR (f := 5) (p := 204) f266_201 rfl rfl rfl (Or.inl h10) rfl ?_
            refine r_nmR (fun v13 ev13 => ?_)
            refine r_ilw5 (p := 206) f266_204 rfl ?_
            refine le2_gd (fun h11 => ?_)
            refine le2_gd (fun h12 => ?_)
            refine r_iaload (p := 207) f266_206 rfl (dj2 (fun x => x % 1000 = 101) h11 (by decide) (by decide)) h12 rfl ?_
            refine r_isw5 (p := 209) f266_207 rfl rfl ?_
            refine r_goto (p := 135) f266_209 (by decide) rfl ?_
            exact le2_refl _
          · refine r_aln0 (p := 185) f266_184 rfl ?_
            have h13 := k_t1 c5 hz4 h8 (by decide)
            refine r_gfIZ (f := 35) (p := 188) f266_185 rfl rfl rfl (Or.inl h13) rfl ?_
            refine r_ifne (t := 197) (p := 191) f266_188 (by decide) rfl rfl ?_ ?_
            · refine r_aln0 (p := 192) f266_191 rfl ?_
              refine r_ilw5 (p := 194) f266_192 rfl ?_
              refine r_invV (p := 197) f266_194 rfl rfl rfl (Or.inl h13) hd (Nat.le_of_ble_eq_true rfl) rfl rfl rfl (fun _ => rfl) (fun m6 c6 => ?_)
              have hz6 := z_k c6 hz5
              refine r_aln0 (p := 198) f266_197 rfl ?_
              have h17 := k_t1 c6 hz5 h13 (by decide)
              refine r_gfR (f := 18) (p := 201) f266_198 rfl rfl rfl (Or.inl h17) rfl ?_
              refine r_nmR (fun v14 ev14 => ?_)
              refine le2_gd (fun h18 => ?_)
              refine r_gfR (f := 5) (p := 204) f266_201 rfl rfl rfl (Or.inl h18) rfl ?_
              refine r_nmR (fun v15 ev15 => ?_)
              refine r_ilw5 (p := 206) f266_204 rfl ?_
              refine le2_gd (fun h19 => ?_)
              refine le2_gd (fun h20 => ?_)
              refine r_iaload (p := 207) f266_206 rfl (dj2 (fun x => x % 1000 = 101) h19 (by decide) (by decide)) h20 rfl ?_
              refine r_isw5 (p := 209) f266_207 rfl rfl ?_
              refine r_goto (p := 135) f266_209 (by decide) rfl ?_
              exact le2_refl _
            · refine r_aln0 (p := 198) f266_197 rfl ?_
              refine r_gfR (f := 18) (p := 201) f266_198 rfl rfl rfl (Or.inl h13) rfl ?_
              refine r_nmR (fun v16 ev16 => ?_)
              refine le2_gd (fun h14 => ?_)
              refine r_gfR (f := 5) (p := 204) f266_201 rfl rfl rfl (Or.inl h14) rfl ?_
              refine r_nmR (fun v17 ev17 => ?_)
              refine r_ilw5 (p := 206) f266_204 rfl ?_
              refine le2_gd (fun h15 => ?_)
              refine le2_gd (fun h16 => ?_)
              refine r_iaload (p := 207) f266_206 rfl (dj2 (fun x => x % 1000 = 101) h15 (by decide) (by decide)) h16 rfl ?_
              refine r_isw5 (p := 209) f266_207 rfl rfl ?_
              refine r_goto (p := 135) f266_209 (by decide) rfl ?_
              exact le2_refl _
    · refine r_aln0 (p := 213) f266_212 rfl ?_
      refine r_iln3 (p := 214) f266_213 rfl ?_
      refine r_iconst (p := 215) f266_214 rfl (pinD rfl rfl) ?_
      refine r_invI (p := 218) f266_215 rfl rfl rfl (Or.inl h2) hd (Nat.le_of_ble_eq_true rfl) rfl rfl rfl (fun _ => rfl) (fun v2 m2 c2 => ?_)
      have hz2 := z_k c2 hz
      refine r_isn3 (p := 219) f266_218 rfl rfl ?_
      refine r_goto (p := 7) f266_219 (by decide) rfl ?_
      exact le2_refl _
/-! 267 PathStoreModel.numbers (II)V -/
def w267_15 : List UInt8 := [182, 1, 252, 22, 14, 22, 8, 97, 55, 14, 167, 255, 230, 177]
abbrev u267_15 : List UInt8 := w267_15 ++ []
def w267_14 : List UInt8 := [55, 12, 22, 10, 55, 14, 22, 14, 22, 12, 148, 158, 0, 24, 42, 42, 28, 22, 14, 182, 1, 87]
abbrev u267_14 : List UInt8 := w267_14 ++ u267_15
def w267_13 : List UInt8 := [167, 0, 5, 22, 10, 55, 10, 22, 12, 20, 1, 81, 148, 156, 0, 9, 20, 1, 81, 167, 0, 5, 22, 12]
abbrev u267_13 : List UInt8 := w267_13 ++ u267_14
def w267_12 : List UInt8 := [22, 8, 97, 55, 14, 167, 255, 230, 167, 0, 74, 22, 10, 33, 10, 101, 148, 158, 0, 9, 33, 10, 101]
abbrev u267_12 : List UInt8 := w267_12 ++ u267_13
def w267_11 : List UInt8 := [55, 14, 22, 14, 22, 12, 148, 156, 0, 24, 42, 42, 28, 22, 14, 182, 1, 87, 182, 1, 252, 22, 14]
abbrev u267_11 : List UInt8 := w267_11 ++ u267_12
def w267_10 : List UInt8 := [167, 0, 5, 22, 10, 55, 10, 22, 12, 33, 148, 158, 0, 7, 33, 167, 0, 5, 22, 12, 55, 12, 22, 10]
abbrev u267_10 : List UInt8 := w267_10 ++ u267_11
def w267_9 : List UInt8 := [167, 0, 6, 20, 1, 81, 55, 12, 22, 8, 9, 148, 158, 0, 69, 22, 10, 9, 148, 156, 0, 7, 9]
abbrev u267_9 : List UInt8 := w267_9 ++ u267_10
def w267_8 : List UInt8 := [167, 0, 30, 42, 180, 0, 124, 6, 27, 104, 4, 96, 47, 167, 0, 17, 22, 8, 9, 148, 158, 0, 7, 33]
abbrev u267_8 : List UInt8 := w267_8 ++ u267_9
def w267_7 : List UInt8 := [27, 104, 4, 96, 47, 9, 148, 156, 0, 18, 33, 42, 180, 0, 124, 6, 27, 104, 4, 96, 47, 97]
abbrev u267_7 : List UInt8 := w267_7 ++ u267_8
def w267_6 : List UInt8 := [158, 0, 7, 9, 167, 0, 6, 33, 10, 101, 55, 10, 21, 5, 5, 126, 153, 0, 46, 42, 180, 0, 124, 6]
abbrev u267_6 : List UInt8 := w267_6 ++ u267_7
def w267_5 : List UInt8 := [22, 6, 9, 148, 156, 0, 10, 33, 22, 6, 97, 167, 0, 22, 22, 6, 167, 0, 17, 22, 8, 9, 148]
abbrev u267_5 : List UInt8 := w267_5 ++ u267_6
def w267_4 : List UInt8 := [5, 96, 47, 167, 0, 4, 10, 55, 8, 22, 8, 9, 148, 154, 0, 4, 177, 21, 5, 4, 126, 153, 0, 22]
abbrev u267_4 : List UInt8 := w267_4 ++ u267_5
def w267_3 : List UInt8 := [28, 22, 8, 182, 1, 87, 182, 1, 252, 177, 21, 5, 7, 126, 153, 0, 16, 42, 180, 0, 124, 6, 27, 104]
abbrev u267_3 : List UInt8 := w267_3 ++ u267_4
def w267_2 : List UInt8 := [97, 167, 0, 5, 22, 6, 55, 8, 22, 8, 9, 148, 155, 0, 21, 22, 8, 33, 148, 156, 0, 14, 42, 42]
abbrev u267_2 : List UInt8 := w267_2 ++ u267_3
def w267_1 : List UInt8 := [104, 47, 55, 6, 42, 27, 3, 182, 1, 186, 6, 160, 0, 47, 22, 6, 9, 148, 156, 0, 10, 33, 22, 6]
abbrev u267_1 : List UInt8 := w267_1 ++ u267_2
def w267_0 : List UInt8 := [42, 180, 0, 102, 28, 182, 0, 27, 133, 66, 42, 27, 5, 182, 1, 186, 54, 5, 42, 180, 0, 124, 6, 27]
abbrev u267_0 : List UInt8 := w267_0 ++ u267_1
theorem s267_0 : (prog_32_method_83_code).data.toList.drop 0 = u267_0 := by decide +kernel
theorem s267_1 : (prog_32_method_83_code).data.toList.drop 24 = u267_1 := dk_seg s267_0 24 rfl rfl
theorem s267_2 : (prog_32_method_83_code).data.toList.drop 48 = u267_2 := dk_seg s267_1 24 rfl rfl
theorem s267_3 : (prog_32_method_83_code).data.toList.drop 72 = u267_3 := dk_seg s267_2 24 rfl rfl
theorem s267_4 : (prog_32_method_83_code).data.toList.drop 96 = u267_4 := dk_seg s267_3 24 rfl rfl
theorem s267_5 : (prog_32_method_83_code).data.toList.drop 120 = u267_5 := dk_seg s267_4 24 rfl rfl
theorem s267_6 : (prog_32_method_83_code).data.toList.drop 143 = u267_6 := dk_seg s267_5 23 rfl rfl
theorem s267_7 : (prog_32_method_83_code).data.toList.drop 167 = u267_7 := dk_seg s267_6 24 rfl rfl
theorem s267_8 : (prog_32_method_83_code).data.toList.drop 189 = u267_8 := dk_seg s267_7 22 rfl rfl
theorem s267_9 : (prog_32_method_83_code).data.toList.drop 213 = u267_9 := dk_seg s267_8 24 rfl rfl
theorem s267_10 : (prog_32_method_83_code).data.toList.drop 236 = u267_10 := dk_seg s267_9 23 rfl rfl
theorem s267_11 : (prog_32_method_83_code).data.toList.drop 260 = u267_11 := dk_seg s267_10 24 rfl rfl
theorem s267_12 : (prog_32_method_83_code).data.toList.drop 283 = u267_12 := dk_seg s267_11 23 rfl rfl
theorem s267_13 : (prog_32_method_83_code).data.toList.drop 306 = u267_13 := dk_seg s267_12 23 rfl rfl
theorem s267_14 : (prog_32_method_83_code).data.toList.drop 330 = u267_14 := dk_seg s267_13 24 rfl rfl
theorem s267_15 : (prog_32_method_83_code).data.toList.drop 352 = u267_15 := dk_seg s267_14 22 rfl rfl
theorem Fm267 {pc len : Nat} {i : Instr} (h : decode (prog_32_method_83_code) pc = .ok (i, len)) (hl : len = ilen i len) : ft 267 pc = some (11, 0, 0, i, len) := ft_mk rfl h hl
theorem f267_0 : ft 267 0 = some (11, 0, 0, .aload_n 0, 1) := Fm267 (dk_42 (dk_at s267_0 0 rfl rfl)) rfl
theorem f267_1 : ft 267 1 = some (11, 0, 0, .getfield 102, 3) := Fm267 (dk_180 0 102 (dk_at s267_0 1 rfl rfl)) rfl
theorem f267_4 : ft 267 4 = some (11, 0, 0, .iload_n 2, 1) := Fm267 (dk_28 (dk_at s267_0 4 rfl rfl)) rfl
theorem f267_5 : ft 267 5 = some (11, 0, 0, .invokevirtual 27, 3) := Fm267 (dk_182 0 27 (dk_at s267_0 5 rfl rfl)) rfl
theorem f267_8 : ft 267 8 = some (11, 0, 0, .i2l, 1) := Fm267 (dk_133 (dk_at s267_0 8 rfl rfl)) rfl
theorem f267_9 : ft 267 9 = some (11, 0, 0, .lstore_n 3, 1) := Fm267 (dk_66 (dk_at s267_0 9 rfl rfl)) rfl
theorem f267_10 : ft 267 10 = some (11, 0, 0, .aload_n 0, 1) := Fm267 (dk_42 (dk_at s267_0 10 rfl rfl)) rfl
theorem f267_11 : ft 267 11 = some (11, 0, 0, .iload_n 1, 1) := Fm267 (dk_27 (dk_at s267_0 11 rfl rfl)) rfl
theorem f267_12 : ft 267 12 = some (11, 0, 0, .iconst 2, 1) := Fm267 (dk_5 (dk_at s267_0 12 rfl rfl)) rfl
theorem f267_13 : ft 267 13 = some (11, 0, 0, .invokevirtual 442, 3) := Fm267 (dk_182 1 186 (dk_at s267_0 13 rfl rfl)) rfl
theorem f267_16 : ft 267 16 = some (11, 0, 0, .istore 5, 2) := Fm267 (dk_54 5 (dk_at s267_0 16 rfl rfl)) rfl
theorem f267_18 : ft 267 18 = some (11, 0, 0, .aload_n 0, 1) := Fm267 (dk_42 (dk_at s267_0 18 rfl rfl)) rfl
theorem f267_19 : ft 267 19 = some (11, 0, 0, .getfield 124, 3) := Fm267 (dk_180 0 124 (dk_at s267_0 19 rfl rfl)) rfl
theorem f267_22 : ft 267 22 = some (11, 0, 0, .iconst 3, 1) := Fm267 (dk_6 (dk_at s267_0 22 rfl rfl)) rfl
theorem f267_23 : ft 267 23 = some (11, 0, 0, .iload_n 1, 1) := Fm267 (dk_27 (dk_at s267_0 23 rfl rfl)) rfl
theorem f267_24 : ft 267 24 = some (11, 0, 0, .imul, 1) := Fm267 (dk_104 (dk_at s267_1 0 rfl rfl)) rfl
theorem f267_25 : ft 267 25 = some (11, 0, 0, .laload, 1) := Fm267 (dk_47 (dk_at s267_1 1 rfl rfl)) rfl
theorem f267_26 : ft 267 26 = some (11, 0, 0, .lstore 6, 2) := Fm267 (dk_55 6 (dk_at s267_1 2 rfl rfl)) rfl
theorem f267_28 : ft 267 28 = some (11, 0, 0, .aload_n 0, 1) := Fm267 (dk_42 (dk_at s267_1 4 rfl rfl)) rfl
theorem f267_29 : ft 267 29 = some (11, 0, 0, .iload_n 1, 1) := Fm267 (dk_27 (dk_at s267_1 5 rfl rfl)) rfl
theorem f267_30 : ft 267 30 = some (11, 0, 0, .iconst 0, 1) := Fm267 (dk_3 (dk_at s267_1 6 rfl rfl)) rfl
theorem f267_31 : ft 267 31 = some (11, 0, 0, .invokevirtual 442, 3) := Fm267 (dk_182 1 186 (dk_at s267_1 7 rfl rfl)) rfl
theorem f267_34 : ft 267 34 = some (11, 0, 0, .iconst 3, 1) := Fm267 (dk_6 (dk_at s267_1 10 rfl rfl)) rfl
theorem f267_35 : ft 267 35 = some (11, 0, 0, .if_icmp .ne 47, 3) := Fm267 (dk_160 0 47 (dk_at s267_1 11 rfl rfl)) rfl
theorem f267_38 : ft 267 38 = some (11, 0, 0, .lload 6, 2) := Fm267 (dk_22 6 (dk_at s267_1 14 rfl rfl)) rfl
theorem f267_40 : ft 267 40 = some (11, 0, 0, .lconst 0, 1) := Fm267 (dk_9 (dk_at s267_1 16 rfl rfl)) rfl
theorem f267_41 : ft 267 41 = some (11, 0, 0, .lcmp, 1) := Fm267 (dk_148 (dk_at s267_1 17 rfl rfl)) rfl
theorem f267_42 : ft 267 42 = some (11, 0, 0, .ifCond .ge 10, 3) := Fm267 (dk_156 0 10 (dk_at s267_1 18 rfl rfl)) rfl
theorem f267_45 : ft 267 45 = some (11, 0, 0, .lload_n 3, 1) := Fm267 (dk_33 (dk_at s267_1 21 rfl rfl)) rfl
theorem f267_46 : ft 267 46 = some (11, 0, 0, .lload 6, 2) := Fm267 (dk_22 6 (dk_at s267_1 22 rfl rfl)) rfl
theorem f267_48 : ft 267 48 = some (11, 0, 0, .ladd, 1) := Fm267 (dk_97 (dk_at s267_2 0 rfl rfl)) rfl
theorem f267_49 : ft 267 49 = some (11, 0, 0, .goto 5, 3) := Fm267 (dk_167 0 5 (dk_at s267_2 1 rfl rfl)) rfl
theorem f267_52 : ft 267 52 = some (11, 0, 0, .lload 6, 2) := Fm267 (dk_22 6 (dk_at s267_2 4 rfl rfl)) rfl
theorem f267_54 : ft 267 54 = some (11, 0, 0, .lstore 8, 2) := Fm267 (dk_55 8 (dk_at s267_2 6 rfl rfl)) rfl
theorem f267_56 : ft 267 56 = some (11, 0, 0, .lload 8, 2) := Fm267 (dk_22 8 (dk_at s267_2 8 rfl rfl)) rfl
theorem f267_58 : ft 267 58 = some (11, 0, 0, .lconst 0, 1) := Fm267 (dk_9 (dk_at s267_2 10 rfl rfl)) rfl
theorem f267_59 : ft 267 59 = some (11, 0, 0, .lcmp, 1) := Fm267 (dk_148 (dk_at s267_2 11 rfl rfl)) rfl
theorem f267_60 : ft 267 60 = some (11, 0, 0, .ifCond .lt 21, 3) := Fm267 (dk_155 0 21 (dk_at s267_2 12 rfl rfl)) rfl
theorem f267_63 : ft 267 63 = some (11, 0, 0, .lload 8, 2) := Fm267 (dk_22 8 (dk_at s267_2 15 rfl rfl)) rfl
theorem f267_65 : ft 267 65 = some (11, 0, 0, .lload_n 3, 1) := Fm267 (dk_33 (dk_at s267_2 17 rfl rfl)) rfl
theorem f267_66 : ft 267 66 = some (11, 0, 0, .lcmp, 1) := Fm267 (dk_148 (dk_at s267_2 18 rfl rfl)) rfl
theorem f267_67 : ft 267 67 = some (11, 0, 0, .ifCond .ge 14, 3) := Fm267 (dk_156 0 14 (dk_at s267_2 19 rfl rfl)) rfl
theorem f267_70 : ft 267 70 = some (11, 0, 0, .aload_n 0, 1) := Fm267 (dk_42 (dk_at s267_2 22 rfl rfl)) rfl
theorem f267_71 : ft 267 71 = some (11, 0, 0, .aload_n 0, 1) := Fm267 (dk_42 (dk_at s267_2 23 rfl rfl)) rfl
theorem f267_72 : ft 267 72 = some (11, 0, 0, .iload_n 2, 1) := Fm267 (dk_28 (dk_at s267_3 0 rfl rfl)) rfl
theorem f267_73 : ft 267 73 = some (11, 0, 0, .lload 8, 2) := Fm267 (dk_22 8 (dk_at s267_3 1 rfl rfl)) rfl
theorem f267_75 : ft 267 75 = some (11, 0, 0, .invokevirtual 343, 3) := Fm267 (dk_182 1 87 (dk_at s267_3 3 rfl rfl)) rfl
theorem f267_78 : ft 267 78 = some (11, 0, 0, .invokevirtual 508, 3) := Fm267 (dk_182 1 252 (dk_at s267_3 6 rfl rfl)) rfl
theorem f267_81 : ft 267 81 = some (11, 0, 0, .return_, 1) := Fm267 (dk_177 (dk_at s267_3 9 rfl rfl)) rfl
theorem f267_82 : ft 267 82 = some (11, 0, 0, .iload 5, 2) := Fm267 (dk_21 5 (dk_at s267_3 10 rfl rfl)) rfl
theorem f267_84 : ft 267 84 = some (11, 0, 0, .iconst 4, 1) := Fm267 (dk_7 (dk_at s267_3 12 rfl rfl)) rfl
theorem f267_85 : ft 267 85 = some (11, 0, 0, .iand, 1) := Fm267 (dk_126 (dk_at s267_3 13 rfl rfl)) rfl
theorem f267_86 : ft 267 86 = some (11, 0, 0, .ifCond .eq 16, 3) := Fm267 (dk_153 0 16 (dk_at s267_3 14 rfl rfl)) rfl
theorem f267_89 : ft 267 89 = some (11, 0, 0, .aload_n 0, 1) := Fm267 (dk_42 (dk_at s267_3 17 rfl rfl)) rfl
theorem f267_90 : ft 267 90 = some (11, 0, 0, .getfield 124, 3) := Fm267 (dk_180 0 124 (dk_at s267_3 18 rfl rfl)) rfl
theorem f267_93 : ft 267 93 = some (11, 0, 0, .iconst 3, 1) := Fm267 (dk_6 (dk_at s267_3 21 rfl rfl)) rfl
theorem f267_94 : ft 267 94 = some (11, 0, 0, .iload_n 1, 1) := Fm267 (dk_27 (dk_at s267_3 22 rfl rfl)) rfl
theorem f267_95 : ft 267 95 = some (11, 0, 0, .imul, 1) := Fm267 (dk_104 (dk_at s267_3 23 rfl rfl)) rfl
theorem f267_96 : ft 267 96 = some (11, 0, 0, .iconst 2, 1) := Fm267 (dk_5 (dk_at s267_4 0 rfl rfl)) rfl
theorem f267_97 : ft 267 97 = some (11, 0, 0, .iadd, 1) := Fm267 (dk_96 (dk_at s267_4 1 rfl rfl)) rfl
theorem f267_98 : ft 267 98 = some (11, 0, 0, .laload, 1) := Fm267 (dk_47 (dk_at s267_4 2 rfl rfl)) rfl
theorem f267_99 : ft 267 99 = some (11, 0, 0, .goto 4, 3) := Fm267 (dk_167 0 4 (dk_at s267_4 3 rfl rfl)) rfl
theorem f267_102 : ft 267 102 = some (11, 0, 0, .lconst 1, 1) := Fm267 (dk_10 (dk_at s267_4 6 rfl rfl)) rfl
theorem f267_103 : ft 267 103 = some (11, 0, 0, .lstore 8, 2) := Fm267 (dk_55 8 (dk_at s267_4 7 rfl rfl)) rfl
theorem f267_105 : ft 267 105 = some (11, 0, 0, .lload 8, 2) := Fm267 (dk_22 8 (dk_at s267_4 9 rfl rfl)) rfl
theorem f267_107 : ft 267 107 = some (11, 0, 0, .lconst 0, 1) := Fm267 (dk_9 (dk_at s267_4 11 rfl rfl)) rfl
theorem f267_108 : ft 267 108 = some (11, 0, 0, .lcmp, 1) := Fm267 (dk_148 (dk_at s267_4 12 rfl rfl)) rfl
theorem f267_109 : ft 267 109 = some (11, 0, 0, .ifCond .ne 4, 3) := Fm267 (dk_154 0 4 (dk_at s267_4 13 rfl rfl)) rfl
theorem f267_112 : ft 267 112 = some (11, 0, 0, .return_, 1) := Fm267 (dk_177 (dk_at s267_4 16 rfl rfl)) rfl
theorem f267_113 : ft 267 113 = some (11, 0, 0, .iload 5, 2) := Fm267 (dk_21 5 (dk_at s267_4 17 rfl rfl)) rfl
theorem f267_115 : ft 267 115 = some (11, 0, 0, .iconst 1, 1) := Fm267 (dk_4 (dk_at s267_4 19 rfl rfl)) rfl
theorem f267_116 : ft 267 116 = some (11, 0, 0, .iand, 1) := Fm267 (dk_126 (dk_at s267_4 20 rfl rfl)) rfl
theorem f267_117 : ft 267 117 = some (11, 0, 0, .ifCond .eq 22, 3) := Fm267 (dk_153 0 22 (dk_at s267_4 21 rfl rfl)) rfl
theorem f267_120 : ft 267 120 = some (11, 0, 0, .lload 6, 2) := Fm267 (dk_22 6 (dk_at s267_5 0 rfl rfl)) rfl
theorem f267_122 : ft 267 122 = some (11, 0, 0, .lconst 0, 1) := Fm267 (dk_9 (dk_at s267_5 2 rfl rfl)) rfl
theorem f267_123 : ft 267 123 = some (11, 0, 0, .lcmp, 1) := Fm267 (dk_148 (dk_at s267_5 3 rfl rfl)) rfl
theorem f267_124 : ft 267 124 = some (11, 0, 0, .ifCond .ge 10, 3) := Fm267 (dk_156 0 10 (dk_at s267_5 4 rfl rfl)) rfl
theorem f267_127 : ft 267 127 = some (11, 0, 0, .lload_n 3, 1) := Fm267 (dk_33 (dk_at s267_5 7 rfl rfl)) rfl
theorem f267_128 : ft 267 128 = some (11, 0, 0, .lload 6, 2) := Fm267 (dk_22 6 (dk_at s267_5 8 rfl rfl)) rfl
theorem f267_130 : ft 267 130 = some (11, 0, 0, .ladd, 1) := Fm267 (dk_97 (dk_at s267_5 10 rfl rfl)) rfl
theorem f267_131 : ft 267 131 = some (11, 0, 0, .goto 22, 3) := Fm267 (dk_167 0 22 (dk_at s267_5 11 rfl rfl)) rfl
theorem f267_134 : ft 267 134 = some (11, 0, 0, .lload 6, 2) := Fm267 (dk_22 6 (dk_at s267_5 14 rfl rfl)) rfl
theorem f267_136 : ft 267 136 = some (11, 0, 0, .goto 17, 3) := Fm267 (dk_167 0 17 (dk_at s267_5 16 rfl rfl)) rfl
theorem f267_139 : ft 267 139 = some (11, 0, 0, .lload 8, 2) := Fm267 (dk_22 8 (dk_at s267_5 19 rfl rfl)) rfl
theorem f267_141 : ft 267 141 = some (11, 0, 0, .lconst 0, 1) := Fm267 (dk_9 (dk_at s267_5 21 rfl rfl)) rfl
theorem f267_142 : ft 267 142 = some (11, 0, 0, .lcmp, 1) := Fm267 (dk_148 (dk_at s267_5 22 rfl rfl)) rfl
theorem f267_143 : ft 267 143 = some (11, 0, 0, .ifCond .le 7, 3) := Fm267 (dk_158 0 7 (dk_at s267_6 0 rfl rfl)) rfl
theorem f267_146 : ft 267 146 = some (11, 0, 0, .lconst 0, 1) := Fm267 (dk_9 (dk_at s267_6 3 rfl rfl)) rfl
theorem f267_147 : ft 267 147 = some (11, 0, 0, .goto 6, 3) := Fm267 (dk_167 0 6 (dk_at s267_6 4 rfl rfl)) rfl
theorem f267_150 : ft 267 150 = some (11, 0, 0, .lload_n 3, 1) := Fm267 (dk_33 (dk_at s267_6 7 rfl rfl)) rfl
theorem f267_151 : ft 267 151 = some (11, 0, 0, .lconst 1, 1) := Fm267 (dk_10 (dk_at s267_6 8 rfl rfl)) rfl
theorem f267_152 : ft 267 152 = some (11, 0, 0, .lsub, 1) := Fm267 (dk_101 (dk_at s267_6 9 rfl rfl)) rfl
theorem f267_153 : ft 267 153 = some (11, 0, 0, .lstore 10, 2) := Fm267 (dk_55 10 (dk_at s267_6 10 rfl rfl)) rfl
theorem f267_155 : ft 267 155 = some (11, 0, 0, .iload 5, 2) := Fm267 (dk_21 5 (dk_at s267_6 12 rfl rfl)) rfl
theorem f267_157 : ft 267 157 = some (11, 0, 0, .iconst 2, 1) := Fm267 (dk_5 (dk_at s267_6 14 rfl rfl)) rfl
theorem f267_158 : ft 267 158 = some (11, 0, 0, .iand, 1) := Fm267 (dk_126 (dk_at s267_6 15 rfl rfl)) rfl
theorem f267_159 : ft 267 159 = some (11, 0, 0, .ifCond .eq 46, 3) := Fm267 (dk_153 0 46 (dk_at s267_6 16 rfl rfl)) rfl
theorem f267_162 : ft 267 162 = some (11, 0, 0, .aload_n 0, 1) := Fm267 (dk_42 (dk_at s267_6 19 rfl rfl)) rfl
theorem f267_163 : ft 267 163 = some (11, 0, 0, .getfield 124, 3) := Fm267 (dk_180 0 124 (dk_at s267_6 20 rfl rfl)) rfl
theorem f267_166 : ft 267 166 = some (11, 0, 0, .iconst 3, 1) := Fm267 (dk_6 (dk_at s267_6 23 rfl rfl)) rfl
theorem f267_167 : ft 267 167 = some (11, 0, 0, .iload_n 1, 1) := Fm267 (dk_27 (dk_at s267_7 0 rfl rfl)) rfl
theorem f267_168 : ft 267 168 = some (11, 0, 0, .imul, 1) := Fm267 (dk_104 (dk_at s267_7 1 rfl rfl)) rfl
theorem f267_169 : ft 267 169 = some (11, 0, 0, .iconst 1, 1) := Fm267 (dk_4 (dk_at s267_7 2 rfl rfl)) rfl
theorem f267_170 : ft 267 170 = some (11, 0, 0, .iadd, 1) := Fm267 (dk_96 (dk_at s267_7 3 rfl rfl)) rfl
theorem f267_171 : ft 267 171 = some (11, 0, 0, .laload, 1) := Fm267 (dk_47 (dk_at s267_7 4 rfl rfl)) rfl
theorem f267_172 : ft 267 172 = some (11, 0, 0, .lconst 0, 1) := Fm267 (dk_9 (dk_at s267_7 5 rfl rfl)) rfl
theorem f267_173 : ft 267 173 = some (11, 0, 0, .lcmp, 1) := Fm267 (dk_148 (dk_at s267_7 6 rfl rfl)) rfl
theorem f267_174 : ft 267 174 = some (11, 0, 0, .ifCond .ge 18, 3) := Fm267 (dk_156 0 18 (dk_at s267_7 7 rfl rfl)) rfl
theorem f267_177 : ft 267 177 = some (11, 0, 0, .lload_n 3, 1) := Fm267 (dk_33 (dk_at s267_7 10 rfl rfl)) rfl
theorem f267_178 : ft 267 178 = some (11, 0, 0, .aload_n 0, 1) := Fm267 (dk_42 (dk_at s267_7 11 rfl rfl)) rfl
theorem f267_179 : ft 267 179 = some (11, 0, 0, .getfield 124, 3) := Fm267 (dk_180 0 124 (dk_at s267_7 12 rfl rfl)) rfl
theorem f267_182 : ft 267 182 = some (11, 0, 0, .iconst 3, 1) := Fm267 (dk_6 (dk_at s267_7 15 rfl rfl)) rfl
theorem f267_183 : ft 267 183 = some (11, 0, 0, .iload_n 1, 1) := Fm267 (dk_27 (dk_at s267_7 16 rfl rfl)) rfl
theorem f267_184 : ft 267 184 = some (11, 0, 0, .imul, 1) := Fm267 (dk_104 (dk_at s267_7 17 rfl rfl)) rfl
theorem f267_185 : ft 267 185 = some (11, 0, 0, .iconst 1, 1) := Fm267 (dk_4 (dk_at s267_7 18 rfl rfl)) rfl
theorem f267_186 : ft 267 186 = some (11, 0, 0, .iadd, 1) := Fm267 (dk_96 (dk_at s267_7 19 rfl rfl)) rfl
theorem f267_187 : ft 267 187 = some (11, 0, 0, .laload, 1) := Fm267 (dk_47 (dk_at s267_7 20 rfl rfl)) rfl
theorem f267_188 : ft 267 188 = some (11, 0, 0, .ladd, 1) := Fm267 (dk_97 (dk_at s267_7 21 rfl rfl)) rfl
theorem f267_189 : ft 267 189 = some (11, 0, 0, .goto 30, 3) := Fm267 (dk_167 0 30 (dk_at s267_8 0 rfl rfl)) rfl
theorem f267_192 : ft 267 192 = some (11, 0, 0, .aload_n 0, 1) := Fm267 (dk_42 (dk_at s267_8 3 rfl rfl)) rfl
theorem f267_193 : ft 267 193 = some (11, 0, 0, .getfield 124, 3) := Fm267 (dk_180 0 124 (dk_at s267_8 4 rfl rfl)) rfl
theorem f267_196 : ft 267 196 = some (11, 0, 0, .iconst 3, 1) := Fm267 (dk_6 (dk_at s267_8 7 rfl rfl)) rfl
theorem f267_197 : ft 267 197 = some (11, 0, 0, .iload_n 1, 1) := Fm267 (dk_27 (dk_at s267_8 8 rfl rfl)) rfl
theorem f267_198 : ft 267 198 = some (11, 0, 0, .imul, 1) := Fm267 (dk_104 (dk_at s267_8 9 rfl rfl)) rfl
theorem f267_199 : ft 267 199 = some (11, 0, 0, .iconst 1, 1) := Fm267 (dk_4 (dk_at s267_8 10 rfl rfl)) rfl
theorem f267_200 : ft 267 200 = some (11, 0, 0, .iadd, 1) := Fm267 (dk_96 (dk_at s267_8 11 rfl rfl)) rfl
theorem f267_201 : ft 267 201 = some (11, 0, 0, .laload, 1) := Fm267 (dk_47 (dk_at s267_8 12 rfl rfl)) rfl
theorem f267_202 : ft 267 202 = some (11, 0, 0, .goto 17, 3) := Fm267 (dk_167 0 17 (dk_at s267_8 13 rfl rfl)) rfl
theorem f267_205 : ft 267 205 = some (11, 0, 0, .lload 8, 2) := Fm267 (dk_22 8 (dk_at s267_8 16 rfl rfl)) rfl
theorem f267_207 : ft 267 207 = some (11, 0, 0, .lconst 0, 1) := Fm267 (dk_9 (dk_at s267_8 18 rfl rfl)) rfl
theorem f267_208 : ft 267 208 = some (11, 0, 0, .lcmp, 1) := Fm267 (dk_148 (dk_at s267_8 19 rfl rfl)) rfl
theorem f267_209 : ft 267 209 = some (11, 0, 0, .ifCond .le 7, 3) := Fm267 (dk_158 0 7 (dk_at s267_8 20 rfl rfl)) rfl
theorem f267_212 : ft 267 212 = some (11, 0, 0, .lload_n 3, 1) := Fm267 (dk_33 (dk_at s267_8 23 rfl rfl)) rfl
theorem f267_213 : ft 267 213 = some (11, 0, 0, .goto 6, 3) := Fm267 (dk_167 0 6 (dk_at s267_9 0 rfl rfl)) rfl
theorem f267_216 : ft 267 216 = some (11, 0, 0, .ldc2_w 337, 3) := Fm267 (dk_20 1 81 (dk_at s267_9 3 rfl rfl)) rfl
theorem f267_219 : ft 267 219 = some (11, 0, 0, .lstore 12, 2) := Fm267 (dk_55 12 (dk_at s267_9 6 rfl rfl)) rfl
theorem f267_221 : ft 267 221 = some (11, 0, 0, .lload 8, 2) := Fm267 (dk_22 8 (dk_at s267_9 8 rfl rfl)) rfl
theorem f267_223 : ft 267 223 = some (11, 0, 0, .lconst 0, 1) := Fm267 (dk_9 (dk_at s267_9 10 rfl rfl)) rfl
theorem f267_224 : ft 267 224 = some (11, 0, 0, .lcmp, 1) := Fm267 (dk_148 (dk_at s267_9 11 rfl rfl)) rfl
theorem f267_225 : ft 267 225 = some (11, 0, 0, .ifCond .le 69, 3) := Fm267 (dk_158 0 69 (dk_at s267_9 12 rfl rfl)) rfl
theorem f267_228 : ft 267 228 = some (11, 0, 0, .lload 10, 2) := Fm267 (dk_22 10 (dk_at s267_9 15 rfl rfl)) rfl
theorem f267_230 : ft 267 230 = some (11, 0, 0, .lconst 0, 1) := Fm267 (dk_9 (dk_at s267_9 17 rfl rfl)) rfl
theorem f267_231 : ft 267 231 = some (11, 0, 0, .lcmp, 1) := Fm267 (dk_148 (dk_at s267_9 18 rfl rfl)) rfl
theorem f267_232 : ft 267 232 = some (11, 0, 0, .ifCond .ge 7, 3) := Fm267 (dk_156 0 7 (dk_at s267_9 19 rfl rfl)) rfl
theorem f267_235 : ft 267 235 = some (11, 0, 0, .lconst 0, 1) := Fm267 (dk_9 (dk_at s267_9 22 rfl rfl)) rfl
theorem f267_236 : ft 267 236 = some (11, 0, 0, .goto 5, 3) := Fm267 (dk_167 0 5 (dk_at s267_10 0 rfl rfl)) rfl
theorem f267_239 : ft 267 239 = some (11, 0, 0, .lload 10, 2) := Fm267 (dk_22 10 (dk_at s267_10 3 rfl rfl)) rfl
theorem f267_241 : ft 267 241 = some (11, 0, 0, .lstore 10, 2) := Fm267 (dk_55 10 (dk_at s267_10 5 rfl rfl)) rfl
theorem f267_243 : ft 267 243 = some (11, 0, 0, .lload 12, 2) := Fm267 (dk_22 12 (dk_at s267_10 7 rfl rfl)) rfl
theorem f267_245 : ft 267 245 = some (11, 0, 0, .lload_n 3, 1) := Fm267 (dk_33 (dk_at s267_10 9 rfl rfl)) rfl
theorem f267_246 : ft 267 246 = some (11, 0, 0, .lcmp, 1) := Fm267 (dk_148 (dk_at s267_10 10 rfl rfl)) rfl
theorem f267_247 : ft 267 247 = some (11, 0, 0, .ifCond .le 7, 3) := Fm267 (dk_158 0 7 (dk_at s267_10 11 rfl rfl)) rfl
theorem f267_250 : ft 267 250 = some (11, 0, 0, .lload_n 3, 1) := Fm267 (dk_33 (dk_at s267_10 14 rfl rfl)) rfl
theorem f267_251 : ft 267 251 = some (11, 0, 0, .goto 5, 3) := Fm267 (dk_167 0 5 (dk_at s267_10 15 rfl rfl)) rfl
theorem f267_254 : ft 267 254 = some (11, 0, 0, .lload 12, 2) := Fm267 (dk_22 12 (dk_at s267_10 18 rfl rfl)) rfl
theorem f267_256 : ft 267 256 = some (11, 0, 0, .lstore 12, 2) := Fm267 (dk_55 12 (dk_at s267_10 20 rfl rfl)) rfl
theorem f267_258 : ft 267 258 = some (11, 0, 0, .lload 10, 2) := Fm267 (dk_22 10 (dk_at s267_10 22 rfl rfl)) rfl
theorem f267_260 : ft 267 260 = some (11, 0, 0, .lstore 14, 2) := Fm267 (dk_55 14 (dk_at s267_11 0 rfl rfl)) rfl
theorem f267_262 : ft 267 262 = some (11, 0, 0, .lload 14, 2) := Fm267 (dk_22 14 (dk_at s267_11 2 rfl rfl)) rfl
theorem f267_264 : ft 267 264 = some (11, 0, 0, .lload 12, 2) := Fm267 (dk_22 12 (dk_at s267_11 4 rfl rfl)) rfl
theorem f267_266 : ft 267 266 = some (11, 0, 0, .lcmp, 1) := Fm267 (dk_148 (dk_at s267_11 6 rfl rfl)) rfl
theorem f267_267 : ft 267 267 = some (11, 0, 0, .ifCond .ge 24, 3) := Fm267 (dk_156 0 24 (dk_at s267_11 7 rfl rfl)) rfl
theorem f267_270 : ft 267 270 = some (11, 0, 0, .aload_n 0, 1) := Fm267 (dk_42 (dk_at s267_11 10 rfl rfl)) rfl
theorem f267_271 : ft 267 271 = some (11, 0, 0, .aload_n 0, 1) := Fm267 (dk_42 (dk_at s267_11 11 rfl rfl)) rfl
theorem f267_272 : ft 267 272 = some (11, 0, 0, .iload_n 2, 1) := Fm267 (dk_28 (dk_at s267_11 12 rfl rfl)) rfl
theorem f267_273 : ft 267 273 = some (11, 0, 0, .lload 14, 2) := Fm267 (dk_22 14 (dk_at s267_11 13 rfl rfl)) rfl
theorem f267_275 : ft 267 275 = some (11, 0, 0, .invokevirtual 343, 3) := Fm267 (dk_182 1 87 (dk_at s267_11 15 rfl rfl)) rfl
theorem f267_278 : ft 267 278 = some (11, 0, 0, .invokevirtual 508, 3) := Fm267 (dk_182 1 252 (dk_at s267_11 18 rfl rfl)) rfl
theorem f267_281 : ft 267 281 = some (11, 0, 0, .lload 14, 2) := Fm267 (dk_22 14 (dk_at s267_11 21 rfl rfl)) rfl
theorem f267_283 : ft 267 283 = some (11, 0, 0, .lload 8, 2) := Fm267 (dk_22 8 (dk_at s267_12 0 rfl rfl)) rfl
theorem f267_285 : ft 267 285 = some (11, 0, 0, .ladd, 1) := Fm267 (dk_97 (dk_at s267_12 2 rfl rfl)) rfl
theorem f267_286 : ft 267 286 = some (11, 0, 0, .lstore 14, 2) := Fm267 (dk_55 14 (dk_at s267_12 3 rfl rfl)) rfl
theorem f267_288 : ft 267 288 = some (11, 0, 0, .goto (-26), 3) := Fm267 (dk_167 255 230 (dk_at s267_12 5 rfl rfl)) rfl
theorem f267_291 : ft 267 291 = some (11, 0, 0, .goto 74, 3) := Fm267 (dk_167 0 74 (dk_at s267_12 8 rfl rfl)) rfl
theorem f267_294 : ft 267 294 = some (11, 0, 0, .lload 10, 2) := Fm267 (dk_22 10 (dk_at s267_12 11 rfl rfl)) rfl
theorem f267_296 : ft 267 296 = some (11, 0, 0, .lload_n 3, 1) := Fm267 (dk_33 (dk_at s267_12 13 rfl rfl)) rfl
theorem f267_297 : ft 267 297 = some (11, 0, 0, .lconst 1, 1) := Fm267 (dk_10 (dk_at s267_12 14 rfl rfl)) rfl
theorem f267_298 : ft 267 298 = some (11, 0, 0, .lsub, 1) := Fm267 (dk_101 (dk_at s267_12 15 rfl rfl)) rfl
theorem f267_299 : ft 267 299 = some (11, 0, 0, .lcmp, 1) := Fm267 (dk_148 (dk_at s267_12 16 rfl rfl)) rfl
theorem f267_300 : ft 267 300 = some (11, 0, 0, .ifCond .le 9, 3) := Fm267 (dk_158 0 9 (dk_at s267_12 17 rfl rfl)) rfl
theorem f267_303 : ft 267 303 = some (11, 0, 0, .lload_n 3, 1) := Fm267 (dk_33 (dk_at s267_12 20 rfl rfl)) rfl
theorem f267_304 : ft 267 304 = some (11, 0, 0, .lconst 1, 1) := Fm267 (dk_10 (dk_at s267_12 21 rfl rfl)) rfl
theorem f267_305 : ft 267 305 = some (11, 0, 0, .lsub, 1) := Fm267 (dk_101 (dk_at s267_12 22 rfl rfl)) rfl
theorem f267_306 : ft 267 306 = some (11, 0, 0, .goto 5, 3) := Fm267 (dk_167 0 5 (dk_at s267_13 0 rfl rfl)) rfl
theorem f267_309 : ft 267 309 = some (11, 0, 0, .lload 10, 2) := Fm267 (dk_22 10 (dk_at s267_13 3 rfl rfl)) rfl
theorem f267_311 : ft 267 311 = some (11, 0, 0, .lstore 10, 2) := Fm267 (dk_55 10 (dk_at s267_13 5 rfl rfl)) rfl
theorem f267_313 : ft 267 313 = some (11, 0, 0, .lload 12, 2) := Fm267 (dk_22 12 (dk_at s267_13 7 rfl rfl)) rfl
theorem f267_315 : ft 267 315 = some (11, 0, 0, .ldc2_w 337, 3) := Fm267 (dk_20 1 81 (dk_at s267_13 9 rfl rfl)) rfl
theorem f267_318 : ft 267 318 = some (11, 0, 0, .lcmp, 1) := Fm267 (dk_148 (dk_at s267_13 12 rfl rfl)) rfl
theorem f267_319 : ft 267 319 = some (11, 0, 0, .ifCond .ge 9, 3) := Fm267 (dk_156 0 9 (dk_at s267_13 13 rfl rfl)) rfl
theorem f267_322 : ft 267 322 = some (11, 0, 0, .ldc2_w 337, 3) := Fm267 (dk_20 1 81 (dk_at s267_13 16 rfl rfl)) rfl
theorem f267_325 : ft 267 325 = some (11, 0, 0, .goto 5, 3) := Fm267 (dk_167 0 5 (dk_at s267_13 19 rfl rfl)) rfl
theorem f267_328 : ft 267 328 = some (11, 0, 0, .lload 12, 2) := Fm267 (dk_22 12 (dk_at s267_13 22 rfl rfl)) rfl
theorem f267_330 : ft 267 330 = some (11, 0, 0, .lstore 12, 2) := Fm267 (dk_55 12 (dk_at s267_14 0 rfl rfl)) rfl
theorem f267_332 : ft 267 332 = some (11, 0, 0, .lload 10, 2) := Fm267 (dk_22 10 (dk_at s267_14 2 rfl rfl)) rfl
theorem f267_334 : ft 267 334 = some (11, 0, 0, .lstore 14, 2) := Fm267 (dk_55 14 (dk_at s267_14 4 rfl rfl)) rfl
theorem f267_336 : ft 267 336 = some (11, 0, 0, .lload 14, 2) := Fm267 (dk_22 14 (dk_at s267_14 6 rfl rfl)) rfl
theorem f267_338 : ft 267 338 = some (11, 0, 0, .lload 12, 2) := Fm267 (dk_22 12 (dk_at s267_14 8 rfl rfl)) rfl
theorem f267_340 : ft 267 340 = some (11, 0, 0, .lcmp, 1) := Fm267 (dk_148 (dk_at s267_14 10 rfl rfl)) rfl
theorem f267_341 : ft 267 341 = some (11, 0, 0, .ifCond .le 24, 3) := Fm267 (dk_158 0 24 (dk_at s267_14 11 rfl rfl)) rfl
theorem f267_344 : ft 267 344 = some (11, 0, 0, .aload_n 0, 1) := Fm267 (dk_42 (dk_at s267_14 14 rfl rfl)) rfl
theorem f267_345 : ft 267 345 = some (11, 0, 0, .aload_n 0, 1) := Fm267 (dk_42 (dk_at s267_14 15 rfl rfl)) rfl
theorem f267_346 : ft 267 346 = some (11, 0, 0, .iload_n 2, 1) := Fm267 (dk_28 (dk_at s267_14 16 rfl rfl)) rfl
theorem f267_347 : ft 267 347 = some (11, 0, 0, .lload 14, 2) := Fm267 (dk_22 14 (dk_at s267_14 17 rfl rfl)) rfl
theorem f267_349 : ft 267 349 = some (11, 0, 0, .invokevirtual 343, 3) := Fm267 (dk_182 1 87 (dk_at s267_14 19 rfl rfl)) rfl
theorem f267_352 : ft 267 352 = some (11, 0, 0, .invokevirtual 508, 3) := Fm267 (dk_182 1 252 (dk_at s267_15 0 rfl rfl)) rfl
theorem f267_355 : ft 267 355 = some (11, 0, 0, .lload 14, 2) := Fm267 (dk_22 14 (dk_at s267_15 3 rfl rfl)) rfl
theorem f267_357 : ft 267 357 = some (11, 0, 0, .lload 8, 2) := Fm267 (dk_22 8 (dk_at s267_15 5 rfl rfl)) rfl
theorem f267_359 : ft 267 359 = some (11, 0, 0, .ladd, 1) := Fm267 (dk_97 (dk_at s267_15 7 rfl rfl)) rfl
theorem f267_360 : ft 267 360 = some (11, 0, 0, .lstore 14, 2) := Fm267 (dk_55 14 (dk_at s267_15 8 rfl rfl)) rfl
theorem f267_362 : ft 267 362 = some (11, 0, 0, .goto (-26), 3) := Fm267 (dk_167 255 230 (dk_at s267_15 10 rfl rfl)) rfl
theorem f267_365 : ft 267 365 = some (11, 0, 0, .return_, 1) := Fm267 (dk_177 (dk_at s267_15 13 rfl rfl)) rfl
theorem q267 {d : Nat} {m : Mem} {a0 a1 a2 : Int} (hd : 0 < d) (hz : TZ m) : le2 (gd (tg m a0 = 11) <| nm (vl m a0 18) fun v4 => gd (tg m v4 = 13) <| bI (cl (d - 1) 291 [pR v4, pI a2] m) fun v1 m1 => bI (cl (d - 1) 251 [pR a0, pI a1, pI 2] m1) fun v2 m2 => nm (vl m2 a0 28) fun v5 => nm (w32 (3 * a1)) fun v6 => gd (tg m2 v5 = 186102 ∨ tg m2 v5 = 246102) <| gd ((0 : Int) ≤ v6 ∧ v6 < ln m2 v5) <| nm (vl m2 v5 v6) fun v7 => bI (cl (d - 1) 251 [pR a0, pI a1, pI 0] m2) fun v3 m3 => if v3 = 3 then (if v7 < 0 then (rn d 267 54 [pR a0, pI a1, pI a2, pL v1, pU, pI v2, pL v7, pU, pU, pU, pU, pU, pU, pU, pU, pU] [pL (w64 (v1 + v7))] m3) else rn d 267 54 [pR a0, pI a1, pI a2, pL v1, pU, pI v2, pL v7, pU, pU, pU, pU, pU, pU, pU, pU, pU] [pL v7] m3) else if (pAnd v2 4) = 0 then (rn d 267 103 [pR a0, pI a1, pI a2, pL v1, pU, pI v2, pL v7, pU, pU, pU, pU, pU, pU, pU, pU, pU] [pL 1] m3) else nm (vl m3 a0 28) fun v8 => nm (w32 ((w32 (3 * a1)) + 2)) fun v9 => gd (tg m3 v8 = 186102 ∨ tg m3 v8 = 246102) <| gd ((0 : Int) ≤ v9 ∧ v9 < ln m3 v8) <| rn d 267 103 [pR a0, pI a1, pI a2, pL v1, pU, pI v2, pL v7, pU, pU, pU, pU, pU, pU, pU, pU, pU] [pL (vl m3 v8 v9)] m3) (cl d 267 [pR a0, pI a1, pI a2] m) := by
  refine q_in (n := 16) (L := [pR a0, pI a1, pI a2, pU, pU, pU, pU, pU, pU, pU, pU, pU, pU, pU, pU, pU]) rfl rfl rfl ?_
  refine r_aln0 (p := 1) f267_0 rfl ?_
  refine le2_gd (fun h1 => ?_)
  refine r_gfR (f := 18) (p := 4) f267_1 rfl rfl rfl (Or.inl h1) rfl ?_
  refine r_nmR (fun v4 ev4 => ?_)
  refine r_iln2 (p := 5) f267_4 rfl ?_
  refine le2_gd (fun h2 => ?_)
  refine r_invI (p := 8) f267_5 rfl rfl rfl (Or.inl h2) hd (Nat.le_of_ble_eq_true rfl) rfl rfl rfl (fun _ => rfl) (fun v1 m1 c1 => ?_)
  have hz1 := z_k c1 hz
  refine r_i2l (p := 9) f267_8 rfl ?_
  refine r_lsn3 (p := 10) f267_9 rfl rfl ?_
  refine r_aln0 (p := 11) f267_10 rfl ?_
  refine r_iln1 (p := 12) f267_11 rfl ?_
  refine r_iconst (p := 13) f267_12 rfl (pinD rfl rfl) ?_
  have h3 := k_t1 c1 hz h1 (by decide)
  refine r_invI (p := 16) f267_13 rfl rfl rfl (Or.inl h3) hd (Nat.le_of_ble_eq_true rfl) rfl rfl rfl (fun _ => rfl) (fun v2 m2 c2 => ?_)
  have hz2 := z_k c2 hz1
  refine r_isw5 (p := 18) f267_16 rfl rfl ?_
  refine r_aln0 (p := 19) f267_18 rfl ?_
  have h4 := k_t1 c2 hz1 h3 (by decide)
  refine r_gfR (f := 28) (p := 22) f267_19 rfl rfl rfl (Or.inl h4) rfl ?_
  refine r_nmR (fun v5 ev5 => ?_)
  refine r_iconst (p := 23) f267_22 rfl (pinD rfl rfl) ?_
  refine r_iln1 (p := 24) f267_23 rfl ?_
  refine r_imul (p := 25) f267_24 rfl ?_
  refine r_nmI (fun v6 ev6 => ?_)
  refine le2_gd (fun h5 => ?_)
  refine le2_gd (fun h6 => ?_)
  refine r_laload (p := 26) f267_25 rfl (dj2 (fun x => x % 1000 = 102) h5 (by decide) (by decide)) h6 rfl ?_
  refine r_nmJ (fun v7 ev7 => ?_)
  refine r_lsw6 (p := 28) f267_26 rfl rfl ?_
  refine r_aln0 (p := 29) f267_28 rfl ?_
  refine r_iln1 (p := 30) f267_29 rfl ?_
  refine r_iconst (p := 31) f267_30 rfl (pinD rfl rfl) ?_
  refine r_invI (p := 34) f267_31 rfl rfl rfl (Or.inl h4) hd (Nat.le_of_ble_eq_true rfl) rfl rfl rfl (fun _ => rfl) (fun v3 m3 c3 => ?_)
  have hz3 := z_k c3 hz2
  refine r_iconst (p := 35) f267_34 rfl (pinD rfl rfl) ?_
  refine r_icne (t := 82) (p := 38) f267_35 (by decide) rfl rfl ?_ ?_
  · refine r_llw6 (p := 40) f267_38 rfl ?_
    refine r_lconst0 (p := 41) f267_40 rfl ?_
    refine r_lcge (p1 := 42) (t := 52) (p := 45) f267_41 rfl f267_42 (by decide) rfl rfl ?_ ?_
    · refine r_lln3 (p := 46) f267_45 rfl ?_
      refine r_llw6 (p := 48) f267_46 rfl ?_
      refine r_ladd (p := 49) f267_48 rfl ?_
      refine r_goto (p := 54) f267_49 (by decide) rfl ?_
      exact le2_refl _
    · refine r_llw6 (p := 54) f267_52 rfl ?_
      exact le2_refl _
  · refine r_ilw5 (p := 84) f267_82 rfl ?_
    refine r_iconst (p := 85) f267_84 rfl (pinD rfl rfl) ?_
    refine r_iand (p := 86) f267_85 rfl ?_
    refine r_ifeq (t := 102) (p := 89) f267_86 (by decide) rfl rfl ?_ ?_
    · refine r_lconst1 (p := 103) f267_102 rfl ?_
      exact le2_refl _
    · refine r_aln0 (p := 90) f267_89 rfl ?_
      have h7 := k_t1 c3 hz2 h4 (by decide)
      refine r_gfR (f := 28) (p := 93) f267_90 rfl rfl rfl (Or.inl h7) rfl ?_
      refine r_nmR (fun v8 ev8 => ?_)
      refine r_iconst (p := 94) f267_93 rfl (pinD rfl rfl) ?_
      refine r_iln1 (p := 95) f267_94 rfl ?_
      refine r_imul (p := 96) f267_95 rfl ?_
      refine r_iconst (p := 97) f267_96 rfl (pinD rfl rfl) ?_
      refine r_iadd (p := 98) f267_97 rfl ?_
      refine r_nmI (fun v9 ev9 => ?_)
      refine le2_gd (fun h8 => ?_)
      refine le2_gd (fun h9 => ?_)
      refine r_laload (p := 99) f267_98 rfl (dj2 (fun x => x % 1000 = 102) h8 (by decide) (by decide)) h9 rfl ?_
      refine r_goto (p := 103) f267_99 (by decide) rfl ?_
      exact le2_refl _
theorem q267_54 {d : Nat} {m : Mem} {a0 a1 a2 a3 a5 a6 s0 : Int} (hd : 0 < d) (hz : TZ m) : le2 (if s0 < 0 then (some (.inl none, m)) else if s0 < a3 then (gd (tg m a0 = 11) <| bI (cl (d - 1) 234 [pR a0, pI a2, pL s0] m) fun v1 m1 => bV (cl (d - 1) 263 [pR a0, pI v1] m1) fun m2 => some (.inl none, m2)) else some (.inl none, m)) (rn d 267 54 [pR a0, pI a1, pI a2, pL a3, pU, pI a5, pL a6, pU, pU, pU, pU, pU, pU, pU, pU, pU] [pL s0] m) := by
  refine r_lsw8 (p := 56) f267_54 rfl rfl ?_
  refine r_llw8 (p := 58) f267_56 rfl ?_
  refine r_lconst0 (p := 59) f267_58 rfl ?_
  refine r_lclt (p1 := 60) (t := 81) (p := 63) f267_59 rfl f267_60 (by decide) rfl rfl ?_ ?_
  · exact r_ret f267_81
  · refine r_llw8 (p := 65) f267_63 rfl ?_
    refine r_lln3 (p := 66) f267_65 rfl ?_
    refine r_lcge (p1 := 67) (t := 81) (p := 70) f267_66 rfl f267_67 (by decide) rfl rfl ?_ ?_
    · refine r_aln0 (p := 71) f267_70 rfl ?_
      refine r_aln0 (p := 72) f267_71 rfl ?_
      refine r_iln2 (p := 73) f267_72 rfl ?_
      refine r_llw8 (p := 75) f267_73 rfl ?_
      refine le2_gd (fun h1 => ?_)
      refine r_invI (p := 78) f267_75 rfl rfl rfl (Or.inl h1) hd (Nat.le_of_ble_eq_true rfl) rfl rfl rfl (fun _ => rfl) (fun v1 m1 c1 => ?_)
      have hz1 := z_k c1 hz
      have h2 := k_t1 c1 hz h1 (by decide)
      refine r_invV (p := 81) f267_78 rfl rfl rfl (Or.inl h2) hd (Nat.le_of_ble_eq_true rfl) rfl rfl rfl (fun _ => rfl) (fun m2 c2 => ?_)
      have hz2 := z_k c2 hz1
      exact r_ret f267_81
    · exact r_ret f267_81
theorem q267_103 {d : Nat} {m : Mem} {a0 a1 a2 a3 a5 a6 s0 : Int} (hz : TZ m) : le2 (if s0 = 0 then (some (.inl none, m)) else if (pAnd a5 1) = 0 then (if 0 < s0 then (rn d 267 153 [pR a0, pI a1, pI a2, pL a3, pU, pI a5, pL a6, pU, pL s0, pU, pU, pU, pU, pU, pU, pU] [pL 0] m) else rn d 267 153 [pR a0, pI a1, pI a2, pL a3, pU, pI a5, pL a6, pU, pL s0, pU, pU, pU, pU, pU, pU, pU] [pL (w64 (a3 - 1))] m) else if a6 < 0 then (rn d 267 153 [pR a0, pI a1, pI a2, pL a3, pU, pI a5, pL a6, pU, pL s0, pU, pU, pU, pU, pU, pU, pU] [pL (w64 (a3 + a6))] m) else rn d 267 153 [pR a0, pI a1, pI a2, pL a3, pU, pI a5, pL a6, pU, pL s0, pU, pU, pU, pU, pU, pU, pU] [pL a6] m) (rn d 267 103 [pR a0, pI a1, pI a2, pL a3, pU, pI a5, pL a6, pU, pU, pU, pU, pU, pU, pU, pU, pU] [pL s0] m) := by
  refine r_lsw8 (p := 105) f267_103 rfl rfl ?_
  refine r_llw8 (p := 107) f267_105 rfl ?_
  refine r_lconst0 (p := 108) f267_107 rfl ?_
  refine r_lcne (p1 := 109) (t := 113) (p := 112) f267_108 rfl f267_109 (by decide) rfl rfl ?_ ?_
  · exact r_ret f267_112
  · refine r_ilw5 (p := 115) f267_113 rfl ?_
    refine r_iconst (p := 116) f267_115 rfl (pinD rfl rfl) ?_
    refine r_iand (p := 117) f267_116 rfl ?_
    refine r_ifeq (t := 139) (p := 120) f267_117 (by decide) rfl rfl ?_ ?_
    · refine r_llw8 (p := 141) f267_139 rfl ?_
      refine r_lconst0 (p := 142) f267_141 rfl ?_
      refine r_lcle (p1 := 143) (t := 150) (p := 146) f267_142 rfl f267_143 (by decide) rfl rfl ?_ ?_
      · refine r_lconst0 (p := 147) f267_146 rfl ?_
        refine r_goto (p := 153) f267_147 (by decide) rfl ?_
        exact le2_refl _
      · refine r_lln3 (p := 151) f267_150 rfl ?_
        refine r_lconst1 (p := 152) f267_151 rfl ?_
        refine r_lsub (p := 153) f267_152 rfl ?_
        exact le2_refl _
    · refine r_llw6 (p := 122) f267_120 rfl ?_
      refine r_lconst0 (p := 123) f267_122 rfl ?_
      refine r_lcge (p1 := 124) (t := 134) (p := 127) f267_123 rfl f267_124 (by decide) rfl rfl ?_ ?_
      · refine r_lln3 (p := 128) f267_127 rfl ?_
        refine r_llw6 (p := 130) f267_128 rfl ?_
        refine r_ladd (p := 131) f267_130 rfl ?_
        refine r_goto (p := 153) f267_131 (by decide) rfl ?_
        exact le2_refl _
      · refine r_llw6 (p := 136) f267_134 rfl ?_
        refine r_goto (p := 153) f267_136 (by decide) rfl ?_
        exact le2_refl _
theorem q267_153 {d : Nat} {m : Mem} {a0 a1 a2 a3 a5 a6 a8 s0 : Int} (hz : TZ m) : le2 (if (pAnd a5 2) = 0 then (if 0 < a8 then (rn d 267 219 [pR a0, pI a1, pI a2, pL a3, pU, pI a5, pL a6, pU, pL a8, pU, pL s0, pU, pU, pU, pU, pU] [pL a3] m) else rn d 267 219 [pR a0, pI a1, pI a2, pL a3, pU, pI a5, pL a6, pU, pL a8, pU, pL s0, pU, pU, pU, pU, pU] [pL (-1)] m) else gd (tg m a0 = 11) <| nm (vl m a0 28) fun v1 => nm (w32 ((w32 (3 * a1)) + 1)) fun v2 => gd (tg m v1 = 186102 ∨ tg m v1 = 246102) <| gd ((0 : Int) ≤ v2 ∧ v2 < ln m v1) <| if (vl m v1 v2) < 0 then (nm (w32 ((w32 (3 * a1)) + 1)) fun v3 => gd ((0 : Int) ≤ v3 ∧ v3 < ln m v1) <| rn d 267 219 [pR a0, pI a1, pI a2, pL a3, pU, pI a5, pL a6, pU, pL a8, pU, pL s0, pU, pU, pU, pU, pU] [pL (w64 (a3 + (vl m v1 v3)))] m) else nm (w32 ((w32 (3 * a1)) + 1)) fun v4 => gd ((0 : Int) ≤ v4 ∧ v4 < ln m v1) <| rn d 267 219 [pR a0, pI a1, pI a2, pL a3, pU, pI a5, pL a6, pU, pL a8, pU, pL s0, pU, pU, pU, pU, pU] [pL (vl m v1 v4)] m) (rn d 267 153 [pR a0, pI a1, pI a2, pL a3, pU, pI a5, pL a6, pU, pL a8, pU, pU, pU, pU, pU, pU, pU] [pL s0] m) := by
  refine r_lsw10 (p := 155) f267_153 rfl rfl ?_
  refine r_ilw5 (p := 157) f267_155 rfl ?_
  refine r_iconst (p := 158) f267_157 rfl (pinD rfl rfl) ?_
  refine r_iand (p := 159) f267_158 rfl ?_
  refine r_ifeq (t := 205) (p := 162) f267_159 (by decide) rfl rfl ?_ ?_
  · refine r_llw8 (p := 207) f267_205 rfl ?_
    refine r_lconst0 (p := 208) f267_207 rfl ?_
    refine r_lcle (p1 := 209) (t := 216) (p := 212) f267_208 rfl f267_209 (by decide) rfl rfl ?_ ?_
    · refine r_lln3 (p := 213) f267_212 rfl ?_
      refine r_goto (p := 219) f267_213 (by decide) rfl ?_
      exact le2_refl _
    · refine r_ldc2 (p := 219) f267_216 rfl rfl (pinD rfl rfl) ?_
      exact le2_refl _
  · refine r_aln0 (p := 163) f267_162 rfl ?_
    refine le2_gd (fun h1 => ?_)
    refine r_gfR (f := 28) (p := 166) f267_163 rfl rfl rfl (Or.inl h1) rfl ?_
    refine r_nmR (fun v1 ev1 => ?_)
    refine r_iconst (p := 167) f267_166 rfl (pinD rfl rfl) ?_
    refine r_iln1 (p := 168) f267_167 rfl ?_
    refine r_imul (p := 169) f267_168 rfl ?_
    refine r_iconst (p := 170) f267_169 rfl (pinD rfl rfl) ?_
    refine r_iadd (p := 171) f267_170 rfl ?_
    refine r_nmI (fun v2 ev2 => ?_)
    refine le2_gd (fun h2 => ?_)
    refine le2_gd (fun h3 => ?_)
    refine r_laload (p := 172) f267_171 rfl (dj2 (fun x => x % 1000 = 102) h2 (by decide) (by decide)) h3 rfl ?_
    refine r_lconst0 (p := 173) f267_172 rfl ?_
    refine r_lcge (p1 := 174) (t := 192) (p := 177) f267_173 rfl f267_174 (by decide) rfl rfl ?_ ?_
    · refine r_lln3 (p := 178) f267_177 rfl ?_
      refine r_aln0 (p := 179) f267_178 rfl ?_
      refine r_gfR (f := 28) (p := 182) f267_179 rfl rfl rfl (Or.inl h1) ev1.symm ?_
      refine r_iconst (p := 183) f267_182 rfl (pinD rfl rfl) ?_
      refine r_iln1 (p := 184) f267_183 rfl ?_
      refine r_imul (p := 185) f267_184 rfl ?_
      refine r_iconst (p := 186) f267_185 rfl (pinD rfl rfl) ?_
      refine r_iadd (p := 187) f267_186 rfl ?_
      refine r_nmI (fun v3 ev3 => ?_)
      refine le2_gd (fun h5 => ?_)
      refine r_laload (p := 188) f267_187 rfl (dj2 (fun x => x % 1000 = 102) h2 (by decide) (by decide)) h5 rfl ?_
      refine r_ladd (p := 189) f267_188 rfl ?_
      refine r_goto (p := 219) f267_189 (by decide) rfl ?_
      exact le2_refl _
    · refine r_aln0 (p := 193) f267_192 rfl ?_
      refine r_gfR (f := 28) (p := 196) f267_193 rfl rfl rfl (Or.inl h1) ev1.symm ?_
      refine r_iconst (p := 197) f267_196 rfl (pinD rfl rfl) ?_
      refine r_iln1 (p := 198) f267_197 rfl ?_
      refine r_imul (p := 199) f267_198 rfl ?_
      refine r_iconst (p := 200) f267_199 rfl (pinD rfl rfl) ?_
      refine r_iadd (p := 201) f267_200 rfl ?_
      refine r_nmI (fun v4 ev4 => ?_)
      refine le2_gd (fun h4 => ?_)
      refine r_laload (p := 202) f267_201 rfl (dj2 (fun x => x % 1000 = 102) h2 (by decide) (by decide)) h4 rfl ?_
      refine r_goto (p := 219) f267_202 (by decide) rfl ?_
      exact le2_refl _
theorem q267_219 {d : Nat} {m : Mem} {a0 a1 a2 a3 a5 a6 a8 a10 s0 : Int} (hz : TZ m) : le2 (if 0 < a8 then (if a10 < 0 then (rn d 267 241 [pR a0, pI a1, pI a2, pL a3, pU, pI a5, pL a6, pU, pL a8, pU, pL a10, pU, pL s0, pU, pU, pU] [pL 0] m) else rn d 267 241 [pR a0, pI a1, pI a2, pL a3, pU, pI a5, pL a6, pU, pL a8, pU, pL a10, pU, pL s0, pU, pU, pU] [pL a10] m) else if (w64 (a3 - 1)) < a10 then (rn d 267 311 [pR a0, pI a1, pI a2, pL a3, pU, pI a5, pL a6, pU, pL a8, pU, pL a10, pU, pL s0, pU, pU, pU] [pL (w64 (a3 - 1))] m) else rn d 267 311 [pR a0, pI a1, pI a2, pL a3, pU, pI a5, pL a6, pU, pL a8, pU, pL a10, pU, pL s0, pU, pU, pU] [pL a10] m) (rn d 267 219 [pR a0, pI a1, pI a2, pL a3, pU, pI a5, pL a6, pU, pL a8, pU, pL a10, pU, pU, pU, pU, pU] [pL s0] m) := by
  refine r_lsw12 (p := 221) f267_219 rfl rfl ?_
  refine r_llw8 (p := 223) f267_221 rfl ?_
  refine r_lconst0 (p := 224) f267_223 rfl ?_
  refine r_lcle (p1 := 225) (t := 294) (p := 228) f267_224 rfl f267_225 (by decide) rfl rfl ?_ ?_
  · refine r_llw10 (p := 230) f267_228 rfl ?_
    refine r_lconst0 (p := 231) f267_230 rfl ?_
    refine r_lcge (p1 := 232) (t := 239) (p := 235) f267_231 rfl f267_232 (by decide) rfl rfl ?_ ?_
    · refine r_lconst0 (p := 236) f267_235 rfl ?_
      refine r_goto (p := 241) f267_236 (by decide) rfl ?_
      exact le2_refl _
    · refine r_llw10 (p := 241) f267_239 rfl ?_
      exact le2_refl _
  · refine r_llw10 (p := 296) f267_294 rfl ?_
    refine r_lln3 (p := 297) f267_296 rfl ?_
    refine r_lconst1 (p := 298) f267_297 rfl ?_
    refine r_lsub (p := 299) f267_298 rfl ?_
    refine r_lcle (p1 := 300) (t := 309) (p := 303) f267_299 rfl f267_300 (by decide) rfl rfl ?_ ?_
    · refine r_lln3 (p := 304) f267_303 rfl ?_
      refine r_lconst1 (p := 305) f267_304 rfl ?_
      refine r_lsub (p := 306) f267_305 rfl ?_
      refine r_goto (p := 311) f267_306 (by decide) rfl ?_
      exact le2_refl _
    · refine r_llw10 (p := 311) f267_309 rfl ?_
      exact le2_refl _
theorem q267_241 {d : Nat} {m : Mem} {a0 a1 a2 a3 a5 a6 a8 a10 a12 s0 : Int} (hz : TZ m) : le2 (if a3 < a12 then (rn d 267 262 [pR a0, pI a1, pI a2, pL a3, pU, pI a5, pL a6, pU, pL a8, pU, pL s0, pU, pL a3, pU, pL s0, pU] [] m) else rn d 267 262 [pR a0, pI a1, pI a2, pL a3, pU, pI a5, pL a6, pU, pL a8, pU, pL s0, pU, pL a12, pU, pL s0, pU] [] m) (rn d 267 241 [pR a0, pI a1, pI a2, pL a3, pU, pI a5, pL a6, pU, pL a8, pU, pL a10, pU, pL a12, pU, pU, pU] [pL s0] m) := by
  refine r_lsw10 (p := 243) f267_241 rfl rfl ?_
  refine r_llw12 (p := 245) f267_243 rfl ?_
  refine r_lln3 (p := 246) f267_245 rfl ?_
  refine r_lcle (p1 := 247) (t := 254) (p := 250) f267_246 rfl f267_247 (by decide) rfl rfl ?_ ?_
  · refine r_lln3 (p := 251) f267_250 rfl ?_
    refine r_goto (p := 256) f267_251 (by decide) rfl ?_
    refine r_lsw12 (p := 258) f267_256 rfl rfl ?_
    refine r_llw10 (p := 260) f267_258 rfl ?_
    refine r_lsw14 (p := 262) f267_260 rfl rfl ?_
    exact le2_refl _
  · refine r_llw12 (p := 256) f267_254 rfl ?_
    refine r_lsw12 (p := 258) f267_256 rfl rfl ?_
    refine r_llw10 (p := 260) f267_258 rfl ?_
    refine r_lsw14 (p := 262) f267_260 rfl rfl ?_
    exact le2_refl _
theorem q267_262 {d : Nat} {m : Mem} {a0 a1 a2 a3 a5 a6 a8 a10 a12 a14 : Int} (hd : 0 < d) (hz : TZ m) : le2 (if a14 < a12 then (gd (tg m a0 = 11) <| bI (cl (d - 1) 234 [pR a0, pI a2, pL a14] m) fun v1 m1 => bV (cl (d - 1) 263 [pR a0, pI v1] m1) fun m2 => rn d 267 262 [pR a0, pI a1, pI a2, pL a3, pU, pI a5, pL a6, pU, pL a8, pU, pL a10, pU, pL a12, pU, pL (w64 (a14 + a8)), pU] [] m2) else some (.inl none, m)) (rn d 267 262 [pR a0, pI a1, pI a2, pL a3, pU, pI a5, pL a6, pU, pL a8, pU, pL a10, pU, pL a12, pU, pL a14, pU] [] m) := by
  refine r_llw14 (p := 264) f267_262 rfl ?_
  refine r_llw12 (p := 266) f267_264 rfl ?_
  refine r_lcge (p1 := 267) (t := 291) (p := 270) f267_266 rfl f267_267 (by decide) rfl rfl ?_ ?_
  · refine r_aln0 (p := 271) f267_270 rfl ?_
    refine r_aln0 (p := 272) f267_271 rfl ?_
    refine r_iln2 (p := 273) f267_272 rfl ?_
    refine r_llw14 (p := 275) f267_273 rfl ?_
    refine le2_gd (fun h1 => ?_)
    refine r_invI (p := 278) f267_275 rfl rfl rfl (Or.inl h1) hd (Nat.le_of_ble_eq_true rfl) rfl rfl rfl (fun _ => rfl) (fun v1 m1 c1 => ?_)
    have hz1 := z_k c1 hz
    have h2 := k_t1 c1 hz h1 (by decide)
    refine r_invV (p := 281) f267_278 rfl rfl rfl (Or.inl h2) hd (Nat.le_of_ble_eq_true rfl) rfl rfl rfl (fun _ => rfl) (fun m2 c2 => ?_)
    have hz2 := z_k c2 hz1
    refine r_llw14 (p := 283) f267_281 rfl ?_
    refine r_llw8 (p := 285) f267_283 rfl ?_
    refine r_ladd (p := 286) f267_285 rfl ?_
    refine r_lsw14 (p := 288) f267_286 rfl rfl ?_
    refine r_goto (p := 262) f267_288 (by decide) rfl ?_
    exact le2_refl _
  · refine r_goto (p := 365) f267_291 (by decide) rfl ?_
    exact r_ret f267_365
theorem q267_311 {d : Nat} {m : Mem} {a0 a1 a2 a3 a5 a6 a8 a10 a12 s0 : Int} (hz : TZ m) : le2 (if a12 < (-1) then (rn d 267 336 [pR a0, pI a1, pI a2, pL a3, pU, pI a5, pL a6, pU, pL a8, pU, pL s0, pU, pL (-1), pU, pL s0, pU] [] m) else rn d 267 336 [pR a0, pI a1, pI a2, pL a3, pU, pI a5, pL a6, pU, pL a8, pU, pL s0, pU, pL a12, pU, pL s0, pU] [] m) (rn d 267 311 [pR a0, pI a1, pI a2, pL a3, pU, pI a5, pL a6, pU, pL a8, pU, pL a10, pU, pL a12, pU, pU, pU] [pL s0] m) := by
  refine r_lsw10 (p := 313) f267_311 rfl rfl ?_
  refine r_llw12 (p := 315) f267_313 rfl ?_
  refine r_ldc2 (p := 318) f267_315 rfl rfl (pinD rfl rfl) ?_
  refine r_lcge (p1 := 319) (t := 328) (p := 322) f267_318 rfl f267_319 (by decide) rfl rfl ?_ ?_
  · refine r_ldc2 (p := 325) f267_322 rfl rfl (pinD rfl rfl) ?_
    refine r_goto (p := 330) f267_325 (by decide) rfl ?_
    refine r_lsw12 (p := 332) f267_330 rfl rfl ?_
    refine r_llw10 (p := 334) f267_332 rfl ?_
    refine r_lsw14 (p := 336) f267_334 rfl rfl ?_
    exact le2_refl _
  · refine r_llw12 (p := 330) f267_328 rfl ?_
    refine r_lsw12 (p := 332) f267_330 rfl rfl ?_
    refine r_llw10 (p := 334) f267_332 rfl ?_
    refine r_lsw14 (p := 336) f267_334 rfl rfl ?_
    exact le2_refl _
theorem q267_336 {d : Nat} {m : Mem} {a0 a1 a2 a3 a5 a6 a8 a10 a12 a14 : Int} (hd : 0 < d) (hz : TZ m) : le2 (if a12 < a14 then (gd (tg m a0 = 11) <| bI (cl (d - 1) 234 [pR a0, pI a2, pL a14] m) fun v1 m1 => bV (cl (d - 1) 263 [pR a0, pI v1] m1) fun m2 => rn d 267 336 [pR a0, pI a1, pI a2, pL a3, pU, pI a5, pL a6, pU, pL a8, pU, pL a10, pU, pL a12, pU, pL (w64 (a14 + a8)), pU] [] m2) else some (.inl none, m)) (rn d 267 336 [pR a0, pI a1, pI a2, pL a3, pU, pI a5, pL a6, pU, pL a8, pU, pL a10, pU, pL a12, pU, pL a14, pU] [] m) := by
  refine r_llw14 (p := 338) f267_336 rfl ?_
  refine r_llw12 (p := 340) f267_338 rfl ?_
  refine r_lcle (p1 := 341) (t := 365) (p := 344) f267_340 rfl f267_341 (by decide) rfl rfl ?_ ?_
  · refine r_aln0 (p := 345) f267_344 rfl ?_
    refine r_aln0 (p := 346) f267_345 rfl ?_
    refine r_iln2 (p := 347) f267_346 rfl ?_
    refine r_llw14 (p := 349) f267_347 rfl ?_
    refine le2_gd (fun h1 => ?_)
    refine r_invI (p := 352) f267_349 rfl rfl rfl (Or.inl h1) hd (Nat.le_of_ble_eq_true rfl) rfl rfl rfl (fun _ => rfl) (fun v1 m1 c1 => ?_)
    have hz1 := z_k c1 hz
    have h2 := k_t1 c1 hz h1 (by decide)
    refine r_invV (p := 355) f267_352 rfl rfl rfl (Or.inl h2) hd (Nat.le_of_ble_eq_true rfl) rfl rfl rfl (fun _ => rfl) (fun m2 c2 => ?_)
    have hz2 := z_k c2 hz1
    refine r_llw14 (p := 357) f267_355 rfl ?_
    refine r_llw8 (p := 359) f267_357 rfl ?_
    refine r_ladd (p := 360) f267_359 rfl ?_
    refine r_lsw14 (p := 362) f267_360 rfl rfl ?_
    refine r_goto (p := 336) f267_362 (by decide) rfl ?_
    exact le2_refl _
  · exact r_ret f267_365
/-! 268 PathStoreModel.holds (II)Z -/
def w268_7 : List UInt8 := [4, 167, 0, 4, 3, 54, 4, 42, 29, 181, 1, 246, 21, 4, 172, 42, 27, 28, 182, 2, 13, 172]
abbrev u268_7 : List UInt8 := w268_7 ++ []
def w268_6 : List UInt8 := [182, 2, 7, 172, 42, 42, 27, 5, 182, 1, 186, 28, 182, 2, 10, 62, 42, 180, 1, 246, 29, 164, 0, 7]
abbrev u268_6 : List UInt8 := w268_6 ++ u268_7
def w268_5 : List UInt8 := [182, 1, 186, 28, 182, 2, 7, 154, 0, 7, 4, 167, 0, 4, 3, 172, 42, 42, 27, 5, 182, 1, 186, 28]
abbrev u268_5 : List UInt8 := w268_5 ++ u268_6
def w268_4 : List UInt8 := [182, 2, 7, 154, 0, 5, 3, 172, 42, 29, 4, 182, 1, 186, 62, 167, 255, 234, 4, 172, 42, 42, 27, 5]
abbrev u268_4 : List UInt8 := w268_4 ++ u268_5
def w268_3 : List UInt8 := [4, 182, 1, 186, 62, 167, 255, 234, 3, 172, 42, 27, 5, 182, 1, 186, 62, 29, 155, 0, 24, 42, 29, 28]
abbrev u268_3 : List UInt8 := w268_3 ++ u268_4
def w268_2 : List UInt8 := [42, 27, 5, 182, 1, 186, 62, 29, 155, 0, 24, 42, 29, 28, 182, 2, 7, 153, 0, 5, 4, 172, 42, 29]
abbrev u268_2 : List UInt8 := w268_2 ++ u268_3
def w268_1 : List UInt8 := [170, 0, 0, 0, 172, 0, 0, 0, 30, 0, 0, 0, 35, 0, 0, 0, 37, 0, 0, 0, 71, 0, 0, 0, 105, 0, 0, 0, 172, 0, 0, 0, 137, 0, 0, 0, 125]
abbrev u268_1 : List UInt8 := w268_1 ++ u268_2
def w268_0 : List UInt8 := [42, 180, 1, 240, 153, 0, 5, 3, 172, 42, 27, 3, 182, 1, 186]
abbrev u268_0 : List UInt8 := w268_0 ++ u268_1
theorem s268_0 : (prog_32_method_84_code).data.toList.drop 0 = u268_0 := by decide +kernel
theorem s268_1 : (prog_32_method_84_code).data.toList.drop 15 = u268_1 := dk_seg s268_0 15 rfl rfl
theorem s268_2 : (prog_32_method_84_code).data.toList.drop 52 = u268_2 := dk_seg s268_1 37 rfl rfl
theorem s268_3 : (prog_32_method_84_code).data.toList.drop 76 = u268_3 := dk_seg s268_2 24 rfl rfl
theorem s268_4 : (prog_32_method_84_code).data.toList.drop 100 = u268_4 := dk_seg s268_3 24 rfl rfl
theorem s268_5 : (prog_32_method_84_code).data.toList.drop 124 = u268_5 := dk_seg s268_4 24 rfl rfl
theorem s268_6 : (prog_32_method_84_code).data.toList.drop 148 = u268_6 := dk_seg s268_5 24 rfl rfl
theorem s268_7 : (prog_32_method_84_code).data.toList.drop 172 = u268_7 := dk_seg s268_6 24 rfl rfl
theorem Fm268 {pc len : Nat} {i : Instr} (h : decode (prog_32_method_84_code) pc = .ok (i, len)) (hl : len = ilen i len) : ft 268 pc = some (11, 4, 0, i, len) := ft_mk rfl h hl
theorem f268_0 : ft 268 0 = some (11, 4, 0, .aload_n 0, 1) := Fm268 (dk_42 (dk_at s268_0 0 rfl rfl)) rfl
theorem f268_1 : ft 268 1 = some (11, 4, 0, .getfield 496, 3) := Fm268 (dk_180 1 240 (dk_at s268_0 1 rfl rfl)) rfl
theorem f268_4 : ft 268 4 = some (11, 4, 0, .ifCond .eq 5, 3) := Fm268 (dk_153 0 5 (dk_at s268_0 4 rfl rfl)) rfl
theorem f268_7 : ft 268 7 = some (11, 4, 0, .iconst 0, 1) := Fm268 (dk_3 (dk_at s268_0 7 rfl rfl)) rfl
theorem f268_8 : ft 268 8 = some (11, 4, 0, .ireturn, 1) := Fm268 (dk_172 (dk_at s268_0 8 rfl rfl)) rfl
theorem f268_9 : ft 268 9 = some (11, 4, 0, .aload_n 0, 1) := Fm268 (dk_42 (dk_at s268_0 9 rfl rfl)) rfl
theorem f268_10 : ft 268 10 = some (11, 4, 0, .iload_n 1, 1) := Fm268 (dk_27 (dk_at s268_0 10 rfl rfl)) rfl
theorem f268_11 : ft 268 11 = some (11, 4, 0, .iconst 0, 1) := Fm268 (dk_3 (dk_at s268_0 11 rfl rfl)) rfl
theorem f268_12 : ft 268 12 = some (11, 4, 0, .invokevirtual 442, 3) := Fm268 (dk_182 1 186 (dk_at s268_0 12 rfl rfl)) rfl
theorem f268_15 : ft 268 15 = some (11, 4, 0, .tableswitch 172 30 35 #[37, 71, 105, 172, 137, 125], 37) := Fm268 (by decide +kernel) rfl
theorem f268_52 : ft 268 52 = some (11, 4, 0, .aload_n 0, 1) := Fm268 (dk_42 (dk_at s268_2 0 rfl rfl)) rfl
theorem f268_53 : ft 268 53 = some (11, 4, 0, .iload_n 1, 1) := Fm268 (dk_27 (dk_at s268_2 1 rfl rfl)) rfl
theorem f268_54 : ft 268 54 = some (11, 4, 0, .iconst 2, 1) := Fm268 (dk_5 (dk_at s268_2 2 rfl rfl)) rfl
theorem f268_55 : ft 268 55 = some (11, 4, 0, .invokevirtual 442, 3) := Fm268 (dk_182 1 186 (dk_at s268_2 3 rfl rfl)) rfl
theorem f268_58 : ft 268 58 = some (11, 4, 0, .istore_n 3, 1) := Fm268 (dk_62 (dk_at s268_2 6 rfl rfl)) rfl
theorem f268_59 : ft 268 59 = some (11, 4, 0, .iload_n 3, 1) := Fm268 (dk_29 (dk_at s268_2 7 rfl rfl)) rfl
theorem f268_60 : ft 268 60 = some (11, 4, 0, .ifCond .lt 24, 3) := Fm268 (dk_155 0 24 (dk_at s268_2 8 rfl rfl)) rfl
theorem f268_63 : ft 268 63 = some (11, 4, 0, .aload_n 0, 1) := Fm268 (dk_42 (dk_at s268_2 11 rfl rfl)) rfl
theorem f268_64 : ft 268 64 = some (11, 4, 0, .iload_n 3, 1) := Fm268 (dk_29 (dk_at s268_2 12 rfl rfl)) rfl
theorem f268_65 : ft 268 65 = some (11, 4, 0, .iload_n 2, 1) := Fm268 (dk_28 (dk_at s268_2 13 rfl rfl)) rfl
theorem f268_66 : ft 268 66 = some (11, 4, 0, .invokevirtual 519, 3) := Fm268 (dk_182 2 7 (dk_at s268_2 14 rfl rfl)) rfl
theorem f268_69 : ft 268 69 = some (11, 4, 0, .ifCond .eq 5, 3) := Fm268 (dk_153 0 5 (dk_at s268_2 17 rfl rfl)) rfl
theorem f268_72 : ft 268 72 = some (11, 4, 0, .iconst 1, 1) := Fm268 (dk_4 (dk_at s268_2 20 rfl rfl)) rfl
theorem f268_73 : ft 268 73 = some (11, 4, 0, .ireturn, 1) := Fm268 (dk_172 (dk_at s268_2 21 rfl rfl)) rfl
theorem f268_74 : ft 268 74 = some (11, 4, 0, .aload_n 0, 1) := Fm268 (dk_42 (dk_at s268_2 22 rfl rfl)) rfl
theorem f268_75 : ft 268 75 = some (11, 4, 0, .iload_n 3, 1) := Fm268 (dk_29 (dk_at s268_2 23 rfl rfl)) rfl
theorem f268_76 : ft 268 76 = some (11, 4, 0, .iconst 1, 1) := Fm268 (dk_4 (dk_at s268_3 0 rfl rfl)) rfl
theorem f268_77 : ft 268 77 = some (11, 4, 0, .invokevirtual 442, 3) := Fm268 (dk_182 1 186 (dk_at s268_3 1 rfl rfl)) rfl
theorem f268_80 : ft 268 80 = some (11, 4, 0, .istore_n 3, 1) := Fm268 (dk_62 (dk_at s268_3 4 rfl rfl)) rfl
theorem f268_81 : ft 268 81 = some (11, 4, 0, .goto (-22), 3) := Fm268 (dk_167 255 234 (dk_at s268_3 5 rfl rfl)) rfl
theorem f268_84 : ft 268 84 = some (11, 4, 0, .iconst 0, 1) := Fm268 (dk_3 (dk_at s268_3 8 rfl rfl)) rfl
theorem f268_85 : ft 268 85 = some (11, 4, 0, .ireturn, 1) := Fm268 (dk_172 (dk_at s268_3 9 rfl rfl)) rfl
theorem f268_86 : ft 268 86 = some (11, 4, 0, .aload_n 0, 1) := Fm268 (dk_42 (dk_at s268_3 10 rfl rfl)) rfl
theorem f268_87 : ft 268 87 = some (11, 4, 0, .iload_n 1, 1) := Fm268 (dk_27 (dk_at s268_3 11 rfl rfl)) rfl
theorem f268_88 : ft 268 88 = some (11, 4, 0, .iconst 2, 1) := Fm268 (dk_5 (dk_at s268_3 12 rfl rfl)) rfl
theorem f268_89 : ft 268 89 = some (11, 4, 0, .invokevirtual 442, 3) := Fm268 (dk_182 1 186 (dk_at s268_3 13 rfl rfl)) rfl
theorem f268_92 : ft 268 92 = some (11, 4, 0, .istore_n 3, 1) := Fm268 (dk_62 (dk_at s268_3 16 rfl rfl)) rfl
theorem f268_93 : ft 268 93 = some (11, 4, 0, .iload_n 3, 1) := Fm268 (dk_29 (dk_at s268_3 17 rfl rfl)) rfl
theorem f268_94 : ft 268 94 = some (11, 4, 0, .ifCond .lt 24, 3) := Fm268 (dk_155 0 24 (dk_at s268_3 18 rfl rfl)) rfl
theorem f268_97 : ft 268 97 = some (11, 4, 0, .aload_n 0, 1) := Fm268 (dk_42 (dk_at s268_3 21 rfl rfl)) rfl
theorem f268_98 : ft 268 98 = some (11, 4, 0, .iload_n 3, 1) := Fm268 (dk_29 (dk_at s268_3 22 rfl rfl)) rfl
theorem f268_99 : ft 268 99 = some (11, 4, 0, .iload_n 2, 1) := Fm268 (dk_28 (dk_at s268_3 23 rfl rfl)) rfl
theorem f268_100 : ft 268 100 = some (11, 4, 0, .invokevirtual 519, 3) := Fm268 (dk_182 2 7 (dk_at s268_4 0 rfl rfl)) rfl
theorem f268_103 : ft 268 103 = some (11, 4, 0, .ifCond .ne 5, 3) := Fm268 (dk_154 0 5 (dk_at s268_4 3 rfl rfl)) rfl
theorem f268_106 : ft 268 106 = some (11, 4, 0, .iconst 0, 1) := Fm268 (dk_3 (dk_at s268_4 6 rfl rfl)) rfl
theorem f268_107 : ft 268 107 = some (11, 4, 0, .ireturn, 1) := Fm268 (dk_172 (dk_at s268_4 7 rfl rfl)) rfl
theorem f268_108 : ft 268 108 = some (11, 4, 0, .aload_n 0, 1) := Fm268 (dk_42 (dk_at s268_4 8 rfl rfl)) rfl
theorem f268_109 : ft 268 109 = some (11, 4, 0, .iload_n 3, 1) := Fm268 (dk_29 (dk_at s268_4 9 rfl rfl)) rfl
theorem f268_110 : ft 268 110 = some (11, 4, 0, .iconst 1, 1) := Fm268 (dk_4 (dk_at s268_4 10 rfl rfl)) rfl
theorem f268_111 : ft 268 111 = some (11, 4, 0, .invokevirtual 442, 3) := Fm268 (dk_182 1 186 (dk_at s268_4 11 rfl rfl)) rfl
theorem f268_114 : ft 268 114 = some (11, 4, 0, .istore_n 3, 1) := Fm268 (dk_62 (dk_at s268_4 14 rfl rfl)) rfl
theorem f268_115 : ft 268 115 = some (11, 4, 0, .goto (-22), 3) := Fm268 (dk_167 255 234 (dk_at s268_4 15 rfl rfl)) rfl
theorem f268_118 : ft 268 118 = some (11, 4, 0, .iconst 1, 1) := Fm268 (dk_4 (dk_at s268_4 18 rfl rfl)) rfl
theorem f268_119 : ft 268 119 = some (11, 4, 0, .ireturn, 1) := Fm268 (dk_172 (dk_at s268_4 19 rfl rfl)) rfl
theorem f268_120 : ft 268 120 = some (11, 4, 0, .aload_n 0, 1) := Fm268 (dk_42 (dk_at s268_4 20 rfl rfl)) rfl
theorem f268_121 : ft 268 121 = some (11, 4, 0, .aload_n 0, 1) := Fm268 (dk_42 (dk_at s268_4 21 rfl rfl)) rfl
theorem f268_122 : ft 268 122 = some (11, 4, 0, .iload_n 1, 1) := Fm268 (dk_27 (dk_at s268_4 22 rfl rfl)) rfl
theorem f268_123 : ft 268 123 = some (11, 4, 0, .iconst 2, 1) := Fm268 (dk_5 (dk_at s268_4 23 rfl rfl)) rfl
theorem f268_124 : ft 268 124 = some (11, 4, 0, .invokevirtual 442, 3) := Fm268 (dk_182 1 186 (dk_at s268_5 0 rfl rfl)) rfl
theorem f268_127 : ft 268 127 = some (11, 4, 0, .iload_n 2, 1) := Fm268 (dk_28 (dk_at s268_5 3 rfl rfl)) rfl
theorem f268_128 : ft 268 128 = some (11, 4, 0, .invokevirtual 519, 3) := Fm268 (dk_182 2 7 (dk_at s268_5 4 rfl rfl)) rfl
theorem f268_131 : ft 268 131 = some (11, 4, 0, .ifCond .ne 7, 3) := Fm268 (dk_154 0 7 (dk_at s268_5 7 rfl rfl)) rfl
theorem f268_134 : ft 268 134 = some (11, 4, 0, .iconst 1, 1) := Fm268 (dk_4 (dk_at s268_5 10 rfl rfl)) rfl
theorem f268_135 : ft 268 135 = some (11, 4, 0, .goto 4, 3) := Fm268 (dk_167 0 4 (dk_at s268_5 11 rfl rfl)) rfl
theorem f268_138 : ft 268 138 = some (11, 4, 0, .iconst 0, 1) := Fm268 (dk_3 (dk_at s268_5 14 rfl rfl)) rfl
theorem f268_139 : ft 268 139 = some (11, 4, 0, .ireturn, 1) := Fm268 (dk_172 (dk_at s268_5 15 rfl rfl)) rfl
theorem f268_140 : ft 268 140 = some (11, 4, 0, .aload_n 0, 1) := Fm268 (dk_42 (dk_at s268_5 16 rfl rfl)) rfl
theorem f268_141 : ft 268 141 = some (11, 4, 0, .aload_n 0, 1) := Fm268 (dk_42 (dk_at s268_5 17 rfl rfl)) rfl
theorem f268_142 : ft 268 142 = some (11, 4, 0, .iload_n 1, 1) := Fm268 (dk_27 (dk_at s268_5 18 rfl rfl)) rfl
theorem f268_143 : ft 268 143 = some (11, 4, 0, .iconst 2, 1) := Fm268 (dk_5 (dk_at s268_5 19 rfl rfl)) rfl
theorem f268_144 : ft 268 144 = some (11, 4, 0, .invokevirtual 442, 3) := Fm268 (dk_182 1 186 (dk_at s268_5 20 rfl rfl)) rfl
theorem f268_147 : ft 268 147 = some (11, 4, 0, .iload_n 2, 1) := Fm268 (dk_28 (dk_at s268_5 23 rfl rfl)) rfl
theorem f268_148 : ft 268 148 = some (11, 4, 0, .invokevirtual 519, 3) := Fm268 (dk_182 2 7 (dk_at s268_6 0 rfl rfl)) rfl
theorem f268_151 : ft 268 151 = some (11, 4, 0, .ireturn, 1) := Fm268 (dk_172 (dk_at s268_6 3 rfl rfl)) rfl
theorem f268_152 : ft 268 152 = some (11, 4, 0, .aload_n 0, 1) := Fm268 (dk_42 (dk_at s268_6 4 rfl rfl)) rfl
theorem f268_153 : ft 268 153 = some (11, 4, 0, .aload_n 0, 1) := Fm268 (dk_42 (dk_at s268_6 5 rfl rfl)) rfl
theorem f268_154 : ft 268 154 = some (11, 4, 0, .iload_n 1, 1) := Fm268 (dk_27 (dk_at s268_6 6 rfl rfl)) rfl
theorem f268_155 : ft 268 155 = some (11, 4, 0, .iconst 2, 1) := Fm268 (dk_5 (dk_at s268_6 7 rfl rfl)) rfl
theorem f268_156 : ft 268 156 = some (11, 4, 0, .invokevirtual 442, 3) := Fm268 (dk_182 1 186 (dk_at s268_6 8 rfl rfl)) rfl
theorem f268_159 : ft 268 159 = some (11, 4, 0, .iload_n 2, 1) := Fm268 (dk_28 (dk_at s268_6 11 rfl rfl)) rfl
theorem f268_160 : ft 268 160 = some (11, 4, 0, .invokevirtual 522, 3) := Fm268 (dk_182 2 10 (dk_at s268_6 12 rfl rfl)) rfl
theorem f268_163 : ft 268 163 = some (11, 4, 0, .istore_n 3, 1) := Fm268 (dk_62 (dk_at s268_6 15 rfl rfl)) rfl
theorem f268_164 : ft 268 164 = some (11, 4, 0, .aload_n 0, 1) := Fm268 (dk_42 (dk_at s268_6 16 rfl rfl)) rfl
theorem f268_165 : ft 268 165 = some (11, 4, 0, .getfield 502, 3) := Fm268 (dk_180 1 246 (dk_at s268_6 17 rfl rfl)) rfl
theorem f268_168 : ft 268 168 = some (11, 4, 0, .iload_n 3, 1) := Fm268 (dk_29 (dk_at s268_6 20 rfl rfl)) rfl
theorem f268_169 : ft 268 169 = some (11, 4, 0, .if_icmp .le 7, 3) := Fm268 (dk_164 0 7 (dk_at s268_6 21 rfl rfl)) rfl
theorem f268_172 : ft 268 172 = some (11, 4, 0, .iconst 1, 1) := Fm268 (dk_4 (dk_at s268_7 0 rfl rfl)) rfl
theorem f268_173 : ft 268 173 = some (11, 4, 0, .goto 4, 3) := Fm268 (dk_167 0 4 (dk_at s268_7 1 rfl rfl)) rfl
theorem f268_176 : ft 268 176 = some (11, 4, 0, .iconst 0, 1) := Fm268 (dk_3 (dk_at s268_7 4 rfl rfl)) rfl
theorem f268_177 : ft 268 177 = some (11, 4, 0, .istore 4, 2) := Fm268 (dk_54 4 (dk_at s268_7 5 rfl rfl)) rfl
theorem f268_179 : ft 268 179 = some (11, 4, 0, .aload_n 0, 1) := Fm268 (dk_42 (dk_at s268_7 7 rfl rfl)) rfl
theorem f268_180 : ft 268 180 = some (11, 4, 0, .iload_n 3, 1) := Fm268 (dk_29 (dk_at s268_7 8 rfl rfl)) rfl
theorem f268_181 : ft 268 181 = some (11, 4, 0, .putfield 502, 3) := Fm268 (dk_181 1 246 (dk_at s268_7 9 rfl rfl)) rfl
theorem f268_184 : ft 268 184 = some (11, 4, 0, .iload 4, 2) := Fm268 (dk_21 4 (dk_at s268_7 12 rfl rfl)) rfl
theorem f268_186 : ft 268 186 = some (11, 4, 0, .ireturn, 1) := Fm268 (dk_172 (dk_at s268_7 14 rfl rfl)) rfl
theorem f268_187 : ft 268 187 = some (11, 4, 0, .aload_n 0, 1) := Fm268 (dk_42 (dk_at s268_7 15 rfl rfl)) rfl
theorem f268_188 : ft 268 188 = some (11, 4, 0, .iload_n 1, 1) := Fm268 (dk_27 (dk_at s268_7 16 rfl rfl)) rfl
theorem f268_189 : ft 268 189 = some (11, 4, 0, .iload_n 2, 1) := Fm268 (dk_28 (dk_at s268_7 17 rfl rfl)) rfl
theorem f268_190 : ft 268 190 = some (11, 4, 0, .invokevirtual 525, 3) := Fm268 (dk_182 2 13 (dk_at s268_7 18 rfl rfl)) rfl
theorem f268_193 : ft 268 193 = some (11, 4, 0, .ireturn, 1) := Fm268 (dk_172 (dk_at s268_7 21 rfl rfl)) rfl
theorem q268 {d : Nat} {m : Mem} {a0 a1 a2 : Int} (hd : 0 < d) (hz : TZ m) : le2 (gd (tg m a0 = 11) <| if (vl m a0 35) = 0 then (bI (cl (d - 1) 251 [pR a0, pI a1, pI 0] m) fun v1 m1 => if v1 = 30 then (bI (cl (d - 1) 251 [pR a0, pI a1, pI 2] m1) fun v11 m11 => rn d 268 59 [pR a0, pI a1, pI a2, pI v11, pU] [] m11) else if v1 = 31 then (bI (cl (d - 1) 251 [pR a0, pI a1, pI 2] m1) fun v10 m10 => rn d 268 93 [pR a0, pI a1, pI a2, pI v10, pU] [] m10) else if v1 = 32 then (bI (cl (d - 1) 251 [pR a0, pI a1, pI 2] m1) fun v8 m8 => bI (cl (d - 1) 268 [pR a0, pI v8, pI a2] m8) fun v9 m9 => if v9 = 0 then (some (.inl (some (pI 1)), m9)) else some (.inl (some (pI 0)), m9)) else if v1 = 34 then (bI (cl (d - 1) 251 [pR a0, pI a1, pI 2] m1) fun v6 m6 => bI (cl (d - 1) 262 [pR a0, pI v6, pI a2] m6) fun v7 m7 => if v7 < (vl m7 a0 33) then (some (.inl (some (pI 1)), (mst m7 a0 33 v7))) else some (.inl (some (pI 0)), (mst m7 a0 33 v7))) else if v1 = 35 then (bI (cl (d - 1) 251 [pR a0, pI a1, pI 2] m1) fun v4 m4 => bI (cl (d - 1) 268 [pR a0, pI v4, pI a2] m4) fun v5 m5 => gd (v5 = 0 ∨ v5 = 1) <| some (.inl (some (pI v5)), m5)) else if v1 = 33 then (bI (cl (d - 1) 269 [pR a0, pI a1, pI a2] m1) fun v3 m3 => gd (v3 = 0 ∨ v3 = 1) <| some (.inl (some (pI v3)), m3)) else bI (cl (d - 1) 269 [pR a0, pI a1, pI a2] m1) fun v2 m2 => gd (v2 = 0 ∨ v2 = 1) <| some (.inl (some (pI v2)), m2)) else some (.inl (some (pI 0)), m)) (cl d 268 [pR a0, pI a1, pI a2] m) := by
  refine q_in (n := 5) (L := [pR a0, pI a1, pI a2, pU, pU]) rfl rfl rfl ?_
  refine r_aln0 (p := 1) f268_0 rfl ?_
  refine le2_gd (fun h1 => ?_)
  refine r_gfIZ (f := 35) (p := 4) f268_1 rfl rfl rfl (Or.inl h1) rfl ?_
  refine r_ifeq (t := 9) (p := 7) f268_4 (by decide) rfl rfl ?_ ?_
  · refine r_aln0 (p := 10) f268_9 rfl ?_
    refine r_iln1 (p := 11) f268_10 rfl ?_
    refine r_iconst (p := 12) f268_11 rfl (pinD rfl rfl) ?_
    refine r_invI (p := 15) f268_12 rfl rfl rfl (Or.inl h1) hd (Nat.le_of_ble_eq_true rfl) rfl rfl rfl (fun _ => rfl) (fun v1 m1 c1 => ?_)
    have hz1 := z_k c1 hz
    refine le2_ite (fun h20 => ?_) (fun h20 => ?_)
    · refine r_tsI (off := 37) (t := 52) f268_15 h20 rfl rfl (by decide) rfl ?_
      refine r_aln0 (p := 53) f268_52 rfl ?_
      refine r_iln1 (p := 54) f268_53 rfl ?_
      refine r_iconst (p := 55) f268_54 rfl (pinD rfl rfl) ?_
      have h21 := k_t1 c1 hz h1 (by decide)
      refine r_invI (p := 58) f268_55 rfl rfl rfl (Or.inl h21) hd (Nat.le_of_ble_eq_true rfl) rfl rfl rfl (fun _ => rfl) (fun v11 m11 c11 => ?_)
      have hz11 := z_k c11 hz1
      refine r_isn3 (p := 59) f268_58 rfl rfl ?_
      exact le2_refl _
    · refine le2_ite (fun h18 => ?_) (fun h18 => ?_)
      · refine r_tsI (off := 71) (t := 86) f268_15 h18 rfl rfl (by decide) rfl ?_
        refine r_aln0 (p := 87) f268_86 rfl ?_
        refine r_iln1 (p := 88) f268_87 rfl ?_
        refine r_iconst (p := 89) f268_88 rfl (pinD rfl rfl) ?_
        have h19 := k_t1 c1 hz h1 (by decide)
        refine r_invI (p := 92) f268_89 rfl rfl rfl (Or.inl h19) hd (Nat.le_of_ble_eq_true rfl) rfl rfl rfl (fun _ => rfl) (fun v10 m10 c10 => ?_)
        have hz10 := z_k c10 hz1
        refine r_isn3 (p := 93) f268_92 rfl rfl ?_
        exact le2_refl _
      · refine le2_ite (fun h15 => ?_) (fun h15 => ?_)
        · refine r_tsI (off := 105) (t := 120) f268_15 h15 rfl rfl (by decide) rfl ?_
          refine r_aln0 (p := 121) f268_120 rfl ?_
          refine r_aln0 (p := 122) f268_121 rfl ?_
          refine r_iln1 (p := 123) f268_122 rfl ?_
          refine r_iconst (p := 124) f268_123 rfl (pinD rfl rfl) ?_
          have h16 := k_t1 c1 hz h1 (by decide)
          refine r_invI (p := 127) f268_124 rfl rfl rfl (Or.inl h16) hd (Nat.le_of_ble_eq_true rfl) rfl rfl rfl (fun _ => rfl) (fun v8 m8 c8 => ?_)
          have hz8 := z_k c8 hz1
          refine r_iln2 (p := 128) f268_127 rfl ?_
          have h17 := k_t1 c8 hz1 h16 (by decide)
          refine r_invI (p := 131) f268_128 rfl rfl rfl (Or.inl h17) hd (Nat.le_of_ble_eq_true rfl) rfl rfl rfl (fun _ => rfl) (fun v9 m9 c9 => ?_)
          have hz9 := z_k c9 hz8
          refine r_ifne (t := 138) (p := 134) f268_131 (by decide) rfl rfl ?_ ?_
          · refine r_iconst (p := 135) f268_134 rfl (pinD rfl rfl) ?_
            refine r_goto (p := 139) f268_135 (by decide) rfl ?_
            exact r_iret4 f268_139 (by decide)
          · refine r_iconst (p := 139) f268_138 rfl (pinD rfl rfl) ?_
            exact r_iret4 f268_139 (by decide)
        · refine le2_ite (fun h11 => ?_) (fun h11 => ?_)
          · refine r_tsI (off := 137) (t := 152) f268_15 h11 rfl rfl (by decide) rfl ?_
            refine r_aln0 (p := 153) f268_152 rfl ?_
            refine r_aln0 (p := 154) f268_153 rfl ?_
            refine r_iln1 (p := 155) f268_154 rfl ?_
            refine r_iconst (p := 156) f268_155 rfl (pinD rfl rfl) ?_
            have h12 := k_t1 c1 hz h1 (by decide)
            refine r_invI (p := 159) f268_156 rfl rfl rfl (Or.inl h12) hd (Nat.le_of_ble_eq_true rfl) rfl rfl rfl (fun _ => rfl) (fun v6 m6 c6 => ?_)
            have hz6 := z_k c6 hz1
            refine r_iln2 (p := 160) f268_159 rfl ?_
            have h13 := k_t1 c6 hz1 h12 (by decide)
            refine r_invI (p := 163) f268_160 rfl rfl rfl (Or.inl h13) hd (Nat.le_of_ble_eq_true rfl) rfl rfl rfl (fun _ => rfl) (fun v7 m7 c7 => ?_)
            have hz7 := z_k c7 hz6
            refine r_isn3 (p := 164) f268_163 rfl rfl ?_
            refine r_aln0 (p := 165) f268_164 rfl ?_
            have h14 := k_t1 c7 hz6 h13 (by decide)
            refine r_gfI (f := 33) (p := 168) f268_165 rfl rfl rfl (Or.inl h14) rfl ?_
            refine r_iln3 (p := 169) f268_168 rfl ?_
            refine r_icle (t := 176) (p := 172) f268_169 (by decide) rfl rfl ?_ ?_
            · refine r_iconst (p := 173) f268_172 rfl (pinD rfl rfl) ?_
              refine r_goto (p := 177) f268_173 (by decide) rfl ?_
              refine r_isw4 (p := 179) f268_177 rfl rfl ?_
              refine r_aln0 (p := 180) f268_179 rfl ?_
              refine r_iln3 (p := 181) f268_180 rfl ?_
              refine r_pfI (f := 33) (p := 184) f268_181 rfl rfl rfl (by decide) (by decide) (Or.inl h14) rfl ?_
              refine r_ilw4 (p := 186) f268_184 rfl ?_
              exact r_iret4 f268_186 (by decide)
            · refine r_iconst (p := 177) f268_176 rfl (pinD rfl rfl) ?_
              refine r_isw4 (p := 179) f268_177 rfl rfl ?_
              refine r_aln0 (p := 180) f268_179 rfl ?_
              refine r_iln3 (p := 181) f268_180 rfl ?_
              refine r_pfI (f := 33) (p := 184) f268_181 rfl rfl rfl (by decide) (by decide) (Or.inl h14) rfl ?_
              refine r_ilw4 (p := 186) f268_184 rfl ?_
              exact r_iret4 f268_186 (by decide)
          · refine le2_ite (fun h7 => ?_) (fun h7 => ?_)
            · refine r_tsI (off := 125) (t := 140) f268_15 h7 rfl rfl (by decide) rfl ?_
              refine r_aln0 (p := 141) f268_140 rfl ?_
              refine r_aln0 (p := 142) f268_141 rfl ?_
              refine r_iln1 (p := 143) f268_142 rfl ?_
              refine r_iconst (p := 144) f268_143 rfl (pinD rfl rfl) ?_
              have h8 := k_t1 c1 hz h1 (by decide)
              refine r_invI (p := 147) f268_144 rfl rfl rfl (Or.inl h8) hd (Nat.le_of_ble_eq_true rfl) rfl rfl rfl (fun _ => rfl) (fun v4 m4 c4 => ?_)
              have hz4 := z_k c4 hz1
              refine r_iln2 (p := 148) f268_147 rfl ?_
              have h9 := k_t1 c4 hz1 h8 (by decide)
              refine r_invI (p := 151) f268_148 rfl rfl rfl (Or.inl h9) hd (Nat.le_of_ble_eq_true rfl) rfl rfl rfl (fun _ => rfl) (fun v5 m5 c5 => ?_)
              have hz5 := z_k c5 hz4
              refine le2_gd (fun h10 => ?_)
              exact r_iret4 f268_151 h10
            · refine le2_ite (fun h4 => ?_) (fun h4 => ?_)
              · refine r_tsI (off := 172) (t := 187) f268_15 h4 rfl rfl (by decide) rfl ?_
                refine r_aln0 (p := 188) f268_187 rfl ?_
                refine r_iln1 (p := 189) f268_188 rfl ?_
                refine r_iln2 (p := 190) f268_189 rfl ?_
                have h5 := k_t1 c1 hz h1 (by decide)
                refine r_invI (p := 193) f268_190 rfl rfl rfl (Or.inl h5) hd (Nat.le_of_ble_eq_true rfl) rfl rfl rfl (fun _ => rfl) (fun v3 m3 c3 => ?_)
                have hz3 := z_k c3 hz1
                refine le2_gd (fun h6 => ?_)
                exact r_iret4 f268_193 h6
              · refine r_tsO (t := 187) f268_15 (by omega) (by decide) rfl ?_
                refine r_aln0 (p := 188) f268_187 rfl ?_
                refine r_iln1 (p := 189) f268_188 rfl ?_
                refine r_iln2 (p := 190) f268_189 rfl ?_
                have h2 := k_t1 c1 hz h1 (by decide)
                refine r_invI (p := 193) f268_190 rfl rfl rfl (Or.inl h2) hd (Nat.le_of_ble_eq_true rfl) rfl rfl rfl (fun _ => rfl) (fun v2 m2 c2 => ?_)
                have hz2 := z_k c2 hz1
                refine le2_gd (fun h3 => ?_)
                exact r_iret4 f268_193 h3
  · refine r_iconst (p := 8) f268_7 rfl (pinD rfl rfl) ?_
    exact r_iret4 f268_8 (by decide)
theorem q268_59 {d : Nat} {m : Mem} {a0 a1 a2 a3 : Int} (hd : 0 < d) (hz : TZ m) : le2 (if a3 < 0 then (some (.inl (some (pI 0)), m)) else gd (tg m a0 = 11) <| bI (cl (d - 1) 268 [pR a0, pI a3, pI a2] m) fun v1 m1 => if v1 = 0 then (bI (cl (d - 1) 251 [pR a0, pI a3, pI 1] m1) fun v2 m2 => rn d 268 59 [pR a0, pI a1, pI a2, pI v2, pU] [] m2) else some (.inl (some (pI 1)), m1)) (rn d 268 59 [pR a0, pI a1, pI a2, pI a3, pU] [] m) := by
  refine r_iln3 (p := 60) f268_59 rfl ?_
  refine r_iflt (t := 84) (p := 63) f268_60 (by decide) rfl rfl ?_ ?_
  · refine r_iconst (p := 85) f268_84 rfl (pinD rfl rfl) ?_
    exact r_iret4 f268_85 (by decide)
  · refine r_aln0 (p := 64) f268_63 rfl ?_
    refine r_iln3 (p := 65) f268_64 rfl ?_
    refine r_iln2 (p := 66) f268_65 rfl ?_
    refine le2_gd (fun h1 => ?_)
    refine r_invI (p := 69) f268_66 rfl rfl rfl (Or.inl h1) hd (Nat.le_of_ble_eq_true rfl) rfl rfl rfl (fun _ => rfl) (fun v1 m1 c1 => ?_)
    have hz1 := z_k c1 hz
    refine r_ifeq (t := 74) (p := 72) f268_69 (by decide) rfl rfl ?_ ?_
    · refine r_aln0 (p := 75) f268_74 rfl ?_
      refine r_iln3 (p := 76) f268_75 rfl ?_
      refine r_iconst (p := 77) f268_76 rfl (pinD rfl rfl) ?_
      have h2 := k_t1 c1 hz h1 (by decide)
      refine r_invI (p := 80) f268_77 rfl rfl rfl (Or.inl h2) hd (Nat.le_of_ble_eq_true rfl) rfl rfl rfl (fun _ => rfl) (fun v2 m2 c2 => ?_)
      have hz2 := z_k c2 hz1
      refine r_isn3 (p := 81) f268_80 rfl rfl ?_
      refine r_goto (p := 59) f268_81 (by decide) rfl ?_
      exact le2_refl _
    · refine r_iconst (p := 73) f268_72 rfl (pinD rfl rfl) ?_
      exact r_iret4 f268_73 (by decide)
theorem q268_93 {d : Nat} {m : Mem} {a0 a1 a2 a3 : Int} (hd : 0 < d) (hz : TZ m) : le2 (if a3 < 0 then (some (.inl (some (pI 1)), m)) else gd (tg m a0 = 11) <| bI (cl (d - 1) 268 [pR a0, pI a3, pI a2] m) fun v1 m1 => if v1 = 0 then (some (.inl (some (pI 0)), m1)) else bI (cl (d - 1) 251 [pR a0, pI a3, pI 1] m1) fun v2 m2 => rn d 268 93 [pR a0, pI a1, pI a2, pI v2, pU] [] m2) (rn d 268 93 [pR a0, pI a1, pI a2, pI a3, pU] [] m) := by
  refine r_iln3 (p := 94) f268_93 rfl ?_
  refine r_iflt (t := 118) (p := 97) f268_94 (by decide) rfl rfl ?_ ?_
  · refine r_iconst (p := 119) f268_118 rfl (pinD rfl rfl) ?_
    exact r_iret4 f268_119 (by decide)
  · refine r_aln0 (p := 98) f268_97 rfl ?_
    refine r_iln3 (p := 99) f268_98 rfl ?_
    refine r_iln2 (p := 100) f268_99 rfl ?_
    refine le2_gd (fun h1 => ?_)
    refine r_invI (p := 103) f268_100 rfl rfl rfl (Or.inl h1) hd (Nat.le_of_ble_eq_true rfl) rfl rfl rfl (fun _ => rfl) (fun v1 m1 c1 => ?_)
    have hz1 := z_k c1 hz
    refine r_ifne (t := 108) (p := 106) f268_103 (by decide) rfl rfl ?_ ?_
    · refine r_iconst (p := 107) f268_106 rfl (pinD rfl rfl) ?_
      exact r_iret4 f268_107 (by decide)
    · refine r_aln0 (p := 109) f268_108 rfl ?_
      refine r_iln3 (p := 110) f268_109 rfl ?_
      refine r_iconst (p := 111) f268_110 rfl (pinD rfl rfl) ?_
      have h2 := k_t1 c1 hz h1 (by decide)
      refine r_invI (p := 114) f268_111 rfl rfl rfl (Or.inl h2) hd (Nat.le_of_ble_eq_true rfl) rfl rfl rfl (fun _ => rfl) (fun v2 m2 c2 => ?_)
      have hz2 := z_k c2 hz1
      refine r_isn3 (p := 115) f268_114 rfl rfl ?_
      refine r_goto (p := 93) f268_115 (by decide) rfl ?_
      exact le2_refl _
/-! 269 PathStoreModel.compared (II)Z -/
def w269_8 : List UInt8 := [21, 9, 172]
abbrev u269_8 : List UInt8 := w269_8 ++ []
def w269_7 : List UInt8 := [4, 167, 0, 4, 3, 54, 9, 42, 180, 0, 133, 29, 181, 2, 22, 42, 180, 0, 133, 21, 4, 181, 0, 224]
abbrev u269_7 : List UInt8 := w269_7 ++ u269_8
def w269_6 : List UInt8 := [42, 21, 6, 21, 5, 182, 2, 23, 154, 0, 16, 21, 7, 4, 126, 4, 160, 0, 12, 21, 8, 153, 0, 7]
abbrev u269_6 : List UInt8 := w269_6 ++ u269_7
def w269_5 : List UInt8 := [4, 164, 0, 54, 21, 7, 7, 162, 0, 17, 42, 21, 5, 21, 6, 182, 2, 23, 153, 0, 17, 167, 0, 27]
abbrev u269_5 : List UInt8 := w269_5 ++ u269_6
def w269_4 : List UInt8 := [21, 8, 21, 7, 154, 0, 7, 4, 167, 0, 4, 3, 160, 0, 7, 4, 167, 0, 4, 3, 54, 9, 21, 7]
abbrev u269_4 : List UInt8 := w269_4 ++ u269_5
def w269_3 : List UInt8 := [167, 0, 22, 3, 167, 0, 18, 42, 180, 0, 133, 21, 5, 42, 180, 0, 133, 21, 6, 184, 0, 20, 54, 8]
abbrev u269_3 : List UInt8 := w269_3 ++ u269_4
def w269_2 : List UInt8 := [182, 1, 186, 54, 7, 21, 5, 155, 0, 8, 21, 6, 156, 0, 18, 21, 5, 21, 6, 160, 0, 7, 4]
abbrev u269_2 : List UInt8 := w269_2 ++ u269_3
def w269_1 : List UInt8 := [28, 182, 2, 16, 54, 5, 42, 42, 27, 6, 182, 1, 186, 28, 182, 2, 16, 54, 6, 42, 27, 7]
abbrev u269_1 : List UInt8 := w269_1 ++ u269_2
def w269_0 : List UInt8 := [42, 180, 0, 133, 180, 2, 22, 62, 42, 180, 0, 133, 180, 0, 224, 54, 4, 42, 42, 27, 5, 182, 1, 186]
abbrev u269_0 : List UInt8 := w269_0 ++ u269_1
theorem s269_0 : (prog_32_method_87_code).data.toList.drop 0 = u269_0 := by decide +kernel
theorem s269_1 : (prog_32_method_87_code).data.toList.drop 24 = u269_1 := dk_seg s269_0 24 rfl rfl
theorem s269_2 : (prog_32_method_87_code).data.toList.drop 46 = u269_2 := dk_seg s269_1 22 rfl rfl
theorem s269_3 : (prog_32_method_87_code).data.toList.drop 69 = u269_3 := dk_seg s269_2 23 rfl rfl
theorem s269_4 : (prog_32_method_87_code).data.toList.drop 93 = u269_4 := dk_seg s269_3 24 rfl rfl
theorem s269_5 : (prog_32_method_87_code).data.toList.drop 117 = u269_5 := dk_seg s269_4 24 rfl rfl
theorem s269_6 : (prog_32_method_87_code).data.toList.drop 141 = u269_6 := dk_seg s269_5 24 rfl rfl
theorem s269_7 : (prog_32_method_87_code).data.toList.drop 165 = u269_7 := dk_seg s269_6 24 rfl rfl
theorem s269_8 : (prog_32_method_87_code).data.toList.drop 189 = u269_8 := dk_seg s269_7 24 rfl rfl
theorem Fm269 {pc len : Nat} {i : Instr} (h : decode (prog_32_method_87_code) pc = .ok (i, len)) (hl : len = ilen i len) : ft 269 pc = some (11, 4, 0, i, len) := ft_mk rfl h hl
theorem f269_0 : ft 269 0 = some (11, 4, 0, .aload_n 0, 1) := Fm269 (dk_42 (dk_at s269_0 0 rfl rfl)) rfl
theorem f269_1 : ft 269 1 = some (11, 4, 0, .getfield 133, 3) := Fm269 (dk_180 0 133 (dk_at s269_0 1 rfl rfl)) rfl
theorem f269_4 : ft 269 4 = some (11, 4, 0, .getfield 534, 3) := Fm269 (dk_180 2 22 (dk_at s269_0 4 rfl rfl)) rfl
theorem f269_7 : ft 269 7 = some (11, 4, 0, .istore_n 3, 1) := Fm269 (dk_62 (dk_at s269_0 7 rfl rfl)) rfl
theorem f269_8 : ft 269 8 = some (11, 4, 0, .aload_n 0, 1) := Fm269 (dk_42 (dk_at s269_0 8 rfl rfl)) rfl
theorem f269_9 : ft 269 9 = some (11, 4, 0, .getfield 133, 3) := Fm269 (dk_180 0 133 (dk_at s269_0 9 rfl rfl)) rfl
theorem f269_12 : ft 269 12 = some (11, 4, 0, .getfield 224, 3) := Fm269 (dk_180 0 224 (dk_at s269_0 12 rfl rfl)) rfl
theorem f269_15 : ft 269 15 = some (11, 4, 0, .istore 4, 2) := Fm269 (dk_54 4 (dk_at s269_0 15 rfl rfl)) rfl
theorem f269_17 : ft 269 17 = some (11, 4, 0, .aload_n 0, 1) := Fm269 (dk_42 (dk_at s269_0 17 rfl rfl)) rfl
theorem f269_18 : ft 269 18 = some (11, 4, 0, .aload_n 0, 1) := Fm269 (dk_42 (dk_at s269_0 18 rfl rfl)) rfl
theorem f269_19 : ft 269 19 = some (11, 4, 0, .iload_n 1, 1) := Fm269 (dk_27 (dk_at s269_0 19 rfl rfl)) rfl
theorem f269_20 : ft 269 20 = some (11, 4, 0, .iconst 2, 1) := Fm269 (dk_5 (dk_at s269_0 20 rfl rfl)) rfl
theorem f269_21 : ft 269 21 = some (11, 4, 0, .invokevirtual 442, 3) := Fm269 (dk_182 1 186 (dk_at s269_0 21 rfl rfl)) rfl
theorem f269_24 : ft 269 24 = some (11, 4, 0, .iload_n 2, 1) := Fm269 (dk_28 (dk_at s269_1 0 rfl rfl)) rfl
theorem f269_25 : ft 269 25 = some (11, 4, 0, .invokevirtual 528, 3) := Fm269 (dk_182 2 16 (dk_at s269_1 1 rfl rfl)) rfl
theorem f269_28 : ft 269 28 = some (11, 4, 0, .istore 5, 2) := Fm269 (dk_54 5 (dk_at s269_1 4 rfl rfl)) rfl
theorem f269_30 : ft 269 30 = some (11, 4, 0, .aload_n 0, 1) := Fm269 (dk_42 (dk_at s269_1 6 rfl rfl)) rfl
theorem f269_31 : ft 269 31 = some (11, 4, 0, .aload_n 0, 1) := Fm269 (dk_42 (dk_at s269_1 7 rfl rfl)) rfl
theorem f269_32 : ft 269 32 = some (11, 4, 0, .iload_n 1, 1) := Fm269 (dk_27 (dk_at s269_1 8 rfl rfl)) rfl
theorem f269_33 : ft 269 33 = some (11, 4, 0, .iconst 3, 1) := Fm269 (dk_6 (dk_at s269_1 9 rfl rfl)) rfl
theorem f269_34 : ft 269 34 = some (11, 4, 0, .invokevirtual 442, 3) := Fm269 (dk_182 1 186 (dk_at s269_1 10 rfl rfl)) rfl
theorem f269_37 : ft 269 37 = some (11, 4, 0, .iload_n 2, 1) := Fm269 (dk_28 (dk_at s269_1 13 rfl rfl)) rfl
theorem f269_38 : ft 269 38 = some (11, 4, 0, .invokevirtual 528, 3) := Fm269 (dk_182 2 16 (dk_at s269_1 14 rfl rfl)) rfl
theorem f269_41 : ft 269 41 = some (11, 4, 0, .istore 6, 2) := Fm269 (dk_54 6 (dk_at s269_1 17 rfl rfl)) rfl
theorem f269_43 : ft 269 43 = some (11, 4, 0, .aload_n 0, 1) := Fm269 (dk_42 (dk_at s269_1 19 rfl rfl)) rfl
theorem f269_44 : ft 269 44 = some (11, 4, 0, .iload_n 1, 1) := Fm269 (dk_27 (dk_at s269_1 20 rfl rfl)) rfl
theorem f269_45 : ft 269 45 = some (11, 4, 0, .iconst 4, 1) := Fm269 (dk_7 (dk_at s269_1 21 rfl rfl)) rfl
theorem f269_46 : ft 269 46 = some (11, 4, 0, .invokevirtual 442, 3) := Fm269 (dk_182 1 186 (dk_at s269_2 0 rfl rfl)) rfl
theorem f269_49 : ft 269 49 = some (11, 4, 0, .istore 7, 2) := Fm269 (dk_54 7 (dk_at s269_2 3 rfl rfl)) rfl
theorem f269_51 : ft 269 51 = some (11, 4, 0, .iload 5, 2) := Fm269 (dk_21 5 (dk_at s269_2 5 rfl rfl)) rfl
theorem f269_53 : ft 269 53 = some (11, 4, 0, .ifCond .lt 8, 3) := Fm269 (dk_155 0 8 (dk_at s269_2 7 rfl rfl)) rfl
theorem f269_56 : ft 269 56 = some (11, 4, 0, .iload 6, 2) := Fm269 (dk_21 6 (dk_at s269_2 10 rfl rfl)) rfl
theorem f269_58 : ft 269 58 = some (11, 4, 0, .ifCond .ge 18, 3) := Fm269 (dk_156 0 18 (dk_at s269_2 12 rfl rfl)) rfl
theorem f269_61 : ft 269 61 = some (11, 4, 0, .iload 5, 2) := Fm269 (dk_21 5 (dk_at s269_2 15 rfl rfl)) rfl
theorem f269_63 : ft 269 63 = some (11, 4, 0, .iload 6, 2) := Fm269 (dk_21 6 (dk_at s269_2 17 rfl rfl)) rfl
theorem f269_65 : ft 269 65 = some (11, 4, 0, .if_icmp .ne 7, 3) := Fm269 (dk_160 0 7 (dk_at s269_2 19 rfl rfl)) rfl
theorem f269_68 : ft 269 68 = some (11, 4, 0, .iconst 1, 1) := Fm269 (dk_4 (dk_at s269_2 22 rfl rfl)) rfl
theorem f269_69 : ft 269 69 = some (11, 4, 0, .goto 22, 3) := Fm269 (dk_167 0 22 (dk_at s269_3 0 rfl rfl)) rfl
theorem f269_72 : ft 269 72 = some (11, 4, 0, .iconst 0, 1) := Fm269 (dk_3 (dk_at s269_3 3 rfl rfl)) rfl
theorem f269_73 : ft 269 73 = some (11, 4, 0, .goto 18, 3) := Fm269 (dk_167 0 18 (dk_at s269_3 4 rfl rfl)) rfl
theorem f269_76 : ft 269 76 = some (11, 4, 0, .aload_n 0, 1) := Fm269 (dk_42 (dk_at s269_3 7 rfl rfl)) rfl
theorem f269_77 : ft 269 77 = some (11, 4, 0, .getfield 133, 3) := Fm269 (dk_180 0 133 (dk_at s269_3 8 rfl rfl)) rfl
theorem f269_80 : ft 269 80 = some (11, 4, 0, .iload 5, 2) := Fm269 (dk_21 5 (dk_at s269_3 11 rfl rfl)) rfl
theorem f269_82 : ft 269 82 = some (11, 4, 0, .aload_n 0, 1) := Fm269 (dk_42 (dk_at s269_3 13 rfl rfl)) rfl
theorem f269_83 : ft 269 83 = some (11, 4, 0, .getfield 133, 3) := Fm269 (dk_180 0 133 (dk_at s269_3 14 rfl rfl)) rfl
theorem f269_86 : ft 269 86 = some (11, 4, 0, .iload 6, 2) := Fm269 (dk_21 6 (dk_at s269_3 17 rfl rfl)) rfl
theorem f269_88 : ft 269 88 = some (11, 4, 0, .invokestatic 20, 3) := Fm269 (dk_184 0 20 (dk_at s269_3 19 rfl rfl)) rfl
theorem f269_91 : ft 269 91 = some (11, 4, 0, .istore 8, 2) := Fm269 (dk_54 8 (dk_at s269_3 22 rfl rfl)) rfl
theorem f269_93 : ft 269 93 = some (11, 4, 0, .iload 8, 2) := Fm269 (dk_21 8 (dk_at s269_4 0 rfl rfl)) rfl
theorem f269_95 : ft 269 95 = some (11, 4, 0, .iload 7, 2) := Fm269 (dk_21 7 (dk_at s269_4 2 rfl rfl)) rfl
theorem f269_97 : ft 269 97 = some (11, 4, 0, .ifCond .ne 7, 3) := Fm269 (dk_154 0 7 (dk_at s269_4 4 rfl rfl)) rfl
theorem f269_100 : ft 269 100 = some (11, 4, 0, .iconst 1, 1) := Fm269 (dk_4 (dk_at s269_4 7 rfl rfl)) rfl
theorem f269_101 : ft 269 101 = some (11, 4, 0, .goto 4, 3) := Fm269 (dk_167 0 4 (dk_at s269_4 8 rfl rfl)) rfl
theorem f269_104 : ft 269 104 = some (11, 4, 0, .iconst 0, 1) := Fm269 (dk_3 (dk_at s269_4 11 rfl rfl)) rfl
theorem f269_105 : ft 269 105 = some (11, 4, 0, .if_icmp .ne 7, 3) := Fm269 (dk_160 0 7 (dk_at s269_4 12 rfl rfl)) rfl
theorem f269_108 : ft 269 108 = some (11, 4, 0, .iconst 1, 1) := Fm269 (dk_4 (dk_at s269_4 15 rfl rfl)) rfl
theorem f269_109 : ft 269 109 = some (11, 4, 0, .goto 4, 3) := Fm269 (dk_167 0 4 (dk_at s269_4 16 rfl rfl)) rfl
theorem f269_112 : ft 269 112 = some (11, 4, 0, .iconst 0, 1) := Fm269 (dk_3 (dk_at s269_4 19 rfl rfl)) rfl
theorem f269_113 : ft 269 113 = some (11, 4, 0, .istore 9, 2) := Fm269 (dk_54 9 (dk_at s269_4 20 rfl rfl)) rfl
theorem f269_115 : ft 269 115 = some (11, 4, 0, .iload 7, 2) := Fm269 (dk_21 7 (dk_at s269_4 22 rfl rfl)) rfl
theorem f269_117 : ft 269 117 = some (11, 4, 0, .iconst 1, 1) := Fm269 (dk_4 (dk_at s269_5 0 rfl rfl)) rfl
theorem f269_118 : ft 269 118 = some (11, 4, 0, .if_icmp .le 54, 3) := Fm269 (dk_164 0 54 (dk_at s269_5 1 rfl rfl)) rfl
theorem f269_121 : ft 269 121 = some (11, 4, 0, .iload 7, 2) := Fm269 (dk_21 7 (dk_at s269_5 4 rfl rfl)) rfl
theorem f269_123 : ft 269 123 = some (11, 4, 0, .iconst 4, 1) := Fm269 (dk_7 (dk_at s269_5 6 rfl rfl)) rfl
theorem f269_124 : ft 269 124 = some (11, 4, 0, .if_icmp .ge 17, 3) := Fm269 (dk_162 0 17 (dk_at s269_5 7 rfl rfl)) rfl
theorem f269_127 : ft 269 127 = some (11, 4, 0, .aload_n 0, 1) := Fm269 (dk_42 (dk_at s269_5 10 rfl rfl)) rfl
theorem f269_128 : ft 269 128 = some (11, 4, 0, .iload 5, 2) := Fm269 (dk_21 5 (dk_at s269_5 11 rfl rfl)) rfl
theorem f269_130 : ft 269 130 = some (11, 4, 0, .iload 6, 2) := Fm269 (dk_21 6 (dk_at s269_5 13 rfl rfl)) rfl
theorem f269_132 : ft 269 132 = some (11, 4, 0, .invokevirtual 535, 3) := Fm269 (dk_182 2 23 (dk_at s269_5 15 rfl rfl)) rfl
theorem f269_135 : ft 269 135 = some (11, 4, 0, .ifCond .eq 17, 3) := Fm269 (dk_153 0 17 (dk_at s269_5 18 rfl rfl)) rfl
theorem f269_138 : ft 269 138 = some (11, 4, 0, .goto 27, 3) := Fm269 (dk_167 0 27 (dk_at s269_5 21 rfl rfl)) rfl
theorem f269_141 : ft 269 141 = some (11, 4, 0, .aload_n 0, 1) := Fm269 (dk_42 (dk_at s269_6 0 rfl rfl)) rfl
theorem f269_142 : ft 269 142 = some (11, 4, 0, .iload 6, 2) := Fm269 (dk_21 6 (dk_at s269_6 1 rfl rfl)) rfl
theorem f269_144 : ft 269 144 = some (11, 4, 0, .iload 5, 2) := Fm269 (dk_21 5 (dk_at s269_6 3 rfl rfl)) rfl
theorem f269_146 : ft 269 146 = some (11, 4, 0, .invokevirtual 535, 3) := Fm269 (dk_182 2 23 (dk_at s269_6 5 rfl rfl)) rfl
theorem f269_149 : ft 269 149 = some (11, 4, 0, .ifCond .ne 16, 3) := Fm269 (dk_154 0 16 (dk_at s269_6 8 rfl rfl)) rfl
theorem f269_152 : ft 269 152 = some (11, 4, 0, .iload 7, 2) := Fm269 (dk_21 7 (dk_at s269_6 11 rfl rfl)) rfl
theorem f269_154 : ft 269 154 = some (11, 4, 0, .iconst 1, 1) := Fm269 (dk_4 (dk_at s269_6 13 rfl rfl)) rfl
theorem f269_155 : ft 269 155 = some (11, 4, 0, .iand, 1) := Fm269 (dk_126 (dk_at s269_6 14 rfl rfl)) rfl
theorem f269_156 : ft 269 156 = some (11, 4, 0, .iconst 1, 1) := Fm269 (dk_4 (dk_at s269_6 15 rfl rfl)) rfl
theorem f269_157 : ft 269 157 = some (11, 4, 0, .if_icmp .ne 12, 3) := Fm269 (dk_160 0 12 (dk_at s269_6 16 rfl rfl)) rfl
theorem f269_160 : ft 269 160 = some (11, 4, 0, .iload 8, 2) := Fm269 (dk_21 8 (dk_at s269_6 19 rfl rfl)) rfl
theorem f269_162 : ft 269 162 = some (11, 4, 0, .ifCond .eq 7, 3) := Fm269 (dk_153 0 7 (dk_at s269_6 21 rfl rfl)) rfl
theorem f269_165 : ft 269 165 = some (11, 4, 0, .iconst 1, 1) := Fm269 (dk_4 (dk_at s269_7 0 rfl rfl)) rfl
theorem f269_166 : ft 269 166 = some (11, 4, 0, .goto 4, 3) := Fm269 (dk_167 0 4 (dk_at s269_7 1 rfl rfl)) rfl
theorem f269_169 : ft 269 169 = some (11, 4, 0, .iconst 0, 1) := Fm269 (dk_3 (dk_at s269_7 4 rfl rfl)) rfl
theorem f269_170 : ft 269 170 = some (11, 4, 0, .istore 9, 2) := Fm269 (dk_54 9 (dk_at s269_7 5 rfl rfl)) rfl
theorem f269_172 : ft 269 172 = some (11, 4, 0, .aload_n 0, 1) := Fm269 (dk_42 (dk_at s269_7 7 rfl rfl)) rfl
theorem f269_173 : ft 269 173 = some (11, 4, 0, .getfield 133, 3) := Fm269 (dk_180 0 133 (dk_at s269_7 8 rfl rfl)) rfl
theorem f269_176 : ft 269 176 = some (11, 4, 0, .iload_n 3, 1) := Fm269 (dk_29 (dk_at s269_7 11 rfl rfl)) rfl
theorem f269_177 : ft 269 177 = some (11, 4, 0, .putfield 534, 3) := Fm269 (dk_181 2 22 (dk_at s269_7 12 rfl rfl)) rfl
theorem f269_180 : ft 269 180 = some (11, 4, 0, .aload_n 0, 1) := Fm269 (dk_42 (dk_at s269_7 15 rfl rfl)) rfl
theorem f269_181 : ft 269 181 = some (11, 4, 0, .getfield 133, 3) := Fm269 (dk_180 0 133 (dk_at s269_7 16 rfl rfl)) rfl
theorem f269_184 : ft 269 184 = some (11, 4, 0, .iload 4, 2) := Fm269 (dk_21 4 (dk_at s269_7 19 rfl rfl)) rfl
theorem f269_186 : ft 269 186 = some (11, 4, 0, .putfield 224, 3) := Fm269 (dk_181 0 224 (dk_at s269_7 21 rfl rfl)) rfl
theorem f269_189 : ft 269 189 = some (11, 4, 0, .iload 9, 2) := Fm269 (dk_21 9 (dk_at s269_8 0 rfl rfl)) rfl
theorem f269_191 : ft 269 191 = some (11, 4, 0, .ireturn, 1) := Fm269 (dk_172 (dk_at s269_8 2 rfl rfl)) rfl
theorem q269 {d : Nat} {m : Mem} {a0 a1 a2 : Int} (hd : 0 < d) (hz : TZ m) : le2 (gd (tg m a0 = 11) <| nm (vl m a0 37) fun v7 => gd (tg m v7 = 13) <| nm (vl m v7 10) fun v8 => nm (vl m v7 12) fun v9 => bI (cl (d - 1) 251 [pR a0, pI a1, pI 2] m) fun v1 m1 => bI (cl (d - 1) 270 [pR a0, pI v1, pI a2] m1) fun v2 m2 => bI (cl (d - 1) 251 [pR a0, pI a1, pI 3] m2) fun v3 m3 => bI (cl (d - 1) 270 [pR a0, pI v3, pI a2] m3) fun v4 m4 => bI (cl (d - 1) 251 [pR a0, pI a1, pI 4] m4) fun v5 m5 => if v2 < 0 then (if v2 = v4 then (rn d 269 91 [pR a0, pI a1, pI a2, pI v8, pI v9, pI v2, pI v4, pI v5, pU, pU] [pI 1] m5) else rn d 269 91 [pR a0, pI a1, pI a2, pI v8, pI v9, pI v2, pI v4, pI v5, pU, pU] [pI 0] m5) else if v4 < 0 then (if v2 = v4 then (rn d 269 91 [pR a0, pI a1, pI a2, pI v8, pI v9, pI v2, pI v4, pI v5, pU, pU] [pI 1] m5) else rn d 269 91 [pR a0, pI a1, pI a2, pI v8, pI v9, pI v2, pI v4, pI v5, pU, pU] [pI 0] m5) else nm (vl m5 a0 37) fun v10 => bI (cl (d - 1) 235 [pR v10, pI v2, pR v10, pI v4] m5) fun v6 m6 => rn d 269 91 [pR a0, pI a1, pI a2, pI v8, pI v9, pI v2, pI v4, pI v5, pU, pU] [pI v6] m6) (cl d 269 [pR a0, pI a1, pI a2] m) := by
  refine q_in (n := 10) (L := [pR a0, pI a1, pI a2, pU, pU, pU, pU, pU, pU, pU]) rfl rfl rfl ?_
  refine r_aln0 (p := 1) f269_0 rfl ?_
  refine le2_gd (fun h1 => ?_)
  refine r_gfR (f := 37) (p := 4) f269_1 rfl rfl rfl (Or.inl h1) rfl ?_
  refine r_nmR (fun v7 ev7 => ?_)
  refine le2_gd (fun h2 => ?_)
  refine r_gfI (f := 10) (p := 7) f269_4 rfl rfl rfl (Or.inl h2) rfl ?_
  refine r_nmI (fun v8 ev8 => ?_)
  refine r_isn3 (p := 8) f269_7 rfl rfl ?_
  refine r_aln0 (p := 9) f269_8 rfl ?_
  refine r_gfR (f := 37) (p := 12) f269_9 rfl rfl rfl (Or.inl h1) ev7.symm ?_
  refine r_gfI (f := 12) (p := 15) f269_12 rfl rfl rfl (Or.inl h2) rfl ?_
  refine r_nmI (fun v9 ev9 => ?_)
  refine r_isw4 (p := 17) f269_15 rfl rfl ?_
  refine r_aln0 (p := 18) f269_17 rfl ?_
  refine r_aln0 (p := 19) f269_18 rfl ?_
  refine r_iln1 (p := 20) f269_19 rfl ?_
  refine r_iconst (p := 21) f269_20 rfl (pinD rfl rfl) ?_
  refine r_invI (p := 24) f269_21 rfl rfl rfl (Or.inl h1) hd (Nat.le_of_ble_eq_true rfl) rfl rfl rfl (fun _ => rfl) (fun v1 m1 c1 => ?_)
  have hz1 := z_k c1 hz
  refine r_iln2 (p := 25) f269_24 rfl ?_
  have h3 := k_t1 c1 hz h1 (by decide)
  refine r_invI (p := 28) f269_25 rfl rfl rfl (Or.inl h3) hd (Nat.le_of_ble_eq_true rfl) rfl rfl rfl (fun _ => rfl) (fun v2 m2 c2 => ?_)
  have hz2 := z_k c2 hz1
  refine r_isw5 (p := 30) f269_28 rfl rfl ?_
  refine r_aln0 (p := 31) f269_30 rfl ?_
  refine r_aln0 (p := 32) f269_31 rfl ?_
  refine r_iln1 (p := 33) f269_32 rfl ?_
  refine r_iconst (p := 34) f269_33 rfl (pinD rfl rfl) ?_
  have h4 := k_t1 c2 hz1 h3 (by decide)
  refine r_invI (p := 37) f269_34 rfl rfl rfl (Or.inl h4) hd (Nat.le_of_ble_eq_true rfl) rfl rfl rfl (fun _ => rfl) (fun v3 m3 c3 => ?_)
  have hz3 := z_k c3 hz2
  refine r_iln2 (p := 38) f269_37 rfl ?_
  have h5 := k_t1 c3 hz2 h4 (by decide)
  refine r_invI (p := 41) f269_38 rfl rfl rfl (Or.inl h5) hd (Nat.le_of_ble_eq_true rfl) rfl rfl rfl (fun _ => rfl) (fun v4 m4 c4 => ?_)
  have hz4 := z_k c4 hz3
  refine r_isw6 (p := 43) f269_41 rfl rfl ?_
  refine r_aln0 (p := 44) f269_43 rfl ?_
  refine r_iln1 (p := 45) f269_44 rfl ?_
  refine r_iconst (p := 46) f269_45 rfl (pinD rfl rfl) ?_
  have h6 := k_t1 c4 hz3 h5 (by decide)
  refine r_invI (p := 49) f269_46 rfl rfl rfl (Or.inl h6) hd (Nat.le_of_ble_eq_true rfl) rfl rfl rfl (fun _ => rfl) (fun v5 m5 c5 => ?_)
  have hz5 := z_k c5 hz4
  refine r_isw7 (p := 51) f269_49 rfl rfl ?_
  refine r_ilw5 (p := 53) f269_51 rfl ?_
  refine r_iflt (t := 61) (p := 56) f269_53 (by decide) rfl rfl ?_ ?_
  · refine r_ilw5 (p := 63) f269_61 rfl ?_
    refine r_ilw6 (p := 65) f269_63 rfl ?_
    refine r_icne (t := 72) (p := 68) f269_65 (by decide) rfl rfl ?_ ?_
    · refine r_iconst (p := 69) f269_68 rfl (pinD rfl rfl) ?_
      refine r_goto (p := 91) f269_69 (by decide) rfl ?_
      exact le2_refl _
    · refine r_iconst (p := 73) f269_72 rfl (pinD rfl rfl) ?_
      refine r_goto (p := 91) f269_73 (by decide) rfl ?_
      exact le2_refl _
  · refine r_ilw6 (p := 58) f269_56 rfl ?_
    refine r_ifge (t := 76) (p := 61) f269_58 (by decide) rfl rfl ?_ ?_
    · refine r_ilw5 (p := 63) f269_61 rfl ?_
      refine r_ilw6 (p := 65) f269_63 rfl ?_
      refine r_icne (t := 72) (p := 68) f269_65 (by decide) rfl rfl ?_ ?_
      · refine r_iconst (p := 69) f269_68 rfl (pinD rfl rfl) ?_
        refine r_goto (p := 91) f269_69 (by decide) rfl ?_
        exact le2_refl _
      · refine r_iconst (p := 73) f269_72 rfl (pinD rfl rfl) ?_
        refine r_goto (p := 91) f269_73 (by decide) rfl ?_
        exact le2_refl _
    · refine r_aln0 (p := 77) f269_76 rfl ?_
      have h7 := k_t1 c5 hz4 h6 (by decide)
      refine r_gfR (f := 37) (p := 80) f269_77 rfl rfl rfl (Or.inl h7) rfl ?_
      refine r_nmR (fun v10 ev10 => ?_)
      refine r_ilw5 (p := 82) f269_80 rfl ?_
      refine r_aln0 (p := 83) f269_82 rfl ?_
      refine r_gfR (f := 37) (p := 86) f269_83 rfl rfl rfl (Or.inl h7) ev10.symm ?_
      refine r_ilw6 (p := 88) f269_86 rfl ?_
      refine r_istI (p := 91) f269_88 rfl rfl rfl hd (Nat.le_of_ble_eq_true rfl) rfl rfl rfl (fun _ => rfl) (fun v6 m6 c6 => ?_)
      have hz6 := z_k c6 hz5
      exact le2_refl _
theorem q269_91 {d : Nat} {m : Mem} {a0 a1 a2 a3 a4 a5 a6 a7 s0 : Int} (hz : TZ m) : le2 (if a7 = 0 then (if s0 = 1 then (rn d 269 113 [pR a0, pI a1, pI a2, pI a3, pI a4, pI a5, pI a6, pI a7, pI s0, pU] [pI 1] m) else rn d 269 113 [pR a0, pI a1, pI a2, pI a3, pI a4, pI a5, pI a6, pI a7, pI s0, pU] [pI 0] m) else if s0 = 0 then (rn d 269 113 [pR a0, pI a1, pI a2, pI a3, pI a4, pI a5, pI a6, pI a7, pI s0, pU] [pI 1] m) else rn d 269 113 [pR a0, pI a1, pI a2, pI a3, pI a4, pI a5, pI a6, pI a7, pI s0, pU] [pI 0] m) (rn d 269 91 [pR a0, pI a1, pI a2, pI a3, pI a4, pI a5, pI a6, pI a7, pU, pU] [pI s0] m) := by
  refine r_isw8 (p := 93) f269_91 rfl rfl ?_
  refine r_ilw8 (p := 95) f269_93 rfl ?_
  refine r_ilw7 (p := 97) f269_95 rfl ?_
  refine r_ifne (t := 104) (p := 100) f269_97 (by decide) rfl rfl ?_ ?_
  · refine r_iconst (p := 101) f269_100 rfl (pinD rfl rfl) ?_
    refine r_goto (p := 105) f269_101 (by decide) rfl ?_
    refine r_icne (t := 112) (p := 108) f269_105 (by decide) rfl rfl ?_ ?_
    · refine r_iconst (p := 109) f269_108 rfl (pinD rfl rfl) ?_
      refine r_goto (p := 113) f269_109 (by decide) rfl ?_
      exact le2_refl _
    · refine r_iconst (p := 113) f269_112 rfl (pinD rfl rfl) ?_
      exact le2_refl _
  · refine r_iconst (p := 105) f269_104 rfl (pinD rfl rfl) ?_
    refine r_icne (t := 112) (p := 108) f269_105 (by decide) rfl rfl ?_ ?_
    · refine r_iconst (p := 109) f269_108 rfl (pinD rfl rfl) ?_
      refine r_goto (p := 113) f269_109 (by decide) rfl ?_
      exact le2_refl _
    · refine r_iconst (p := 113) f269_112 rfl (pinD rfl rfl) ?_
      exact le2_refl _
theorem q269_113 {d : Nat} {m : Mem} {a0 a1 a2 a3 a4 a5 a6 a7 a8 s0 : Int} (hd : 0 < d) (hz : TZ m) : le2 (if 1 < a7 then (if a7 < 4 then (gd (tg m a0 = 11) <| bI (cl (d - 1) 272 [pR a0, pI a5, pI a6] m) fun v2 m2 => if v2 = 0 then (rn d 269 152 [pR a0, pI a1, pI a2, pI a3, pI a4, pI a5, pI a6, pI a7, pI a8, pI s0] [] m2) else rn d 269 170 [pR a0, pI a1, pI a2, pI a3, pI a4, pI a5, pI a6, pI a7, pI a8, pI s0] [pI 1] m2) else gd (tg m a0 = 11) <| bI (cl (d - 1) 272 [pR a0, pI a6, pI a5] m) fun v1 m1 => if v1 = 0 then (rn d 269 152 [pR a0, pI a1, pI a2, pI a3, pI a4, pI a5, pI a6, pI a7, pI a8, pI s0] [] m1) else rn d 269 170 [pR a0, pI a1, pI a2, pI a3, pI a4, pI a5, pI a6, pI a7, pI a8, pI s0] [pI 1] m1) else gd (tg m a0 = 11) <| nm (vl m a0 37) fun v3 => gd (tg m v3 = 13) <| gd (s0 = 0 ∨ s0 = 1) <| some (.inl (some (pI s0)), (mst (mst m v3 10 a3) v3 12 a4))) (rn d 269 113 [pR a0, pI a1, pI a2, pI a3, pI a4, pI a5, pI a6, pI a7, pI a8, pU] [pI s0] m) := by
  refine r_isw9 (p := 115) f269_113 rfl rfl ?_
  refine r_ilw7 (p := 117) f269_115 rfl ?_
  refine r_iconst (p := 118) f269_117 rfl (pinD rfl rfl) ?_
  refine r_icle (t := 172) (p := 121) f269_118 (by decide) rfl rfl ?_ ?_
  · refine r_ilw7 (p := 123) f269_121 rfl ?_
    refine r_iconst (p := 124) f269_123 rfl (pinD rfl rfl) ?_
    refine r_icge (t := 141) (p := 127) f269_124 (by decide) rfl rfl ?_ ?_
    · refine r_aln0 (p := 128) f269_127 rfl ?_
      refine r_ilw5 (p := 130) f269_128 rfl ?_
      refine r_ilw6 (p := 132) f269_130 rfl ?_
      refine le2_gd (fun h5 => ?_)
      refine r_invI (p := 135) f269_132 rfl rfl rfl (Or.inl h5) hd (Nat.le_of_ble_eq_true rfl) rfl rfl rfl (fun _ => rfl) (fun v2 m2 c2 => ?_)
      have hz2 := z_k c2 hz
      refine r_ifeq (t := 152) (p := 138) f269_135 (by decide) rfl rfl ?_ ?_
      · exact le2_refl _
      · refine r_goto (p := 165) f269_138 (by decide) rfl ?_
        refine r_iconst (p := 166) f269_165 rfl (pinD rfl rfl) ?_
        refine r_goto (p := 170) f269_166 (by decide) rfl ?_
        exact le2_refl _
    · refine r_aln0 (p := 142) f269_141 rfl ?_
      refine r_ilw6 (p := 144) f269_142 rfl ?_
      refine r_ilw5 (p := 146) f269_144 rfl ?_
      refine le2_gd (fun h4 => ?_)
      refine r_invI (p := 149) f269_146 rfl rfl rfl (Or.inl h4) hd (Nat.le_of_ble_eq_true rfl) rfl rfl rfl (fun _ => rfl) (fun v1 m1 c1 => ?_)
      have hz1 := z_k c1 hz
      refine r_ifne (t := 165) (p := 152) f269_149 (by decide) rfl rfl ?_ ?_
      · exact le2_refl _
      · refine r_iconst (p := 166) f269_165 rfl (pinD rfl rfl) ?_
        refine r_goto (p := 170) f269_166 (by decide) rfl ?_
        exact le2_refl _
  · refine r_aln0 (p := 173) f269_172 rfl ?_
    refine le2_gd (fun h1 => ?_)
    refine r_gfR (f := 37) (p := 176) f269_173 rfl rfl rfl (Or.inl h1) rfl ?_
    refine r_nmR (fun v3 ev3 => ?_)
    refine r_iln3 (p := 177) f269_176 rfl ?_
    refine le2_gd (fun h2 => ?_)
    refine r_pfI (f := 10) (p := 180) f269_177 rfl rfl rfl (by decide) (by decide) (Or.inl h2) rfl ?_
    refine r_aln0 (p := 181) f269_180 rfl ?_
    refine r_gfR (f := 37) (p := 184) f269_181 rfl rfl rfl (Or.inl h1) (Eq.trans (sk_f (by decide)) ev3.symm) ?_
    refine r_ilw4 (p := 186) f269_184 rfl ?_
    refine r_pfI (f := 12) (p := 189) f269_186 rfl rfl rfl (by decide) (by decide) (Or.inl h2) rfl ?_
    refine r_ilw9 (p := 191) f269_189 rfl ?_
    refine le2_gd (fun h3 => ?_)
    exact r_iret4 f269_191 h3
theorem q269_152 {d : Nat} {m : Mem} {a0 a1 a2 a3 a4 a5 a6 a7 a8 a9 : Int} (hz : TZ m) : le2 (if (pAnd a7 1) = 1 then (if a8 = 0 then (rn d 269 170 [pR a0, pI a1, pI a2, pI a3, pI a4, pI a5, pI a6, pI a7, pI a8, pI a9] [pI 0] m) else rn d 269 170 [pR a0, pI a1, pI a2, pI a3, pI a4, pI a5, pI a6, pI a7, pI a8, pI a9] [pI 1] m) else rn d 269 170 [pR a0, pI a1, pI a2, pI a3, pI a4, pI a5, pI a6, pI a7, pI a8, pI a9] [pI 0] m) (rn d 269 152 [pR a0, pI a1, pI a2, pI a3, pI a4, pI a5, pI a6, pI a7, pI a8, pI a9] [] m) := by
  refine r_ilw7 (p := 154) f269_152 rfl ?_
  refine r_iconst (p := 155) f269_154 rfl (pinD rfl rfl) ?_
  refine r_iand (p := 156) f269_155 rfl ?_
  refine r_iconst (p := 157) f269_156 rfl (pinD rfl rfl) ?_
  refine r_icne (t := 169) (p := 160) f269_157 (by decide) rfl rfl ?_ ?_
  · refine r_ilw8 (p := 162) f269_160 rfl ?_
    refine r_ifeq (t := 169) (p := 165) f269_162 (by decide) rfl rfl ?_ ?_
    · refine r_iconst (p := 170) f269_169 rfl (pinD rfl rfl) ?_
      exact le2_refl _
    · refine r_iconst (p := 166) f269_165 rfl (pinD rfl rfl) ?_
      refine r_goto (p := 170) f269_166 (by decide) rfl ?_
      exact le2_refl _
  · refine r_iconst (p := 170) f269_169 rfl (pinD rfl rfl) ?_
    exact le2_refl _
theorem q269_170 {d : Nat} {m : Mem} {a0 a1 a2 a3 a4 a5 a6 a7 a8 a9 s0 : Int} (hz : TZ m) : le2 (gd (tg m a0 = 11) <| nm (vl m a0 37) fun v1 => gd (tg m v1 = 13) <| gd (s0 = 0 ∨ s0 = 1) <| some (.inl (some (pI s0)), (mst (mst m v1 10 a3) v1 12 a4))) (rn d 269 170 [pR a0, pI a1, pI a2, pI a3, pI a4, pI a5, pI a6, pI a7, pI a8, pI a9] [pI s0] m) := by
  refine r_isw9 (p := 172) f269_170 rfl rfl ?_
  refine r_aln0 (p := 173) f269_172 rfl ?_
  refine le2_gd (fun h1 => ?_)
  refine r_gfR (f := 37) (p := 176) f269_173 rfl rfl rfl (Or.inl h1) rfl ?_
  refine r_nmR (fun v1 ev1 => ?_)
  refine r_iln3 (p := 177) f269_176 rfl ?_
  refine le2_gd (fun h2 => ?_)
  refine r_pfI (f := 10) (p := 180) f269_177 rfl rfl rfl (by decide) (by decide) (Or.inl h2) rfl ?_
  refine r_aln0 (p := 181) f269_180 rfl ?_
  refine r_gfR (f := 37) (p := 184) f269_181 rfl rfl rfl (Or.inl h1) (Eq.trans (sk_f (by decide)) ev1.symm) ?_
  refine r_ilw4 (p := 186) f269_184 rfl ?_
  refine r_pfI (f := 12) (p := 189) f269_186 rfl rfl rfl (by decide) (by decide) (Or.inl h2) rfl ?_
  refine r_ilw9 (p := 191) f269_189 rfl ?_
  refine le2_gd (fun h3 => ?_)
  exact r_iret4 f269_191 h3
/-! 270 PathStoreModel.comparableValue (II)I -/
def w270_11 : List UInt8 := [180, 0, 102, 42, 180, 0, 130, 21, 4, 46, 182, 1, 138, 167, 0, 4, 2, 172]
abbrev u270_11 : List UInt8 := w270_11 ++ []
def w270_10 : List UInt8 := [180, 0, 133, 180, 0, 7, 29, 21, 5, 133, 80, 29, 172, 21, 5, 4, 160, 0, 24, 42, 180, 0, 133, 42]
abbrev u270_10 : List UInt8 := w270_10 ++ u270_11
def w270_9 : List UInt8 := [181, 1, 246, 42, 27, 3, 182, 1, 186, 16, 47, 160, 0, 26, 42, 180, 0, 133, 6, 182, 0, 217, 62, 42]
abbrev u270_9 : List UInt8 := w270_9 ++ u270_10
def w270_8 : List UInt8 := [5, 182, 1, 186, 28, 182, 2, 10, 54, 4, 42, 180, 1, 246, 21, 4, 100, 54, 5, 42, 21, 4]
abbrev u270_8 : List UInt8 := w270_8 ++ u270_9
def w270_7 : List UInt8 := [3, 182, 0, 217, 172, 42, 42, 42, 27, 5, 182, 1, 186, 28, 182, 2, 16, 182, 2, 19, 172, 42, 42, 27]
abbrev u270_7 : List UInt8 := w270_7 ++ u270_8
def w270_6 : List UInt8 := [29, 172, 42, 180, 0, 133, 4, 182, 0, 217, 172, 42, 180, 0, 133, 5, 182, 0, 217, 172, 42, 180, 0, 133]
abbrev u270_6 : List UInt8 := w270_6 ++ u270_7
def w270_5 : List UInt8 := [182, 0, 197, 132, 4, 1, 167, 255, 218, 42, 180, 0, 133, 180, 0, 48, 29, 42, 27, 6, 182, 1, 186, 79]
abbrev u270_5 : List UInt8 := w270_5 ++ u270_6
def w270_4 : List UInt8 := [162, 0, 33, 42, 180, 0, 133, 42, 180, 0, 127, 180, 0, 51, 42, 27, 5, 182, 1, 186, 21, 4, 96, 52]
abbrev u270_4 : List UInt8 := w270_4 ++ u270_5
def w270_3 : List UInt8 := [47, 80, 29, 172, 42, 180, 0, 133, 7, 182, 0, 217, 62, 3, 54, 4, 21, 4, 42, 27, 6, 182, 1, 186]
abbrev u270_3 : List UInt8 := w270_3 ++ u270_4
def w270_2 : List UInt8 := [42, 180, 0, 133, 6, 182, 0, 217, 62, 42, 180, 0, 133, 180, 0, 7, 29, 42, 180, 0, 124, 6, 27, 104]
abbrev u270_2 : List UInt8 := w270_2 ++ u270_3
def w270_1 : List UInt8 := [170, 0, 0, 0, 0, 183, 0, 0, 0, 40, 0, 0, 0, 46, 0, 0, 0, 42, 0, 0, 0, 70, 0, 0, 0, 140, 0, 0, 0, 149, 0, 0, 0, 158, 0, 0, 0, 183, 0, 0, 0, 167]
abbrev u270_1 : List UInt8 := w270_1 ++ u270_2
def w270_0 : List UInt8 := [42, 27, 3, 182, 1, 186]
abbrev u270_0 : List UInt8 := w270_0 ++ u270_1
theorem s270_0 : (prog_32_method_85_code).data.toList.drop 0 = u270_0 := by decide +kernel
theorem s270_1 : (prog_32_method_85_code).data.toList.drop 6 = u270_1 := dk_seg s270_0 6 rfl rfl
theorem s270_2 : (prog_32_method_85_code).data.toList.drop 48 = u270_2 := dk_seg s270_1 42 rfl rfl
theorem s270_3 : (prog_32_method_85_code).data.toList.drop 72 = u270_3 := dk_seg s270_2 24 rfl rfl
theorem s270_4 : (prog_32_method_85_code).data.toList.drop 96 = u270_4 := dk_seg s270_3 24 rfl rfl
theorem s270_5 : (prog_32_method_85_code).data.toList.drop 120 = u270_5 := dk_seg s270_4 24 rfl rfl
theorem s270_6 : (prog_32_method_85_code).data.toList.drop 144 = u270_6 := dk_seg s270_5 24 rfl rfl
theorem s270_7 : (prog_32_method_85_code).data.toList.drop 168 = u270_7 := dk_seg s270_6 24 rfl rfl
theorem s270_8 : (prog_32_method_85_code).data.toList.drop 192 = u270_8 := dk_seg s270_7 24 rfl rfl
theorem s270_9 : (prog_32_method_85_code).data.toList.drop 214 = u270_9 := dk_seg s270_8 22 rfl rfl
theorem s270_10 : (prog_32_method_85_code).data.toList.drop 238 = u270_10 := dk_seg s270_9 24 rfl rfl
theorem s270_11 : (prog_32_method_85_code).data.toList.drop 262 = u270_11 := dk_seg s270_10 24 rfl rfl
theorem Fm270 {pc len : Nat} {i : Instr} (h : decode (prog_32_method_85_code) pc = .ok (i, len)) (hl : len = ilen i len) : ft 270 pc = some (11, 1, 0, i, len) := ft_mk rfl h hl
theorem f270_0 : ft 270 0 = some (11, 1, 0, .aload_n 0, 1) := Fm270 (dk_42 (dk_at s270_0 0 rfl rfl)) rfl
theorem f270_1 : ft 270 1 = some (11, 1, 0, .iload_n 1, 1) := Fm270 (dk_27 (dk_at s270_0 1 rfl rfl)) rfl
theorem f270_2 : ft 270 2 = some (11, 1, 0, .iconst 0, 1) := Fm270 (dk_3 (dk_at s270_0 2 rfl rfl)) rfl
theorem f270_3 : ft 270 3 = some (11, 1, 0, .invokevirtual 442, 3) := Fm270 (dk_182 1 186 (dk_at s270_0 3 rfl rfl)) rfl
theorem f270_6 : ft 270 6 = some (11, 1, 0, .tableswitch 183 40 46 #[42, 70, 140, 149, 158, 183, 167], 42) := Fm270 (by decide +kernel) rfl
theorem f270_48 : ft 270 48 = some (11, 1, 0, .aload_n 0, 1) := Fm270 (dk_42 (dk_at s270_2 0 rfl rfl)) rfl
theorem f270_49 : ft 270 49 = some (11, 1, 0, .getfield 133, 3) := Fm270 (dk_180 0 133 (dk_at s270_2 1 rfl rfl)) rfl
theorem f270_52 : ft 270 52 = some (11, 1, 0, .iconst 3, 1) := Fm270 (dk_6 (dk_at s270_2 4 rfl rfl)) rfl
theorem f270_53 : ft 270 53 = some (11, 1, 0, .invokevirtual 217, 3) := Fm270 (dk_182 0 217 (dk_at s270_2 5 rfl rfl)) rfl
theorem f270_56 : ft 270 56 = some (11, 1, 0, .istore_n 3, 1) := Fm270 (dk_62 (dk_at s270_2 8 rfl rfl)) rfl
theorem f270_57 : ft 270 57 = some (11, 1, 0, .aload_n 0, 1) := Fm270 (dk_42 (dk_at s270_2 9 rfl rfl)) rfl
theorem f270_58 : ft 270 58 = some (11, 1, 0, .getfield 133, 3) := Fm270 (dk_180 0 133 (dk_at s270_2 10 rfl rfl)) rfl
theorem f270_61 : ft 270 61 = some (11, 1, 0, .getfield 7, 3) := Fm270 (dk_180 0 7 (dk_at s270_2 13 rfl rfl)) rfl
theorem f270_64 : ft 270 64 = some (11, 1, 0, .iload_n 3, 1) := Fm270 (dk_29 (dk_at s270_2 16 rfl rfl)) rfl
theorem f270_65 : ft 270 65 = some (11, 1, 0, .aload_n 0, 1) := Fm270 (dk_42 (dk_at s270_2 17 rfl rfl)) rfl
theorem f270_66 : ft 270 66 = some (11, 1, 0, .getfield 124, 3) := Fm270 (dk_180 0 124 (dk_at s270_2 18 rfl rfl)) rfl
theorem f270_69 : ft 270 69 = some (11, 1, 0, .iconst 3, 1) := Fm270 (dk_6 (dk_at s270_2 21 rfl rfl)) rfl
theorem f270_70 : ft 270 70 = some (11, 1, 0, .iload_n 1, 1) := Fm270 (dk_27 (dk_at s270_2 22 rfl rfl)) rfl
theorem f270_71 : ft 270 71 = some (11, 1, 0, .imul, 1) := Fm270 (dk_104 (dk_at s270_2 23 rfl rfl)) rfl
theorem f270_72 : ft 270 72 = some (11, 1, 0, .laload, 1) := Fm270 (dk_47 (dk_at s270_3 0 rfl rfl)) rfl
theorem f270_73 : ft 270 73 = some (11, 1, 0, .lastore, 1) := Fm270 (dk_80 (dk_at s270_3 1 rfl rfl)) rfl
theorem f270_74 : ft 270 74 = some (11, 1, 0, .iload_n 3, 1) := Fm270 (dk_29 (dk_at s270_3 2 rfl rfl)) rfl
theorem f270_75 : ft 270 75 = some (11, 1, 0, .ireturn, 1) := Fm270 (dk_172 (dk_at s270_3 3 rfl rfl)) rfl
theorem f270_76 : ft 270 76 = some (11, 1, 0, .aload_n 0, 1) := Fm270 (dk_42 (dk_at s270_3 4 rfl rfl)) rfl
theorem f270_77 : ft 270 77 = some (11, 1, 0, .getfield 133, 3) := Fm270 (dk_180 0 133 (dk_at s270_3 5 rfl rfl)) rfl
theorem f270_80 : ft 270 80 = some (11, 1, 0, .iconst 4, 1) := Fm270 (dk_7 (dk_at s270_3 8 rfl rfl)) rfl
theorem f270_81 : ft 270 81 = some (11, 1, 0, .invokevirtual 217, 3) := Fm270 (dk_182 0 217 (dk_at s270_3 9 rfl rfl)) rfl
theorem f270_84 : ft 270 84 = some (11, 1, 0, .istore_n 3, 1) := Fm270 (dk_62 (dk_at s270_3 12 rfl rfl)) rfl
theorem f270_85 : ft 270 85 = some (11, 1, 0, .iconst 0, 1) := Fm270 (dk_3 (dk_at s270_3 13 rfl rfl)) rfl
theorem f270_86 : ft 270 86 = some (11, 1, 0, .istore 4, 2) := Fm270 (dk_54 4 (dk_at s270_3 14 rfl rfl)) rfl
theorem f270_88 : ft 270 88 = some (11, 1, 0, .iload 4, 2) := Fm270 (dk_21 4 (dk_at s270_3 16 rfl rfl)) rfl
theorem f270_90 : ft 270 90 = some (11, 1, 0, .aload_n 0, 1) := Fm270 (dk_42 (dk_at s270_3 18 rfl rfl)) rfl
theorem f270_91 : ft 270 91 = some (11, 1, 0, .iload_n 1, 1) := Fm270 (dk_27 (dk_at s270_3 19 rfl rfl)) rfl
theorem f270_92 : ft 270 92 = some (11, 1, 0, .iconst 3, 1) := Fm270 (dk_6 (dk_at s270_3 20 rfl rfl)) rfl
theorem f270_93 : ft 270 93 = some (11, 1, 0, .invokevirtual 442, 3) := Fm270 (dk_182 1 186 (dk_at s270_3 21 rfl rfl)) rfl
theorem f270_96 : ft 270 96 = some (11, 1, 0, .if_icmp .ge 33, 3) := Fm270 (dk_162 0 33 (dk_at s270_4 0 rfl rfl)) rfl
theorem f270_99 : ft 270 99 = some (11, 1, 0, .aload_n 0, 1) := Fm270 (dk_42 (dk_at s270_4 3 rfl rfl)) rfl
theorem f270_100 : ft 270 100 = some (11, 1, 0, .getfield 133, 3) := Fm270 (dk_180 0 133 (dk_at s270_4 4 rfl rfl)) rfl
theorem f270_103 : ft 270 103 = some (11, 1, 0, .aload_n 0, 1) := Fm270 (dk_42 (dk_at s270_4 7 rfl rfl)) rfl
theorem f270_104 : ft 270 104 = some (11, 1, 0, .getfield 127, 3) := Fm270 (dk_180 0 127 (dk_at s270_4 8 rfl rfl)) rfl
theorem f270_107 : ft 270 107 = some (11, 1, 0, .getfield 51, 3) := Fm270 (dk_180 0 51 (dk_at s270_4 11 rfl rfl)) rfl
theorem f270_110 : ft 270 110 = some (11, 1, 0, .aload_n 0, 1) := Fm270 (dk_42 (dk_at s270_4 14 rfl rfl)) rfl
theorem f270_111 : ft 270 111 = some (11, 1, 0, .iload_n 1, 1) := Fm270 (dk_27 (dk_at s270_4 15 rfl rfl)) rfl
theorem f270_112 : ft 270 112 = some (11, 1, 0, .iconst 2, 1) := Fm270 (dk_5 (dk_at s270_4 16 rfl rfl)) rfl
theorem f270_113 : ft 270 113 = some (11, 1, 0, .invokevirtual 442, 3) := Fm270 (dk_182 1 186 (dk_at s270_4 17 rfl rfl)) rfl
theorem f270_116 : ft 270 116 = some (11, 1, 0, .iload 4, 2) := Fm270 (dk_21 4 (dk_at s270_4 20 rfl rfl)) rfl
theorem f270_118 : ft 270 118 = some (11, 1, 0, .iadd, 1) := Fm270 (dk_96 (dk_at s270_4 22 rfl rfl)) rfl
theorem f270_119 : ft 270 119 = some (11, 1, 0, .caload, 1) := Fm270 (dk_52 (dk_at s270_4 23 rfl rfl)) rfl
theorem f270_120 : ft 270 120 = some (11, 1, 0, .invokevirtual 197, 3) := Fm270 (dk_182 0 197 (dk_at s270_5 0 rfl rfl)) rfl
theorem f270_123 : ft 270 123 = some (11, 1, 0, .iinc 4 1, 3) := Fm270 (dk_132 4 1 (dk_at s270_5 3 rfl rfl)) rfl
theorem f270_126 : ft 270 126 = some (11, 1, 0, .goto (-38), 3) := Fm270 (dk_167 255 218 (dk_at s270_5 6 rfl rfl)) rfl
theorem f270_129 : ft 270 129 = some (11, 1, 0, .aload_n 0, 1) := Fm270 (dk_42 (dk_at s270_5 9 rfl rfl)) rfl
theorem f270_130 : ft 270 130 = some (11, 1, 0, .getfield 133, 3) := Fm270 (dk_180 0 133 (dk_at s270_5 10 rfl rfl)) rfl
theorem f270_133 : ft 270 133 = some (11, 1, 0, .getfield 48, 3) := Fm270 (dk_180 0 48 (dk_at s270_5 13 rfl rfl)) rfl
theorem f270_136 : ft 270 136 = some (11, 1, 0, .iload_n 3, 1) := Fm270 (dk_29 (dk_at s270_5 16 rfl rfl)) rfl
theorem f270_137 : ft 270 137 = some (11, 1, 0, .aload_n 0, 1) := Fm270 (dk_42 (dk_at s270_5 17 rfl rfl)) rfl
theorem f270_138 : ft 270 138 = some (11, 1, 0, .iload_n 1, 1) := Fm270 (dk_27 (dk_at s270_5 18 rfl rfl)) rfl
theorem f270_139 : ft 270 139 = some (11, 1, 0, .iconst 3, 1) := Fm270 (dk_6 (dk_at s270_5 19 rfl rfl)) rfl
theorem f270_140 : ft 270 140 = some (11, 1, 0, .invokevirtual 442, 3) := Fm270 (dk_182 1 186 (dk_at s270_5 20 rfl rfl)) rfl
theorem f270_143 : ft 270 143 = some (11, 1, 0, .iastore, 1) := Fm270 (dk_79 (dk_at s270_5 23 rfl rfl)) rfl
theorem f270_144 : ft 270 144 = some (11, 1, 0, .iload_n 3, 1) := Fm270 (dk_29 (dk_at s270_6 0 rfl rfl)) rfl
theorem f270_145 : ft 270 145 = some (11, 1, 0, .ireturn, 1) := Fm270 (dk_172 (dk_at s270_6 1 rfl rfl)) rfl
theorem f270_146 : ft 270 146 = some (11, 1, 0, .aload_n 0, 1) := Fm270 (dk_42 (dk_at s270_6 2 rfl rfl)) rfl
theorem f270_147 : ft 270 147 = some (11, 1, 0, .getfield 133, 3) := Fm270 (dk_180 0 133 (dk_at s270_6 3 rfl rfl)) rfl
theorem f270_150 : ft 270 150 = some (11, 1, 0, .iconst 1, 1) := Fm270 (dk_4 (dk_at s270_6 6 rfl rfl)) rfl
theorem f270_151 : ft 270 151 = some (11, 1, 0, .invokevirtual 217, 3) := Fm270 (dk_182 0 217 (dk_at s270_6 7 rfl rfl)) rfl
theorem f270_154 : ft 270 154 = some (11, 1, 0, .ireturn, 1) := Fm270 (dk_172 (dk_at s270_6 10 rfl rfl)) rfl
theorem f270_155 : ft 270 155 = some (11, 1, 0, .aload_n 0, 1) := Fm270 (dk_42 (dk_at s270_6 11 rfl rfl)) rfl
theorem f270_156 : ft 270 156 = some (11, 1, 0, .getfield 133, 3) := Fm270 (dk_180 0 133 (dk_at s270_6 12 rfl rfl)) rfl
theorem f270_159 : ft 270 159 = some (11, 1, 0, .iconst 2, 1) := Fm270 (dk_5 (dk_at s270_6 15 rfl rfl)) rfl
theorem f270_160 : ft 270 160 = some (11, 1, 0, .invokevirtual 217, 3) := Fm270 (dk_182 0 217 (dk_at s270_6 16 rfl rfl)) rfl
theorem f270_163 : ft 270 163 = some (11, 1, 0, .ireturn, 1) := Fm270 (dk_172 (dk_at s270_6 19 rfl rfl)) rfl
theorem f270_164 : ft 270 164 = some (11, 1, 0, .aload_n 0, 1) := Fm270 (dk_42 (dk_at s270_6 20 rfl rfl)) rfl
theorem f270_165 : ft 270 165 = some (11, 1, 0, .getfield 133, 3) := Fm270 (dk_180 0 133 (dk_at s270_6 21 rfl rfl)) rfl
theorem f270_168 : ft 270 168 = some (11, 1, 0, .iconst 0, 1) := Fm270 (dk_3 (dk_at s270_7 0 rfl rfl)) rfl
theorem f270_169 : ft 270 169 = some (11, 1, 0, .invokevirtual 217, 3) := Fm270 (dk_182 0 217 (dk_at s270_7 1 rfl rfl)) rfl
theorem f270_172 : ft 270 172 = some (11, 1, 0, .ireturn, 1) := Fm270 (dk_172 (dk_at s270_7 4 rfl rfl)) rfl
theorem f270_173 : ft 270 173 = some (11, 1, 0, .aload_n 0, 1) := Fm270 (dk_42 (dk_at s270_7 5 rfl rfl)) rfl
theorem f270_174 : ft 270 174 = some (11, 1, 0, .aload_n 0, 1) := Fm270 (dk_42 (dk_at s270_7 6 rfl rfl)) rfl
theorem f270_175 : ft 270 175 = some (11, 1, 0, .aload_n 0, 1) := Fm270 (dk_42 (dk_at s270_7 7 rfl rfl)) rfl
theorem f270_176 : ft 270 176 = some (11, 1, 0, .iload_n 1, 1) := Fm270 (dk_27 (dk_at s270_7 8 rfl rfl)) rfl
theorem f270_177 : ft 270 177 = some (11, 1, 0, .iconst 2, 1) := Fm270 (dk_5 (dk_at s270_7 9 rfl rfl)) rfl
theorem f270_178 : ft 270 178 = some (11, 1, 0, .invokevirtual 442, 3) := Fm270 (dk_182 1 186 (dk_at s270_7 10 rfl rfl)) rfl
theorem f270_181 : ft 270 181 = some (11, 1, 0, .iload_n 2, 1) := Fm270 (dk_28 (dk_at s270_7 13 rfl rfl)) rfl
theorem f270_182 : ft 270 182 = some (11, 1, 0, .invokevirtual 528, 3) := Fm270 (dk_182 2 16 (dk_at s270_7 14 rfl rfl)) rfl
theorem f270_185 : ft 270 185 = some (11, 1, 0, .invokevirtual 531, 3) := Fm270 (dk_182 2 19 (dk_at s270_7 17 rfl rfl)) rfl
theorem f270_188 : ft 270 188 = some (11, 1, 0, .ireturn, 1) := Fm270 (dk_172 (dk_at s270_7 20 rfl rfl)) rfl
theorem f270_189 : ft 270 189 = some (11, 1, 0, .aload_n 0, 1) := Fm270 (dk_42 (dk_at s270_7 21 rfl rfl)) rfl
theorem f270_190 : ft 270 190 = some (11, 1, 0, .aload_n 0, 1) := Fm270 (dk_42 (dk_at s270_7 22 rfl rfl)) rfl
theorem f270_191 : ft 270 191 = some (11, 1, 0, .iload_n 1, 1) := Fm270 (dk_27 (dk_at s270_7 23 rfl rfl)) rfl
theorem f270_192 : ft 270 192 = some (11, 1, 0, .iconst 2, 1) := Fm270 (dk_5 (dk_at s270_8 0 rfl rfl)) rfl
theorem f270_193 : ft 270 193 = some (11, 1, 0, .invokevirtual 442, 3) := Fm270 (dk_182 1 186 (dk_at s270_8 1 rfl rfl)) rfl
theorem f270_196 : ft 270 196 = some (11, 1, 0, .iload_n 2, 1) := Fm270 (dk_28 (dk_at s270_8 4 rfl rfl)) rfl
theorem f270_197 : ft 270 197 = some (11, 1, 0, .invokevirtual 522, 3) := Fm270 (dk_182 2 10 (dk_at s270_8 5 rfl rfl)) rfl
theorem f270_200 : ft 270 200 = some (11, 1, 0, .istore 4, 2) := Fm270 (dk_54 4 (dk_at s270_8 8 rfl rfl)) rfl
theorem f270_202 : ft 270 202 = some (11, 1, 0, .aload_n 0, 1) := Fm270 (dk_42 (dk_at s270_8 10 rfl rfl)) rfl
theorem f270_203 : ft 270 203 = some (11, 1, 0, .getfield 502, 3) := Fm270 (dk_180 1 246 (dk_at s270_8 11 rfl rfl)) rfl
theorem f270_206 : ft 270 206 = some (11, 1, 0, .iload 4, 2) := Fm270 (dk_21 4 (dk_at s270_8 14 rfl rfl)) rfl
theorem f270_208 : ft 270 208 = some (11, 1, 0, .isub, 1) := Fm270 (dk_100 (dk_at s270_8 16 rfl rfl)) rfl
theorem f270_209 : ft 270 209 = some (11, 1, 0, .istore 5, 2) := Fm270 (dk_54 5 (dk_at s270_8 17 rfl rfl)) rfl
theorem f270_211 : ft 270 211 = some (11, 1, 0, .aload_n 0, 1) := Fm270 (dk_42 (dk_at s270_8 19 rfl rfl)) rfl
theorem f270_212 : ft 270 212 = some (11, 1, 0, .iload 4, 2) := Fm270 (dk_21 4 (dk_at s270_8 20 rfl rfl)) rfl
theorem f270_214 : ft 270 214 = some (11, 1, 0, .putfield 502, 3) := Fm270 (dk_181 1 246 (dk_at s270_9 0 rfl rfl)) rfl
theorem f270_217 : ft 270 217 = some (11, 1, 0, .aload_n 0, 1) := Fm270 (dk_42 (dk_at s270_9 3 rfl rfl)) rfl
theorem f270_218 : ft 270 218 = some (11, 1, 0, .iload_n 1, 1) := Fm270 (dk_27 (dk_at s270_9 4 rfl rfl)) rfl
theorem f270_219 : ft 270 219 = some (11, 1, 0, .iconst 0, 1) := Fm270 (dk_3 (dk_at s270_9 5 rfl rfl)) rfl
theorem f270_220 : ft 270 220 = some (11, 1, 0, .invokevirtual 442, 3) := Fm270 (dk_182 1 186 (dk_at s270_9 6 rfl rfl)) rfl
theorem f270_223 : ft 270 223 = some (11, 1, 0, .bipush 47, 2) := Fm270 (dk_16 47 (dk_at s270_9 9 rfl rfl)) rfl
theorem f270_225 : ft 270 225 = some (11, 1, 0, .if_icmp .ne 26, 3) := Fm270 (dk_160 0 26 (dk_at s270_9 11 rfl rfl)) rfl
theorem f270_228 : ft 270 228 = some (11, 1, 0, .aload_n 0, 1) := Fm270 (dk_42 (dk_at s270_9 14 rfl rfl)) rfl
theorem f270_229 : ft 270 229 = some (11, 1, 0, .getfield 133, 3) := Fm270 (dk_180 0 133 (dk_at s270_9 15 rfl rfl)) rfl
theorem f270_232 : ft 270 232 = some (11, 1, 0, .iconst 3, 1) := Fm270 (dk_6 (dk_at s270_9 18 rfl rfl)) rfl
theorem f270_233 : ft 270 233 = some (11, 1, 0, .invokevirtual 217, 3) := Fm270 (dk_182 0 217 (dk_at s270_9 19 rfl rfl)) rfl
theorem f270_236 : ft 270 236 = some (11, 1, 0, .istore_n 3, 1) := Fm270 (dk_62 (dk_at s270_9 22 rfl rfl)) rfl
theorem f270_237 : ft 270 237 = some (11, 1, 0, .aload_n 0, 1) := Fm270 (dk_42 (dk_at s270_9 23 rfl rfl)) rfl
theorem f270_238 : ft 270 238 = some (11, 1, 0, .getfield 133, 3) := Fm270 (dk_180 0 133 (dk_at s270_10 0 rfl rfl)) rfl
theorem f270_241 : ft 270 241 = some (11, 1, 0, .getfield 7, 3) := Fm270 (dk_180 0 7 (dk_at s270_10 3 rfl rfl)) rfl
theorem f270_244 : ft 270 244 = some (11, 1, 0, .iload_n 3, 1) := Fm270 (dk_29 (dk_at s270_10 6 rfl rfl)) rfl
theorem f270_245 : ft 270 245 = some (11, 1, 0, .iload 5, 2) := Fm270 (dk_21 5 (dk_at s270_10 7 rfl rfl)) rfl
theorem f270_247 : ft 270 247 = some (11, 1, 0, .i2l, 1) := Fm270 (dk_133 (dk_at s270_10 9 rfl rfl)) rfl
theorem f270_248 : ft 270 248 = some (11, 1, 0, .lastore, 1) := Fm270 (dk_80 (dk_at s270_10 10 rfl rfl)) rfl
theorem f270_249 : ft 270 249 = some (11, 1, 0, .iload_n 3, 1) := Fm270 (dk_29 (dk_at s270_10 11 rfl rfl)) rfl
theorem f270_250 : ft 270 250 = some (11, 1, 0, .ireturn, 1) := Fm270 (dk_172 (dk_at s270_10 12 rfl rfl)) rfl
theorem f270_251 : ft 270 251 = some (11, 1, 0, .iload 5, 2) := Fm270 (dk_21 5 (dk_at s270_10 13 rfl rfl)) rfl
theorem f270_253 : ft 270 253 = some (11, 1, 0, .iconst 1, 1) := Fm270 (dk_4 (dk_at s270_10 15 rfl rfl)) rfl
theorem f270_254 : ft 270 254 = some (11, 1, 0, .if_icmp .ne 24, 3) := Fm270 (dk_160 0 24 (dk_at s270_10 16 rfl rfl)) rfl
theorem f270_257 : ft 270 257 = some (11, 1, 0, .aload_n 0, 1) := Fm270 (dk_42 (dk_at s270_10 19 rfl rfl)) rfl
theorem f270_258 : ft 270 258 = some (11, 1, 0, .getfield 133, 3) := Fm270 (dk_180 0 133 (dk_at s270_10 20 rfl rfl)) rfl
theorem f270_261 : ft 270 261 = some (11, 1, 0, .aload_n 0, 1) := Fm270 (dk_42 (dk_at s270_10 23 rfl rfl)) rfl
theorem f270_262 : ft 270 262 = some (11, 1, 0, .getfield 102, 3) := Fm270 (dk_180 0 102 (dk_at s270_11 0 rfl rfl)) rfl
theorem f270_265 : ft 270 265 = some (11, 1, 0, .aload_n 0, 1) := Fm270 (dk_42 (dk_at s270_11 3 rfl rfl)) rfl
theorem f270_266 : ft 270 266 = some (11, 1, 0, .getfield 130, 3) := Fm270 (dk_180 0 130 (dk_at s270_11 4 rfl rfl)) rfl
theorem f270_269 : ft 270 269 = some (11, 1, 0, .iload 4, 2) := Fm270 (dk_21 4 (dk_at s270_11 7 rfl rfl)) rfl
theorem f270_271 : ft 270 271 = some (11, 1, 0, .iaload, 1) := Fm270 (dk_46 (dk_at s270_11 9 rfl rfl)) rfl
theorem f270_272 : ft 270 272 = some (11, 1, 0, .invokevirtual 394, 3) := Fm270 (dk_182 1 138 (dk_at s270_11 10 rfl rfl)) rfl
theorem f270_275 : ft 270 275 = some (11, 1, 0, .goto 4, 3) := Fm270 (dk_167 0 4 (dk_at s270_11 13 rfl rfl)) rfl
theorem f270_278 : ft 270 278 = some (11, 1, 0, .iconst (-1), 1) := Fm270 (dk_2 (dk_at s270_11 16 rfl rfl)) rfl
theorem f270_279 : ft 270 279 = some (11, 1, 0, .ireturn, 1) := Fm270 (dk_172 (dk_at s270_11 17 rfl rfl)) rfl
theorem q270 {d : Nat} {m : Mem} {a0 a1 a2 : Int} (hd : 0 < d) (hz : TZ m) : le2 (gd (tg m a0 = 11) <| bI (cl (d - 1) 251 [pR a0, pI a1, pI 0] m) fun v1 m1 => if v1 = 40 then (nm (vl m1 a0 37) fun v20 => gd (tg m1 v20 = 13) <| bI (cl (d - 1) 285 [pR v20, pI 3] m1) fun v19 m19 => nm (vl m19 a0 37) fun v21 => gd (tg m19 v21 = 13) <| nm (vl m19 v21 1) fun v22 => nm (vl m19 a0 28) fun v23 => nm (w32 (3 * a1)) fun v24 => gd (tg m19 v23 = 186102 ∨ tg m19 v23 = 246102) <| gd ((0 : Int) ≤ v24 ∧ v24 < ln m19 v23) <| gd (tg m19 v22 = 284102 ∨ tg m19 v22 = 286102) <| gd ((0 : Int) ≤ v19 ∧ v19 < ln m19 v22) <| some (.inl (some (pI v19)), (mst m19 v22 v19 (vl m19 v23 v24)))) else if v1 = 41 then (nm (vl m1 a0 37) fun v25 => gd (tg m1 v25 = 13) <| bI (cl (d - 1) 285 [pR v25, pI 4] m1) fun v18 m18 => rn d 270 88 [pR a0, pI a1, pI a2, pI v18, pI 0, pU] [] m18) else if v1 = 42 then (nm (vl m1 a0 37) fun v26 => gd (tg m1 v26 = 13) <| bI (cl (d - 1) 285 [pR v26, pI 1] m1) fun v17 m17 => some (.inl (some (pI v17)), m17)) else if v1 = 43 then (nm (vl m1 a0 37) fun v27 => gd (tg m1 v27 = 13) <| bI (cl (d - 1) 285 [pR v27, pI 2] m1) fun v16 m16 => some (.inl (some (pI v16)), m16)) else if v1 = 44 then (nm (vl m1 a0 37) fun v28 => gd (tg m1 v28 = 13) <| bI (cl (d - 1) 285 [pR v28, pI 0] m1) fun v15 m15 => some (.inl (some (pI v15)), m15)) else if v1 = 46 then (bI (cl (d - 1) 251 [pR a0, pI a1, pI 2] m1) fun v12 m12 => bI (cl (d - 1) 270 [pR a0, pI v12, pI a2] m12) fun v13 m13 => bI (cl (d - 1) 271 [pR a0, pI v13] m13) fun v14 m14 => some (.inl (some (pI v14)), m14)) else if v1 = 45 then (bI (cl (d - 1) 251 [pR a0, pI a1, pI 2] m1) fun v7 m7 => bI (cl (d - 1) 262 [pR a0, pI v7, pI a2] m7) fun v8 m8 => nm (w32 ((vl m8 a0 33) - v8)) fun v29 => bI (cl (d - 1) 251 [pR a0, pI a1, pI 0] (mst m8 a0 33 v8)) fun v9 m9 => if v9 = 47 then (nm (vl m9 a0 37) fun v30 => gd (tg m9 v30 = 13) <| bI (cl (d - 1) 285 [pR v30, pI 3] m9) fun v11 m11 => nm (vl m11 a0 37) fun v31 => gd (tg m11 v31 = 13) <| nm (vl m11 v31 1) fun v32 => gd (tg m11 v32 = 284102 ∨ tg m11 v32 = 286102) <| gd ((0 : Int) ≤ v11 ∧ v11 < ln m11 v32) <| some (.inl (some (pI v11)), (mst m11 v32 v11 v29))) else if v29 = 1 then (nm (vl m9 a0 37) fun v33 => nm (vl m9 a0 32) fun v34 => gd (tg m9 v34 = 186101) <| gd ((0 : Int) ≤ v8 ∧ v8 < ln m9 v34) <| gd (tg m9 v33 = 13) <| bI (cl (d - 1) 292 [pR v33, pR (vl m9 a0 18), pI (vl m9 v34 v8)] m9) fun v10 m10 => some (.inl (some (pI v10)), m10)) else some (.inl (some (pI (-1))), m9)) else bI (cl (d - 1) 251 [pR a0, pI a1, pI 2] m1) fun v2 m2 => bI (cl (d - 1) 262 [pR a0, pI v2, pI a2] m2) fun v3 m3 => nm (w32 ((vl m3 a0 33) - v3)) fun v35 => bI (cl (d - 1) 251 [pR a0, pI a1, pI 0] (mst m3 a0 33 v3)) fun v4 m4 => if v4 = 47 then (nm (vl m4 a0 37) fun v36 => gd (tg m4 v36 = 13) <| bI (cl (d - 1) 285 [pR v36, pI 3] m4) fun v6 m6 => nm (vl m6 a0 37) fun v37 => gd (tg m6 v37 = 13) <| nm (vl m6 v37 1) fun v38 => gd (tg m6 v38 = 284102 ∨ tg m6 v38 = 286102) <| gd ((0 : Int) ≤ v6 ∧ v6 < ln m6 v38) <| some (.inl (some (pI v6)), (mst m6 v38 v6 v35))) else if v35 = 1 then (nm (vl m4 a0 37) fun v39 => nm (vl m4 a0 32) fun v40 => gd (tg m4 v40 = 186101) <| gd ((0 : Int) ≤ v3 ∧ v3 < ln m4 v40) <| gd (tg m4 v39 = 13) <| bI (cl (d - 1) 292 [pR v39, pR (vl m4 a0 18), pI (vl m4 v40 v3)] m4) fun v5 m5 => some (.inl (some (pI v5)), m5)) else some (.inl (some (pI (-1))), m4)) (cl d 270 [pR a0, pI a1, pI a2] m) := by
  refine q_in (n := 6) (L := [pR a0, pI a1, pI a2, pU, pU, pU]) rfl rfl rfl ?_
  refine r_aln0 (p := 1) f270_0 rfl ?_
  refine r_iln1 (p := 2) f270_1 rfl ?_
  refine r_iconst (p := 3) f270_2 rfl (pinD rfl rfl) ?_
  refine le2_gd (fun h1 => ?_)
  refine r_invI (p := 6) f270_3 rfl rfl rfl (Or.inl h1) hd (Nat.le_of_ble_eq_true rfl) rfl rfl rfl (fun _ => rfl) (fun v1 m1 c1 => ?_)
  have hz1 := z_k c1 hz
  refine le2_ite (fun h45 => ?_) (fun h45 => ?_)
  · refine r_tsI (off := 42) (t := 48) f270_6 h45 rfl rfl (by decide) rfl ?_
    refine r_aln0 (p := 49) f270_48 rfl ?_
    have h46 := k_t1 c1 hz h1 (by decide)
    refine r_gfR (f := 37) (p := 52) f270_49 rfl rfl rfl (Or.inl h46) rfl ?_
    refine r_nmR (fun v20 ev20 => ?_)
    refine r_iconst (p := 53) f270_52 rfl (pinD rfl rfl) ?_
    refine le2_gd (fun h47 => ?_)
    refine r_invI (p := 56) f270_53 rfl rfl rfl (Or.inl h47) hd (Nat.le_of_ble_eq_true rfl) rfl rfl rfl (fun _ => rfl) (fun v19 m19 c19 => ?_)
    have hz19 := z_k c19 hz1
    refine r_isn3 (p := 57) f270_56 rfl rfl ?_
    refine r_aln0 (p := 58) f270_57 rfl ?_
    have h48 := k_t1 c19 hz1 h46 (by decide)
    refine r_gfR (f := 37) (p := 61) f270_58 rfl rfl rfl (Or.inl h48) rfl ?_
    refine r_nmR (fun v21 ev21 => ?_)
    refine le2_gd (fun h49 => ?_)
    refine r_gfR (f := 1) (p := 64) f270_61 rfl rfl rfl (Or.inl h49) rfl ?_
    refine r_nmR (fun v22 ev22 => ?_)
    refine r_iln3 (p := 65) f270_64 rfl ?_
    refine r_aln0 (p := 66) f270_65 rfl ?_
    refine r_gfR (f := 28) (p := 69) f270_66 rfl rfl rfl (Or.inl h48) rfl ?_
    refine r_nmR (fun v23 ev23 => ?_)
    refine r_iconst (p := 70) f270_69 rfl (pinD rfl rfl) ?_
    refine r_iln1 (p := 71) f270_70 rfl ?_
    refine r_imul (p := 72) f270_71 rfl ?_
    refine r_nmI (fun v24 ev24 => ?_)
    refine le2_gd (fun h50 => ?_)
    refine le2_gd (fun h51 => ?_)
    refine r_laload (p := 73) f270_72 rfl (dj2 (fun x => x % 1000 = 102) h50 (by decide) (by decide)) h51 rfl ?_
    refine le2_gd (fun h52 => ?_)
    refine le2_gd (fun h53 => ?_)
    refine r_lastore (p := 74) f270_73 rfl (dj2 (fun x => 1000 ≤ x ∧ x % 1000 = 102 ∧ Nat.testBit (eM 270) (bix x 0) = true) h52 (by decide) (by decide)) h53 ?_
    refine r_iln3 (p := 75) f270_74 rfl ?_
    exact r_iret1 f270_75
  · refine le2_ite (fun h42 => ?_) (fun h42 => ?_)
    · refine r_tsI (off := 70) (t := 76) f270_6 h42 rfl rfl (by decide) rfl ?_
      refine r_aln0 (p := 77) f270_76 rfl ?_
      have h43 := k_t1 c1 hz h1 (by decide)
      refine r_gfR (f := 37) (p := 80) f270_77 rfl rfl rfl (Or.inl h43) rfl ?_
      refine r_nmR (fun v25 ev25 => ?_)
      refine r_iconst (p := 81) f270_80 rfl (pinD rfl rfl) ?_
      refine le2_gd (fun h44 => ?_)
      refine r_invI (p := 84) f270_81 rfl rfl rfl (Or.inl h44) hd (Nat.le_of_ble_eq_true rfl) rfl rfl rfl (fun _ => rfl) (fun v18 m18 c18 => ?_)
      have hz18 := z_k c18 hz1
      refine r_isn3 (p := 85) f270_84 rfl rfl ?_
      refine r_iconst (p := 86) f270_85 rfl (pinD rfl rfl) ?_
      refine r_isw4 (p := 88) f270_86 rfl rfl ?_
      exact le2_refl _
    · refine le2_ite (fun h39 => ?_) (fun h39 => ?_)
      · refine r_tsI (off := 140) (t := 146) f270_6 h39 rfl rfl (by decide) rfl ?_
        refine r_aln0 (p := 147) f270_146 rfl ?_
        have h40 := k_t1 c1 hz h1 (by decide)
        refine r_gfR (f := 37) (p := 150) f270_147 rfl rfl rfl (Or.inl h40) rfl ?_
        refine r_nmR (fun v26 ev26 => ?_)
        refine r_iconst (p := 151) f270_150 rfl (pinD rfl rfl) ?_
        refine le2_gd (fun h41 => ?_)
        refine r_invI (p := 154) f270_151 rfl rfl rfl (Or.inl h41) hd (Nat.le_of_ble_eq_true rfl) rfl rfl rfl (fun _ => rfl) (fun v17 m17 c17 => ?_)
        have hz17 := z_k c17 hz1
        exact r_iret1 f270_154
      · refine le2_ite (fun h36 => ?_) (fun h36 => ?_)
        · refine r_tsI (off := 149) (t := 155) f270_6 h36 rfl rfl (by decide) rfl ?_
          refine r_aln0 (p := 156) f270_155 rfl ?_
          have h37 := k_t1 c1 hz h1 (by decide)
          refine r_gfR (f := 37) (p := 159) f270_156 rfl rfl rfl (Or.inl h37) rfl ?_
          refine r_nmR (fun v27 ev27 => ?_)
          refine r_iconst (p := 160) f270_159 rfl (pinD rfl rfl) ?_
          refine le2_gd (fun h38 => ?_)
          refine r_invI (p := 163) f270_160 rfl rfl rfl (Or.inl h38) hd (Nat.le_of_ble_eq_true rfl) rfl rfl rfl (fun _ => rfl) (fun v16 m16 c16 => ?_)
          have hz16 := z_k c16 hz1
          exact r_iret1 f270_163
        · refine le2_ite (fun h33 => ?_) (fun h33 => ?_)
          · refine r_tsI (off := 158) (t := 164) f270_6 h33 rfl rfl (by decide) rfl ?_
            refine r_aln0 (p := 165) f270_164 rfl ?_
            have h34 := k_t1 c1 hz h1 (by decide)
            refine r_gfR (f := 37) (p := 168) f270_165 rfl rfl rfl (Or.inl h34) rfl ?_
            refine r_nmR (fun v28 ev28 => ?_)
            refine r_iconst (p := 169) f270_168 rfl (pinD rfl rfl) ?_
            refine le2_gd (fun h35 => ?_)
            refine r_invI (p := 172) f270_169 rfl rfl rfl (Or.inl h35) hd (Nat.le_of_ble_eq_true rfl) rfl rfl rfl (fun _ => rfl) (fun v15 m15 c15 => ?_)
            have hz15 := z_k c15 hz1
            exact r_iret1 f270_172
          · refine le2_ite (fun h29 => ?_) (fun h29 => ?_)
            · refine r_tsI (off := 167) (t := 173) f270_6 h29 rfl rfl (by decide) rfl ?_
              refine r_aln0 (p := 174) f270_173 rfl ?_
              refine r_aln0 (p := 175) f270_174 rfl ?_
              refine r_aln0 (p := 176) f270_175 rfl ?_
              refine r_iln1 (p := 177) f270_176 rfl ?_
              refine r_iconst (p := 178) f270_177 rfl (pinD rfl rfl) ?_
              have h30 := k_t1 c1 hz h1 (by decide)
              refine r_invI (p := 181) f270_178 rfl rfl rfl (Or.inl h30) hd (Nat.le_of_ble_eq_true rfl) rfl rfl rfl (fun _ => rfl) (fun v12 m12 c12 => ?_)
              have hz12 := z_k c12 hz1
              refine r_iln2 (p := 182) f270_181 rfl ?_
              have h31 := k_t1 c12 hz1 h30 (by decide)
              refine r_invI (p := 185) f270_182 rfl rfl rfl (Or.inl h31) hd (Nat.le_of_ble_eq_true rfl) rfl rfl rfl (fun _ => rfl) (fun v13 m13 c13 => ?_)
              have hz13 := z_k c13 hz12
              have h32 := k_t1 c13 hz12 h31 (by decide)
              refine r_invI (p := 188) f270_185 rfl rfl rfl (Or.inl h32) hd (Nat.le_of_ble_eq_true rfl) rfl rfl rfl (fun _ => rfl) (fun v14 m14 c14 => ?_)
              have hz14 := z_k c14 hz13
              exact r_iret1 f270_188
            · refine le2_ite (fun h15 => ?_) (fun h15 => ?_)
              · refine r_tsI (off := 183) (t := 189) f270_6 h15 rfl rfl (by decide) rfl ?_
                refine r_aln0 (p := 190) f270_189 rfl ?_
                refine r_aln0 (p := 191) f270_190 rfl ?_
                refine r_iln1 (p := 192) f270_191 rfl ?_
                refine r_iconst (p := 193) f270_192 rfl (pinD rfl rfl) ?_
                have h16 := k_t1 c1 hz h1 (by decide)
                refine r_invI (p := 196) f270_193 rfl rfl rfl (Or.inl h16) hd (Nat.le_of_ble_eq_true rfl) rfl rfl rfl (fun _ => rfl) (fun v7 m7 c7 => ?_)
                have hz7 := z_k c7 hz1
                refine r_iln2 (p := 197) f270_196 rfl ?_
                have h17 := k_t1 c7 hz1 h16 (by decide)
                refine r_invI (p := 200) f270_197 rfl rfl rfl (Or.inl h17) hd (Nat.le_of_ble_eq_true rfl) rfl rfl rfl (fun _ => rfl) (fun v8 m8 c8 => ?_)
                have hz8 := z_k c8 hz7
                refine r_isw4 (p := 202) f270_200 rfl rfl ?_
                refine r_aln0 (p := 203) f270_202 rfl ?_
                have h18 := k_t1 c8 hz7 h17 (by decide)
                refine r_gfI (f := 33) (p := 206) f270_203 rfl rfl rfl (Or.inl h18) rfl ?_
                refine r_ilw4 (p := 208) f270_206 rfl ?_
                refine r_isub (p := 209) f270_208 rfl ?_
                refine r_nmI (fun v29 ev29 => ?_)
                refine r_isw5 (p := 211) f270_209 rfl rfl ?_
                refine r_aln0 (p := 212) f270_211 rfl ?_
                refine r_ilw4 (p := 214) f270_212 rfl ?_
                refine r_pfI (f := 33) (p := 217) f270_214 rfl rfl rfl (by decide) (by decide) (Or.inl h18) rfl ?_
                refine r_aln0 (p := 218) f270_217 rfl ?_
                refine r_iln1 (p := 219) f270_218 rfl ?_
                refine r_iconst (p := 220) f270_219 rfl (pinD rfl rfl) ?_
                refine r_invI (p := 223) f270_220 rfl rfl rfl (Or.inl h18) hd (Nat.le_of_ble_eq_true rfl) rfl rfl rfl (fun _ => rfl) (fun v9 m9 c9 => ?_)
                have hz9 := z_k c9 hz8
                refine r_bipush (p := 225) f270_223 rfl (pinD rfl rfl) ?_
                refine r_icne (t := 251) (p := 228) f270_225 (by decide) rfl rfl ?_ ?_
                · refine r_aln0 (p := 229) f270_228 rfl ?_
                  have h23 := k_t1 c9 hz8 h18 (by decide)
                  refine r_gfR (f := 37) (p := 232) f270_229 rfl rfl rfl (Or.inl h23) rfl ?_
                  refine r_nmR (fun v30 ev30 => ?_)
                  refine r_iconst (p := 233) f270_232 rfl (pinD rfl rfl) ?_
                  refine le2_gd (fun h24 => ?_)
                  refine r_invI (p := 236) f270_233 rfl rfl rfl (Or.inl h24) hd (Nat.le_of_ble_eq_true rfl) rfl rfl rfl (fun _ => rfl) (fun v11 m11 c11 => ?_)
                  have hz11 := z_k c11 hz9
                  refine r_isn3 (p := 237) f270_236 rfl rfl ?_
                  refine r_aln0 (p := 238) f270_237 rfl ?_
                  have h25 := k_t1 c11 hz9 h23 (by decide)
                  refine r_gfR (f := 37) (p := 241) f270_238 rfl rfl rfl (Or.inl h25) rfl ?_
                  refine r_nmR (fun v31 ev31 => ?_)
                  refine le2_gd (fun h26 => ?_)
                  refine r_gfR (f := 1) (p := 244) f270_241 rfl rfl rfl (Or.inl h26) rfl ?_
                  refine r_nmR (fun v32 ev32 => ?_)
                  refine r_iln3 (p := 245) f270_244 rfl ?_
                  refine r_ilw5 (p := 247) f270_245 rfl ?_
                  refine r_i2l (p := 248) f270_247 rfl ?_
                  refine le2_gd (fun h27 => ?_)
                  refine le2_gd (fun h28 => ?_)
                  refine r_lastore (p := 249) f270_248 rfl (dj2 (fun x => 1000 ≤ x ∧ x % 1000 = 102 ∧ Nat.testBit (eM 270) (bix x 0) = true) h27 (by decide) (by decide)) h28 ?_
                  refine r_iln3 (p := 250) f270_249 rfl ?_
                  exact r_iret1 f270_250
                · refine r_ilw5 (p := 253) f270_251 rfl ?_
                  refine r_iconst (p := 254) f270_253 rfl (pinD rfl rfl) ?_
                  refine r_icne (t := 278) (p := 257) f270_254 (by decide) rfl rfl ?_ ?_
                  · refine r_aln0 (p := 258) f270_257 rfl ?_
                    have h19 := k_t1 c9 hz8 h18 (by decide)
                    refine r_gfR (f := 37) (p := 261) f270_258 rfl rfl rfl (Or.inl h19) rfl ?_
                    refine r_nmR (fun v33 ev33 => ?_)
                    refine r_aln0 (p := 262) f270_261 rfl ?_
                    refine r_gfR (f := 18) (p := 265) f270_262 rfl rfl rfl (Or.inl h19) rfl ?_
                    refine r_aln0 (p := 266) f270_265 rfl ?_
                    refine r_gfR (f := 32) (p := 269) f270_266 rfl rfl rfl (Or.inl h19) rfl ?_
                    refine r_nmR (fun v34 ev34 => ?_)
                    refine r_ilw4 (p := 271) f270_269 rfl ?_
                    refine le2_gd (fun h20 => ?_)
                    refine le2_gd (fun h21 => ?_)
                    refine r_iaload (p := 272) f270_271 rfl (dj1 (fun x => x % 1000 = 101) h20 (by decide)) h21 rfl ?_
                    refine le2_gd (fun h22 => ?_)
                    refine r_invI (p := 275) f270_272 rfl rfl rfl (Or.inl h22) hd (Nat.le_of_ble_eq_true rfl) rfl rfl rfl (fun _ => rfl) (fun v10 m10 c10 => ?_)
                    have hz10 := z_k c10 hz9
                    refine r_goto (p := 279) f270_275 (by decide) rfl ?_
                    exact r_iret1 f270_279
                  · refine r_iconst (p := 279) f270_278 rfl (pinD rfl rfl) ?_
                    exact r_iret1 f270_279
              · refine r_tsO (t := 189) f270_6 (by omega) (by decide) rfl ?_
                refine r_aln0 (p := 190) f270_189 rfl ?_
                refine r_aln0 (p := 191) f270_190 rfl ?_
                refine r_iln1 (p := 192) f270_191 rfl ?_
                refine r_iconst (p := 193) f270_192 rfl (pinD rfl rfl) ?_
                have h2 := k_t1 c1 hz h1 (by decide)
                refine r_invI (p := 196) f270_193 rfl rfl rfl (Or.inl h2) hd (Nat.le_of_ble_eq_true rfl) rfl rfl rfl (fun _ => rfl) (fun v2 m2 c2 => ?_)
                have hz2 := z_k c2 hz1
                refine r_iln2 (p := 197) f270_196 rfl ?_
                have h3 := k_t1 c2 hz1 h2 (by decide)
                refine r_invI (p := 200) f270_197 rfl rfl rfl (Or.inl h3) hd (Nat.le_of_ble_eq_true rfl) rfl rfl rfl (fun _ => rfl) (fun v3 m3 c3 => ?_)
                have hz3 := z_k c3 hz2
                refine r_isw4 (p := 202) f270_200 rfl rfl ?_
                refine r_aln0 (p := 203) f270_202 rfl ?_
                have h4 := k_t1 c3 hz2 h3 (by decide)
                refine r_gfI (f := 33) (p := 206) f270_203 rfl rfl rfl (Or.inl h4) rfl ?_
                refine r_ilw4 (p := 208) f270_206 rfl ?_
                refine r_isub (p := 209) f270_208 rfl ?_
                refine r_nmI (fun v35 ev35 => ?_)
                refine r_isw5 (p := 211) f270_209 rfl rfl ?_
                refine r_aln0 (p := 212) f270_211 rfl ?_
                refine r_ilw4 (p := 214) f270_212 rfl ?_
                refine r_pfI (f := 33) (p := 217) f270_214 rfl rfl rfl (by decide) (by decide) (Or.inl h4) rfl ?_
                refine r_aln0 (p := 218) f270_217 rfl ?_
                refine r_iln1 (p := 219) f270_218 rfl ?_
                refine r_iconst (p := 220) f270_219 rfl (pinD rfl rfl) ?_
                refine r_invI (p := 223) f270_220 rfl rfl rfl (Or.inl h4) hd (Nat.le_of_ble_eq_true rfl) rfl rfl rfl (fun _ => rfl) (fun v4 m4 c4 => ?_)
                have hz4 := z_k c4 hz3
                refine r_bipush (p := 225) f270_223 rfl (pinD rfl rfl) ?_
                refine r_icne (t := 251) (p := 228) f270_225 (by decide) rfl rfl ?_ ?_
                · refine r_aln0 (p := 229) f270_228 rfl ?_
                  have h9 := k_t1 c4 hz3 h4 (by decide)
                  refine r_gfR (f := 37) (p := 232) f270_229 rfl rfl rfl (Or.inl h9) rfl ?_
                  refine r_nmR (fun v36 ev36 => ?_)
                  refine r_iconst (p := 233) f270_232 rfl (pinD rfl rfl) ?_
                  refine le2_gd (fun h10 => ?_)
                  refine r_invI (p := 236) f270_233 rfl rfl rfl (Or.inl h10) hd (Nat.le_of_ble_eq_true rfl) rfl rfl rfl (fun _ => rfl) (fun v6 m6 c6 => ?_)
                  have hz6 := z_k c6 hz4
                  refine r_isn3 (p := 237) f270_236 rfl rfl ?_
                  refine r_aln0 (p := 238) f270_237 rfl ?_
                  have h11 := k_t1 c6 hz4 h9 (by decide)
                  refine r_gfR (f := 37) (p := 241) f270_238 rfl rfl rfl (Or.inl h11) rfl ?_
                  refine r_nmR (fun v37 ev37 => ?_)
                  refine le2_gd (fun h12 => ?_)
                  refine r_gfR (f := 1) (p := 244) f270_241 rfl rfl rfl (Or.inl h12) rfl ?_
                  refine r_nmR (fun v38 ev38 => ?_)
                  refine r_iln3 (p := 245) f270_244 rfl ?_
                  refine r_ilw5 (p := 247) f270_245 rfl ?_
                  refine r_i2l (p := 248) f270_247 rfl ?_
                  refine le2_gd (fun h13 => ?_)
                  refine le2_gd (fun h14 => ?_)
                  refine r_lastore (p := 249) f270_248 rfl (dj2 (fun x => 1000 ≤ x ∧ x % 1000 = 102 ∧ Nat.testBit (eM 270) (bix x 0) = true) h13 (by decide) (by decide)) h14 ?_
                  refine r_iln3 (p := 250) f270_249 rfl ?_
                  exact r_iret1 f270_250
                · refine r_ilw5 (p := 253) f270_251 rfl ?_
                  refine r_iconst (p := 254) f270_253 rfl (pinD rfl rfl) ?_
                  refine r_icne (t := 278) (p := 257) f270_254 (by decide) rfl rfl ?_ ?_
                  · refine r_aln0 (p := 258) f270_257 rfl ?_
                    have h5 := k_t1 c4 hz3 h4 (by decide)
                    refine r_gfR (f := 37) (p := 261) f270_258 rfl rfl rfl (Or.inl h5) rfl ?_
                    refine r_nmR (fun v39 ev39 => ?_)
                    refine r_aln0 (p := 262) f270_261 rfl ?_
                    refine r_gfR (f := 18) (p := 265) f270_262 rfl rfl rfl (Or.inl h5) rfl ?_
                    refine r_aln0 (p := 266) f270_265 rfl ?_
                    refine r_gfR (f := 32) (p := 269) f270_266 rfl rfl rfl (Or.inl h5) rfl ?_
                    refine r_nmR (fun v40 ev40 => ?_)
                    refine r_ilw4 (p := 271) f270_269 rfl ?_
                    refine le2_gd (fun h6 => ?_)
                    refine le2_gd (fun h7 => ?_)
                    refine r_iaload (p := 272) f270_271 rfl (dj1 (fun x => x % 1000 = 101) h6 (by decide)) h7 rfl ?_
                    refine le2_gd (fun h8 => ?_)
                    refine r_invI (p := 275) f270_272 rfl rfl rfl (Or.inl h8) hd (Nat.le_of_ble_eq_true rfl) rfl rfl rfl (fun _ => rfl) (fun v5 m5 c5 => ?_)
                    have hz5 := z_k c5 hz4
                    refine r_goto (p := 279) f270_275 (by decide) rfl ?_
                    exact r_iret1 f270_279
                  · refine r_iconst (p := 279) f270_278 rfl (pinD rfl rfl) ?_
                    exact r_iret1 f270_279
theorem q270_88 {d : Nat} {m : Mem} {a0 a1 a2 a3 a4 : Int} (hd : 0 < d) (hz : TZ m) : le2 (gd (tg m a0 = 11) <| bI (cl (d - 1) 251 [pR a0, pI a1, pI 3] m) fun v1 m1 => if a4 < v1 then (nm (vl m1 a0 37) fun v5 => nm (vl m1 a0 30) fun v6 => gd (tg m1 v6 = 13) <| nm (vl m1 v6 11) fun v7 => bI (cl (d - 1) 251 [pR a0, pI a1, pI 2] m1) fun v3 m3 => nm (w32 (v3 + a4)) fun v8 => gd (tg m3 v7 = 284104 ∨ tg m3 v7 = 288104) <| gd ((0 : Int) ≤ v8 ∧ v8 < ln m3 v7) <| gd (tg m3 v5 = 13) <| bV (cl (d - 1) 287 [pR v5, pI (vl m3 v7 v8)] m3) fun m4 => rn d 270 88 [pR a0, pI a1, pI a2, pI a3, pI (w32 (a4 + 1)), pU] [] m4) else nm (vl m1 a0 37) fun v9 => gd (tg m1 v9 = 13) <| nm (vl m1 v9 3) fun v10 => bI (cl (d - 1) 251 [pR a0, pI a1, pI 3] m1) fun v2 m2 => gd (tg m2 v10 = 284101 ∨ tg m2 v10 = 287101) <| gd ((0 : Int) ≤ a3 ∧ a3 < ln m2 v10) <| some (.inl (some (pI a3)), (mst m2 v10 a3 v2))) (rn d 270 88 [pR a0, pI a1, pI a2, pI a3, pI a4, pU] [] m) := by
  refine r_ilw4 (p := 90) f270_88 rfl ?_
  refine r_aln0 (p := 91) f270_90 rfl ?_
  refine r_iln1 (p := 92) f270_91 rfl ?_
  refine r_iconst (p := 93) f270_92 rfl (pinD rfl rfl) ?_
  refine le2_gd (fun h1 => ?_)
  refine r_invI (p := 96) f270_93 rfl rfl rfl (Or.inl h1) hd (Nat.le_of_ble_eq_true rfl) rfl rfl rfl (fun _ => rfl) (fun v1 m1 c1 => ?_)
  have hz1 := z_k c1 hz
  refine r_icge (t := 129) (p := 99) f270_96 (by decide) rfl rfl ?_ ?_
  · refine r_aln0 (p := 100) f270_99 rfl ?_
    have h6 := k_t1 c1 hz h1 (by decide)
    refine r_gfR (f := 37) (p := 103) f270_100 rfl rfl rfl (Or.inl h6) rfl ?_
    refine r_nmR (fun v5 ev5 => ?_)
    refine r_aln0 (p := 104) f270_103 rfl ?_
    refine r_gfR (f := 30) (p := 107) f270_104 rfl rfl rfl (Or.inl h6) rfl ?_
    refine r_nmR (fun v6 ev6 => ?_)
    refine le2_gd (fun h7 => ?_)
    refine r_gfR (f := 11) (p := 110) f270_107 rfl rfl rfl (Or.inl h7) rfl ?_
    refine r_nmR (fun v7 ev7 => ?_)
    refine r_aln0 (p := 111) f270_110 rfl ?_
    refine r_iln1 (p := 112) f270_111 rfl ?_
    refine r_iconst (p := 113) f270_112 rfl (pinD rfl rfl) ?_
    refine r_invI (p := 116) f270_113 rfl rfl rfl (Or.inl h6) hd (Nat.le_of_ble_eq_true rfl) rfl rfl rfl (fun _ => rfl) (fun v3 m3 c3 => ?_)
    have hz3 := z_k c3 hz1
    refine r_ilw4 (p := 118) f270_116 rfl ?_
    refine r_iadd (p := 119) f270_118 rfl ?_
    refine r_nmI (fun v8 ev8 => ?_)
    refine le2_gd (fun h8 => ?_)
    refine le2_gd (fun h9 => ?_)
    refine r_caload (p := 120) f270_119 rfl (dj2 (fun x => x % 1000 = 104) h8 (by decide) (by decide)) h9 rfl ?_
    refine le2_gd (fun h10 => ?_)
    refine r_invV (p := 123) f270_120 rfl rfl rfl (Or.inl h10) hd (Nat.le_of_ble_eq_true rfl) rfl rfl rfl (fun _ => rfl) (fun m4 c4 => ?_)
    have hz4 := z_k c4 hz3
    refine r_iinc4 (p := 126) f270_123 rfl rfl ?_
    refine r_goto (p := 88) f270_126 (by decide) rfl ?_
    exact le2_refl _
  · refine r_aln0 (p := 130) f270_129 rfl ?_
    have h2 := k_t1 c1 hz h1 (by decide)
    refine r_gfR (f := 37) (p := 133) f270_130 rfl rfl rfl (Or.inl h2) rfl ?_
    refine r_nmR (fun v9 ev9 => ?_)
    refine le2_gd (fun h3 => ?_)
    refine r_gfR (f := 3) (p := 136) f270_133 rfl rfl rfl (Or.inl h3) rfl ?_
    refine r_nmR (fun v10 ev10 => ?_)
    refine r_iln3 (p := 137) f270_136 rfl ?_
    refine r_aln0 (p := 138) f270_137 rfl ?_
    refine r_iln1 (p := 139) f270_138 rfl ?_
    refine r_iconst (p := 140) f270_139 rfl (pinD rfl rfl) ?_
    refine r_invI (p := 143) f270_140 rfl rfl rfl (Or.inl h2) hd (Nat.le_of_ble_eq_true rfl) rfl rfl rfl (fun _ => rfl) (fun v2 m2 c2 => ?_)
    have hz2 := z_k c2 hz1
    refine le2_gd (fun h4 => ?_)
    refine le2_gd (fun h5 => ?_)
    refine r_iastore (p := 144) f270_143 rfl (dj2 (fun x => 1000 ≤ x ∧ x % 1000 = 101 ∧ Nat.testBit (eM 270) (bix x 0) = true) h4 (by decide) (by decide)) h5 ?_
    refine r_iln3 (p := 145) f270_144 rfl ?_
    exact r_iret1 f270_145
/-! 271 PathStoreModel.lengthOf (I)I -/
def w271_6 : List UInt8 := [180, 0, 7, 21, 4, 32, 80, 21, 4, 172]
abbrev u271_6 : List UInt8 := w271_6 ++ []
def w271_5 : List UInt8 := [180, 0, 133, 27, 182, 0, 27, 133, 65, 42, 180, 0, 133, 6, 182, 0, 217, 54, 4, 42, 180, 0, 133]
abbrev u271_5 : List UInt8 := w271_5 ++ u271_6
def w271_4 : List UInt8 := [184, 0, 55, 18, 59, 164, 0, 7, 5, 167, 0, 4, 4, 96, 54, 5, 167, 255, 216, 167, 0, 13, 42]
abbrev u271_4 : List UInt8 := w271_4 ++ u271_5
def w271_3 : List UInt8 := [21, 4, 162, 0, 39, 32, 10, 97, 65, 21, 5, 42, 180, 0, 133, 180, 0, 51, 21, 5, 21, 4]
abbrev u271_3 : List UInt8 := w271_3 ++ u271_4
def w271_2 : List UInt8 := [180, 0, 133, 180, 0, 48, 27, 46, 96, 54, 4, 42, 180, 0, 133, 180, 0, 45, 27, 46, 54, 5, 21, 5]
abbrev u271_2 : List UInt8 := w271_2 ++ u271_3
def w271_1 : List UInt8 := [180, 0, 133, 180, 0, 1, 27, 46, 7, 160, 0, 81, 42, 180, 0, 133, 180, 0, 45, 27, 46, 42]
abbrev u271_1 : List UInt8 := w271_1 ++ u271_2
def w271_0 : List UInt8 := [27, 155, 0, 16, 42, 180, 0, 133, 180, 0, 1, 27, 46, 7, 162, 0, 5, 2, 172, 9, 65, 42]
abbrev u271_0 : List UInt8 := w271_0 ++ u271_1
theorem s271_0 : (prog_32_method_86_code).data.toList.drop 0 = u271_0 := by decide +kernel
theorem s271_1 : (prog_32_method_86_code).data.toList.drop 22 = u271_1 := dk_seg s271_0 22 rfl rfl
theorem s271_2 : (prog_32_method_86_code).data.toList.drop 44 = u271_2 := dk_seg s271_1 22 rfl rfl
theorem s271_3 : (prog_32_method_86_code).data.toList.drop 68 = u271_3 := dk_seg s271_2 24 rfl rfl
theorem s271_4 : (prog_32_method_86_code).data.toList.drop 90 = u271_4 := dk_seg s271_3 22 rfl rfl
theorem s271_5 : (prog_32_method_86_code).data.toList.drop 113 = u271_5 := dk_seg s271_4 23 rfl rfl
theorem s271_6 : (prog_32_method_86_code).data.toList.drop 136 = u271_6 := dk_seg s271_5 23 rfl rfl
theorem Fm271 {pc len : Nat} {i : Instr} (h : decode (prog_32_method_86_code) pc = .ok (i, len)) (hl : len = ilen i len) : ft 271 pc = some (11, 1, 0, i, len) := ft_mk rfl h hl
theorem f271_0 : ft 271 0 = some (11, 1, 0, .iload_n 1, 1) := Fm271 (dk_27 (dk_at s271_0 0 rfl rfl)) rfl
theorem f271_1 : ft 271 1 = some (11, 1, 0, .ifCond .lt 16, 3) := Fm271 (dk_155 0 16 (dk_at s271_0 1 rfl rfl)) rfl
theorem f271_4 : ft 271 4 = some (11, 1, 0, .aload_n 0, 1) := Fm271 (dk_42 (dk_at s271_0 4 rfl rfl)) rfl
theorem f271_5 : ft 271 5 = some (11, 1, 0, .getfield 133, 3) := Fm271 (dk_180 0 133 (dk_at s271_0 5 rfl rfl)) rfl
theorem f271_8 : ft 271 8 = some (11, 1, 0, .getfield 1, 3) := Fm271 (dk_180 0 1 (dk_at s271_0 8 rfl rfl)) rfl
theorem f271_11 : ft 271 11 = some (11, 1, 0, .iload_n 1, 1) := Fm271 (dk_27 (dk_at s271_0 11 rfl rfl)) rfl
theorem f271_12 : ft 271 12 = some (11, 1, 0, .iaload, 1) := Fm271 (dk_46 (dk_at s271_0 12 rfl rfl)) rfl
theorem f271_13 : ft 271 13 = some (11, 1, 0, .iconst 4, 1) := Fm271 (dk_7 (dk_at s271_0 13 rfl rfl)) rfl
theorem f271_14 : ft 271 14 = some (11, 1, 0, .if_icmp .ge 5, 3) := Fm271 (dk_162 0 5 (dk_at s271_0 14 rfl rfl)) rfl
theorem f271_17 : ft 271 17 = some (11, 1, 0, .iconst (-1), 1) := Fm271 (dk_2 (dk_at s271_0 17 rfl rfl)) rfl
theorem f271_18 : ft 271 18 = some (11, 1, 0, .ireturn, 1) := Fm271 (dk_172 (dk_at s271_0 18 rfl rfl)) rfl
theorem f271_19 : ft 271 19 = some (11, 1, 0, .lconst 0, 1) := Fm271 (dk_9 (dk_at s271_0 19 rfl rfl)) rfl
theorem f271_20 : ft 271 20 = some (11, 1, 0, .lstore_n 2, 1) := Fm271 (dk_65 (dk_at s271_0 20 rfl rfl)) rfl
theorem f271_21 : ft 271 21 = some (11, 1, 0, .aload_n 0, 1) := Fm271 (dk_42 (dk_at s271_0 21 rfl rfl)) rfl
theorem f271_22 : ft 271 22 = some (11, 1, 0, .getfield 133, 3) := Fm271 (dk_180 0 133 (dk_at s271_1 0 rfl rfl)) rfl
theorem f271_25 : ft 271 25 = some (11, 1, 0, .getfield 1, 3) := Fm271 (dk_180 0 1 (dk_at s271_1 3 rfl rfl)) rfl
theorem f271_28 : ft 271 28 = some (11, 1, 0, .iload_n 1, 1) := Fm271 (dk_27 (dk_at s271_1 6 rfl rfl)) rfl
theorem f271_29 : ft 271 29 = some (11, 1, 0, .iaload, 1) := Fm271 (dk_46 (dk_at s271_1 7 rfl rfl)) rfl
theorem f271_30 : ft 271 30 = some (11, 1, 0, .iconst 4, 1) := Fm271 (dk_7 (dk_at s271_1 8 rfl rfl)) rfl
theorem f271_31 : ft 271 31 = some (11, 1, 0, .if_icmp .ne 81, 3) := Fm271 (dk_160 0 81 (dk_at s271_1 9 rfl rfl)) rfl
theorem f271_34 : ft 271 34 = some (11, 1, 0, .aload_n 0, 1) := Fm271 (dk_42 (dk_at s271_1 12 rfl rfl)) rfl
theorem f271_35 : ft 271 35 = some (11, 1, 0, .getfield 133, 3) := Fm271 (dk_180 0 133 (dk_at s271_1 13 rfl rfl)) rfl
theorem f271_38 : ft 271 38 = some (11, 1, 0, .getfield 45, 3) := Fm271 (dk_180 0 45 (dk_at s271_1 16 rfl rfl)) rfl
theorem f271_41 : ft 271 41 = some (11, 1, 0, .iload_n 1, 1) := Fm271 (dk_27 (dk_at s271_1 19 rfl rfl)) rfl
theorem f271_42 : ft 271 42 = some (11, 1, 0, .iaload, 1) := Fm271 (dk_46 (dk_at s271_1 20 rfl rfl)) rfl
theorem f271_43 : ft 271 43 = some (11, 1, 0, .aload_n 0, 1) := Fm271 (dk_42 (dk_at s271_1 21 rfl rfl)) rfl
theorem f271_44 : ft 271 44 = some (11, 1, 0, .getfield 133, 3) := Fm271 (dk_180 0 133 (dk_at s271_2 0 rfl rfl)) rfl
theorem f271_47 : ft 271 47 = some (11, 1, 0, .getfield 48, 3) := Fm271 (dk_180 0 48 (dk_at s271_2 3 rfl rfl)) rfl
theorem f271_50 : ft 271 50 = some (11, 1, 0, .iload_n 1, 1) := Fm271 (dk_27 (dk_at s271_2 6 rfl rfl)) rfl
theorem f271_51 : ft 271 51 = some (11, 1, 0, .iaload, 1) := Fm271 (dk_46 (dk_at s271_2 7 rfl rfl)) rfl
theorem f271_52 : ft 271 52 = some (11, 1, 0, .iadd, 1) := Fm271 (dk_96 (dk_at s271_2 8 rfl rfl)) rfl
theorem f271_53 : ft 271 53 = some (11, 1, 0, .istore 4, 2) := Fm271 (dk_54 4 (dk_at s271_2 9 rfl rfl)) rfl
theorem f271_55 : ft 271 55 = some (11, 1, 0, .aload_n 0, 1) := Fm271 (dk_42 (dk_at s271_2 11 rfl rfl)) rfl
theorem f271_56 : ft 271 56 = some (11, 1, 0, .getfield 133, 3) := Fm271 (dk_180 0 133 (dk_at s271_2 12 rfl rfl)) rfl
theorem f271_59 : ft 271 59 = some (11, 1, 0, .getfield 45, 3) := Fm271 (dk_180 0 45 (dk_at s271_2 15 rfl rfl)) rfl
theorem f271_62 : ft 271 62 = some (11, 1, 0, .iload_n 1, 1) := Fm271 (dk_27 (dk_at s271_2 18 rfl rfl)) rfl
theorem f271_63 : ft 271 63 = some (11, 1, 0, .iaload, 1) := Fm271 (dk_46 (dk_at s271_2 19 rfl rfl)) rfl
theorem f271_64 : ft 271 64 = some (11, 1, 0, .istore 5, 2) := Fm271 (dk_54 5 (dk_at s271_2 20 rfl rfl)) rfl
theorem f271_66 : ft 271 66 = some (11, 1, 0, .iload 5, 2) := Fm271 (dk_21 5 (dk_at s271_2 22 rfl rfl)) rfl
theorem f271_68 : ft 271 68 = some (11, 1, 0, .iload 4, 2) := Fm271 (dk_21 4 (dk_at s271_3 0 rfl rfl)) rfl
theorem f271_70 : ft 271 70 = some (11, 1, 0, .if_icmp .ge 39, 3) := Fm271 (dk_162 0 39 (dk_at s271_3 2 rfl rfl)) rfl
theorem f271_73 : ft 271 73 = some (11, 1, 0, .lload_n 2, 1) := Fm271 (dk_32 (dk_at s271_3 5 rfl rfl)) rfl
theorem f271_74 : ft 271 74 = some (11, 1, 0, .lconst 1, 1) := Fm271 (dk_10 (dk_at s271_3 6 rfl rfl)) rfl
theorem f271_75 : ft 271 75 = some (11, 1, 0, .ladd, 1) := Fm271 (dk_97 (dk_at s271_3 7 rfl rfl)) rfl
theorem f271_76 : ft 271 76 = some (11, 1, 0, .lstore_n 2, 1) := Fm271 (dk_65 (dk_at s271_3 8 rfl rfl)) rfl
theorem f271_77 : ft 271 77 = some (11, 1, 0, .iload 5, 2) := Fm271 (dk_21 5 (dk_at s271_3 9 rfl rfl)) rfl
theorem f271_79 : ft 271 79 = some (11, 1, 0, .aload_n 0, 1) := Fm271 (dk_42 (dk_at s271_3 11 rfl rfl)) rfl
theorem f271_80 : ft 271 80 = some (11, 1, 0, .getfield 133, 3) := Fm271 (dk_180 0 133 (dk_at s271_3 12 rfl rfl)) rfl
theorem f271_83 : ft 271 83 = some (11, 1, 0, .getfield 51, 3) := Fm271 (dk_180 0 51 (dk_at s271_3 15 rfl rfl)) rfl
theorem f271_86 : ft 271 86 = some (11, 1, 0, .iload 5, 2) := Fm271 (dk_21 5 (dk_at s271_3 18 rfl rfl)) rfl
theorem f271_88 : ft 271 88 = some (11, 1, 0, .iload 4, 2) := Fm271 (dk_21 4 (dk_at s271_3 20 rfl rfl)) rfl
theorem f271_90 : ft 271 90 = some (11, 1, 0, .invokestatic 55, 3) := Fm271 (dk_184 0 55 (dk_at s271_4 0 rfl rfl)) rfl
theorem f271_93 : ft 271 93 = some (11, 1, 0, .ldc 59, 2) := Fm271 (dk_18 59 (dk_at s271_4 3 rfl rfl)) rfl
theorem f271_95 : ft 271 95 = some (11, 1, 0, .if_icmp .le 7, 3) := Fm271 (dk_164 0 7 (dk_at s271_4 5 rfl rfl)) rfl
theorem f271_98 : ft 271 98 = some (11, 1, 0, .iconst 2, 1) := Fm271 (dk_5 (dk_at s271_4 8 rfl rfl)) rfl
theorem f271_99 : ft 271 99 = some (11, 1, 0, .goto 4, 3) := Fm271 (dk_167 0 4 (dk_at s271_4 9 rfl rfl)) rfl
theorem f271_102 : ft 271 102 = some (11, 1, 0, .iconst 1, 1) := Fm271 (dk_4 (dk_at s271_4 12 rfl rfl)) rfl
theorem f271_103 : ft 271 103 = some (11, 1, 0, .iadd, 1) := Fm271 (dk_96 (dk_at s271_4 13 rfl rfl)) rfl
theorem f271_104 : ft 271 104 = some (11, 1, 0, .istore 5, 2) := Fm271 (dk_54 5 (dk_at s271_4 14 rfl rfl)) rfl
theorem f271_106 : ft 271 106 = some (11, 1, 0, .goto (-40), 3) := Fm271 (dk_167 255 216 (dk_at s271_4 16 rfl rfl)) rfl
theorem f271_109 : ft 271 109 = some (11, 1, 0, .goto 13, 3) := Fm271 (dk_167 0 13 (dk_at s271_4 19 rfl rfl)) rfl
theorem f271_112 : ft 271 112 = some (11, 1, 0, .aload_n 0, 1) := Fm271 (dk_42 (dk_at s271_4 22 rfl rfl)) rfl
theorem f271_113 : ft 271 113 = some (11, 1, 0, .getfield 133, 3) := Fm271 (dk_180 0 133 (dk_at s271_5 0 rfl rfl)) rfl
theorem f271_116 : ft 271 116 = some (11, 1, 0, .iload_n 1, 1) := Fm271 (dk_27 (dk_at s271_5 3 rfl rfl)) rfl
theorem f271_117 : ft 271 117 = some (11, 1, 0, .invokevirtual 27, 3) := Fm271 (dk_182 0 27 (dk_at s271_5 4 rfl rfl)) rfl
theorem f271_120 : ft 271 120 = some (11, 1, 0, .i2l, 1) := Fm271 (dk_133 (dk_at s271_5 7 rfl rfl)) rfl
theorem f271_121 : ft 271 121 = some (11, 1, 0, .lstore_n 2, 1) := Fm271 (dk_65 (dk_at s271_5 8 rfl rfl)) rfl
theorem f271_122 : ft 271 122 = some (11, 1, 0, .aload_n 0, 1) := Fm271 (dk_42 (dk_at s271_5 9 rfl rfl)) rfl
theorem f271_123 : ft 271 123 = some (11, 1, 0, .getfield 133, 3) := Fm271 (dk_180 0 133 (dk_at s271_5 10 rfl rfl)) rfl
theorem f271_126 : ft 271 126 = some (11, 1, 0, .iconst 3, 1) := Fm271 (dk_6 (dk_at s271_5 13 rfl rfl)) rfl
theorem f271_127 : ft 271 127 = some (11, 1, 0, .invokevirtual 217, 3) := Fm271 (dk_182 0 217 (dk_at s271_5 14 rfl rfl)) rfl
theorem f271_130 : ft 271 130 = some (11, 1, 0, .istore 4, 2) := Fm271 (dk_54 4 (dk_at s271_5 17 rfl rfl)) rfl
theorem f271_132 : ft 271 132 = some (11, 1, 0, .aload_n 0, 1) := Fm271 (dk_42 (dk_at s271_5 19 rfl rfl)) rfl
theorem f271_133 : ft 271 133 = some (11, 1, 0, .getfield 133, 3) := Fm271 (dk_180 0 133 (dk_at s271_5 20 rfl rfl)) rfl
theorem f271_136 : ft 271 136 = some (11, 1, 0, .getfield 7, 3) := Fm271 (dk_180 0 7 (dk_at s271_6 0 rfl rfl)) rfl
theorem f271_139 : ft 271 139 = some (11, 1, 0, .iload 4, 2) := Fm271 (dk_21 4 (dk_at s271_6 3 rfl rfl)) rfl
theorem f271_141 : ft 271 141 = some (11, 1, 0, .lload_n 2, 1) := Fm271 (dk_32 (dk_at s271_6 5 rfl rfl)) rfl
theorem f271_142 : ft 271 142 = some (11, 1, 0, .lastore, 1) := Fm271 (dk_80 (dk_at s271_6 6 rfl rfl)) rfl
theorem f271_143 : ft 271 143 = some (11, 1, 0, .iload 4, 2) := Fm271 (dk_21 4 (dk_at s271_6 7 rfl rfl)) rfl
theorem f271_145 : ft 271 145 = some (11, 1, 0, .ireturn, 1) := Fm271 (dk_172 (dk_at s271_6 9 rfl rfl)) rfl
theorem q271 {d : Nat} {m : Mem} {a0 a1 : Int} (hd : 0 < d) (hz : TZ m) : le2 (if a1 < 0 then (some (.inl (some (pI (-1))), m)) else gd (tg m a0 = 11) <| nm (vl m a0 37) fun v2 => gd (tg m v2 = 13) <| nm (vl m v2 0) fun v3 => gd (tg m v3 = 284101 ∨ tg m v3 = 287101) <| gd ((0 : Int) ≤ a1 ∧ a1 < ln m v3) <| nm (vl m v3 a1) fun v4 => if v4 < 4 then (some (.inl (some (pI (-1))), m)) else if v4 = 4 then (nm (vl m v2 2) fun v5 => gd (tg m v5 = 284101 ∨ tg m v5 = 287101) <| gd ((0 : Int) ≤ a1 ∧ a1 < ln m v5) <| nm (vl m v5 a1) fun v6 => nm (vl m v2 3) fun v7 => gd (tg m v7 = 284101 ∨ tg m v7 = 287101) <| gd ((0 : Int) ≤ a1 ∧ a1 < ln m v7) <| rn d 271 66 [pR a0, pI a1, pL 0, pU, pI (w32 (v6 + (vl m v7 a1))), pI v6] [] m) else bI (cl (d - 1) 291 [pR v2, pI a1] m) fun v1 m1 => rn d 271 122 [pR a0, pI a1, pL v1, pU, pU, pU] [] m1) (cl d 271 [pR a0, pI a1] m) := by
  refine q_in (n := 6) (L := [pR a0, pI a1, pU, pU, pU, pU]) rfl rfl rfl ?_
  refine r_iln1 (p := 1) f271_0 rfl ?_
  refine r_iflt (t := 17) (p := 4) f271_1 (by decide) rfl rfl ?_ ?_
  · refine r_iconst (p := 18) f271_17 rfl (pinD rfl rfl) ?_
    exact r_iret1 f271_18
  · refine r_aln0 (p := 5) f271_4 rfl ?_
    refine le2_gd (fun h1 => ?_)
    refine r_gfR (f := 37) (p := 8) f271_5 rfl rfl rfl (Or.inl h1) rfl ?_
    refine r_nmR (fun v2 ev2 => ?_)
    refine le2_gd (fun h2 => ?_)
    refine r_gfR (f := 0) (p := 11) f271_8 rfl rfl rfl (Or.inl h2) rfl ?_
    refine r_nmR (fun v3 ev3 => ?_)
    refine r_iln1 (p := 12) f271_11 rfl ?_
    refine le2_gd (fun h3 => ?_)
    refine le2_gd (fun h4 => ?_)
    refine r_iaload (p := 13) f271_12 rfl (dj2 (fun x => x % 1000 = 101) h3 (by decide) (by decide)) h4 rfl ?_
    refine r_nmI (fun v4 ev4 => ?_)
    refine r_iconst (p := 14) f271_13 rfl (pinD rfl rfl) ?_
    refine r_icge (t := 19) (p := 17) f271_14 (by decide) rfl rfl ?_ ?_
    · refine r_iconst (p := 18) f271_17 rfl (pinD rfl rfl) ?_
      exact r_iret1 f271_18
    · refine r_lconst0 (p := 20) f271_19 rfl ?_
      refine r_lsn2 (p := 21) f271_20 rfl rfl ?_
      refine r_aln0 (p := 22) f271_21 rfl ?_
      refine r_gfR (f := 37) (p := 25) f271_22 rfl rfl rfl (Or.inl h1) ev2.symm ?_
      refine r_gfR (f := 0) (p := 28) f271_25 rfl rfl rfl (Or.inl h2) ev3.symm ?_
      refine r_iln1 (p := 29) f271_28 rfl ?_
      refine r_iaload (p := 30) f271_29 rfl (dj2 (fun x => x % 1000 = 101) h3 (by decide) (by decide)) h4 ev4.symm ?_
      refine r_iconst (p := 31) f271_30 rfl (pinD rfl rfl) ?_
      refine r_icne (t := 112) (p := 34) f271_31 (by decide) rfl rfl ?_ ?_
      · refine r_aln0 (p := 35) f271_34 rfl ?_
        refine r_gfR (f := 37) (p := 38) f271_35 rfl rfl rfl (Or.inl h1) ev2.symm ?_
        refine r_gfR (f := 2) (p := 41) f271_38 rfl rfl rfl (Or.inl h2) rfl ?_
        refine r_nmR (fun v5 ev5 => ?_)
        refine r_iln1 (p := 42) f271_41 rfl ?_
        refine le2_gd (fun h5 => ?_)
        refine le2_gd (fun h6 => ?_)
        refine r_iaload (p := 43) f271_42 rfl (dj2 (fun x => x % 1000 = 101) h5 (by decide) (by decide)) h6 rfl ?_
        refine r_nmI (fun v6 ev6 => ?_)
        refine r_aln0 (p := 44) f271_43 rfl ?_
        refine r_gfR (f := 37) (p := 47) f271_44 rfl rfl rfl (Or.inl h1) ev2.symm ?_
        refine r_gfR (f := 3) (p := 50) f271_47 rfl rfl rfl (Or.inl h2) rfl ?_
        refine r_nmR (fun v7 ev7 => ?_)
        refine r_iln1 (p := 51) f271_50 rfl ?_
        refine le2_gd (fun h7 => ?_)
        refine le2_gd (fun h8 => ?_)
        refine r_iaload (p := 52) f271_51 rfl (dj2 (fun x => x % 1000 = 101) h7 (by decide) (by decide)) h8 rfl ?_
        refine r_iadd (p := 53) f271_52 rfl ?_
        refine r_isw4 (p := 55) f271_53 rfl rfl ?_
        refine r_aln0 (p := 56) f271_55 rfl ?_
        refine r_gfR (f := 37) (p := 59) f271_56 rfl rfl rfl (Or.inl h1) ev2.symm ?_
        refine r_gfR (f := 2) (p := 62) f271_59 rfl rfl rfl (Or.inl h2) ev5.symm ?_
        refine r_iln1 (p := 63) f271_62 rfl ?_
        refine r_iaload (p := 64) f271_63 rfl (dj2 (fun x => x % 1000 = 101) h5 (by decide) (by decide)) h6 ev6.symm ?_
        refine r_isw5 (p := 66) f271_64 rfl rfl ?_
        exact le2_refl _
      · refine r_aln0 (p := 113) f271_112 rfl ?_
        refine r_gfR (f := 37) (p := 116) f271_113 rfl rfl rfl (Or.inl h1) ev2.symm ?_
        refine r_iln1 (p := 117) f271_116 rfl ?_
        refine r_invI (p := 120) f271_117 rfl rfl rfl (Or.inl h2) hd (Nat.le_of_ble_eq_true rfl) rfl rfl rfl (fun _ => rfl) (fun v1 m1 c1 => ?_)
        have hz1 := z_k c1 hz
        refine r_i2l (p := 121) f271_120 rfl ?_
        refine r_lsn2 (p := 122) f271_121 rfl rfl ?_
        exact le2_refl _
theorem q271_66 {d : Nat} {m : Mem} {a0 a1 a2 a4 a5 : Int} (hd : 0 < d) (hz : TZ m) : le2 (if a5 < a4 then (nm (w64 (a2 + 1)) fun v2 => gd (tg m a0 = 11) <| nm (vl m a0 37) fun v3 => gd (tg m v3 = 13) <| bI (cl (d - 1) 237 [pR (vl m v3 11), pI a5, pI a4] m) fun v1 m1 => if 65535 < v1 then (rn d 271 66 [pR a0, pI a1, pL v2, pU, pI a4, pI (w32 (a5 + 2))] [] m1) else rn d 271 66 [pR a0, pI a1, pL v2, pU, pI a4, pI (w32 (a5 + 1))] [] m1) else rn d 271 122 [pR a0, pI a1, pL a2, pU, pI a4, pI a5] [] m) (rn d 271 66 [pR a0, pI a1, pL a2, pU, pI a4, pI a5] [] m) := by
  refine r_ilw5 (p := 68) f271_66 rfl ?_
  refine r_ilw4 (p := 70) f271_68 rfl ?_
  refine r_icge (t := 109) (p := 73) f271_70 (by decide) rfl rfl ?_ ?_
  · refine r_lln2 (p := 74) f271_73 rfl ?_
    refine r_lconst1 (p := 75) f271_74 rfl ?_
    refine r_ladd (p := 76) f271_75 rfl ?_
    refine r_nmJ (fun v2 ev2 => ?_)
    refine r_lsn2 (p := 77) f271_76 rfl rfl ?_
    refine r_ilw5 (p := 79) f271_77 rfl ?_
    refine r_aln0 (p := 80) f271_79 rfl ?_
    refine le2_gd (fun h1 => ?_)
    refine r_gfR (f := 37) (p := 83) f271_80 rfl rfl rfl (Or.inl h1) rfl ?_
    refine r_nmR (fun v3 ev3 => ?_)
    refine le2_gd (fun h2 => ?_)
    refine r_gfR (f := 11) (p := 86) f271_83 rfl rfl rfl (Or.inl h2) rfl ?_
    refine r_ilw5 (p := 88) f271_86 rfl ?_
    refine r_ilw4 (p := 90) f271_88 rfl ?_
    refine r_istI (p := 93) f271_90 rfl rfl rfl hd (Nat.le_of_ble_eq_true rfl) rfl rfl rfl (fun _ => rfl) (fun v1 m1 c1 => ?_)
    have hz1 := z_k c1 hz
    refine r_ldcI (p := 95) f271_93 rfl rfl (pinD rfl rfl) ?_
    refine r_icle (t := 102) (p := 98) f271_95 (by decide) rfl rfl ?_ ?_
    · refine r_iconst (p := 99) f271_98 rfl (pinD rfl rfl) ?_
      refine r_goto (p := 103) f271_99 (by decide) rfl ?_
      refine r_iadd (p := 104) f271_103 rfl ?_
      refine r_isw5 (p := 106) f271_104 rfl rfl ?_
      refine r_goto (p := 66) f271_106 (by decide) rfl ?_
      exact le2_refl _
    · refine r_iconst (p := 103) f271_102 rfl (pinD rfl rfl) ?_
      refine r_iadd (p := 104) f271_103 rfl ?_
      refine r_isw5 (p := 106) f271_104 rfl rfl ?_
      refine r_goto (p := 66) f271_106 (by decide) rfl ?_
      exact le2_refl _
  · refine r_goto (p := 122) f271_109 (by decide) rfl ?_
    exact le2_refl _
theorem q271_122 {d : Nat} {m : Mem} {a0 a1 a2 : Int} {z4 z5 : PV} (hd : 0 < d) (hz : TZ m) (hcz4 : cat z4 = 1) (hcz5 : cat z5 = 1) : le2 (gd (tg m a0 = 11) <| nm (vl m a0 37) fun v2 => gd (tg m v2 = 13) <| bI (cl (d - 1) 285 [pR v2, pI 3] m) fun v1 m1 => nm (vl m1 a0 37) fun v3 => gd (tg m1 v3 = 13) <| nm (vl m1 v3 1) fun v4 => gd (tg m1 v4 = 284102 ∨ tg m1 v4 = 286102) <| gd ((0 : Int) ≤ v1 ∧ v1 < ln m1 v4) <| some (.inl (some (pI v1)), (mst m1 v4 v1 a2))) (rn d 271 122 [pR a0, pI a1, pL a2, pU, z4, z5] [] m) := by
  refine r_aln0 (p := 123) f271_122 rfl ?_
  refine le2_gd (fun h1 => ?_)
  refine r_gfR (f := 37) (p := 126) f271_123 rfl rfl rfl (Or.inl h1) rfl ?_
  refine r_nmR (fun v2 ev2 => ?_)
  refine r_iconst (p := 127) f271_126 rfl (pinD rfl rfl) ?_
  refine le2_gd (fun h2 => ?_)
  refine r_invI (p := 130) f271_127 rfl rfl rfl (Or.inl h2) hd (Nat.le_of_ble_eq_true rfl) rfl rfl rfl (fun _ => rfl) (fun v1 m1 c1 => ?_)
  have hz1 := z_k c1 hz
  refine r_isw4 (p := 132) f271_130 rfl rfl ?_
  refine r_aln0 (p := 133) f271_132 rfl ?_
  have h3 := k_t1 c1 hz h1 (by decide)
  refine r_gfR (f := 37) (p := 136) f271_133 rfl rfl rfl (Or.inl h3) rfl ?_
  refine r_nmR (fun v3 ev3 => ?_)
  refine le2_gd (fun h4 => ?_)
  refine r_gfR (f := 1) (p := 139) f271_136 rfl rfl rfl (Or.inl h4) rfl ?_
  refine r_nmR (fun v4 ev4 => ?_)
  refine r_ilw4 (p := 141) f271_139 rfl ?_
  refine r_lln2 (p := 142) f271_141 rfl ?_
  refine le2_gd (fun h5 => ?_)
  refine le2_gd (fun h6 => ?_)
  refine r_lastore (p := 143) f271_142 rfl (dj2 (fun x => 1000 ≤ x ∧ x % 1000 = 102 ∧ Nat.testBit (eM 271) (bix x 0) = true) h5 (by decide) (by decide)) h6 ?_
  refine r_ilw4 (p := 145) f271_143 rfl ?_
  exact r_iret1 f271_145
/-! 272 PathStoreModel.below (II)Z -/
def w272_4 : List UInt8 := [184, 0, 11, 156, 0, 7, 4, 167, 0, 4, 3, 172]
abbrev u272_4 : List UInt8 := w272_4 ++ []
def w272_3 : List UInt8 := [42, 180, 0, 133, 180, 0, 1, 27, 46, 7, 160, 0, 23, 42, 180, 0, 133, 27, 42, 180, 0, 133, 28]
abbrev u272_3 : List UInt8 := w272_3 ++ u272_4
def w272_2 : List UInt8 := [180, 0, 7, 27, 47, 42, 180, 0, 133, 180, 0, 7, 28, 47, 148, 156, 0, 7, 4, 167, 0, 4, 3, 172]
abbrev u272_2 : List UInt8 := w272_2 ++ u272_3
def w272_1 : List UInt8 := [28, 46, 159, 0, 5, 3, 172, 42, 180, 0, 133, 180, 0, 1, 27, 46, 6, 160, 0, 31, 42, 180, 0, 133]
abbrev u272_1 : List UInt8 := w272_1 ++ u272_2
def w272_0 : List UInt8 := [27, 155, 0, 28, 28, 155, 0, 24, 42, 180, 0, 133, 180, 0, 1, 27, 46, 42, 180, 0, 133, 180, 0, 1]
abbrev u272_0 : List UInt8 := w272_0 ++ u272_1
theorem s272_0 : (prog_32_method_88_code).data.toList.drop 0 = u272_0 := by decide +kernel
theorem s272_1 : (prog_32_method_88_code).data.toList.drop 24 = u272_1 := dk_seg s272_0 24 rfl rfl
theorem s272_2 : (prog_32_method_88_code).data.toList.drop 48 = u272_2 := dk_seg s272_1 24 rfl rfl
theorem s272_3 : (prog_32_method_88_code).data.toList.drop 72 = u272_3 := dk_seg s272_2 24 rfl rfl
theorem s272_4 : (prog_32_method_88_code).data.toList.drop 95 = u272_4 := dk_seg s272_3 23 rfl rfl
theorem Fm272 {pc len : Nat} {i : Instr} (h : decode (prog_32_method_88_code) pc = .ok (i, len)) (hl : len = ilen i len) : ft 272 pc = some (11, 4, 0, i, len) := ft_mk rfl h hl
theorem f272_0 : ft 272 0 = some (11, 4, 0, .iload_n 1, 1) := Fm272 (dk_27 (dk_at s272_0 0 rfl rfl)) rfl
theorem f272_1 : ft 272 1 = some (11, 4, 0, .ifCond .lt 28, 3) := Fm272 (dk_155 0 28 (dk_at s272_0 1 rfl rfl)) rfl
theorem f272_4 : ft 272 4 = some (11, 4, 0, .iload_n 2, 1) := Fm272 (dk_28 (dk_at s272_0 4 rfl rfl)) rfl
theorem f272_5 : ft 272 5 = some (11, 4, 0, .ifCond .lt 24, 3) := Fm272 (dk_155 0 24 (dk_at s272_0 5 rfl rfl)) rfl
theorem f272_8 : ft 272 8 = some (11, 4, 0, .aload_n 0, 1) := Fm272 (dk_42 (dk_at s272_0 8 rfl rfl)) rfl
theorem f272_9 : ft 272 9 = some (11, 4, 0, .getfield 133, 3) := Fm272 (dk_180 0 133 (dk_at s272_0 9 rfl rfl)) rfl
theorem f272_12 : ft 272 12 = some (11, 4, 0, .getfield 1, 3) := Fm272 (dk_180 0 1 (dk_at s272_0 12 rfl rfl)) rfl
theorem f272_15 : ft 272 15 = some (11, 4, 0, .iload_n 1, 1) := Fm272 (dk_27 (dk_at s272_0 15 rfl rfl)) rfl
theorem f272_16 : ft 272 16 = some (11, 4, 0, .iaload, 1) := Fm272 (dk_46 (dk_at s272_0 16 rfl rfl)) rfl
theorem f272_17 : ft 272 17 = some (11, 4, 0, .aload_n 0, 1) := Fm272 (dk_42 (dk_at s272_0 17 rfl rfl)) rfl
theorem f272_18 : ft 272 18 = some (11, 4, 0, .getfield 133, 3) := Fm272 (dk_180 0 133 (dk_at s272_0 18 rfl rfl)) rfl
theorem f272_21 : ft 272 21 = some (11, 4, 0, .getfield 1, 3) := Fm272 (dk_180 0 1 (dk_at s272_0 21 rfl rfl)) rfl
theorem f272_24 : ft 272 24 = some (11, 4, 0, .iload_n 2, 1) := Fm272 (dk_28 (dk_at s272_1 0 rfl rfl)) rfl
theorem f272_25 : ft 272 25 = some (11, 4, 0, .iaload, 1) := Fm272 (dk_46 (dk_at s272_1 1 rfl rfl)) rfl
theorem f272_26 : ft 272 26 = some (11, 4, 0, .if_icmp .eq 5, 3) := Fm272 (dk_159 0 5 (dk_at s272_1 2 rfl rfl)) rfl
theorem f272_29 : ft 272 29 = some (11, 4, 0, .iconst 0, 1) := Fm272 (dk_3 (dk_at s272_1 5 rfl rfl)) rfl
theorem f272_30 : ft 272 30 = some (11, 4, 0, .ireturn, 1) := Fm272 (dk_172 (dk_at s272_1 6 rfl rfl)) rfl
theorem f272_31 : ft 272 31 = some (11, 4, 0, .aload_n 0, 1) := Fm272 (dk_42 (dk_at s272_1 7 rfl rfl)) rfl
theorem f272_32 : ft 272 32 = some (11, 4, 0, .getfield 133, 3) := Fm272 (dk_180 0 133 (dk_at s272_1 8 rfl rfl)) rfl
theorem f272_35 : ft 272 35 = some (11, 4, 0, .getfield 1, 3) := Fm272 (dk_180 0 1 (dk_at s272_1 11 rfl rfl)) rfl
theorem f272_38 : ft 272 38 = some (11, 4, 0, .iload_n 1, 1) := Fm272 (dk_27 (dk_at s272_1 14 rfl rfl)) rfl
theorem f272_39 : ft 272 39 = some (11, 4, 0, .iaload, 1) := Fm272 (dk_46 (dk_at s272_1 15 rfl rfl)) rfl
theorem f272_40 : ft 272 40 = some (11, 4, 0, .iconst 3, 1) := Fm272 (dk_6 (dk_at s272_1 16 rfl rfl)) rfl
theorem f272_41 : ft 272 41 = some (11, 4, 0, .if_icmp .ne 31, 3) := Fm272 (dk_160 0 31 (dk_at s272_1 17 rfl rfl)) rfl
theorem f272_44 : ft 272 44 = some (11, 4, 0, .aload_n 0, 1) := Fm272 (dk_42 (dk_at s272_1 20 rfl rfl)) rfl
theorem f272_45 : ft 272 45 = some (11, 4, 0, .getfield 133, 3) := Fm272 (dk_180 0 133 (dk_at s272_1 21 rfl rfl)) rfl
theorem f272_48 : ft 272 48 = some (11, 4, 0, .getfield 7, 3) := Fm272 (dk_180 0 7 (dk_at s272_2 0 rfl rfl)) rfl
theorem f272_51 : ft 272 51 = some (11, 4, 0, .iload_n 1, 1) := Fm272 (dk_27 (dk_at s272_2 3 rfl rfl)) rfl
theorem f272_52 : ft 272 52 = some (11, 4, 0, .laload, 1) := Fm272 (dk_47 (dk_at s272_2 4 rfl rfl)) rfl
theorem f272_53 : ft 272 53 = some (11, 4, 0, .aload_n 0, 1) := Fm272 (dk_42 (dk_at s272_2 5 rfl rfl)) rfl
theorem f272_54 : ft 272 54 = some (11, 4, 0, .getfield 133, 3) := Fm272 (dk_180 0 133 (dk_at s272_2 6 rfl rfl)) rfl
theorem f272_57 : ft 272 57 = some (11, 4, 0, .getfield 7, 3) := Fm272 (dk_180 0 7 (dk_at s272_2 9 rfl rfl)) rfl
theorem f272_60 : ft 272 60 = some (11, 4, 0, .iload_n 2, 1) := Fm272 (dk_28 (dk_at s272_2 12 rfl rfl)) rfl
theorem f272_61 : ft 272 61 = some (11, 4, 0, .laload, 1) := Fm272 (dk_47 (dk_at s272_2 13 rfl rfl)) rfl
theorem f272_62 : ft 272 62 = some (11, 4, 0, .lcmp, 1) := Fm272 (dk_148 (dk_at s272_2 14 rfl rfl)) rfl
theorem f272_63 : ft 272 63 = some (11, 4, 0, .ifCond .ge 7, 3) := Fm272 (dk_156 0 7 (dk_at s272_2 15 rfl rfl)) rfl
theorem f272_66 : ft 272 66 = some (11, 4, 0, .iconst 1, 1) := Fm272 (dk_4 (dk_at s272_2 18 rfl rfl)) rfl
theorem f272_67 : ft 272 67 = some (11, 4, 0, .goto 4, 3) := Fm272 (dk_167 0 4 (dk_at s272_2 19 rfl rfl)) rfl
theorem f272_70 : ft 272 70 = some (11, 4, 0, .iconst 0, 1) := Fm272 (dk_3 (dk_at s272_2 22 rfl rfl)) rfl
theorem f272_71 : ft 272 71 = some (11, 4, 0, .ireturn, 1) := Fm272 (dk_172 (dk_at s272_2 23 rfl rfl)) rfl
theorem f272_72 : ft 272 72 = some (11, 4, 0, .aload_n 0, 1) := Fm272 (dk_42 (dk_at s272_3 0 rfl rfl)) rfl
theorem f272_73 : ft 272 73 = some (11, 4, 0, .getfield 133, 3) := Fm272 (dk_180 0 133 (dk_at s272_3 1 rfl rfl)) rfl
theorem f272_76 : ft 272 76 = some (11, 4, 0, .getfield 1, 3) := Fm272 (dk_180 0 1 (dk_at s272_3 4 rfl rfl)) rfl
theorem f272_79 : ft 272 79 = some (11, 4, 0, .iload_n 1, 1) := Fm272 (dk_27 (dk_at s272_3 7 rfl rfl)) rfl
theorem f272_80 : ft 272 80 = some (11, 4, 0, .iaload, 1) := Fm272 (dk_46 (dk_at s272_3 8 rfl rfl)) rfl
theorem f272_81 : ft 272 81 = some (11, 4, 0, .iconst 4, 1) := Fm272 (dk_7 (dk_at s272_3 9 rfl rfl)) rfl
theorem f272_82 : ft 272 82 = some (11, 4, 0, .if_icmp .ne 23, 3) := Fm272 (dk_160 0 23 (dk_at s272_3 10 rfl rfl)) rfl
theorem f272_85 : ft 272 85 = some (11, 4, 0, .aload_n 0, 1) := Fm272 (dk_42 (dk_at s272_3 13 rfl rfl)) rfl
theorem f272_86 : ft 272 86 = some (11, 4, 0, .getfield 133, 3) := Fm272 (dk_180 0 133 (dk_at s272_3 14 rfl rfl)) rfl
theorem f272_89 : ft 272 89 = some (11, 4, 0, .iload_n 1, 1) := Fm272 (dk_27 (dk_at s272_3 17 rfl rfl)) rfl
theorem f272_90 : ft 272 90 = some (11, 4, 0, .aload_n 0, 1) := Fm272 (dk_42 (dk_at s272_3 18 rfl rfl)) rfl
theorem f272_91 : ft 272 91 = some (11, 4, 0, .getfield 133, 3) := Fm272 (dk_180 0 133 (dk_at s272_3 19 rfl rfl)) rfl
theorem f272_94 : ft 272 94 = some (11, 4, 0, .iload_n 2, 1) := Fm272 (dk_28 (dk_at s272_3 22 rfl rfl)) rfl
theorem f272_95 : ft 272 95 = some (11, 4, 0, .invokestatic 11, 3) := Fm272 (dk_184 0 11 (dk_at s272_4 0 rfl rfl)) rfl
theorem f272_98 : ft 272 98 = some (11, 4, 0, .ifCond .ge 7, 3) := Fm272 (dk_156 0 7 (dk_at s272_4 3 rfl rfl)) rfl
theorem f272_101 : ft 272 101 = some (11, 4, 0, .iconst 1, 1) := Fm272 (dk_4 (dk_at s272_4 6 rfl rfl)) rfl
theorem f272_102 : ft 272 102 = some (11, 4, 0, .goto 4, 3) := Fm272 (dk_167 0 4 (dk_at s272_4 7 rfl rfl)) rfl
theorem f272_105 : ft 272 105 = some (11, 4, 0, .iconst 0, 1) := Fm272 (dk_3 (dk_at s272_4 10 rfl rfl)) rfl
theorem f272_106 : ft 272 106 = some (11, 4, 0, .ireturn, 1) := Fm272 (dk_172 (dk_at s272_4 11 rfl rfl)) rfl
theorem q272 {d : Nat} {m : Mem} {a0 a1 a2 : Int} (hd : 0 < d) (hz : TZ m) : le2 (if a1 < 0 then (some (.inl (some (pI 0)), m)) else if a2 < 0 then (some (.inl (some (pI 0)), m)) else gd (tg m a0 = 11) <| nm (vl m a0 37) fun v2 => gd (tg m v2 = 13) <| nm (vl m v2 0) fun v3 => gd (tg m v3 = 284101 ∨ tg m v3 = 287101) <| gd ((0 : Int) ≤ a1 ∧ a1 < ln m v3) <| nm (vl m v3 a1) fun v4 => gd ((0 : Int) ≤ a2 ∧ a2 < ln m v3) <| if v4 = (vl m v3 a2) then (if v4 = 3 then (nm (vl m v2 1) fun v5 => gd (tg m v5 = 284102 ∨ tg m v5 = 286102) <| gd ((0 : Int) ≤ a1 ∧ a1 < ln m v5) <| gd ((0 : Int) ≤ a2 ∧ a2 < ln m v5) <| if (vl m v5 a1) < (vl m v5 a2) then (some (.inl (some (pI 1)), m)) else some (.inl (some (pI 0)), m)) else if v4 = 4 then (bI (cl (d - 1) 236 [pR v2, pI a1, pR v2, pI a2] m) fun v1 m1 => if v1 < 0 then (some (.inl (some (pI 1)), m1)) else some (.inl (some (pI 0)), m1)) else some (.inl (some (pI 0)), m)) else some (.inl (some (pI 0)), m)) (cl d 272 [pR a0, pI a1, pI a2] m) := by
  refine q_in (n := 3) (L := [pR a0, pI a1, pI a2]) rfl rfl rfl ?_
  refine r_iln1 (p := 1) f272_0 rfl ?_
  refine r_iflt (t := 29) (p := 4) f272_1 (by decide) rfl rfl ?_ ?_
  · refine r_iconst (p := 30) f272_29 rfl (pinD rfl rfl) ?_
    exact r_iret4 f272_30 (by decide)
  · refine r_iln2 (p := 5) f272_4 rfl ?_
    refine r_iflt (t := 29) (p := 8) f272_5 (by decide) rfl rfl ?_ ?_
    · refine r_iconst (p := 30) f272_29 rfl (pinD rfl rfl) ?_
      exact r_iret4 f272_30 (by decide)
    · refine r_aln0 (p := 9) f272_8 rfl ?_
      refine le2_gd (fun h1 => ?_)
      refine r_gfR (f := 37) (p := 12) f272_9 rfl rfl rfl (Or.inl h1) rfl ?_
      refine r_nmR (fun v2 ev2 => ?_)
      refine le2_gd (fun h2 => ?_)
      refine r_gfR (f := 0) (p := 15) f272_12 rfl rfl rfl (Or.inl h2) rfl ?_
      refine r_nmR (fun v3 ev3 => ?_)
      refine r_iln1 (p := 16) f272_15 rfl ?_
      refine le2_gd (fun h3 => ?_)
      refine le2_gd (fun h4 => ?_)
      refine r_iaload (p := 17) f272_16 rfl (dj2 (fun x => x % 1000 = 101) h3 (by decide) (by decide)) h4 rfl ?_
      refine r_nmI (fun v4 ev4 => ?_)
      refine r_aln0 (p := 18) f272_17 rfl ?_
      refine r_gfR (f := 37) (p := 21) f272_18 rfl rfl rfl (Or.inl h1) ev2.symm ?_
      refine r_gfR (f := 0) (p := 24) f272_21 rfl rfl rfl (Or.inl h2) ev3.symm ?_
      refine r_iln2 (p := 25) f272_24 rfl ?_
      refine le2_gd (fun h5 => ?_)
      refine r_iaload (p := 26) f272_25 rfl (dj2 (fun x => x % 1000 = 101) h3 (by decide) (by decide)) h5 rfl ?_
      refine r_iceq (t := 31) (p := 29) f272_26 (by decide) rfl rfl ?_ ?_
      · refine r_aln0 (p := 32) f272_31 rfl ?_
        refine r_gfR (f := 37) (p := 35) f272_32 rfl rfl rfl (Or.inl h1) ev2.symm ?_
        refine r_gfR (f := 0) (p := 38) f272_35 rfl rfl rfl (Or.inl h2) ev3.symm ?_
        refine r_iln1 (p := 39) f272_38 rfl ?_
        refine r_iaload (p := 40) f272_39 rfl (dj2 (fun x => x % 1000 = 101) h3 (by decide) (by decide)) h4 ev4.symm ?_
        refine r_iconst (p := 41) f272_40 rfl (pinD rfl rfl) ?_
        refine r_icne (t := 72) (p := 44) f272_41 (by decide) rfl rfl ?_ ?_
        · refine r_aln0 (p := 45) f272_44 rfl ?_
          refine r_gfR (f := 37) (p := 48) f272_45 rfl rfl rfl (Or.inl h1) ev2.symm ?_
          refine r_gfR (f := 1) (p := 51) f272_48 rfl rfl rfl (Or.inl h2) rfl ?_
          refine r_nmR (fun v5 ev5 => ?_)
          refine r_iln1 (p := 52) f272_51 rfl ?_
          refine le2_gd (fun h6 => ?_)
          refine le2_gd (fun h7 => ?_)
          refine r_laload (p := 53) f272_52 rfl (dj2 (fun x => x % 1000 = 102) h6 (by decide) (by decide)) h7 rfl ?_
          refine r_aln0 (p := 54) f272_53 rfl ?_
          refine r_gfR (f := 37) (p := 57) f272_54 rfl rfl rfl (Or.inl h1) ev2.symm ?_
          refine r_gfR (f := 1) (p := 60) f272_57 rfl rfl rfl (Or.inl h2) ev5.symm ?_
          refine r_iln2 (p := 61) f272_60 rfl ?_
          refine le2_gd (fun h8 => ?_)
          refine r_laload (p := 62) f272_61 rfl (dj2 (fun x => x % 1000 = 102) h6 (by decide) (by decide)) h8 rfl ?_
          refine r_lcge (p1 := 63) (t := 70) (p := 66) f272_62 rfl f272_63 (by decide) rfl rfl ?_ ?_
          · refine r_iconst (p := 67) f272_66 rfl (pinD rfl rfl) ?_
            refine r_goto (p := 71) f272_67 (by decide) rfl ?_
            exact r_iret4 f272_71 (by decide)
          · refine r_iconst (p := 71) f272_70 rfl (pinD rfl rfl) ?_
            exact r_iret4 f272_71 (by decide)
        · refine r_aln0 (p := 73) f272_72 rfl ?_
          refine r_gfR (f := 37) (p := 76) f272_73 rfl rfl rfl (Or.inl h1) ev2.symm ?_
          refine r_gfR (f := 0) (p := 79) f272_76 rfl rfl rfl (Or.inl h2) ev3.symm ?_
          refine r_iln1 (p := 80) f272_79 rfl ?_
          refine r_iaload (p := 81) f272_80 rfl (dj2 (fun x => x % 1000 = 101) h3 (by decide) (by decide)) h4 ev4.symm ?_
          refine r_iconst (p := 82) f272_81 rfl (pinD rfl rfl) ?_
          refine r_icne (t := 105) (p := 85) f272_82 (by decide) rfl rfl ?_ ?_
          · refine r_aln0 (p := 86) f272_85 rfl ?_
            refine r_gfR (f := 37) (p := 89) f272_86 rfl rfl rfl (Or.inl h1) ev2.symm ?_
            refine r_iln1 (p := 90) f272_89 rfl ?_
            refine r_aln0 (p := 91) f272_90 rfl ?_
            refine r_gfR (f := 37) (p := 94) f272_91 rfl rfl rfl (Or.inl h1) ev2.symm ?_
            refine r_iln2 (p := 95) f272_94 rfl ?_
            refine r_istI (p := 98) f272_95 rfl rfl rfl hd (Nat.le_of_ble_eq_true rfl) rfl rfl rfl (fun _ => rfl) (fun v1 m1 c1 => ?_)
            have hz1 := z_k c1 hz
            refine r_ifge (t := 105) (p := 101) f272_98 (by decide) rfl rfl ?_ ?_
            · refine r_iconst (p := 102) f272_101 rfl (pinD rfl rfl) ?_
              refine r_goto (p := 106) f272_102 (by decide) rfl ?_
              exact r_iret4 f272_106 (by decide)
            · refine r_iconst (p := 106) f272_105 rfl (pinD rfl rfl) ?_
              exact r_iret4 f272_106 (by decide)
          · refine r_iconst (p := 106) f272_105 rfl (pinD rfl rfl) ?_
            exact r_iret4 f272_106 (by decide)
      · refine r_iconst (p := 30) f272_29 rfl (pinD rfl rfl) ?_
        exact r_iret4 f272_30 (by decide)
/-! 273 PathStoreModel.path (I)V -/
def w273_5 : List UInt8 := [182, 1, 17, 42, 16, 93, 182, 1, 3, 177]
abbrev u273_5 : List UInt8 := w273_5 ++ []
def w273_4 : List UInt8 := [159, 0, 21, 132, 3, 1, 42, 180, 0, 102, 180, 0, 24, 21, 4, 46, 54, 4, 167, 255, 235, 42, 29, 133]
abbrev u273_4 : List UInt8 := w273_4 ++ u273_5
def w273_3 : List UInt8 := [182, 1, 20, 167, 0, 46, 3, 62, 42, 180, 0, 102, 180, 0, 17, 28, 46, 54, 4, 21, 4, 27]
abbrev u273_3 : List UInt8 := w273_3 ++ u273_4
def w273_2 : List UInt8 := [42, 180, 0, 102, 42, 180, 0, 102, 180, 0, 31, 27, 46, 42, 180, 0, 102, 180, 0, 34, 27, 46, 16, 39]
abbrev u273_2 : List UInt8 := w273_2 ++ u273_3
def w273_1 : List UInt8 := [182, 2, 26, 42, 16, 91, 182, 1, 3, 42, 180, 0, 102, 180, 0, 1, 28, 46, 16, 6, 160, 0, 34, 42]
abbrev u273_1 : List UInt8 := w273_1 ++ u273_2
def w273_0 : List UInt8 := [42, 180, 0, 102, 180, 1, 109, 27, 46, 61, 28, 156, 0, 10, 42, 16, 36, 182, 1, 3, 177, 42, 28]
abbrev u273_0 : List UInt8 := w273_0 ++ u273_1
theorem s273_0 : (prog_32_method_89_code).data.toList.drop 0 = u273_0 := by decide +kernel
theorem s273_1 : (prog_32_method_89_code).data.toList.drop 23 = u273_1 := dk_seg s273_0 23 rfl rfl
theorem s273_2 : (prog_32_method_89_code).data.toList.drop 47 = u273_2 := dk_seg s273_1 24 rfl rfl
theorem s273_3 : (prog_32_method_89_code).data.toList.drop 71 = u273_3 := dk_seg s273_2 24 rfl rfl
theorem s273_4 : (prog_32_method_89_code).data.toList.drop 93 = u273_4 := dk_seg s273_3 22 rfl rfl
theorem s273_5 : (prog_32_method_89_code).data.toList.drop 117 = u273_5 := dk_seg s273_4 24 rfl rfl
theorem Fm273 {pc len : Nat} {i : Instr} (h : decode (prog_32_method_89_code) pc = .ok (i, len)) (hl : len = ilen i len) : ft 273 pc = some (11, 0, 0, i, len) := ft_mk rfl h hl
theorem f273_0 : ft 273 0 = some (11, 0, 0, .aload_n 0, 1) := Fm273 (dk_42 (dk_at s273_0 0 rfl rfl)) rfl
theorem f273_1 : ft 273 1 = some (11, 0, 0, .getfield 102, 3) := Fm273 (dk_180 0 102 (dk_at s273_0 1 rfl rfl)) rfl
theorem f273_4 : ft 273 4 = some (11, 0, 0, .getfield 365, 3) := Fm273 (dk_180 1 109 (dk_at s273_0 4 rfl rfl)) rfl
theorem f273_7 : ft 273 7 = some (11, 0, 0, .iload_n 1, 1) := Fm273 (dk_27 (dk_at s273_0 7 rfl rfl)) rfl
theorem f273_8 : ft 273 8 = some (11, 0, 0, .iaload, 1) := Fm273 (dk_46 (dk_at s273_0 8 rfl rfl)) rfl
theorem f273_9 : ft 273 9 = some (11, 0, 0, .istore_n 2, 1) := Fm273 (dk_61 (dk_at s273_0 9 rfl rfl)) rfl
theorem f273_10 : ft 273 10 = some (11, 0, 0, .iload_n 2, 1) := Fm273 (dk_28 (dk_at s273_0 10 rfl rfl)) rfl
theorem f273_11 : ft 273 11 = some (11, 0, 0, .ifCond .ge 10, 3) := Fm273 (dk_156 0 10 (dk_at s273_0 11 rfl rfl)) rfl
theorem f273_14 : ft 273 14 = some (11, 0, 0, .aload_n 0, 1) := Fm273 (dk_42 (dk_at s273_0 14 rfl rfl)) rfl
theorem f273_15 : ft 273 15 = some (11, 0, 0, .bipush 36, 2) := Fm273 (dk_16 36 (dk_at s273_0 15 rfl rfl)) rfl
theorem f273_17 : ft 273 17 = some (11, 0, 0, .invokevirtual 259, 3) := Fm273 (dk_182 1 3 (dk_at s273_0 17 rfl rfl)) rfl
theorem f273_20 : ft 273 20 = some (11, 0, 0, .return_, 1) := Fm273 (dk_177 (dk_at s273_0 20 rfl rfl)) rfl
theorem f273_21 : ft 273 21 = some (11, 0, 0, .aload_n 0, 1) := Fm273 (dk_42 (dk_at s273_0 21 rfl rfl)) rfl
theorem f273_22 : ft 273 22 = some (11, 0, 0, .iload_n 2, 1) := Fm273 (dk_28 (dk_at s273_0 22 rfl rfl)) rfl
theorem f273_23 : ft 273 23 = some (11, 0, 0, .invokevirtual 538, 3) := Fm273 (dk_182 2 26 (dk_at s273_1 0 rfl rfl)) rfl
theorem f273_26 : ft 273 26 = some (11, 0, 0, .aload_n 0, 1) := Fm273 (dk_42 (dk_at s273_1 3 rfl rfl)) rfl
theorem f273_27 : ft 273 27 = some (11, 0, 0, .bipush 91, 2) := Fm273 (dk_16 91 (dk_at s273_1 4 rfl rfl)) rfl
theorem f273_29 : ft 273 29 = some (11, 0, 0, .invokevirtual 259, 3) := Fm273 (dk_182 1 3 (dk_at s273_1 6 rfl rfl)) rfl
theorem f273_32 : ft 273 32 = some (11, 0, 0, .aload_n 0, 1) := Fm273 (dk_42 (dk_at s273_1 9 rfl rfl)) rfl
theorem f273_33 : ft 273 33 = some (11, 0, 0, .getfield 102, 3) := Fm273 (dk_180 0 102 (dk_at s273_1 10 rfl rfl)) rfl
theorem f273_36 : ft 273 36 = some (11, 0, 0, .getfield 1, 3) := Fm273 (dk_180 0 1 (dk_at s273_1 13 rfl rfl)) rfl
theorem f273_39 : ft 273 39 = some (11, 0, 0, .iload_n 2, 1) := Fm273 (dk_28 (dk_at s273_1 16 rfl rfl)) rfl
theorem f273_40 : ft 273 40 = some (11, 0, 0, .iaload, 1) := Fm273 (dk_46 (dk_at s273_1 17 rfl rfl)) rfl
theorem f273_41 : ft 273 41 = some (11, 0, 0, .bipush 6, 2) := Fm273 (dk_16 6 (dk_at s273_1 18 rfl rfl)) rfl
theorem f273_43 : ft 273 43 = some (11, 0, 0, .if_icmp .ne 34, 3) := Fm273 (dk_160 0 34 (dk_at s273_1 20 rfl rfl)) rfl
theorem f273_46 : ft 273 46 = some (11, 0, 0, .aload_n 0, 1) := Fm273 (dk_42 (dk_at s273_1 23 rfl rfl)) rfl
theorem f273_47 : ft 273 47 = some (11, 0, 0, .aload_n 0, 1) := Fm273 (dk_42 (dk_at s273_2 0 rfl rfl)) rfl
theorem f273_48 : ft 273 48 = some (11, 0, 0, .getfield 102, 3) := Fm273 (dk_180 0 102 (dk_at s273_2 1 rfl rfl)) rfl
theorem f273_51 : ft 273 51 = some (11, 0, 0, .aload_n 0, 1) := Fm273 (dk_42 (dk_at s273_2 4 rfl rfl)) rfl
theorem f273_52 : ft 273 52 = some (11, 0, 0, .getfield 102, 3) := Fm273 (dk_180 0 102 (dk_at s273_2 5 rfl rfl)) rfl
theorem f273_55 : ft 273 55 = some (11, 0, 0, .getfield 31, 3) := Fm273 (dk_180 0 31 (dk_at s273_2 8 rfl rfl)) rfl
theorem f273_58 : ft 273 58 = some (11, 0, 0, .iload_n 1, 1) := Fm273 (dk_27 (dk_at s273_2 11 rfl rfl)) rfl
theorem f273_59 : ft 273 59 = some (11, 0, 0, .iaload, 1) := Fm273 (dk_46 (dk_at s273_2 12 rfl rfl)) rfl
theorem f273_60 : ft 273 60 = some (11, 0, 0, .aload_n 0, 1) := Fm273 (dk_42 (dk_at s273_2 13 rfl rfl)) rfl
theorem f273_61 : ft 273 61 = some (11, 0, 0, .getfield 102, 3) := Fm273 (dk_180 0 102 (dk_at s273_2 14 rfl rfl)) rfl
theorem f273_64 : ft 273 64 = some (11, 0, 0, .getfield 34, 3) := Fm273 (dk_180 0 34 (dk_at s273_2 17 rfl rfl)) rfl
theorem f273_67 : ft 273 67 = some (11, 0, 0, .iload_n 1, 1) := Fm273 (dk_27 (dk_at s273_2 20 rfl rfl)) rfl
theorem f273_68 : ft 273 68 = some (11, 0, 0, .iaload, 1) := Fm273 (dk_46 (dk_at s273_2 21 rfl rfl)) rfl
theorem f273_69 : ft 273 69 = some (11, 0, 0, .bipush 39, 2) := Fm273 (dk_16 39 (dk_at s273_2 22 rfl rfl)) rfl
theorem f273_71 : ft 273 71 = some (11, 0, 0, .invokevirtual 276, 3) := Fm273 (dk_182 1 20 (dk_at s273_3 0 rfl rfl)) rfl
theorem f273_74 : ft 273 74 = some (11, 0, 0, .goto 46, 3) := Fm273 (dk_167 0 46 (dk_at s273_3 3 rfl rfl)) rfl
theorem f273_77 : ft 273 77 = some (11, 0, 0, .iconst 0, 1) := Fm273 (dk_3 (dk_at s273_3 6 rfl rfl)) rfl
theorem f273_78 : ft 273 78 = some (11, 0, 0, .istore_n 3, 1) := Fm273 (dk_62 (dk_at s273_3 7 rfl rfl)) rfl
theorem f273_79 : ft 273 79 = some (11, 0, 0, .aload_n 0, 1) := Fm273 (dk_42 (dk_at s273_3 8 rfl rfl)) rfl
theorem f273_80 : ft 273 80 = some (11, 0, 0, .getfield 102, 3) := Fm273 (dk_180 0 102 (dk_at s273_3 9 rfl rfl)) rfl
theorem f273_83 : ft 273 83 = some (11, 0, 0, .getfield 17, 3) := Fm273 (dk_180 0 17 (dk_at s273_3 12 rfl rfl)) rfl
theorem f273_86 : ft 273 86 = some (11, 0, 0, .iload_n 2, 1) := Fm273 (dk_28 (dk_at s273_3 15 rfl rfl)) rfl
theorem f273_87 : ft 273 87 = some (11, 0, 0, .iaload, 1) := Fm273 (dk_46 (dk_at s273_3 16 rfl rfl)) rfl
theorem f273_88 : ft 273 88 = some (11, 0, 0, .istore 4, 2) := Fm273 (dk_54 4 (dk_at s273_3 17 rfl rfl)) rfl
theorem f273_90 : ft 273 90 = some (11, 0, 0, .iload 4, 2) := Fm273 (dk_21 4 (dk_at s273_3 19 rfl rfl)) rfl
theorem f273_92 : ft 273 92 = some (11, 0, 0, .iload_n 1, 1) := Fm273 (dk_27 (dk_at s273_3 21 rfl rfl)) rfl
theorem f273_93 : ft 273 93 = some (11, 0, 0, .if_icmp .eq 21, 3) := Fm273 (dk_159 0 21 (dk_at s273_4 0 rfl rfl)) rfl
theorem f273_96 : ft 273 96 = some (11, 0, 0, .iinc 3 1, 3) := Fm273 (dk_132 3 1 (dk_at s273_4 3 rfl rfl)) rfl
theorem f273_99 : ft 273 99 = some (11, 0, 0, .aload_n 0, 1) := Fm273 (dk_42 (dk_at s273_4 6 rfl rfl)) rfl
theorem f273_100 : ft 273 100 = some (11, 0, 0, .getfield 102, 3) := Fm273 (dk_180 0 102 (dk_at s273_4 7 rfl rfl)) rfl
theorem f273_103 : ft 273 103 = some (11, 0, 0, .getfield 24, 3) := Fm273 (dk_180 0 24 (dk_at s273_4 10 rfl rfl)) rfl
theorem f273_106 : ft 273 106 = some (11, 0, 0, .iload 4, 2) := Fm273 (dk_21 4 (dk_at s273_4 13 rfl rfl)) rfl
theorem f273_108 : ft 273 108 = some (11, 0, 0, .iaload, 1) := Fm273 (dk_46 (dk_at s273_4 15 rfl rfl)) rfl
theorem f273_109 : ft 273 109 = some (11, 0, 0, .istore 4, 2) := Fm273 (dk_54 4 (dk_at s273_4 16 rfl rfl)) rfl
theorem f273_111 : ft 273 111 = some (11, 0, 0, .goto (-21), 3) := Fm273 (dk_167 255 235 (dk_at s273_4 18 rfl rfl)) rfl
theorem f273_114 : ft 273 114 = some (11, 0, 0, .aload_n 0, 1) := Fm273 (dk_42 (dk_at s273_4 21 rfl rfl)) rfl
theorem f273_115 : ft 273 115 = some (11, 0, 0, .iload_n 3, 1) := Fm273 (dk_29 (dk_at s273_4 22 rfl rfl)) rfl
theorem f273_116 : ft 273 116 = some (11, 0, 0, .i2l, 1) := Fm273 (dk_133 (dk_at s273_4 23 rfl rfl)) rfl
theorem f273_117 : ft 273 117 = some (11, 0, 0, .invokevirtual 273, 3) := Fm273 (dk_182 1 17 (dk_at s273_5 0 rfl rfl)) rfl
theorem f273_120 : ft 273 120 = some (11, 0, 0, .aload_n 0, 1) := Fm273 (dk_42 (dk_at s273_5 3 rfl rfl)) rfl
theorem f273_121 : ft 273 121 = some (11, 0, 0, .bipush 93, 2) := Fm273 (dk_16 93 (dk_at s273_5 4 rfl rfl)) rfl
theorem f273_123 : ft 273 123 = some (11, 0, 0, .invokevirtual 259, 3) := Fm273 (dk_182 1 3 (dk_at s273_5 6 rfl rfl)) rfl
theorem f273_126 : ft 273 126 = some (11, 0, 0, .return_, 1) := Fm273 (dk_177 (dk_at s273_5 9 rfl rfl)) rfl
theorem q273 {d : Nat} {m : Mem} {a0 a1 : Int} (hd : 0 < d) (hz : TZ m) : le2 (gd (tg m a0 = 11) <| nm (vl m a0 18) fun v6 => gd (tg m v6 = 13) <| nm (vl m v6 8) fun v7 => gd (tg m v7 = 284101 ∨ tg m v7 = 287101) <| gd ((0 : Int) ≤ a1 ∧ a1 < ln m v7) <| nm (vl m v7 a1) fun v8 => if v8 < 0 then (bV (cl (d - 1) 212 [pR a0, pI 36] m) fun m5 => some (.inl none, m5)) else bV (cl (d - 1) 273 [pR a0, pI v8] m) fun m1 => bV (cl (d - 1) 212 [pR a0, pI 91] m1) fun m2 => nm (vl m2 a0 18) fun v9 => gd (tg m2 v9 = 13) <| nm (vl m2 v9 0) fun v10 => gd (tg m2 v10 = 284101 ∨ tg m2 v10 = 287101) <| gd ((0 : Int) ≤ v8 ∧ v8 < ln m2 v10) <| if (vl m2 v10 v8) = 6 then (nm (vl m2 v9 6) fun v11 => gd (tg m2 v11 = 284101 ∨ tg m2 v11 = 287101) <| gd ((0 : Int) ≤ a1 ∧ a1 < ln m2 v11) <| nm (vl m2 v9 7) fun v12 => gd (tg m2 v12 = 284101 ∨ tg m2 v12 = 287101) <| gd ((0 : Int) ≤ a1 ∧ a1 < ln m2 v12) <| bV (cl (d - 1) 214 [pR a0, pR v9, pI (vl m2 v11 a1), pI (vl m2 v12 a1), pI 39] m2) fun m3 => bV (cl (d - 1) 212 [pR a0, pI 93] m3) fun m4 => some (.inl none, m4)) else nm (vl m2 v9 4) fun v13 => gd (tg m2 v13 = 284101 ∨ tg m2 v13 = 287101) <| gd ((0 : Int) ≤ v8 ∧ v8 < ln m2 v13) <| rn d 273 90 [pR a0, pI a1, pI v8, pI 0, pI (vl m2 v13 v8)] [] m2) (cl d 273 [pR a0, pI a1] m) := by
  refine q_in (n := 5) (L := [pR a0, pI a1, pU, pU, pU]) rfl rfl rfl ?_
  refine r_aln0 (p := 1) f273_0 rfl ?_
  refine le2_gd (fun h1 => ?_)
  refine r_gfR (f := 18) (p := 4) f273_1 rfl rfl rfl (Or.inl h1) rfl ?_
  refine r_nmR (fun v6 ev6 => ?_)
  refine le2_gd (fun h2 => ?_)
  refine r_gfR (f := 8) (p := 7) f273_4 rfl rfl rfl (Or.inl h2) rfl ?_
  refine r_nmR (fun v7 ev7 => ?_)
  refine r_iln1 (p := 8) f273_7 rfl ?_
  refine le2_gd (fun h3 => ?_)
  refine le2_gd (fun h4 => ?_)
  refine r_iaload (p := 9) f273_8 rfl (dj2 (fun x => x % 1000 = 101) h3 (by decide) (by decide)) h4 rfl ?_
  refine r_nmI (fun v8 ev8 => ?_)
  refine r_isn2 (p := 10) f273_9 rfl rfl ?_
  refine r_iln2 (p := 11) f273_10 rfl ?_
  refine r_ifge (t := 21) (p := 14) f273_11 (by decide) rfl rfl ?_ ?_
  · refine r_aln0 (p := 15) f273_14 rfl ?_
    refine r_bipush (p := 17) f273_15 rfl (pinD rfl rfl) ?_
    refine r_invV (p := 20) f273_17 rfl rfl rfl (Or.inl h1) hd (Nat.le_of_ble_eq_true rfl) rfl rfl rfl (fun _ => rfl) (fun m5 c5 => ?_)
    have hz5 := z_k c5 hz
    exact r_ret f273_20
  · refine r_aln0 (p := 22) f273_21 rfl ?_
    refine r_iln2 (p := 23) f273_22 rfl ?_
    refine r_invV (p := 26) f273_23 rfl rfl rfl (Or.inl h1) hd (Nat.le_of_ble_eq_true rfl) rfl rfl rfl (fun _ => rfl) (fun m1 c1 => ?_)
    have hz1 := z_k c1 hz
    refine r_aln0 (p := 27) f273_26 rfl ?_
    refine r_bipush (p := 29) f273_27 rfl (pinD rfl rfl) ?_
    have h5 := k_t1 c1 hz h1 (by decide)
    refine r_invV (p := 32) f273_29 rfl rfl rfl (Or.inl h5) hd (Nat.le_of_ble_eq_true rfl) rfl rfl rfl (fun _ => rfl) (fun m2 c2 => ?_)
    have hz2 := z_k c2 hz1
    refine r_aln0 (p := 33) f273_32 rfl ?_
    have h6 := k_t1 c2 hz1 h5 (by decide)
    refine r_gfR (f := 18) (p := 36) f273_33 rfl rfl rfl (Or.inl h6) rfl ?_
    refine r_nmR (fun v9 ev9 => ?_)
    refine le2_gd (fun h7 => ?_)
    refine r_gfR (f := 0) (p := 39) f273_36 rfl rfl rfl (Or.inl h7) rfl ?_
    refine r_nmR (fun v10 ev10 => ?_)
    refine r_iln2 (p := 40) f273_39 rfl ?_
    refine le2_gd (fun h8 => ?_)
    refine le2_gd (fun h9 => ?_)
    refine r_iaload (p := 41) f273_40 rfl (dj2 (fun x => x % 1000 = 101) h8 (by decide) (by decide)) h9 rfl ?_
    refine r_bipush (p := 43) f273_41 rfl (pinD rfl rfl) ?_
    refine r_icne (t := 77) (p := 46) f273_43 (by decide) rfl rfl ?_ ?_
    · refine r_aln0 (p := 47) f273_46 rfl ?_
      refine r_aln0 (p := 48) f273_47 rfl ?_
      refine r_gfR (f := 18) (p := 51) f273_48 rfl rfl rfl (Or.inl h6) ev9.symm ?_
      refine r_aln0 (p := 52) f273_51 rfl ?_
      refine r_gfR (f := 18) (p := 55) f273_52 rfl rfl rfl (Or.inl h6) ev9.symm ?_
      refine r_gfR (f := 6) (p := 58) f273_55 rfl rfl rfl (Or.inl h7) rfl ?_
      refine r_nmR (fun v11 ev11 => ?_)
      refine r_iln1 (p := 59) f273_58 rfl ?_
      refine le2_gd (fun h12 => ?_)
      refine le2_gd (fun h13 => ?_)
      refine r_iaload (p := 60) f273_59 rfl (dj2 (fun x => x % 1000 = 101) h12 (by decide) (by decide)) h13 rfl ?_
      refine r_aln0 (p := 61) f273_60 rfl ?_
      refine r_gfR (f := 18) (p := 64) f273_61 rfl rfl rfl (Or.inl h6) ev9.symm ?_
      refine r_gfR (f := 7) (p := 67) f273_64 rfl rfl rfl (Or.inl h7) rfl ?_
      refine r_nmR (fun v12 ev12 => ?_)
      refine r_iln1 (p := 68) f273_67 rfl ?_
      refine le2_gd (fun h14 => ?_)
      refine le2_gd (fun h15 => ?_)
      refine r_iaload (p := 69) f273_68 rfl (dj2 (fun x => x % 1000 = 101) h14 (by decide) (by decide)) h15 rfl ?_
      refine r_bipush (p := 71) f273_69 rfl (pinD rfl rfl) ?_
      refine r_invV (p := 74) f273_71 rfl rfl rfl (Or.inl h6) hd (Nat.le_of_ble_eq_true rfl) rfl rfl rfl (fun _ => rfl) (fun m3 c3 => ?_)
      have hz3 := z_k c3 hz2
      refine r_goto (p := 120) f273_74 (by decide) rfl ?_
      refine r_aln0 (p := 121) f273_120 rfl ?_
      refine r_bipush (p := 123) f273_121 rfl (pinD rfl rfl) ?_
      have h16 := k_t1 c3 hz2 h6 (by decide)
      refine r_invV (p := 126) f273_123 rfl rfl rfl (Or.inl h16) hd (Nat.le_of_ble_eq_true rfl) rfl rfl rfl (fun _ => rfl) (fun m4 c4 => ?_)
      have hz4 := z_k c4 hz3
      exact r_ret f273_126
    · refine r_iconst (p := 78) f273_77 rfl (pinD rfl rfl) ?_
      refine r_isn3 (p := 79) f273_78 rfl rfl ?_
      refine r_aln0 (p := 80) f273_79 rfl ?_
      refine r_gfR (f := 18) (p := 83) f273_80 rfl rfl rfl (Or.inl h6) ev9.symm ?_
      refine r_gfR (f := 4) (p := 86) f273_83 rfl rfl rfl (Or.inl h7) rfl ?_
      refine r_nmR (fun v13 ev13 => ?_)
      refine r_iln2 (p := 87) f273_86 rfl ?_
      refine le2_gd (fun h10 => ?_)
      refine le2_gd (fun h11 => ?_)
      refine r_iaload (p := 88) f273_87 rfl (dj2 (fun x => x % 1000 = 101) h10 (by decide) (by decide)) h11 rfl ?_
      refine r_isw4 (p := 90) f273_88 rfl rfl ?_
      exact le2_refl _
theorem q273_90 {d : Nat} {m : Mem} {a0 a1 a2 a3 a4 : Int} (hd : 0 < d) (hz : TZ m) : le2 (if a4 = a1 then (gd (tg m a0 = 11) <| bV (cl (d - 1) 213 [pR a0, pL a3] m) fun m1 => bV (cl (d - 1) 212 [pR a0, pI 93] m1) fun m2 => some (.inl none, m2)) else gd (tg m a0 = 11) <| nm (vl m a0 18) fun v3 => gd (tg m v3 = 13) <| nm (vl m v3 5) fun v4 => gd (tg m v4 = 284101 ∨ tg m v4 = 287101) <| gd ((0 : Int) ≤ a4 ∧ a4 < ln m v4) <| rn d 273 90 [pR a0, pI a1, pI a2, pI (w32 (a3 + 1)), pI (vl m v4 a4)] [] m) (rn d 273 90 [pR a0, pI a1, pI a2, pI a3, pI a4] [] m) := by
  refine r_ilw4 (p := 92) f273_90 rfl ?_
  refine r_iln1 (p := 93) f273_92 rfl ?_
  refine r_iceq (t := 114) (p := 96) f273_93 (by decide) rfl rfl ?_ ?_
  · refine r_aln0 (p := 115) f273_114 rfl ?_
    refine r_iln3 (p := 116) f273_115 rfl ?_
    refine r_i2l (p := 117) f273_116 rfl ?_
    refine le2_gd (fun h1 => ?_)
    refine r_invV (p := 120) f273_117 rfl rfl rfl (Or.inl h1) hd (Nat.le_of_ble_eq_true rfl) rfl rfl rfl (fun _ => rfl) (fun m1 c1 => ?_)
    have hz1 := z_k c1 hz
    refine r_aln0 (p := 121) f273_120 rfl ?_
    refine r_bipush (p := 123) f273_121 rfl (pinD rfl rfl) ?_
    have h2 := k_t1 c1 hz h1 (by decide)
    refine r_invV (p := 126) f273_123 rfl rfl rfl (Or.inl h2) hd (Nat.le_of_ble_eq_true rfl) rfl rfl rfl (fun _ => rfl) (fun m2 c2 => ?_)
    have hz2 := z_k c2 hz1
    exact r_ret f273_126
  · refine r_iinc3 (p := 99) f273_96 rfl rfl ?_
    refine r_aln0 (p := 100) f273_99 rfl ?_
    refine le2_gd (fun h3 => ?_)
    refine r_gfR (f := 18) (p := 103) f273_100 rfl rfl rfl (Or.inl h3) rfl ?_
    refine r_nmR (fun v3 ev3 => ?_)
    refine le2_gd (fun h4 => ?_)
    refine r_gfR (f := 5) (p := 106) f273_103 rfl rfl rfl (Or.inl h4) rfl ?_
    refine r_nmR (fun v4 ev4 => ?_)
    refine r_ilw4 (p := 108) f273_106 rfl ?_
    refine le2_gd (fun h5 => ?_)
    refine le2_gd (fun h6 => ?_)
    refine r_iaload (p := 109) f273_108 rfl (dj2 (fun x => x % 1000 = 101) h5 (by decide) (by decide)) h6 rfl ?_
    refine r_isw4 (p := 111) f273_109 rfl rfl ?_
    refine r_goto (p := 90) f273_111 (by decide) rfl ?_
    exact le2_refl _
/-! 274 PathStoreModel.give ()V -/
def w274_1 : List UInt8 := [180, 0, 98, 27, 51, 84, 132, 1, 1, 167, 255, 233, 177]
abbrev u274_1 : List UInt8 := w274_1 ++ []
def w274_0 : List UInt8 := [42, 42, 180, 0, 252, 181, 0, 150, 3, 60, 27, 42, 180, 0, 252, 162, 0, 21, 42, 180, 0, 71, 27, 42]
abbrev u274_0 : List UInt8 := w274_0 ++ u274_1
theorem s274_0 : (prog_32_method_31_code).data.toList.drop 0 = u274_0 := by decide +kernel
theorem s274_1 : (prog_32_method_31_code).data.toList.drop 24 = u274_1 := dk_seg s274_0 24 rfl rfl
theorem Fm274 {pc len : Nat} {i : Instr} (h : decode (prog_32_method_31_code) pc = .ok (i, len)) (hl : len = ilen i len) : ft 274 pc = some (11, 0, 0, i, len) := ft_mk rfl h hl
theorem f274_0 : ft 274 0 = some (11, 0, 0, .aload_n 0, 1) := Fm274 (dk_42 (dk_at s274_0 0 rfl rfl)) rfl
theorem f274_1 : ft 274 1 = some (11, 0, 0, .aload_n 0, 1) := Fm274 (dk_42 (dk_at s274_0 1 rfl rfl)) rfl
theorem f274_2 : ft 274 2 = some (11, 0, 0, .getfield 252, 3) := Fm274 (dk_180 0 252 (dk_at s274_0 2 rfl rfl)) rfl
theorem f274_5 : ft 274 5 = some (11, 0, 0, .putfield 150, 3) := Fm274 (dk_181 0 150 (dk_at s274_0 5 rfl rfl)) rfl
theorem f274_8 : ft 274 8 = some (11, 0, 0, .iconst 0, 1) := Fm274 (dk_3 (dk_at s274_0 8 rfl rfl)) rfl
theorem f274_9 : ft 274 9 = some (11, 0, 0, .istore_n 1, 1) := Fm274 (dk_60 (dk_at s274_0 9 rfl rfl)) rfl
theorem f274_10 : ft 274 10 = some (11, 0, 0, .iload_n 1, 1) := Fm274 (dk_27 (dk_at s274_0 10 rfl rfl)) rfl
theorem f274_11 : ft 274 11 = some (11, 0, 0, .aload_n 0, 1) := Fm274 (dk_42 (dk_at s274_0 11 rfl rfl)) rfl
theorem f274_12 : ft 274 12 = some (11, 0, 0, .getfield 252, 3) := Fm274 (dk_180 0 252 (dk_at s274_0 12 rfl rfl)) rfl
theorem f274_15 : ft 274 15 = some (11, 0, 0, .if_icmp .ge 21, 3) := Fm274 (dk_162 0 21 (dk_at s274_0 15 rfl rfl)) rfl
theorem f274_18 : ft 274 18 = some (11, 0, 0, .aload_n 0, 1) := Fm274 (dk_42 (dk_at s274_0 18 rfl rfl)) rfl
theorem f274_19 : ft 274 19 = some (11, 0, 0, .getfield 71, 3) := Fm274 (dk_180 0 71 (dk_at s274_0 19 rfl rfl)) rfl
theorem f274_22 : ft 274 22 = some (11, 0, 0, .iload_n 1, 1) := Fm274 (dk_27 (dk_at s274_0 22 rfl rfl)) rfl
theorem f274_23 : ft 274 23 = some (11, 0, 0, .aload_n 0, 1) := Fm274 (dk_42 (dk_at s274_0 23 rfl rfl)) rfl
theorem f274_24 : ft 274 24 = some (11, 0, 0, .getfield 98, 3) := Fm274 (dk_180 0 98 (dk_at s274_1 0 rfl rfl)) rfl
theorem f274_27 : ft 274 27 = some (11, 0, 0, .iload_n 1, 1) := Fm274 (dk_27 (dk_at s274_1 3 rfl rfl)) rfl
theorem f274_28 : ft 274 28 = some (11, 0, 0, .baload, 1) := Fm274 (dk_51 (dk_at s274_1 4 rfl rfl)) rfl
theorem f274_29 : ft 274 29 = some (11, 0, 0, .bastore, 1) := Fm274 (dk_84 (dk_at s274_1 5 rfl rfl)) rfl
theorem f274_30 : ft 274 30 = some (11, 0, 0, .iinc 1 1, 3) := Fm274 (dk_132 1 1 (dk_at s274_1 6 rfl rfl)) rfl
theorem f274_33 : ft 274 33 = some (11, 0, 0, .goto (-23), 3) := Fm274 (dk_167 255 233 (dk_at s274_1 9 rfl rfl)) rfl
theorem f274_36 : ft 274 36 = some (11, 0, 0, .return_, 1) := Fm274 (dk_177 (dk_at s274_1 12 rfl rfl)) rfl
theorem q274 {d : Nat} {m : Mem} {a0 : Int} (hz : TZ m) : le2 (gd (tg m a0 = 11) <| rn d 274 10 [pR a0, pI 0] [] (mst m a0 3 (vl m a0 16))) (cl d 274 [pR a0] m) := by
  refine q_in (n := 2) (L := [pR a0, pU]) rfl rfl rfl ?_
  refine r_aln0 (p := 1) f274_0 rfl ?_
  refine r_aln0 (p := 2) f274_1 rfl ?_
  refine le2_gd (fun h1 => ?_)
  refine r_gfI (f := 16) (p := 5) f274_2 rfl rfl rfl (Or.inl h1) rfl ?_
  refine r_pfI (f := 3) (p := 8) f274_5 rfl rfl rfl (by decide) (by decide) (Or.inl h1) rfl ?_
  refine r_iconst (p := 9) f274_8 rfl (pinD rfl rfl) ?_
  refine r_isn1 (p := 10) f274_9 rfl rfl ?_
  exact le2_refl _
theorem q274_10 {d : Nat} {m : Mem} {a0 a1 : Int} (hz : TZ m) : le2 (gd (tg m a0 = 11) <| if a1 < (vl m a0 16) then (nm (vl m a0 2) fun v1 => nm (vl m a0 15) fun v2 => gd (tg m v2 = 186103) <| gd ((0 : Int) ≤ a1 ∧ a1 < ln m v2) <| gd (tg m v1 = 186103) <| gd ((0 : Int) ≤ a1 ∧ a1 < ln m v1) <| rn d 274 10 [pR a0, pI (w32 (a1 + 1))] [] (mst m v1 a1 (w8 (vl m v2 a1)))) else some (.inl none, m)) (rn d 274 10 [pR a0, pI a1] [] m) := by
  refine r_iln1 (p := 11) f274_10 rfl ?_
  refine r_aln0 (p := 12) f274_11 rfl ?_
  refine le2_gd (fun h1 => ?_)
  refine r_gfI (f := 16) (p := 15) f274_12 rfl rfl rfl (Or.inl h1) rfl ?_
  refine r_icge (t := 36) (p := 18) f274_15 (by decide) rfl rfl ?_ ?_
  · refine r_aln0 (p := 19) f274_18 rfl ?_
    refine r_gfR (f := 2) (p := 22) f274_19 rfl rfl rfl (Or.inl h1) rfl ?_
    refine r_nmR (fun v1 ev1 => ?_)
    refine r_iln1 (p := 23) f274_22 rfl ?_
    refine r_aln0 (p := 24) f274_23 rfl ?_
    refine r_gfR (f := 15) (p := 27) f274_24 rfl rfl rfl (Or.inl h1) rfl ?_
    refine r_nmR (fun v2 ev2 => ?_)
    refine r_iln1 (p := 28) f274_27 rfl ?_
    refine le2_gd (fun h2 => ?_)
    refine le2_gd (fun h3 => ?_)
    refine r_baload (p := 29) f274_28 rfl (dj1 (fun x => x % 1000 = 103 ∨ x % 1000 = 105) h2 (by decide)) h3 rfl ?_
    refine le2_gd (fun h4 => ?_)
    refine le2_gd (fun h5 => ?_)
    refine r_bastore (p := 30) f274_29 rfl (dj1 (fun x => 1000 ≤ x ∧ x % 1000 = 103 ∧ Nat.testBit (eM 274) (bix x 0) = true) h4 (by decide)) h5 ?_
    refine r_iinc1 (p := 33) f274_30 rfl rfl ?_
    refine r_goto (p := 10) f274_33 (by decide) rfl ?_
    exact le2_refl _
  · exact r_ret f274_36
/-! 275 PathStoreModel.index (I)V -/
def w275_6 : List UInt8 := [181, 0, 136, 177]
abbrev u275_6 : List UInt8 := w275_6 ++ []
def w275_5 : List UInt8 := [180, 0, 93, 27, 50, 21, 4, 42, 180, 0, 66, 21, 4, 51, 84, 132, 4, 1, 167, 255, 231, 42, 3]
abbrev u275_5 : List UInt8 := w275_5 ++ u275_6
def w275_4 : List UInt8 := [181, 0, 136, 177, 42, 180, 0, 93, 27, 28, 188, 8, 83, 3, 54, 4, 21, 4, 28, 162, 0, 25, 42]
abbrev u275_4 : List UInt8 := w275_4 ++ u275_5
def w275_3 : List UInt8 := [182, 1, 186, 154, 0, 25, 42, 29, 156, 0, 10, 42, 180, 0, 164, 167, 0, 4, 28, 181, 0, 74, 42, 6]
abbrev u275_3 : List UInt8 := w275_3 ++ u275_4
def w275_2 : List UInt8 := [177, 42, 2, 181, 0, 74, 42, 42, 180, 0, 66, 28, 182, 2, 28, 62, 29, 155, 0, 12, 42, 29, 6]
abbrev u275_2 : List UInt8 := w275_2 ++ u275_3
def w275_1 : List UInt8 := [182, 1, 40, 61, 42, 42, 180, 1, 27, 154, 0, 7, 4, 167, 0, 4, 3, 5, 182, 0, 142, 154, 0, 4]
abbrev u275_1 : List UInt8 := w275_1 ++ u275_2
def w275_0 : List UInt8 := [42, 27, 155, 0, 12, 27, 6, 163, 0, 7, 4, 167, 0, 4, 3, 4, 182, 0, 142, 154, 0, 4, 177, 42]
abbrev u275_0 : List UInt8 := w275_0 ++ u275_1
theorem s275_0 : (prog_32_method_91_code).data.toList.drop 0 = u275_0 := by decide +kernel
theorem s275_1 : (prog_32_method_91_code).data.toList.drop 24 = u275_1 := dk_seg s275_0 24 rfl rfl
theorem s275_2 : (prog_32_method_91_code).data.toList.drop 48 = u275_2 := dk_seg s275_1 24 rfl rfl
theorem s275_3 : (prog_32_method_91_code).data.toList.drop 71 = u275_3 := dk_seg s275_2 23 rfl rfl
theorem s275_4 : (prog_32_method_91_code).data.toList.drop 95 = u275_4 := dk_seg s275_3 24 rfl rfl
theorem s275_5 : (prog_32_method_91_code).data.toList.drop 118 = u275_5 := dk_seg s275_4 23 rfl rfl
theorem s275_6 : (prog_32_method_91_code).data.toList.drop 141 = u275_6 := dk_seg s275_5 23 rfl rfl
theorem Fm275 {pc len : Nat} {i : Instr} (h : decode (prog_32_method_91_code) pc = .ok (i, len)) (hl : len = ilen i len) : ft 275 pc = some (11, 0, 0, i, len) := ft_mk rfl h hl
theorem f275_0 : ft 275 0 = some (11, 0, 0, .aload_n 0, 1) := Fm275 (dk_42 (dk_at s275_0 0 rfl rfl)) rfl
theorem f275_1 : ft 275 1 = some (11, 0, 0, .iload_n 1, 1) := Fm275 (dk_27 (dk_at s275_0 1 rfl rfl)) rfl
theorem f275_2 : ft 275 2 = some (11, 0, 0, .ifCond .lt 12, 3) := Fm275 (dk_155 0 12 (dk_at s275_0 2 rfl rfl)) rfl
theorem f275_5 : ft 275 5 = some (11, 0, 0, .iload_n 1, 1) := Fm275 (dk_27 (dk_at s275_0 5 rfl rfl)) rfl
theorem f275_6 : ft 275 6 = some (11, 0, 0, .iconst 3, 1) := Fm275 (dk_6 (dk_at s275_0 6 rfl rfl)) rfl
theorem f275_7 : ft 275 7 = some (11, 0, 0, .if_icmp .gt 7, 3) := Fm275 (dk_163 0 7 (dk_at s275_0 7 rfl rfl)) rfl
theorem f275_10 : ft 275 10 = some (11, 0, 0, .iconst 1, 1) := Fm275 (dk_4 (dk_at s275_0 10 rfl rfl)) rfl
theorem f275_11 : ft 275 11 = some (11, 0, 0, .goto 4, 3) := Fm275 (dk_167 0 4 (dk_at s275_0 11 rfl rfl)) rfl
theorem f275_14 : ft 275 14 = some (11, 0, 0, .iconst 0, 1) := Fm275 (dk_3 (dk_at s275_0 14 rfl rfl)) rfl
theorem f275_15 : ft 275 15 = some (11, 0, 0, .iconst 1, 1) := Fm275 (dk_4 (dk_at s275_0 15 rfl rfl)) rfl
theorem f275_16 : ft 275 16 = some (11, 0, 0, .invokevirtual 142, 3) := Fm275 (dk_182 0 142 (dk_at s275_0 16 rfl rfl)) rfl
theorem f275_19 : ft 275 19 = some (11, 0, 0, .ifCond .ne 4, 3) := Fm275 (dk_154 0 4 (dk_at s275_0 19 rfl rfl)) rfl
theorem f275_22 : ft 275 22 = some (11, 0, 0, .return_, 1) := Fm275 (dk_177 (dk_at s275_0 22 rfl rfl)) rfl
theorem f275_23 : ft 275 23 = some (11, 0, 0, .aload_n 0, 1) := Fm275 (dk_42 (dk_at s275_0 23 rfl rfl)) rfl
theorem f275_24 : ft 275 24 = some (11, 0, 0, .invokevirtual 296, 3) := Fm275 (dk_182 1 40 (dk_at s275_1 0 rfl rfl)) rfl
theorem f275_27 : ft 275 27 = some (11, 0, 0, .istore_n 2, 1) := Fm275 (dk_61 (dk_at s275_1 3 rfl rfl)) rfl
theorem f275_28 : ft 275 28 = some (11, 0, 0, .aload_n 0, 1) := Fm275 (dk_42 (dk_at s275_1 4 rfl rfl)) rfl
theorem f275_29 : ft 275 29 = some (11, 0, 0, .aload_n 0, 1) := Fm275 (dk_42 (dk_at s275_1 5 rfl rfl)) rfl
theorem f275_30 : ft 275 30 = some (11, 0, 0, .getfield 283, 3) := Fm275 (dk_180 1 27 (dk_at s275_1 6 rfl rfl)) rfl
theorem f275_33 : ft 275 33 = some (11, 0, 0, .ifCond .ne 7, 3) := Fm275 (dk_154 0 7 (dk_at s275_1 9 rfl rfl)) rfl
theorem f275_36 : ft 275 36 = some (11, 0, 0, .iconst 1, 1) := Fm275 (dk_4 (dk_at s275_1 12 rfl rfl)) rfl
theorem f275_37 : ft 275 37 = some (11, 0, 0, .goto 4, 3) := Fm275 (dk_167 0 4 (dk_at s275_1 13 rfl rfl)) rfl
theorem f275_40 : ft 275 40 = some (11, 0, 0, .iconst 0, 1) := Fm275 (dk_3 (dk_at s275_1 16 rfl rfl)) rfl
theorem f275_41 : ft 275 41 = some (11, 0, 0, .iconst 2, 1) := Fm275 (dk_5 (dk_at s275_1 17 rfl rfl)) rfl
theorem f275_42 : ft 275 42 = some (11, 0, 0, .invokevirtual 142, 3) := Fm275 (dk_182 0 142 (dk_at s275_1 18 rfl rfl)) rfl
theorem f275_45 : ft 275 45 = some (11, 0, 0, .ifCond .ne 4, 3) := Fm275 (dk_154 0 4 (dk_at s275_1 21 rfl rfl)) rfl
theorem f275_48 : ft 275 48 = some (11, 0, 0, .return_, 1) := Fm275 (dk_177 (dk_at s275_2 0 rfl rfl)) rfl
theorem f275_49 : ft 275 49 = some (11, 0, 0, .aload_n 0, 1) := Fm275 (dk_42 (dk_at s275_2 1 rfl rfl)) rfl
theorem f275_50 : ft 275 50 = some (11, 0, 0, .iconst (-1), 1) := Fm275 (dk_2 (dk_at s275_2 2 rfl rfl)) rfl
theorem f275_51 : ft 275 51 = some (11, 0, 0, .putfield 74, 3) := Fm275 (dk_181 0 74 (dk_at s275_2 3 rfl rfl)) rfl
theorem f275_54 : ft 275 54 = some (11, 0, 0, .aload_n 0, 1) := Fm275 (dk_42 (dk_at s275_2 6 rfl rfl)) rfl
theorem f275_55 : ft 275 55 = some (11, 0, 0, .aload_n 0, 1) := Fm275 (dk_42 (dk_at s275_2 7 rfl rfl)) rfl
theorem f275_56 : ft 275 56 = some (11, 0, 0, .getfield 66, 3) := Fm275 (dk_180 0 66 (dk_at s275_2 8 rfl rfl)) rfl
theorem f275_59 : ft 275 59 = some (11, 0, 0, .iload_n 2, 1) := Fm275 (dk_28 (dk_at s275_2 11 rfl rfl)) rfl
theorem f275_60 : ft 275 60 = some (11, 0, 0, .invokevirtual 540, 3) := Fm275 (dk_182 2 28 (dk_at s275_2 12 rfl rfl)) rfl
theorem f275_63 : ft 275 63 = some (11, 0, 0, .istore_n 3, 1) := Fm275 (dk_62 (dk_at s275_2 15 rfl rfl)) rfl
theorem f275_64 : ft 275 64 = some (11, 0, 0, .iload_n 3, 1) := Fm275 (dk_29 (dk_at s275_2 16 rfl rfl)) rfl
theorem f275_65 : ft 275 65 = some (11, 0, 0, .ifCond .lt 12, 3) := Fm275 (dk_155 0 12 (dk_at s275_2 17 rfl rfl)) rfl
theorem f275_68 : ft 275 68 = some (11, 0, 0, .aload_n 0, 1) := Fm275 (dk_42 (dk_at s275_2 20 rfl rfl)) rfl
theorem f275_69 : ft 275 69 = some (11, 0, 0, .iload_n 3, 1) := Fm275 (dk_29 (dk_at s275_2 21 rfl rfl)) rfl
theorem f275_70 : ft 275 70 = some (11, 0, 0, .iconst 3, 1) := Fm275 (dk_6 (dk_at s275_2 22 rfl rfl)) rfl
theorem f275_71 : ft 275 71 = some (11, 0, 0, .invokevirtual 442, 3) := Fm275 (dk_182 1 186 (dk_at s275_3 0 rfl rfl)) rfl
theorem f275_74 : ft 275 74 = some (11, 0, 0, .ifCond .ne 25, 3) := Fm275 (dk_154 0 25 (dk_at s275_3 3 rfl rfl)) rfl
theorem f275_77 : ft 275 77 = some (11, 0, 0, .aload_n 0, 1) := Fm275 (dk_42 (dk_at s275_3 6 rfl rfl)) rfl
theorem f275_78 : ft 275 78 = some (11, 0, 0, .iload_n 3, 1) := Fm275 (dk_29 (dk_at s275_3 7 rfl rfl)) rfl
theorem f275_79 : ft 275 79 = some (11, 0, 0, .ifCond .ge 10, 3) := Fm275 (dk_156 0 10 (dk_at s275_3 8 rfl rfl)) rfl
theorem f275_82 : ft 275 82 = some (11, 0, 0, .aload_n 0, 1) := Fm275 (dk_42 (dk_at s275_3 11 rfl rfl)) rfl
theorem f275_83 : ft 275 83 = some (11, 0, 0, .getfield 164, 3) := Fm275 (dk_180 0 164 (dk_at s275_3 12 rfl rfl)) rfl
theorem f275_86 : ft 275 86 = some (11, 0, 0, .goto 4, 3) := Fm275 (dk_167 0 4 (dk_at s275_3 15 rfl rfl)) rfl
theorem f275_89 : ft 275 89 = some (11, 0, 0, .iload_n 2, 1) := Fm275 (dk_28 (dk_at s275_3 18 rfl rfl)) rfl
theorem f275_90 : ft 275 90 = some (11, 0, 0, .putfield 74, 3) := Fm275 (dk_181 0 74 (dk_at s275_3 19 rfl rfl)) rfl
theorem f275_93 : ft 275 93 = some (11, 0, 0, .aload_n 0, 1) := Fm275 (dk_42 (dk_at s275_3 22 rfl rfl)) rfl
theorem f275_94 : ft 275 94 = some (11, 0, 0, .iconst 3, 1) := Fm275 (dk_6 (dk_at s275_3 23 rfl rfl)) rfl
theorem f275_95 : ft 275 95 = some (11, 0, 0, .putfield 136, 3) := Fm275 (dk_181 0 136 (dk_at s275_4 0 rfl rfl)) rfl
theorem f275_98 : ft 275 98 = some (11, 0, 0, .return_, 1) := Fm275 (dk_177 (dk_at s275_4 3 rfl rfl)) rfl
theorem f275_99 : ft 275 99 = some (11, 0, 0, .aload_n 0, 1) := Fm275 (dk_42 (dk_at s275_4 4 rfl rfl)) rfl
theorem f275_100 : ft 275 100 = some (11, 0, 0, .getfield 93, 3) := Fm275 (dk_180 0 93 (dk_at s275_4 5 rfl rfl)) rfl
theorem f275_103 : ft 275 103 = some (11, 0, 0, .iload_n 1, 1) := Fm275 (dk_27 (dk_at s275_4 8 rfl rfl)) rfl
theorem f275_104 : ft 275 104 = some (11, 0, 0, .iload_n 2, 1) := Fm275 (dk_28 (dk_at s275_4 9 rfl rfl)) rfl
theorem f275_105 : ft 275 105 = some (11, 0, 0, .newarray .byte, 2) := Fm275 (dk_188_8 (dk_at s275_4 10 rfl rfl)) rfl
theorem f275_107 : ft 275 107 = some (11, 0, 0, .aastore, 1) := Fm275 (dk_83 (dk_at s275_4 12 rfl rfl)) rfl
theorem f275_108 : ft 275 108 = some (11, 0, 0, .iconst 0, 1) := Fm275 (dk_3 (dk_at s275_4 13 rfl rfl)) rfl
theorem f275_109 : ft 275 109 = some (11, 0, 0, .istore 4, 2) := Fm275 (dk_54 4 (dk_at s275_4 14 rfl rfl)) rfl
theorem f275_111 : ft 275 111 = some (11, 0, 0, .iload 4, 2) := Fm275 (dk_21 4 (dk_at s275_4 16 rfl rfl)) rfl
theorem f275_113 : ft 275 113 = some (11, 0, 0, .iload_n 2, 1) := Fm275 (dk_28 (dk_at s275_4 18 rfl rfl)) rfl
theorem f275_114 : ft 275 114 = some (11, 0, 0, .if_icmp .ge 25, 3) := Fm275 (dk_162 0 25 (dk_at s275_4 19 rfl rfl)) rfl
theorem f275_117 : ft 275 117 = some (11, 0, 0, .aload_n 0, 1) := Fm275 (dk_42 (dk_at s275_4 22 rfl rfl)) rfl
theorem f275_118 : ft 275 118 = some (11, 0, 0, .getfield 93, 3) := Fm275 (dk_180 0 93 (dk_at s275_5 0 rfl rfl)) rfl
theorem f275_121 : ft 275 121 = some (11, 0, 0, .iload_n 1, 1) := Fm275 (dk_27 (dk_at s275_5 3 rfl rfl)) rfl
theorem f275_122 : ft 275 122 = some (11, 0, 0, .aaload, 1) := Fm275 (dk_50 (dk_at s275_5 4 rfl rfl)) rfl
theorem f275_123 : ft 275 123 = some (11, 0, 0, .iload 4, 2) := Fm275 (dk_21 4 (dk_at s275_5 5 rfl rfl)) rfl
theorem f275_125 : ft 275 125 = some (11, 0, 0, .aload_n 0, 1) := Fm275 (dk_42 (dk_at s275_5 7 rfl rfl)) rfl
theorem f275_126 : ft 275 126 = some (11, 0, 0, .getfield 66, 3) := Fm275 (dk_180 0 66 (dk_at s275_5 8 rfl rfl)) rfl
theorem f275_129 : ft 275 129 = some (11, 0, 0, .iload 4, 2) := Fm275 (dk_21 4 (dk_at s275_5 11 rfl rfl)) rfl
theorem f275_131 : ft 275 131 = some (11, 0, 0, .baload, 1) := Fm275 (dk_51 (dk_at s275_5 13 rfl rfl)) rfl
theorem f275_132 : ft 275 132 = some (11, 0, 0, .bastore, 1) := Fm275 (dk_84 (dk_at s275_5 14 rfl rfl)) rfl
theorem f275_133 : ft 275 133 = some (11, 0, 0, .iinc 4 1, 3) := Fm275 (dk_132 4 1 (dk_at s275_5 15 rfl rfl)) rfl
theorem f275_136 : ft 275 136 = some (11, 0, 0, .goto (-25), 3) := Fm275 (dk_167 255 231 (dk_at s275_5 18 rfl rfl)) rfl
theorem f275_139 : ft 275 139 = some (11, 0, 0, .aload_n 0, 1) := Fm275 (dk_42 (dk_at s275_5 21 rfl rfl)) rfl
theorem f275_140 : ft 275 140 = some (11, 0, 0, .iconst 0, 1) := Fm275 (dk_3 (dk_at s275_5 22 rfl rfl)) rfl
theorem f275_141 : ft 275 141 = some (11, 0, 0, .putfield 136, 3) := Fm275 (dk_181 0 136 (dk_at s275_6 0 rfl rfl)) rfl
theorem f275_144 : ft 275 144 = some (11, 0, 0, .return_, 1) := Fm275 (dk_177 (dk_at s275_6 3 rfl rfl)) rfl
theorem q275 {d : Nat} {m : Mem} {a0 a1 : Int} (hz : TZ m) : le2 (if a1 < 0 then (rn d 275 15 [pR a0, pI a1, pU, pU, pU] [pI 0, pR a0] m) else if 3 < a1 then (rn d 275 15 [pR a0, pI a1, pU, pU, pU] [pI 0, pR a0] m) else rn d 275 15 [pR a0, pI a1, pU, pU, pU] [pI 1, pR a0] m) (cl d 275 [pR a0, pI a1] m) := by
  refine q_in (n := 5) (L := [pR a0, pI a1, pU, pU, pU]) rfl rfl rfl ?_
  refine r_aln0 (p := 1) f275_0 rfl ?_
  refine r_iln1 (p := 2) f275_1 rfl ?_
  refine r_iflt (t := 14) (p := 5) f275_2 (by decide) rfl rfl ?_ ?_
  · refine r_iconst (p := 15) f275_14 rfl (pinD rfl rfl) ?_
    exact le2_refl _
  · refine r_iln1 (p := 6) f275_5 rfl ?_
    refine r_iconst (p := 7) f275_6 rfl (pinD rfl rfl) ?_
    refine r_icgt (t := 14) (p := 10) f275_7 (by decide) rfl rfl ?_ ?_
    · refine r_iconst (p := 15) f275_14 rfl (pinD rfl rfl) ?_
      exact le2_refl _
    · refine r_iconst (p := 11) f275_10 rfl (pinD rfl rfl) ?_
      refine r_goto (p := 15) f275_11 (by decide) rfl ?_
      exact le2_refl _
theorem q275_15 {d : Nat} {m : Mem} {a0 a1 s1 s0 : Int} (hd : 0 < d) (hz : TZ m) : le2 (gd (tg m s0 = 11) <| bI (cl (d - 1) 188 [pR s0, pI s1, pI 1] m) fun v1 m1 => if v1 = 0 then (some (.inl none, m1)) else gd (tg m1 a0 = 11) <| bI (cl (d - 1) 195 [pR a0] m1) fun v2 m2 => if (vl m2 a0 6) = 0 then (rn d 275 41 [pR a0, pI a1, pI v2, pU, pU] [pI 1, pR a0] m2) else rn d 275 41 [pR a0, pI a1, pI v2, pU, pU] [pI 0, pR a0] m2) (rn d 275 15 [pR a0, pI a1, pU, pU, pU] [pI s1, pR s0] m) := by
  refine r_iconst (p := 16) f275_15 rfl (pinD rfl rfl) ?_
  refine le2_gd (fun h1 => ?_)
  refine r_invI (p := 19) f275_16 rfl rfl rfl (Or.inl h1) hd (Nat.le_of_ble_eq_true rfl) rfl rfl rfl (fun _ => rfl) (fun v1 m1 c1 => ?_)
  have hz1 := z_k c1 hz
  refine r_ifne (t := 23) (p := 22) f275_19 (by decide) rfl rfl ?_ ?_
  · exact r_ret f275_22
  · refine r_aln0 (p := 24) f275_23 rfl ?_
    refine le2_gd (fun h2 => ?_)
    refine r_invI (p := 27) f275_24 rfl rfl rfl (Or.inl h2) hd (Nat.le_of_ble_eq_true rfl) rfl rfl rfl (fun _ => rfl) (fun v2 m2 c2 => ?_)
    have hz2 := z_k c2 hz1
    refine r_isn2 (p := 28) f275_27 rfl rfl ?_
    refine r_aln0 (p := 29) f275_28 rfl ?_
    refine r_aln0 (p := 30) f275_29 rfl ?_
    have h3 := k_t1 c2 hz1 h2 (by decide)
    refine r_gfIZ (f := 6) (p := 33) f275_30 rfl rfl rfl (Or.inl h3) rfl ?_
    refine r_ifne (t := 40) (p := 36) f275_33 (by decide) rfl rfl ?_ ?_
    · refine r_iconst (p := 37) f275_36 rfl (pinD rfl rfl) ?_
      refine r_goto (p := 41) f275_37 (by decide) rfl ?_
      exact le2_refl _
    · refine r_iconst (p := 41) f275_40 rfl (pinD rfl rfl) ?_
      exact le2_refl _
theorem q275_41 {d : Nat} {m : Mem} {a0 a1 a2 s1 s0 : Int} (hd : 0 < d) (hz : TZ m) : le2 (gd (tg m s0 = 11) <| bI (cl (d - 1) 188 [pR s0, pI s1, pI 2] m) fun v1 m1 => if v1 = 0 then (some (.inl none, m1)) else gd (tg m1 a0 = 11) <| bI (cl (d - 1) 243 [pR a0, pR (vl m1 a0 0), pI a2] (mst m1 a0 5 (-1))) fun v2 m2 => if v2 < 0 then (rn d 275 77 [pR a0, pI a1, pI a2, pI v2, pU] [] m2) else bI (cl (d - 1) 251 [pR a0, pI v2, pI 3] m2) fun v3 m3 => if v3 = 0 then (rn d 275 77 [pR a0, pI a1, pI a2, pI v2, pU] [] m3) else nm (vl m3 a0 10) fun v5 => gd ((0 : Int) ≤ a2 ∧ a2 ≤ 2000000) <| nw (nx m3) (mal m3 276103 a2) fun o4 m4 => gd (tg m4 v5 = 186118) <| gd ((0 : Int) ≤ a1 ∧ a1 < ln m4 v5) <| gd (aOk (tg m4 v5 % 1000) (tg m4 o4) = true) <| rn d 275 111 [pR a0, pI a1, pI a2, pI v2, pI 0] [] (mst m4 v5 a1 o4)) (rn d 275 41 [pR a0, pI a1, pI a2, pU, pU] [pI s1, pR s0] m) := by
  refine r_iconst (p := 42) f275_41 rfl (pinD rfl rfl) ?_
  refine le2_gd (fun h1 => ?_)
  refine r_invI (p := 45) f275_42 rfl rfl rfl (Or.inl h1) hd (Nat.le_of_ble_eq_true rfl) rfl rfl rfl (fun _ => rfl) (fun v1 m1 c1 => ?_)
  have hz1 := z_k c1 hz
  refine r_ifne (t := 49) (p := 48) f275_45 (by decide) rfl rfl ?_ ?_
  · exact r_ret f275_48
  · refine r_aln0 (p := 50) f275_49 rfl ?_
    refine r_iconst (p := 51) f275_50 rfl (pinD rfl rfl) ?_
    refine le2_gd (fun h2 => ?_)
    refine r_pfI (f := 5) (p := 54) f275_51 rfl rfl rfl (by decide) (by decide) (Or.inl h2) rfl ?_
    refine r_aln0 (p := 55) f275_54 rfl ?_
    refine r_aln0 (p := 56) f275_55 rfl ?_
    refine r_gfR (f := 0) (p := 59) f275_56 rfl rfl rfl (Or.inl h2) (sk_f (by decide)) ?_
    refine r_iln2 (p := 60) f275_59 rfl ?_
    refine r_invI (p := 63) f275_60 rfl rfl rfl (Or.inl h2) hd (Nat.le_of_ble_eq_true rfl) rfl rfl rfl (fun _ => rfl) (fun v2 m2 c2 => ?_)
    have hz2 := z_k c2 hz1
    refine r_isn3 (p := 64) f275_63 rfl rfl ?_
    refine r_iln3 (p := 65) f275_64 rfl ?_
    refine r_iflt (t := 77) (p := 68) f275_65 (by decide) rfl rfl ?_ ?_
    · exact le2_refl _
    · refine r_aln0 (p := 69) f275_68 rfl ?_
      refine r_iln3 (p := 70) f275_69 rfl ?_
      refine r_iconst (p := 71) f275_70 rfl (pinD rfl rfl) ?_
      have h3 := k_t1 c2 hz1 h2 (by decide)
      refine r_invI (p := 74) f275_71 rfl rfl rfl (Or.inl h3) hd (Nat.le_of_ble_eq_true rfl) rfl rfl rfl (fun _ => rfl) (fun v3 m3 c3 => ?_)
      have hz3 := z_k c3 hz2
      refine r_ifne (t := 99) (p := 77) f275_74 (by decide) rfl rfl ?_ ?_
      · exact le2_refl _
      · refine r_aln0 (p := 100) f275_99 rfl ?_
        have h4 := k_t1 c3 hz2 h3 (by decide)
        refine r_gfR (f := 10) (p := 103) f275_100 rfl rfl rfl (Or.inl h4) rfl ?_
        refine r_nmR (fun v5 ev5 => ?_)
        refine r_iln1 (p := 104) f275_103 rfl ?_
        refine r_iln2 (p := 105) f275_104 rfl ?_
        refine le2_gd (fun h5 => ?_)
        refine r_newa (t1 := 276103) (p := 107) f275_105 rfl rfl h5 rfl rfl (fun o4 m4 h6 k4 => ?_)
        have hz4 := z_k k4 hz3
        refine le2_gd (fun h7 => ?_)
        refine le2_gd (fun h8 => ?_)
        refine le2_gd (fun h9 => ?_)
        refine r_aastore (p := 108) f275_107 rfl (dj1 (fun x => 1000 ≤ x ∧ (110 < x % 1000 ∧ x % 1000 < 119) ∧ Nat.testBit (eM 275) (bix x 0) = true) h7 (by decide)) h8 h9 ?_
        refine r_iconst (p := 109) f275_108 rfl (pinD rfl rfl) ?_
        refine r_isw4 (p := 111) f275_109 rfl rfl ?_
        exact le2_refl _
theorem q275_77 {d : Nat} {m : Mem} {a0 a1 a2 a3 : Int} (hz : TZ m) : le2 (if a3 < 0 then (gd (tg m a0 = 11) <| some (.inl none, (mst (mst m a0 5 (vl m a0 14)) a0 4 3))) else gd (tg m a0 = 11) <| some (.inl none, (mst (mst m a0 5 a2) a0 4 3))) (rn d 275 77 [pR a0, pI a1, pI a2, pI a3, pU] [] m) := by
  refine r_aln0 (p := 78) f275_77 rfl ?_
  refine r_iln3 (p := 79) f275_78 rfl ?_
  refine r_ifge (t := 89) (p := 82) f275_79 (by decide) rfl rfl ?_ ?_
  · refine r_aln0 (p := 83) f275_82 rfl ?_
    refine le2_gd (fun h2 => ?_)
    refine r_gfI (f := 14) (p := 86) f275_83 rfl rfl rfl (Or.inl h2) rfl ?_
    refine r_goto (p := 90) f275_86 (by decide) rfl ?_
    refine r_pfI (f := 5) (p := 93) f275_90 rfl rfl rfl (by decide) (by decide) (Or.inl h2) rfl ?_
    refine r_aln0 (p := 94) f275_93 rfl ?_
    refine r_iconst (p := 95) f275_94 rfl (pinD rfl rfl) ?_
    refine r_pfI (f := 4) (p := 98) f275_95 rfl rfl rfl (by decide) (by decide) (Or.inl h2) rfl ?_
    exact r_ret f275_98
  · refine r_iln2 (p := 90) f275_89 rfl ?_
    refine le2_gd (fun h1 => ?_)
    refine r_pfI (f := 5) (p := 93) f275_90 rfl rfl rfl (by decide) (by decide) (Or.inl h1) rfl ?_
    refine r_aln0 (p := 94) f275_93 rfl ?_
    refine r_iconst (p := 95) f275_94 rfl (pinD rfl rfl) ?_
    refine r_pfI (f := 4) (p := 98) f275_95 rfl rfl rfl (by decide) (by decide) (Or.inl h1) rfl ?_
    exact r_ret f275_98
theorem q275_111 {d : Nat} {m : Mem} {a0 a1 a2 a3 a4 : Int} (hz : TZ m) : le2 (if a4 < a2 then (gd (tg m a0 = 11) <| nm (vl m a0 10) fun v1 => gd (tg m v1 = 186118) <| gd ((0 : Int) ≤ a1 ∧ a1 < ln m v1) <| nm (vl m v1 a1) fun v2 => nm (vl m a0 0) fun v3 => gd (tg m v3 = 186103) <| gd ((0 : Int) ≤ a4 ∧ a4 < ln m v3) <| gd (tg m v2 = 276103) <| gd ((0 : Int) ≤ a4 ∧ a4 < ln m v2) <| rn d 275 111 [pR a0, pI a1, pI a2, pI a3, pI (w32 (a4 + 1))] [] (mst m v2 a4 (w8 (vl m v3 a4)))) else gd (tg m a0 = 11) <| some (.inl none, (mst m a0 4 0))) (rn d 275 111 [pR a0, pI a1, pI a2, pI a3, pI a4] [] m) := by
  refine r_ilw4 (p := 113) f275_111 rfl ?_
  refine r_iln2 (p := 114) f275_113 rfl ?_
  refine r_icge (t := 139) (p := 117) f275_114 (by decide) rfl rfl ?_ ?_
  · refine r_aln0 (p := 118) f275_117 rfl ?_
    refine le2_gd (fun h2 => ?_)
    refine r_gfR (f := 10) (p := 121) f275_118 rfl rfl rfl (Or.inl h2) rfl ?_
    refine r_nmR (fun v1 ev1 => ?_)
    refine r_iln1 (p := 122) f275_121 rfl ?_
    refine le2_gd (fun h3 => ?_)
    refine le2_gd (fun h4 => ?_)
    refine r_aaload (p := 123) f275_122 rfl (dj1 (fun x => 110 < x % 1000 ∧ x % 1000 < 119) h3 (by decide)) h4 rfl ?_
    refine r_nmR (fun v2 ev2 => ?_)
    refine r_ilw4 (p := 125) f275_123 rfl ?_
    refine r_aln0 (p := 126) f275_125 rfl ?_
    refine r_gfR (f := 0) (p := 129) f275_126 rfl rfl rfl (Or.inl h2) rfl ?_
    refine r_nmR (fun v3 ev3 => ?_)
    refine r_ilw4 (p := 131) f275_129 rfl ?_
    refine le2_gd (fun h5 => ?_)
    refine le2_gd (fun h6 => ?_)
    refine r_baload (p := 132) f275_131 rfl (dj1 (fun x => x % 1000 = 103 ∨ x % 1000 = 105) h5 (by decide)) h6 rfl ?_
    refine le2_gd (fun h7 => ?_)
    refine le2_gd (fun h8 => ?_)
    refine r_bastore (p := 133) f275_132 rfl (dj1 (fun x => 1000 ≤ x ∧ x % 1000 = 103 ∧ Nat.testBit (eM 275) (bix x 0) = true) h7 (by decide)) h8 ?_
    refine r_iinc4 (p := 136) f275_133 rfl rfl ?_
    refine r_goto (p := 111) f275_136 (by decide) rfl ?_
    exact le2_refl _
  · refine r_aln0 (p := 140) f275_139 rfl ?_
    refine r_iconst (p := 141) f275_140 rfl (pinD rfl rfl) ?_
    refine le2_gd (fun h1 => ?_)
    refine r_pfI (f := 4) (p := 144) f275_141 rfl rfl rfl (by decide) (by decide) (Or.inl h1) rfl ?_
    exact r_ret f275_144
/-! 276 PathStoreModel.find (II)I -/
def w276_12 : List UInt8 := [3, 181, 0, 136, 21, 7, 172]
abbrev u276_12 : List UInt8 := w276_12 ++ []
def w276_11 : List UInt8 := [133, 182, 1, 17, 42, 16, 10, 182, 1, 3, 132, 7, 1, 132, 8, 1, 167, 255, 131, 42, 182, 2, 35, 42]
abbrev u276_11 : List UInt8 := w276_11 ++ u276_12
def w276_10 : List UInt8 := [180, 0, 130, 21, 9, 46, 184, 0, 20, 154, 0, 6, 167, 0, 25, 42, 25, 4, 180, 2, 32, 21, 8, 46]
abbrev u276_10 : List UInt8 := w276_10 ++ u276_11
def w276_9 : List UInt8 := [54, 9, 42, 180, 1, 246, 21, 9, 159, 0, 51, 42, 180, 0, 106, 21, 5, 42, 180, 0, 102, 42]
abbrev u276_9 : List UInt8 := w276_9 ++ u276_10
def w276_8 : List UInt8 := [181, 1, 246, 42, 3, 181, 1, 237, 42, 3, 181, 1, 240, 42, 21, 6, 42, 180, 1, 249, 182, 2, 10]
abbrev u276_8 : List UInt8 := w276_8 ++ u276_9
def w276_7 : List UInt8 := [21, 8, 50, 25, 4, 180, 1, 68, 21, 8, 46, 42, 180, 0, 102, 182, 1, 42, 181, 1, 249, 42, 3]
abbrev u276_7 : List UInt8 := w276_7 ++ u276_8
def w276_6 : List UInt8 := [3, 54, 7, 3, 54, 8, 21, 8, 25, 4, 180, 1, 51, 162, 0, 121, 42, 42, 25, 4, 180, 1, 69]
abbrev u276_6 : List UInt8 := w276_6 ++ u276_7
def w276_5 : List UInt8 := [172, 42, 42, 180, 0, 93, 27, 50, 42, 180, 0, 93, 27, 50, 190, 182, 2, 28, 54, 6, 42, 182, 1, 46]
abbrev u276_5 : List UInt8 := w276_5 ++ u276_6
def w276_4 : List UInt8 := [182, 1, 42, 54, 5, 21, 5, 156, 0, 18, 42, 42, 180, 0, 164, 181, 0, 74, 42, 6, 181, 0, 136, 3]
abbrev u276_4 : List UInt8 := w276_4 ++ u276_5
def w276_3 : List UInt8 := [182, 0, 142, 154, 0, 5, 3, 172, 42, 2, 181, 0, 74, 42, 42, 180, 0, 66, 29, 42, 180, 0, 106]
abbrev u276_3 : List UInt8 := w276_3 ++ u276_4
def w276_2 : List UInt8 := [58, 4, 25, 4, 198, 0, 25, 42, 42, 180, 0, 93, 27, 50, 198, 0, 7, 4, 167, 0, 4, 3, 5]
abbrev u276_2 : List UInt8 := w276_2 ++ u276_3
def w276_1 : List UInt8 := [167, 0, 4, 3, 4, 182, 0, 142, 154, 0, 5, 3, 172, 42, 182, 1, 40, 62, 42, 28, 182, 1, 64]
abbrev u276_1 : List UInt8 := w276_1 ++ u276_2
def w276_0 : List UInt8 := [42, 27, 155, 0, 23, 27, 6, 163, 0, 18, 28, 2, 161, 0, 13, 28, 16, 7, 163, 0, 7, 4]
abbrev u276_0 : List UInt8 := w276_0 ++ u276_1
theorem s276_0 : (prog_32_method_92_code).data.toList.drop 0 = u276_0 := by decide +kernel
theorem s276_1 : (prog_32_method_92_code).data.toList.drop 22 = u276_1 := dk_seg s276_0 22 rfl rfl
theorem s276_2 : (prog_32_method_92_code).data.toList.drop 45 = u276_2 := dk_seg s276_1 23 rfl rfl
theorem s276_3 : (prog_32_method_92_code).data.toList.drop 68 = u276_3 := dk_seg s276_2 23 rfl rfl
theorem s276_4 : (prog_32_method_92_code).data.toList.drop 91 = u276_4 := dk_seg s276_3 23 rfl rfl
theorem s276_5 : (prog_32_method_92_code).data.toList.drop 115 = u276_5 := dk_seg s276_4 24 rfl rfl
theorem s276_6 : (prog_32_method_92_code).data.toList.drop 139 = u276_6 := dk_seg s276_5 24 rfl rfl
theorem s276_7 : (prog_32_method_92_code).data.toList.drop 162 = u276_7 := dk_seg s276_6 23 rfl rfl
theorem s276_8 : (prog_32_method_92_code).data.toList.drop 185 = u276_8 := dk_seg s276_7 23 rfl rfl
theorem s276_9 : (prog_32_method_92_code).data.toList.drop 208 = u276_9 := dk_seg s276_8 23 rfl rfl
theorem s276_10 : (prog_32_method_92_code).data.toList.drop 230 = u276_10 := dk_seg s276_9 22 rfl rfl
theorem s276_11 : (prog_32_method_92_code).data.toList.drop 254 = u276_11 := dk_seg s276_10 24 rfl rfl
theorem s276_12 : (prog_32_method_92_code).data.toList.drop 278 = u276_12 := dk_seg s276_11 24 rfl rfl
theorem Fm276 {pc len : Nat} {i : Instr} (h : decode (prog_32_method_92_code) pc = .ok (i, len)) (hl : len = ilen i len) : ft 276 pc = some (11, 1, 0, i, len) := ft_mk rfl h hl
theorem f276_0 : ft 276 0 = some (11, 1, 0, .aload_n 0, 1) := Fm276 (dk_42 (dk_at s276_0 0 rfl rfl)) rfl
theorem f276_1 : ft 276 1 = some (11, 1, 0, .iload_n 1, 1) := Fm276 (dk_27 (dk_at s276_0 1 rfl rfl)) rfl
theorem f276_2 : ft 276 2 = some (11, 1, 0, .ifCond .lt 23, 3) := Fm276 (dk_155 0 23 (dk_at s276_0 2 rfl rfl)) rfl
theorem f276_5 : ft 276 5 = some (11, 1, 0, .iload_n 1, 1) := Fm276 (dk_27 (dk_at s276_0 5 rfl rfl)) rfl
theorem f276_6 : ft 276 6 = some (11, 1, 0, .iconst 3, 1) := Fm276 (dk_6 (dk_at s276_0 6 rfl rfl)) rfl
theorem f276_7 : ft 276 7 = some (11, 1, 0, .if_icmp .gt 18, 3) := Fm276 (dk_163 0 18 (dk_at s276_0 7 rfl rfl)) rfl
theorem f276_10 : ft 276 10 = some (11, 1, 0, .iload_n 2, 1) := Fm276 (dk_28 (dk_at s276_0 10 rfl rfl)) rfl
theorem f276_11 : ft 276 11 = some (11, 1, 0, .iconst (-1), 1) := Fm276 (dk_2 (dk_at s276_0 11 rfl rfl)) rfl
theorem f276_12 : ft 276 12 = some (11, 1, 0, .if_icmp .lt 13, 3) := Fm276 (dk_161 0 13 (dk_at s276_0 12 rfl rfl)) rfl
theorem f276_15 : ft 276 15 = some (11, 1, 0, .iload_n 2, 1) := Fm276 (dk_28 (dk_at s276_0 15 rfl rfl)) rfl
theorem f276_16 : ft 276 16 = some (11, 1, 0, .bipush 7, 2) := Fm276 (dk_16 7 (dk_at s276_0 16 rfl rfl)) rfl
theorem f276_18 : ft 276 18 = some (11, 1, 0, .if_icmp .gt 7, 3) := Fm276 (dk_163 0 7 (dk_at s276_0 18 rfl rfl)) rfl
theorem f276_21 : ft 276 21 = some (11, 1, 0, .iconst 1, 1) := Fm276 (dk_4 (dk_at s276_0 21 rfl rfl)) rfl
theorem f276_22 : ft 276 22 = some (11, 1, 0, .goto 4, 3) := Fm276 (dk_167 0 4 (dk_at s276_1 0 rfl rfl)) rfl
theorem f276_25 : ft 276 25 = some (11, 1, 0, .iconst 0, 1) := Fm276 (dk_3 (dk_at s276_1 3 rfl rfl)) rfl
theorem f276_26 : ft 276 26 = some (11, 1, 0, .iconst 1, 1) := Fm276 (dk_4 (dk_at s276_1 4 rfl rfl)) rfl
theorem f276_27 : ft 276 27 = some (11, 1, 0, .invokevirtual 142, 3) := Fm276 (dk_182 0 142 (dk_at s276_1 5 rfl rfl)) rfl
theorem f276_30 : ft 276 30 = some (11, 1, 0, .ifCond .ne 5, 3) := Fm276 (dk_154 0 5 (dk_at s276_1 8 rfl rfl)) rfl
theorem f276_33 : ft 276 33 = some (11, 1, 0, .iconst 0, 1) := Fm276 (dk_3 (dk_at s276_1 11 rfl rfl)) rfl
theorem f276_34 : ft 276 34 = some (11, 1, 0, .ireturn, 1) := Fm276 (dk_172 (dk_at s276_1 12 rfl rfl)) rfl
theorem f276_35 : ft 276 35 = some (11, 1, 0, .aload_n 0, 1) := Fm276 (dk_42 (dk_at s276_1 13 rfl rfl)) rfl
theorem f276_36 : ft 276 36 = some (11, 1, 0, .invokevirtual 296, 3) := Fm276 (dk_182 1 40 (dk_at s276_1 14 rfl rfl)) rfl
theorem f276_39 : ft 276 39 = some (11, 1, 0, .istore_n 3, 1) := Fm276 (dk_62 (dk_at s276_1 17 rfl rfl)) rfl
theorem f276_40 : ft 276 40 = some (11, 1, 0, .aload_n 0, 1) := Fm276 (dk_42 (dk_at s276_1 18 rfl rfl)) rfl
theorem f276_41 : ft 276 41 = some (11, 1, 0, .iload_n 2, 1) := Fm276 (dk_28 (dk_at s276_1 19 rfl rfl)) rfl
theorem f276_42 : ft 276 42 = some (11, 1, 0, .invokevirtual 320, 3) := Fm276 (dk_182 1 64 (dk_at s276_1 20 rfl rfl)) rfl
theorem f276_45 : ft 276 45 = some (11, 1, 0, .astore 4, 2) := Fm276 (dk_58 4 (dk_at s276_2 0 rfl rfl)) rfl
theorem f276_47 : ft 276 47 = some (11, 1, 0, .aload 4, 2) := Fm276 (dk_25 4 (dk_at s276_2 2 rfl rfl)) rfl
theorem f276_49 : ft 276 49 = some (11, 1, 0, .ifnull 25, 3) := Fm276 (dk_198 0 25 (dk_at s276_2 4 rfl rfl)) rfl
theorem f276_52 : ft 276 52 = some (11, 1, 0, .aload_n 0, 1) := Fm276 (dk_42 (dk_at s276_2 7 rfl rfl)) rfl
theorem f276_53 : ft 276 53 = some (11, 1, 0, .aload_n 0, 1) := Fm276 (dk_42 (dk_at s276_2 8 rfl rfl)) rfl
theorem f276_54 : ft 276 54 = some (11, 1, 0, .getfield 93, 3) := Fm276 (dk_180 0 93 (dk_at s276_2 9 rfl rfl)) rfl
theorem f276_57 : ft 276 57 = some (11, 1, 0, .iload_n 1, 1) := Fm276 (dk_27 (dk_at s276_2 12 rfl rfl)) rfl
theorem f276_58 : ft 276 58 = some (11, 1, 0, .aaload, 1) := Fm276 (dk_50 (dk_at s276_2 13 rfl rfl)) rfl
theorem f276_59 : ft 276 59 = some (11, 1, 0, .ifnull 7, 3) := Fm276 (dk_198 0 7 (dk_at s276_2 14 rfl rfl)) rfl
theorem f276_62 : ft 276 62 = some (11, 1, 0, .iconst 1, 1) := Fm276 (dk_4 (dk_at s276_2 17 rfl rfl)) rfl
theorem f276_63 : ft 276 63 = some (11, 1, 0, .goto 4, 3) := Fm276 (dk_167 0 4 (dk_at s276_2 18 rfl rfl)) rfl
theorem f276_66 : ft 276 66 = some (11, 1, 0, .iconst 0, 1) := Fm276 (dk_3 (dk_at s276_2 21 rfl rfl)) rfl
theorem f276_67 : ft 276 67 = some (11, 1, 0, .iconst 2, 1) := Fm276 (dk_5 (dk_at s276_2 22 rfl rfl)) rfl
theorem f276_68 : ft 276 68 = some (11, 1, 0, .invokevirtual 142, 3) := Fm276 (dk_182 0 142 (dk_at s276_3 0 rfl rfl)) rfl
theorem f276_71 : ft 276 71 = some (11, 1, 0, .ifCond .ne 5, 3) := Fm276 (dk_154 0 5 (dk_at s276_3 3 rfl rfl)) rfl
theorem f276_74 : ft 276 74 = some (11, 1, 0, .iconst 0, 1) := Fm276 (dk_3 (dk_at s276_3 6 rfl rfl)) rfl
theorem f276_75 : ft 276 75 = some (11, 1, 0, .ireturn, 1) := Fm276 (dk_172 (dk_at s276_3 7 rfl rfl)) rfl
theorem f276_76 : ft 276 76 = some (11, 1, 0, .aload_n 0, 1) := Fm276 (dk_42 (dk_at s276_3 8 rfl rfl)) rfl
theorem f276_77 : ft 276 77 = some (11, 1, 0, .iconst (-1), 1) := Fm276 (dk_2 (dk_at s276_3 9 rfl rfl)) rfl
theorem f276_78 : ft 276 78 = some (11, 1, 0, .putfield 74, 3) := Fm276 (dk_181 0 74 (dk_at s276_3 10 rfl rfl)) rfl
theorem f276_81 : ft 276 81 = some (11, 1, 0, .aload_n 0, 1) := Fm276 (dk_42 (dk_at s276_3 13 rfl rfl)) rfl
theorem f276_82 : ft 276 82 = some (11, 1, 0, .aload_n 0, 1) := Fm276 (dk_42 (dk_at s276_3 14 rfl rfl)) rfl
theorem f276_83 : ft 276 83 = some (11, 1, 0, .getfield 66, 3) := Fm276 (dk_180 0 66 (dk_at s276_3 15 rfl rfl)) rfl
theorem f276_86 : ft 276 86 = some (11, 1, 0, .iload_n 3, 1) := Fm276 (dk_29 (dk_at s276_3 18 rfl rfl)) rfl
theorem f276_87 : ft 276 87 = some (11, 1, 0, .aload_n 0, 1) := Fm276 (dk_42 (dk_at s276_3 19 rfl rfl)) rfl
theorem f276_88 : ft 276 88 = some (11, 1, 0, .getfield 106, 3) := Fm276 (dk_180 0 106 (dk_at s276_3 20 rfl rfl)) rfl
theorem f276_91 : ft 276 91 = some (11, 1, 0, .invokevirtual 298, 3) := Fm276 (dk_182 1 42 (dk_at s276_4 0 rfl rfl)) rfl
theorem f276_94 : ft 276 94 = some (11, 1, 0, .istore 5, 2) := Fm276 (dk_54 5 (dk_at s276_4 3 rfl rfl)) rfl
theorem f276_96 : ft 276 96 = some (11, 1, 0, .iload 5, 2) := Fm276 (dk_21 5 (dk_at s276_4 5 rfl rfl)) rfl
theorem f276_98 : ft 276 98 = some (11, 1, 0, .ifCond .ge 18, 3) := Fm276 (dk_156 0 18 (dk_at s276_4 7 rfl rfl)) rfl
theorem f276_101 : ft 276 101 = some (11, 1, 0, .aload_n 0, 1) := Fm276 (dk_42 (dk_at s276_4 10 rfl rfl)) rfl
theorem f276_102 : ft 276 102 = some (11, 1, 0, .aload_n 0, 1) := Fm276 (dk_42 (dk_at s276_4 11 rfl rfl)) rfl
theorem f276_103 : ft 276 103 = some (11, 1, 0, .getfield 164, 3) := Fm276 (dk_180 0 164 (dk_at s276_4 12 rfl rfl)) rfl
theorem f276_106 : ft 276 106 = some (11, 1, 0, .putfield 74, 3) := Fm276 (dk_181 0 74 (dk_at s276_4 15 rfl rfl)) rfl
theorem f276_109 : ft 276 109 = some (11, 1, 0, .aload_n 0, 1) := Fm276 (dk_42 (dk_at s276_4 18 rfl rfl)) rfl
theorem f276_110 : ft 276 110 = some (11, 1, 0, .iconst 3, 1) := Fm276 (dk_6 (dk_at s276_4 19 rfl rfl)) rfl
theorem f276_111 : ft 276 111 = some (11, 1, 0, .putfield 136, 3) := Fm276 (dk_181 0 136 (dk_at s276_4 20 rfl rfl)) rfl
theorem f276_114 : ft 276 114 = some (11, 1, 0, .iconst 0, 1) := Fm276 (dk_3 (dk_at s276_4 23 rfl rfl)) rfl
theorem f276_115 : ft 276 115 = some (11, 1, 0, .ireturn, 1) := Fm276 (dk_172 (dk_at s276_5 0 rfl rfl)) rfl
theorem f276_116 : ft 276 116 = some (11, 1, 0, .aload_n 0, 1) := Fm276 (dk_42 (dk_at s276_5 1 rfl rfl)) rfl
theorem f276_117 : ft 276 117 = some (11, 1, 0, .aload_n 0, 1) := Fm276 (dk_42 (dk_at s276_5 2 rfl rfl)) rfl
theorem f276_118 : ft 276 118 = some (11, 1, 0, .getfield 93, 3) := Fm276 (dk_180 0 93 (dk_at s276_5 3 rfl rfl)) rfl
theorem f276_121 : ft 276 121 = some (11, 1, 0, .iload_n 1, 1) := Fm276 (dk_27 (dk_at s276_5 6 rfl rfl)) rfl
theorem f276_122 : ft 276 122 = some (11, 1, 0, .aaload, 1) := Fm276 (dk_50 (dk_at s276_5 7 rfl rfl)) rfl
theorem f276_123 : ft 276 123 = some (11, 1, 0, .aload_n 0, 1) := Fm276 (dk_42 (dk_at s276_5 8 rfl rfl)) rfl
theorem f276_124 : ft 276 124 = some (11, 1, 0, .getfield 93, 3) := Fm276 (dk_180 0 93 (dk_at s276_5 9 rfl rfl)) rfl
theorem f276_127 : ft 276 127 = some (11, 1, 0, .iload_n 1, 1) := Fm276 (dk_27 (dk_at s276_5 12 rfl rfl)) rfl
theorem f276_128 : ft 276 128 = some (11, 1, 0, .aaload, 1) := Fm276 (dk_50 (dk_at s276_5 13 rfl rfl)) rfl
theorem f276_129 : ft 276 129 = some (11, 1, 0, .arraylength, 1) := Fm276 (dk_190 (dk_at s276_5 14 rfl rfl)) rfl
theorem f276_130 : ft 276 130 = some (11, 1, 0, .invokevirtual 540, 3) := Fm276 (dk_182 2 28 (dk_at s276_5 15 rfl rfl)) rfl
theorem f276_133 : ft 276 133 = some (11, 1, 0, .istore 6, 2) := Fm276 (dk_54 6 (dk_at s276_5 18 rfl rfl)) rfl
theorem f276_135 : ft 276 135 = some (11, 1, 0, .aload_n 0, 1) := Fm276 (dk_42 (dk_at s276_5 20 rfl rfl)) rfl
theorem f276_136 : ft 276 136 = some (11, 1, 0, .invokevirtual 302, 3) := Fm276 (dk_182 1 46 (dk_at s276_5 21 rfl rfl)) rfl
theorem f276_139 : ft 276 139 = some (11, 1, 0, .iconst 0, 1) := Fm276 (dk_3 (dk_at s276_6 0 rfl rfl)) rfl
theorem f276_140 : ft 276 140 = some (11, 1, 0, .istore 7, 2) := Fm276 (dk_54 7 (dk_at s276_6 1 rfl rfl)) rfl
theorem f276_142 : ft 276 142 = some (11, 1, 0, .iconst 0, 1) := Fm276 (dk_3 (dk_at s276_6 3 rfl rfl)) rfl
theorem f276_143 : ft 276 143 = some (11, 1, 0, .istore 8, 2) := Fm276 (dk_54 8 (dk_at s276_6 4 rfl rfl)) rfl
theorem f276_145 : ft 276 145 = some (11, 1, 0, .iload 8, 2) := Fm276 (dk_21 8 (dk_at s276_6 6 rfl rfl)) rfl
theorem f276_147 : ft 276 147 = some (11, 1, 0, .aload 4, 2) := Fm276 (dk_25 4 (dk_at s276_6 8 rfl rfl)) rfl
theorem f276_149 : ft 276 149 = some (11, 1, 0, .getfield 307, 3) := Fm276 (dk_180 1 51 (dk_at s276_6 10 rfl rfl)) rfl
theorem f276_152 : ft 276 152 = some (11, 1, 0, .if_icmp .ge 121, 3) := Fm276 (dk_162 0 121 (dk_at s276_6 13 rfl rfl)) rfl
theorem f276_155 : ft 276 155 = some (11, 1, 0, .aload_n 0, 1) := Fm276 (dk_42 (dk_at s276_6 16 rfl rfl)) rfl
theorem f276_156 : ft 276 156 = some (11, 1, 0, .aload_n 0, 1) := Fm276 (dk_42 (dk_at s276_6 17 rfl rfl)) rfl
theorem f276_157 : ft 276 157 = some (11, 1, 0, .aload 4, 2) := Fm276 (dk_25 4 (dk_at s276_6 18 rfl rfl)) rfl
theorem f276_159 : ft 276 159 = some (11, 1, 0, .getfield 325, 3) := Fm276 (dk_180 1 69 (dk_at s276_6 20 rfl rfl)) rfl
theorem f276_162 : ft 276 162 = some (11, 1, 0, .iload 8, 2) := Fm276 (dk_21 8 (dk_at s276_7 0 rfl rfl)) rfl
theorem f276_164 : ft 276 164 = some (11, 1, 0, .aaload, 1) := Fm276 (dk_50 (dk_at s276_7 2 rfl rfl)) rfl
theorem f276_165 : ft 276 165 = some (11, 1, 0, .aload 4, 2) := Fm276 (dk_25 4 (dk_at s276_7 3 rfl rfl)) rfl
theorem f276_167 : ft 276 167 = some (11, 1, 0, .getfield 324, 3) := Fm276 (dk_180 1 68 (dk_at s276_7 5 rfl rfl)) rfl
theorem f276_170 : ft 276 170 = some (11, 1, 0, .iload 8, 2) := Fm276 (dk_21 8 (dk_at s276_7 8 rfl rfl)) rfl
theorem f276_172 : ft 276 172 = some (11, 1, 0, .iaload, 1) := Fm276 (dk_46 (dk_at s276_7 10 rfl rfl)) rfl
theorem f276_173 : ft 276 173 = some (11, 1, 0, .aload_n 0, 1) := Fm276 (dk_42 (dk_at s276_7 11 rfl rfl)) rfl
theorem f276_174 : ft 276 174 = some (11, 1, 0, .getfield 102, 3) := Fm276 (dk_180 0 102 (dk_at s276_7 12 rfl rfl)) rfl
theorem f276_177 : ft 276 177 = some (11, 1, 0, .invokevirtual 298, 3) := Fm276 (dk_182 1 42 (dk_at s276_7 15 rfl rfl)) rfl
theorem f276_180 : ft 276 180 = some (11, 1, 0, .putfield 505, 3) := Fm276 (dk_181 1 249 (dk_at s276_7 18 rfl rfl)) rfl
theorem f276_183 : ft 276 183 = some (11, 1, 0, .aload_n 0, 1) := Fm276 (dk_42 (dk_at s276_7 21 rfl rfl)) rfl
theorem f276_184 : ft 276 184 = some (11, 1, 0, .iconst 0, 1) := Fm276 (dk_3 (dk_at s276_7 22 rfl rfl)) rfl
theorem f276_185 : ft 276 185 = some (11, 1, 0, .putfield 502, 3) := Fm276 (dk_181 1 246 (dk_at s276_8 0 rfl rfl)) rfl
theorem f276_188 : ft 276 188 = some (11, 1, 0, .aload_n 0, 1) := Fm276 (dk_42 (dk_at s276_8 3 rfl rfl)) rfl
theorem f276_189 : ft 276 189 = some (11, 1, 0, .iconst 0, 1) := Fm276 (dk_3 (dk_at s276_8 4 rfl rfl)) rfl
theorem f276_190 : ft 276 190 = some (11, 1, 0, .putfield 493, 3) := Fm276 (dk_181 1 237 (dk_at s276_8 5 rfl rfl)) rfl
theorem f276_193 : ft 276 193 = some (11, 1, 0, .aload_n 0, 1) := Fm276 (dk_42 (dk_at s276_8 8 rfl rfl)) rfl
theorem f276_194 : ft 276 194 = some (11, 1, 0, .iconst 0, 1) := Fm276 (dk_3 (dk_at s276_8 9 rfl rfl)) rfl
theorem f276_195 : ft 276 195 = some (11, 1, 0, .putfield 496, 3) := Fm276 (dk_181 1 240 (dk_at s276_8 10 rfl rfl)) rfl
theorem f276_198 : ft 276 198 = some (11, 1, 0, .aload_n 0, 1) := Fm276 (dk_42 (dk_at s276_8 13 rfl rfl)) rfl
theorem f276_199 : ft 276 199 = some (11, 1, 0, .iload 6, 2) := Fm276 (dk_21 6 (dk_at s276_8 14 rfl rfl)) rfl
theorem f276_201 : ft 276 201 = some (11, 1, 0, .aload_n 0, 1) := Fm276 (dk_42 (dk_at s276_8 16 rfl rfl)) rfl
theorem f276_202 : ft 276 202 = some (11, 1, 0, .getfield 505, 3) := Fm276 (dk_180 1 249 (dk_at s276_8 17 rfl rfl)) rfl
theorem f276_205 : ft 276 205 = some (11, 1, 0, .invokevirtual 522, 3) := Fm276 (dk_182 2 10 (dk_at s276_8 20 rfl rfl)) rfl
theorem f276_208 : ft 276 208 = some (11, 1, 0, .istore 9, 2) := Fm276 (dk_54 9 (dk_at s276_9 0 rfl rfl)) rfl
theorem f276_210 : ft 276 210 = some (11, 1, 0, .aload_n 0, 1) := Fm276 (dk_42 (dk_at s276_9 2 rfl rfl)) rfl
theorem f276_211 : ft 276 211 = some (11, 1, 0, .getfield 502, 3) := Fm276 (dk_180 1 246 (dk_at s276_9 3 rfl rfl)) rfl
theorem f276_214 : ft 276 214 = some (11, 1, 0, .iload 9, 2) := Fm276 (dk_21 9 (dk_at s276_9 6 rfl rfl)) rfl
theorem f276_216 : ft 276 216 = some (11, 1, 0, .if_icmp .eq 51, 3) := Fm276 (dk_159 0 51 (dk_at s276_9 8 rfl rfl)) rfl
theorem f276_219 : ft 276 219 = some (11, 1, 0, .aload_n 0, 1) := Fm276 (dk_42 (dk_at s276_9 11 rfl rfl)) rfl
theorem f276_220 : ft 276 220 = some (11, 1, 0, .getfield 106, 3) := Fm276 (dk_180 0 106 (dk_at s276_9 12 rfl rfl)) rfl
theorem f276_223 : ft 276 223 = some (11, 1, 0, .iload 5, 2) := Fm276 (dk_21 5 (dk_at s276_9 15 rfl rfl)) rfl
theorem f276_225 : ft 276 225 = some (11, 1, 0, .aload_n 0, 1) := Fm276 (dk_42 (dk_at s276_9 17 rfl rfl)) rfl
theorem f276_226 : ft 276 226 = some (11, 1, 0, .getfield 102, 3) := Fm276 (dk_180 0 102 (dk_at s276_9 18 rfl rfl)) rfl
theorem f276_229 : ft 276 229 = some (11, 1, 0, .aload_n 0, 1) := Fm276 (dk_42 (dk_at s276_9 21 rfl rfl)) rfl
theorem f276_230 : ft 276 230 = some (11, 1, 0, .getfield 130, 3) := Fm276 (dk_180 0 130 (dk_at s276_10 0 rfl rfl)) rfl
theorem f276_233 : ft 276 233 = some (11, 1, 0, .iload 9, 2) := Fm276 (dk_21 9 (dk_at s276_10 3 rfl rfl)) rfl
theorem f276_235 : ft 276 235 = some (11, 1, 0, .iaload, 1) := Fm276 (dk_46 (dk_at s276_10 5 rfl rfl)) rfl
theorem f276_236 : ft 276 236 = some (11, 1, 0, .invokestatic 20, 3) := Fm276 (dk_184 0 20 (dk_at s276_10 6 rfl rfl)) rfl
theorem f276_239 : ft 276 239 = some (11, 1, 0, .ifCond .ne 6, 3) := Fm276 (dk_154 0 6 (dk_at s276_10 9 rfl rfl)) rfl
theorem f276_242 : ft 276 242 = some (11, 1, 0, .goto 25, 3) := Fm276 (dk_167 0 25 (dk_at s276_10 12 rfl rfl)) rfl
theorem f276_245 : ft 276 245 = some (11, 1, 0, .aload_n 0, 1) := Fm276 (dk_42 (dk_at s276_10 15 rfl rfl)) rfl
theorem f276_246 : ft 276 246 = some (11, 1, 0, .aload 4, 2) := Fm276 (dk_25 4 (dk_at s276_10 16 rfl rfl)) rfl
theorem f276_248 : ft 276 248 = some (11, 1, 0, .getfield 544, 3) := Fm276 (dk_180 2 32 (dk_at s276_10 18 rfl rfl)) rfl
theorem f276_251 : ft 276 251 = some (11, 1, 0, .iload 8, 2) := Fm276 (dk_21 8 (dk_at s276_10 21 rfl rfl)) rfl
theorem f276_253 : ft 276 253 = some (11, 1, 0, .iaload, 1) := Fm276 (dk_46 (dk_at s276_10 23 rfl rfl)) rfl
theorem f276_254 : ft 276 254 = some (11, 1, 0, .i2l, 1) := Fm276 (dk_133 (dk_at s276_11 0 rfl rfl)) rfl
theorem f276_255 : ft 276 255 = some (11, 1, 0, .invokevirtual 273, 3) := Fm276 (dk_182 1 17 (dk_at s276_11 1 rfl rfl)) rfl
theorem f276_258 : ft 276 258 = some (11, 1, 0, .aload_n 0, 1) := Fm276 (dk_42 (dk_at s276_11 4 rfl rfl)) rfl
theorem f276_259 : ft 276 259 = some (11, 1, 0, .bipush 10, 2) := Fm276 (dk_16 10 (dk_at s276_11 5 rfl rfl)) rfl
theorem f276_261 : ft 276 261 = some (11, 1, 0, .invokevirtual 259, 3) := Fm276 (dk_182 1 3 (dk_at s276_11 7 rfl rfl)) rfl
theorem f276_264 : ft 276 264 = some (11, 1, 0, .iinc 7 1, 3) := Fm276 (dk_132 7 1 (dk_at s276_11 10 rfl rfl)) rfl
theorem f276_267 : ft 276 267 = some (11, 1, 0, .iinc 8 1, 3) := Fm276 (dk_132 8 1 (dk_at s276_11 13 rfl rfl)) rfl
theorem f276_270 : ft 276 270 = some (11, 1, 0, .goto (-125), 3) := Fm276 (dk_167 255 131 (dk_at s276_11 16 rfl rfl)) rfl
theorem f276_273 : ft 276 273 = some (11, 1, 0, .aload_n 0, 1) := Fm276 (dk_42 (dk_at s276_11 19 rfl rfl)) rfl
theorem f276_274 : ft 276 274 = some (11, 1, 0, .invokevirtual 547, 3) := Fm276 (dk_182 2 35 (dk_at s276_11 20 rfl rfl)) rfl
theorem f276_277 : ft 276 277 = some (11, 1, 0, .aload_n 0, 1) := Fm276 (dk_42 (dk_at s276_11 23 rfl rfl)) rfl
theorem f276_278 : ft 276 278 = some (11, 1, 0, .iconst 0, 1) := Fm276 (dk_3 (dk_at s276_12 0 rfl rfl)) rfl
theorem f276_279 : ft 276 279 = some (11, 1, 0, .putfield 136, 3) := Fm276 (dk_181 0 136 (dk_at s276_12 1 rfl rfl)) rfl
theorem f276_282 : ft 276 282 = some (11, 1, 0, .iload 7, 2) := Fm276 (dk_21 7 (dk_at s276_12 4 rfl rfl)) rfl
theorem f276_284 : ft 276 284 = some (11, 1, 0, .ireturn, 1) := Fm276 (dk_172 (dk_at s276_12 6 rfl rfl)) rfl
theorem q276 {d : Nat} {m : Mem} {a0 a1 a2 : Int} (hz : TZ m) : le2 (if a1 < 0 then (rn d 276 26 [pR a0, pI a1, pI a2, pU, pU, pU, pU, pU, pU, pU] [pI 0, pR a0] m) else if 3 < a1 then (rn d 276 26 [pR a0, pI a1, pI a2, pU, pU, pU, pU, pU, pU, pU] [pI 0, pR a0] m) else if a2 < (-1) then (rn d 276 26 [pR a0, pI a1, pI a2, pU, pU, pU, pU, pU, pU, pU] [pI 0, pR a0] m) else if 7 < a2 then (rn d 276 26 [pR a0, pI a1, pI a2, pU, pU, pU, pU, pU, pU, pU] [pI 0, pR a0] m) else rn d 276 26 [pR a0, pI a1, pI a2, pU, pU, pU, pU, pU, pU, pU] [pI 1, pR a0] m) (cl d 276 [pR a0, pI a1, pI a2] m) := by
  refine q_in (n := 10) (L := [pR a0, pI a1, pI a2, pU, pU, pU, pU, pU, pU, pU]) rfl rfl rfl ?_
  refine r_aln0 (p := 1) f276_0 rfl ?_
  refine r_iln1 (p := 2) f276_1 rfl ?_
  refine r_iflt (t := 25) (p := 5) f276_2 (by decide) rfl rfl ?_ ?_
  · refine r_iconst (p := 26) f276_25 rfl (pinD rfl rfl) ?_
    exact le2_refl _
  · refine r_iln1 (p := 6) f276_5 rfl ?_
    refine r_iconst (p := 7) f276_6 rfl (pinD rfl rfl) ?_
    refine r_icgt (t := 25) (p := 10) f276_7 (by decide) rfl rfl ?_ ?_
    · refine r_iconst (p := 26) f276_25 rfl (pinD rfl rfl) ?_
      exact le2_refl _
    · refine r_iln2 (p := 11) f276_10 rfl ?_
      refine r_iconst (p := 12) f276_11 rfl (pinD rfl rfl) ?_
      refine r_iclt (t := 25) (p := 15) f276_12 (by decide) rfl rfl ?_ ?_
      · refine r_iconst (p := 26) f276_25 rfl (pinD rfl rfl) ?_
        exact le2_refl _
      · refine r_iln2 (p := 16) f276_15 rfl ?_
        refine r_bipush (p := 18) f276_16 rfl (pinD rfl rfl) ?_
        refine r_icgt (t := 25) (p := 21) f276_18 (by decide) rfl rfl ?_ ?_
        · refine r_iconst (p := 26) f276_25 rfl (pinD rfl rfl) ?_
          exact le2_refl _
        · refine r_iconst (p := 22) f276_21 rfl (pinD rfl rfl) ?_
          refine r_goto (p := 26) f276_22 (by decide) rfl ?_
          exact le2_refl _
theorem q276_26 {d : Nat} {m : Mem} {a0 a1 a2 s1 s0 : Int} (hd : 0 < d) (hz : TZ m) : le2 (gd (tg m s0 = 11) <| bI (cl (d - 1) 188 [pR s0, pI s1, pI 1] m) fun v1 m1 => if v1 = 0 then (some (.inl (some (pI 0)), m1)) else gd (tg m1 a0 = 11) <| bI (cl (d - 1) 195 [pR a0] m1) fun v2 m2 => bR (cl (d - 1) 219 [pR a0, pI a2] m2) fun v3 m3 => if v3 = 0 then (some (.inl (some (pI 0)), m3)) else nm (vl m3 a0 10) fun v4 => gd (tg m3 v4 = 186118) <| gd ((0 : Int) ≤ a1 ∧ a1 < ln m3 v4) <| if (vl m3 v4 a1) = 0 then (rn d 276 67 [pR a0, pI a1, pI a2, pI v2, pR v3, pU, pU, pU, pU, pU] [pI 0, pR a0] m3) else rn d 276 67 [pR a0, pI a1, pI a2, pI v2, pR v3, pU, pU, pU, pU, pU] [pI 1, pR a0] m3) (rn d 276 26 [pR a0, pI a1, pI a2, pU, pU, pU, pU, pU, pU, pU] [pI s1, pR s0] m) := by
  refine r_iconst (p := 27) f276_26 rfl (pinD rfl rfl) ?_
  refine le2_gd (fun h1 => ?_)
  refine r_invI (p := 30) f276_27 rfl rfl rfl (Or.inl h1) hd (Nat.le_of_ble_eq_true rfl) rfl rfl rfl (fun _ => rfl) (fun v1 m1 c1 => ?_)
  have hz1 := z_k c1 hz
  refine r_ifne (t := 35) (p := 33) f276_30 (by decide) rfl rfl ?_ ?_
  · refine r_iconst (p := 34) f276_33 rfl (pinD rfl rfl) ?_
    exact r_iret1 f276_34
  · refine r_aln0 (p := 36) f276_35 rfl ?_
    refine le2_gd (fun h2 => ?_)
    refine r_invI (p := 39) f276_36 rfl rfl rfl (Or.inl h2) hd (Nat.le_of_ble_eq_true rfl) rfl rfl rfl (fun _ => rfl) (fun v2 m2 c2 => ?_)
    have hz2 := z_k c2 hz1
    refine r_isn3 (p := 40) f276_39 rfl rfl ?_
    refine r_aln0 (p := 41) f276_40 rfl ?_
    refine r_iln2 (p := 42) f276_41 rfl ?_
    have h3 := k_t1 c2 hz1 h2 (by decide)
    refine r_invR (p := 45) f276_42 rfl rfl rfl (Or.inl h3) hd (Nat.le_of_ble_eq_true rfl) rfl rfl rfl (fun _ => rfl) (fun v3 m3 c3 => ?_)
    have hz3 := z_k c3 hz2
    refine r_asw4 (p := 47) f276_45 rfl rfl ?_
    refine r_alw4 (p := 49) f276_47 rfl ?_
    refine r_ifnull (t := 74) (p := 52) f276_49 (by decide) rfl rfl ?_ ?_
    · refine r_iconst (p := 75) f276_74 rfl (pinD rfl rfl) ?_
      exact r_iret1 f276_75
    · refine r_aln0 (p := 53) f276_52 rfl ?_
      refine r_aln0 (p := 54) f276_53 rfl ?_
      have h4 := k_t1 c3 hz2 h3 (by decide)
      refine r_gfR (f := 10) (p := 57) f276_54 rfl rfl rfl (Or.inl h4) rfl ?_
      refine r_nmR (fun v4 ev4 => ?_)
      refine r_iln1 (p := 58) f276_57 rfl ?_
      refine le2_gd (fun h5 => ?_)
      refine le2_gd (fun h6 => ?_)
      refine r_aaload (p := 59) f276_58 rfl (dj1 (fun x => 110 < x % 1000 ∧ x % 1000 < 119) h5 (by decide)) h6 rfl ?_
      refine r_ifnull (t := 66) (p := 62) f276_59 (by decide) rfl rfl ?_ ?_
      · refine r_iconst (p := 67) f276_66 rfl (pinD rfl rfl) ?_
        exact le2_refl _
      · refine r_iconst (p := 63) f276_62 rfl (pinD rfl rfl) ?_
        refine r_goto (p := 67) f276_63 (by decide) rfl ?_
        exact le2_refl _
theorem q276_67 {d : Nat} {m : Mem} {a0 a1 a2 a3 a4 s1 s0 : Int} (hd : 0 < d) (hz : TZ m) : le2 (gd (tg m s0 = 11) <| bI (cl (d - 1) 188 [pR s0, pI s1, pI 2] m) fun v1 m1 => if v1 = 0 then (some (.inl (some (pI 0)), m1)) else gd (tg m1 a0 = 11) <| bI (cl (d - 1) 196 [pR a0, pR (vl m1 a0 0), pI a3, pR (vl m1 a0 19)] (mst m1 a0 5 (-1))) fun v2 m2 => if v2 < 0 then (some (.inl (some (pI 0)), (mst (mst m2 a0 5 (vl m2 a0 14)) a0 4 3))) else nm (vl m2 a0 10) fun v5 => gd (tg m2 v5 = 186118) <| gd ((0 : Int) ≤ a1 ∧ a1 < ln m2 v5) <| nm (vl m2 v5 a1) fun v6 => gd (tg m2 v6 = 276103) <| bI (cl (d - 1) 243 [pR a0, pR v6, pI (ln m2 v6)] m2) fun v3 m3 => bV (cl (d - 1) 209 [pR a0] m3) fun m4 => rn d 276 145 [pR a0, pI a1, pI a2, pI a3, pR a4, pI v2, pI v3, pI 0, pI 0, pU] [] m4) (rn d 276 67 [pR a0, pI a1, pI a2, pI a3, pR a4, pU, pU, pU, pU, pU] [pI s1, pR s0] m) := by
  refine r_iconst (p := 68) f276_67 rfl (pinD rfl rfl) ?_
  refine le2_gd (fun h1 => ?_)
  refine r_invI (p := 71) f276_68 rfl rfl rfl (Or.inl h1) hd (Nat.le_of_ble_eq_true rfl) rfl rfl rfl (fun _ => rfl) (fun v1 m1 c1 => ?_)
  have hz1 := z_k c1 hz
  refine r_ifne (t := 76) (p := 74) f276_71 (by decide) rfl rfl ?_ ?_
  · refine r_iconst (p := 75) f276_74 rfl (pinD rfl rfl) ?_
    exact r_iret1 f276_75
  · refine r_aln0 (p := 77) f276_76 rfl ?_
    refine r_iconst (p := 78) f276_77 rfl (pinD rfl rfl) ?_
    refine le2_gd (fun h2 => ?_)
    refine r_pfI (f := 5) (p := 81) f276_78 rfl rfl rfl (by decide) (by decide) (Or.inl h2) rfl ?_
    refine r_aln0 (p := 82) f276_81 rfl ?_
    refine r_aln0 (p := 83) f276_82 rfl ?_
    refine r_gfR (f := 0) (p := 86) f276_83 rfl rfl rfl (Or.inl h2) (sk_f (by decide)) ?_
    refine r_iln3 (p := 87) f276_86 rfl ?_
    refine r_aln0 (p := 88) f276_87 rfl ?_
    refine r_gfR (f := 19) (p := 91) f276_88 rfl rfl rfl (Or.inl h2) (sk_f (by decide)) ?_
    refine r_invI (p := 94) f276_91 rfl rfl rfl (Or.inl h2) hd (Nat.le_of_ble_eq_true rfl) rfl rfl rfl (fun _ => rfl) (fun v2 m2 c2 => ?_)
    have hz2 := z_k c2 hz1
    refine r_isw5 (p := 96) f276_94 rfl rfl ?_
    refine r_ilw5 (p := 98) f276_96 rfl ?_
    refine r_ifge (t := 116) (p := 101) f276_98 (by decide) rfl rfl ?_ ?_
    · refine r_aln0 (p := 102) f276_101 rfl ?_
      refine r_aln0 (p := 103) f276_102 rfl ?_
      have h8 := k_t1 c2 hz1 h2 (by decide)
      refine r_gfI (f := 14) (p := 106) f276_103 rfl rfl rfl (Or.inl h8) rfl ?_
      refine r_pfI (f := 5) (p := 109) f276_106 rfl rfl rfl (by decide) (by decide) (Or.inl h8) rfl ?_
      refine r_aln0 (p := 110) f276_109 rfl ?_
      refine r_iconst (p := 111) f276_110 rfl (pinD rfl rfl) ?_
      refine r_pfI (f := 4) (p := 114) f276_111 rfl rfl rfl (by decide) (by decide) (Or.inl h8) rfl ?_
      refine r_iconst (p := 115) f276_114 rfl (pinD rfl rfl) ?_
      exact r_iret1 f276_115
    · refine r_aln0 (p := 117) f276_116 rfl ?_
      refine r_aln0 (p := 118) f276_117 rfl ?_
      have h3 := k_t1 c2 hz1 h2 (by decide)
      refine r_gfR (f := 10) (p := 121) f276_118 rfl rfl rfl (Or.inl h3) rfl ?_
      refine r_nmR (fun v5 ev5 => ?_)
      refine r_iln1 (p := 122) f276_121 rfl ?_
      refine le2_gd (fun h4 => ?_)
      refine le2_gd (fun h5 => ?_)
      refine r_aaload (p := 123) f276_122 rfl (dj1 (fun x => 110 < x % 1000 ∧ x % 1000 < 119) h4 (by decide)) h5 rfl ?_
      refine r_nmR (fun v6 ev6 => ?_)
      refine r_aln0 (p := 124) f276_123 rfl ?_
      refine r_gfR (f := 10) (p := 127) f276_124 rfl rfl rfl (Or.inl h3) ev5.symm ?_
      refine r_iln1 (p := 128) f276_127 rfl ?_
      refine r_aaload (p := 129) f276_128 rfl (dj1 (fun x => 110 < x % 1000 ∧ x % 1000 < 119) h4 (by decide)) h5 ev6.symm ?_
      refine le2_gd (fun h6 => ?_)
      refine r_alen (p := 130) f276_129 rfl (dj1 (fun x => 100 < x % 1000 ∧ x % 1000 < 119) h6 (by decide)) ?_
      refine r_invI (p := 133) f276_130 rfl rfl rfl (Or.inl h3) hd (Nat.le_of_ble_eq_true rfl) rfl rfl rfl (fun _ => rfl) (fun v3 m3 c3 => ?_)
      have hz3 := z_k c3 hz2
      refine r_isw6 (p := 135) f276_133 rfl rfl ?_
      refine r_aln0 (p := 136) f276_135 rfl ?_
      have h7 := k_t1 c3 hz2 h3 (by decide)
      refine r_invV (p := 139) f276_136 rfl rfl rfl (Or.inl h7) hd (Nat.le_of_ble_eq_true rfl) rfl rfl rfl (fun _ => rfl) (fun m4 c4 => ?_)
      have hz4 := z_k c4 hz3
      refine r_iconst (p := 140) f276_139 rfl (pinD rfl rfl) ?_
      refine r_isw7 (p := 142) f276_140 rfl rfl ?_
      refine r_iconst (p := 143) f276_142 rfl (pinD rfl rfl) ?_
      refine r_isw8 (p := 145) f276_143 rfl rfl ?_
      exact le2_refl _
theorem q276_145 {d : Nat} {m : Mem} {a0 a1 a2 a3 a4 a5 a6 a7 a8 : Int} {z9 : PV} (hd : 0 < d) (hz : TZ m) (hcz9 : cat z9 = 1) : le2 (gd (tg m a4 = 12) <| if a8 < (vl m a4 3) then (nm (vl m a4 2) fun v7 => gd (tg m v7 = 278118) <| gd ((0 : Int) ≤ a8 ∧ a8 < ln m v7) <| nm (vl m a4 1) fun v8 => gd (tg m v8 = 278101) <| gd ((0 : Int) ≤ a8 ∧ a8 < ln m v8) <| gd (tg m a0 = 11) <| bI (cl (d - 1) 196 [pR a0, pR (vl m v7 a8), pI (vl m v8 a8), pR (vl m a0 18)] m) fun v2 m2 => bI (cl (d - 1) 262 [pR a0, pI a6, pI v2] (mst (mst (mst (mst m2 a0 36 v2) a0 33 0) a0 34 0) a0 35 0)) fun v3 m3 => if (vl m3 a0 33) = v3 then (rn d 276 145 [pR a0, pI a1, pI a2, pI a3, pR a4, pI a5, pI a6, pI a7, pI (w32 (a8 + 1)), pI v3] [] m3) else nm (vl m3 a0 32) fun v9 => gd (tg m3 v9 = 186101) <| gd ((0 : Int) ≤ v3 ∧ v3 < ln m3 v9) <| bI (cl (d - 1) 235 [pR (vl m3 a0 19), pI a5, pR (vl m3 a0 18), pI (vl m3 v9 v3)] m3) fun v4 m4 => if v4 = 0 then (rn d 276 145 [pR a0, pI a1, pI a2, pI a3, pR a4, pI a5, pI a6, pI a7, pI (w32 (a8 + 1)), pI v3] [] m4) else nm (vl m4 a4 0) fun v10 => gd (tg m4 v10 = 278101) <| gd ((0 : Int) ≤ a8 ∧ a8 < ln m4 v10) <| bV (cl (d - 1) 213 [pR a0, pL (vl m4 v10 a8)] m4) fun m5 => bV (cl (d - 1) 212 [pR a0, pI 10] m5) fun m6 => rn d 276 145 [pR a0, pI a1, pI a2, pI a3, pR a4, pI a5, pI a6, pI (w32 (a7 + 1)), pI (w32 (a8 + 1)), pI v3] [] m6) else gd (tg m a0 = 11) <| bV (cl (d - 1) 274 [pR a0] m) fun m1 => some (.inl (some (pI a7)), (mst m1 a0 4 0))) (rn d 276 145 [pR a0, pI a1, pI a2, pI a3, pR a4, pI a5, pI a6, pI a7, pI a8, z9] [] m) := by
  refine r_ilw8 (p := 147) f276_145 rfl ?_
  refine r_alw4 (p := 149) f276_147 rfl ?_
  refine le2_gd (fun h1 => ?_)
  refine r_gfI (f := 3) (p := 152) f276_149 rfl rfl rfl (Or.inl h1) rfl ?_
  refine r_icge (t := 273) (p := 155) f276_152 (by decide) rfl rfl ?_ ?_
  · refine r_aln0 (p := 156) f276_155 rfl ?_
    refine r_aln0 (p := 157) f276_156 rfl ?_
    refine r_alw4 (p := 159) f276_157 rfl ?_
    refine r_gfR (f := 2) (p := 162) f276_159 rfl rfl rfl (Or.inl h1) rfl ?_
    refine r_nmR (fun v7 ev7 => ?_)
    refine r_ilw8 (p := 164) f276_162 rfl ?_
    refine le2_gd (fun h4 => ?_)
    refine le2_gd (fun h5 => ?_)
    refine r_aaload (p := 165) f276_164 rfl (dj1 (fun x => 110 < x % 1000 ∧ x % 1000 < 119) h4 (by decide)) h5 rfl ?_
    refine r_alw4 (p := 167) f276_165 rfl ?_
    refine r_gfR (f := 1) (p := 170) f276_167 rfl rfl rfl (Or.inl h1) rfl ?_
    refine r_nmR (fun v8 ev8 => ?_)
    refine r_ilw8 (p := 172) f276_170 rfl ?_
    refine le2_gd (fun h6 => ?_)
    refine le2_gd (fun h7 => ?_)
    refine r_iaload (p := 173) f276_172 rfl (dj1 (fun x => x % 1000 = 101) h6 (by decide)) h7 rfl ?_
    refine r_aln0 (p := 174) f276_173 rfl ?_
    refine le2_gd (fun h8 => ?_)
    refine r_gfR (f := 18) (p := 177) f276_174 rfl rfl rfl (Or.inl h8) rfl ?_
    refine r_invI (p := 180) f276_177 rfl rfl rfl (Or.inl h8) hd (Nat.le_of_ble_eq_true rfl) rfl rfl rfl (fun _ => rfl) (fun v2 m2 c2 => ?_)
    have hz2 := z_k c2 hz
    have h9 := k_t1 c2 hz h8 (by decide)
    refine r_pfI (f := 36) (p := 183) f276_180 rfl rfl rfl (by decide) (by decide) (Or.inl h9) rfl ?_
    refine r_aln0 (p := 184) f276_183 rfl ?_
    refine r_iconst (p := 185) f276_184 rfl (pinD rfl rfl) ?_
    refine r_pfI (f := 33) (p := 188) f276_185 rfl rfl rfl (by decide) (by decide) (Or.inl h9) rfl ?_
    refine r_aln0 (p := 189) f276_188 rfl ?_
    refine r_iconst (p := 190) f276_189 rfl (pinD rfl rfl) ?_
    refine r_pfI (f := 34) (p := 193) f276_190 rfl rfl rfl (by decide) (by decide) (Or.inl h9) rfl ?_
    refine r_aln0 (p := 194) f276_193 rfl ?_
    refine r_iconst (p := 195) f276_194 rfl (pinD rfl rfl) ?_
    refine r_pfZ (f := 35) (p := 198) f276_195 rfl rfl rfl (by decide) (by decide) (Or.inl h9) rfl (by decide) ?_
    refine r_aln0 (p := 199) f276_198 rfl ?_
    refine r_ilw6 (p := 201) f276_199 rfl ?_
    refine r_aln0 (p := 202) f276_201 rfl ?_
    refine r_gfI (f := 36) (p := 205) f276_202 rfl rfl rfl (Or.inl h9) (Eq.trans (sk_f (by decide)) (Eq.trans (sk_f (by decide)) (Eq.trans (sk_f (by decide)) sk_s))) ?_
    refine r_invI (p := 208) f276_205 rfl rfl rfl (Or.inl h9) hd (Nat.le_of_ble_eq_true rfl) rfl rfl rfl (fun _ => rfl) (fun v3 m3 c3 => ?_)
    have hz3 := z_k c3 hz2
    refine r_isw9 (p := 210) f276_208 rfl rfl ?_
    refine r_aln0 (p := 211) f276_210 rfl ?_
    have h10 := k_t1 c3 hz2 h9 (by decide)
    refine r_gfI (f := 33) (p := 214) f276_211 rfl rfl rfl (Or.inl h10) rfl ?_
    refine r_ilw9 (p := 216) f276_214 rfl ?_
    refine r_iceq (t := 267) (p := 219) f276_216 (by decide) rfl rfl ?_ ?_
    · refine r_iinc8 (p := 270) f276_267 rfl rfl ?_
      refine r_goto (p := 145) f276_270 (by decide) rfl ?_
      exact le2_refl _
    · refine r_aln0 (p := 220) f276_219 rfl ?_
      refine r_gfR (f := 19) (p := 223) f276_220 rfl rfl rfl (Or.inl h10) rfl ?_
      refine r_ilw5 (p := 225) f276_223 rfl ?_
      refine r_aln0 (p := 226) f276_225 rfl ?_
      refine r_gfR (f := 18) (p := 229) f276_226 rfl rfl rfl (Or.inl h10) rfl ?_
      refine r_aln0 (p := 230) f276_229 rfl ?_
      refine r_gfR (f := 32) (p := 233) f276_230 rfl rfl rfl (Or.inl h10) rfl ?_
      refine r_nmR (fun v9 ev9 => ?_)
      refine r_ilw9 (p := 235) f276_233 rfl ?_
      refine le2_gd (fun h11 => ?_)
      refine le2_gd (fun h12 => ?_)
      refine r_iaload (p := 236) f276_235 rfl (dj1 (fun x => x % 1000 = 101) h11 (by decide)) h12 rfl ?_
      refine r_istI (p := 239) f276_236 rfl rfl rfl hd (Nat.le_of_ble_eq_true rfl) rfl rfl rfl (fun _ => rfl) (fun v4 m4 c4 => ?_)
      have hz4 := z_k c4 hz3
      refine r_ifne (t := 245) (p := 242) f276_239 (by decide) rfl rfl ?_ ?_
      · refine r_goto (p := 267) f276_242 (by decide) rfl ?_
        refine r_iinc8 (p := 270) f276_267 rfl rfl ?_
        refine r_goto (p := 145) f276_270 (by decide) rfl ?_
        exact le2_refl _
      · refine r_aln0 (p := 246) f276_245 rfl ?_
        refine r_alw4 (p := 248) f276_246 rfl ?_
        have h13 := k_t1 c2 hz h1 (by decide)
        have h14 := k_t1 c3 hz2 h13 (by decide)
        have h15 := k_t1 c4 hz3 h14 (by decide)
        refine r_gfR (f := 0) (p := 251) f276_248 rfl rfl rfl (Or.inl h15) rfl ?_
        refine r_nmR (fun v10 ev10 => ?_)
        refine r_ilw8 (p := 253) f276_251 rfl ?_
        refine le2_gd (fun h16 => ?_)
        refine le2_gd (fun h17 => ?_)
        refine r_iaload (p := 254) f276_253 rfl (dj1 (fun x => x % 1000 = 101) h16 (by decide)) h17 rfl ?_
        refine r_i2l (p := 255) f276_254 rfl ?_
        have h18 := k_t1 c4 hz3 h10 (by decide)
        refine r_invV (p := 258) f276_255 rfl rfl rfl (Or.inl h18) hd (Nat.le_of_ble_eq_true rfl) rfl rfl rfl (fun _ => rfl) (fun m5 c5 => ?_)
        have hz5 := z_k c5 hz4
        refine r_aln0 (p := 259) f276_258 rfl ?_
        refine r_bipush (p := 261) f276_259 rfl (pinD rfl rfl) ?_
        have h19 := k_t1 c5 hz4 h18 (by decide)
        refine r_invV (p := 264) f276_261 rfl rfl rfl (Or.inl h19) hd (Nat.le_of_ble_eq_true rfl) rfl rfl rfl (fun _ => rfl) (fun m6 c6 => ?_)
        have hz6 := z_k c6 hz5
        refine r_iinc7 (p := 267) f276_264 rfl rfl ?_
        refine r_iinc8 (p := 270) f276_267 rfl rfl ?_
        refine r_goto (p := 145) f276_270 (by decide) rfl ?_
        exact le2_refl _
  · refine r_aln0 (p := 274) f276_273 rfl ?_
    refine le2_gd (fun h2 => ?_)
    refine r_invV (p := 277) f276_274 rfl rfl rfl (Or.inl h2) hd (Nat.le_of_ble_eq_true rfl) rfl rfl rfl (fun _ => rfl) (fun m1 c1 => ?_)
    have hz1 := z_k c1 hz
    refine r_aln0 (p := 278) f276_277 rfl ?_
    refine r_iconst (p := 279) f276_278 rfl (pinD rfl rfl) ?_
    have h3 := k_t1 c1 hz h2 (by decide)
    refine r_pfI (f := 4) (p := 282) f276_279 rfl rfl rfl (by decide) (by decide) (Or.inl h3) rfl ?_
    refine r_ilw7 (p := 284) f276_282 rfl ?_
    exact r_iret1 f276_284
