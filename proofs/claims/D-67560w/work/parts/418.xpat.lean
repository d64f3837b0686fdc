/-! what methods do, written by wip/D-67560w/tools/gen_parts.py -/
set_option maxRecDepth 100000
set_option maxHeartbeats 4000000
/-! 111 PathStore$Patcher.<init> ()V -/
def w111_6 : List UInt8 := [42, 18, 62, 182, 0, 51, 181, 0, 64, 42, 42, 18, 66, 182, 0, 51, 181, 0, 68, 177]
abbrev u111_6 : List UInt8 := w111_6 ++ []
def w111_5 : List UInt8 := [181, 0, 45, 42, 42, 18, 49, 182, 0, 51, 181, 0, 55, 42, 42, 18, 58, 182, 0, 51, 181, 0, 60, 42]
abbrev u111_5 : List UInt8 := w111_5 ++ u111_6
def w111_4 : List UInt8 := [181, 0, 35, 42, 16, 33, 188, 10, 181, 0, 39, 42, 187, 0, 42, 89, 17, 1, 224, 183, 0, 44]
abbrev u111_4 : List UInt8 := w111_4 ++ u111_5
def w111_3 : List UInt8 := [181, 0, 29, 42, 187, 0, 9, 89, 17, 4, 0, 183, 0, 11, 181, 0, 32, 42, 17, 64, 0, 188, 10]
abbrev u111_3 : List UInt8 := w111_3 ++ u111_4
def w111_2 : List UInt8 := [187, 0, 9, 89, 17, 4, 0, 183, 0, 11, 181, 0, 26, 42, 187, 0, 9, 89, 17, 4, 0, 183, 0, 11]
abbrev u111_2 : List UInt8 := w111_2 ++ u111_3
def w111_1 : List UInt8 := [17, 4, 0, 183, 0, 11, 181, 0, 20, 42, 187, 0, 9, 89, 17, 4, 0, 183, 0, 11, 181, 0, 23, 42]
abbrev u111_1 : List UInt8 := w111_1 ++ u111_2
def w111_0 : List UInt8 := [42, 183, 0, 3, 42, 187, 0, 9, 89, 16, 64, 183, 0, 11, 181, 0, 14, 42, 187, 0, 9, 89]
abbrev u111_0 : List UInt8 := w111_0 ++ u111_1
theorem s111_0 : (prog_17_method_1_code).data.toList.drop 0 = u111_0 := by decide +kernel
theorem s111_1 : (prog_17_method_1_code).data.toList.drop 22 = u111_1 := dk_seg s111_0 22 rfl rfl
theorem s111_2 : (prog_17_method_1_code).data.toList.drop 46 = u111_2 := dk_seg s111_1 24 rfl rfl
theorem s111_3 : (prog_17_method_1_code).data.toList.drop 70 = u111_3 := dk_seg s111_2 24 rfl rfl
theorem s111_4 : (prog_17_method_1_code).data.toList.drop 93 = u111_4 := dk_seg s111_3 23 rfl rfl
theorem s111_5 : (prog_17_method_1_code).data.toList.drop 115 = u111_5 := dk_seg s111_4 22 rfl rfl
theorem s111_6 : (prog_17_method_1_code).data.toList.drop 139 = u111_6 := dk_seg s111_5 24 rfl rfl
theorem Fm111 {pc len : Nat} {i : Instr} (h : decode (prog_17_method_1_code) pc = .ok (i, len)) (hl : len = ilen i len) : ft 111 pc = some (7, 0, 1, i, len) := ft_mk rfl h hl
theorem f111_0 : ft 111 0 = some (7, 0, 1, .aload_n 0, 1) := Fm111 (dk_42 (dk_at s111_0 0 rfl rfl)) rfl
theorem f111_1 : ft 111 1 = some (7, 0, 1, .invokespecial 3, 3) := Fm111 (dk_183 0 3 (dk_at s111_0 1 rfl rfl)) rfl
theorem f111_4 : ft 111 4 = some (7, 0, 1, .aload_n 0, 1) := Fm111 (dk_42 (dk_at s111_0 4 rfl rfl)) rfl
theorem f111_5 : ft 111 5 = some (7, 0, 1, .new 9, 3) := Fm111 (dk_187 0 9 (dk_at s111_0 5 rfl rfl)) rfl
theorem f111_8 : ft 111 8 = some (7, 0, 1, .dup, 1) := Fm111 (dk_89 (dk_at s111_0 8 rfl rfl)) rfl
theorem f111_9 : ft 111 9 = some (7, 0, 1, .bipush 64, 2) := Fm111 (dk_16 64 (dk_at s111_0 9 rfl rfl)) rfl
theorem f111_11 : ft 111 11 = some (7, 0, 1, .invokespecial 11, 3) := Fm111 (dk_183 0 11 (dk_at s111_0 11 rfl rfl)) rfl
theorem f111_14 : ft 111 14 = some (7, 0, 1, .putfield 14, 3) := Fm111 (dk_181 0 14 (dk_at s111_0 14 rfl rfl)) rfl
theorem f111_17 : ft 111 17 = some (7, 0, 1, .aload_n 0, 1) := Fm111 (dk_42 (dk_at s111_0 17 rfl rfl)) rfl
theorem f111_18 : ft 111 18 = some (7, 0, 1, .new 9, 3) := Fm111 (dk_187 0 9 (dk_at s111_0 18 rfl rfl)) rfl
theorem f111_21 : ft 111 21 = some (7, 0, 1, .dup, 1) := Fm111 (dk_89 (dk_at s111_0 21 rfl rfl)) rfl
theorem f111_22 : ft 111 22 = some (7, 0, 1, .sipush 1024, 3) := Fm111 (dk_17 4 0 (dk_at s111_1 0 rfl rfl)) rfl
theorem f111_25 : ft 111 25 = some (7, 0, 1, .invokespecial 11, 3) := Fm111 (dk_183 0 11 (dk_at s111_1 3 rfl rfl)) rfl
theorem f111_28 : ft 111 28 = some (7, 0, 1, .putfield 20, 3) := Fm111 (dk_181 0 20 (dk_at s111_1 6 rfl rfl)) rfl
theorem f111_31 : ft 111 31 = some (7, 0, 1, .aload_n 0, 1) := Fm111 (dk_42 (dk_at s111_1 9 rfl rfl)) rfl
theorem f111_32 : ft 111 32 = some (7, 0, 1, .new 9, 3) := Fm111 (dk_187 0 9 (dk_at s111_1 10 rfl rfl)) rfl
theorem f111_35 : ft 111 35 = some (7, 0, 1, .dup, 1) := Fm111 (dk_89 (dk_at s111_1 13 rfl rfl)) rfl
theorem f111_36 : ft 111 36 = some (7, 0, 1, .sipush 1024, 3) := Fm111 (dk_17 4 0 (dk_at s111_1 14 rfl rfl)) rfl
theorem f111_39 : ft 111 39 = some (7, 0, 1, .invokespecial 11, 3) := Fm111 (dk_183 0 11 (dk_at s111_1 17 rfl rfl)) rfl
theorem f111_42 : ft 111 42 = some (7, 0, 1, .putfield 23, 3) := Fm111 (dk_181 0 23 (dk_at s111_1 20 rfl rfl)) rfl
theorem f111_45 : ft 111 45 = some (7, 0, 1, .aload_n 0, 1) := Fm111 (dk_42 (dk_at s111_1 23 rfl rfl)) rfl
theorem f111_46 : ft 111 46 = some (7, 0, 1, .new 9, 3) := Fm111 (dk_187 0 9 (dk_at s111_2 0 rfl rfl)) rfl
theorem f111_49 : ft 111 49 = some (7, 0, 1, .dup, 1) := Fm111 (dk_89 (dk_at s111_2 3 rfl rfl)) rfl
theorem f111_50 : ft 111 50 = some (7, 0, 1, .sipush 1024, 3) := Fm111 (dk_17 4 0 (dk_at s111_2 4 rfl rfl)) rfl
theorem f111_53 : ft 111 53 = some (7, 0, 1, .invokespecial 11, 3) := Fm111 (dk_183 0 11 (dk_at s111_2 7 rfl rfl)) rfl
theorem f111_56 : ft 111 56 = some (7, 0, 1, .putfield 26, 3) := Fm111 (dk_181 0 26 (dk_at s111_2 10 rfl rfl)) rfl
theorem f111_59 : ft 111 59 = some (7, 0, 1, .aload_n 0, 1) := Fm111 (dk_42 (dk_at s111_2 13 rfl rfl)) rfl
theorem f111_60 : ft 111 60 = some (7, 0, 1, .new 9, 3) := Fm111 (dk_187 0 9 (dk_at s111_2 14 rfl rfl)) rfl
theorem f111_63 : ft 111 63 = some (7, 0, 1, .dup, 1) := Fm111 (dk_89 (dk_at s111_2 17 rfl rfl)) rfl
theorem f111_64 : ft 111 64 = some (7, 0, 1, .sipush 1024, 3) := Fm111 (dk_17 4 0 (dk_at s111_2 18 rfl rfl)) rfl
theorem f111_67 : ft 111 67 = some (7, 0, 1, .invokespecial 11, 3) := Fm111 (dk_183 0 11 (dk_at s111_2 21 rfl rfl)) rfl
theorem f111_70 : ft 111 70 = some (7, 0, 1, .putfield 29, 3) := Fm111 (dk_181 0 29 (dk_at s111_3 0 rfl rfl)) rfl
theorem f111_73 : ft 111 73 = some (7, 0, 1, .aload_n 0, 1) := Fm111 (dk_42 (dk_at s111_3 3 rfl rfl)) rfl
theorem f111_74 : ft 111 74 = some (7, 0, 1, .new 9, 3) := Fm111 (dk_187 0 9 (dk_at s111_3 4 rfl rfl)) rfl
theorem f111_77 : ft 111 77 = some (7, 0, 1, .dup, 1) := Fm111 (dk_89 (dk_at s111_3 7 rfl rfl)) rfl
theorem f111_78 : ft 111 78 = some (7, 0, 1, .sipush 1024, 3) := Fm111 (dk_17 4 0 (dk_at s111_3 8 rfl rfl)) rfl
theorem f111_81 : ft 111 81 = some (7, 0, 1, .invokespecial 11, 3) := Fm111 (dk_183 0 11 (dk_at s111_3 11 rfl rfl)) rfl
theorem f111_84 : ft 111 84 = some (7, 0, 1, .putfield 32, 3) := Fm111 (dk_181 0 32 (dk_at s111_3 14 rfl rfl)) rfl
theorem f111_87 : ft 111 87 = some (7, 0, 1, .aload_n 0, 1) := Fm111 (dk_42 (dk_at s111_3 17 rfl rfl)) rfl
theorem f111_88 : ft 111 88 = some (7, 0, 1, .sipush 16384, 3) := Fm111 (dk_17 64 0 (dk_at s111_3 18 rfl rfl)) rfl
theorem f111_91 : ft 111 91 = some (7, 0, 1, .newarray .int, 2) := Fm111 (dk_188_10 (dk_at s111_3 21 rfl rfl)) rfl
theorem f111_93 : ft 111 93 = some (7, 0, 1, .putfield 35, 3) := Fm111 (dk_181 0 35 (dk_at s111_4 0 rfl rfl)) rfl
theorem f111_96 : ft 111 96 = some (7, 0, 1, .aload_n 0, 1) := Fm111 (dk_42 (dk_at s111_4 3 rfl rfl)) rfl
theorem f111_97 : ft 111 97 = some (7, 0, 1, .bipush 33, 2) := Fm111 (dk_16 33 (dk_at s111_4 4 rfl rfl)) rfl
theorem f111_99 : ft 111 99 = some (7, 0, 1, .newarray .int, 2) := Fm111 (dk_188_10 (dk_at s111_4 6 rfl rfl)) rfl
theorem f111_101 : ft 111 101 = some (7, 0, 1, .putfield 39, 3) := Fm111 (dk_181 0 39 (dk_at s111_4 8 rfl rfl)) rfl
theorem f111_104 : ft 111 104 = some (7, 0, 1, .aload_n 0, 1) := Fm111 (dk_42 (dk_at s111_4 11 rfl rfl)) rfl
theorem f111_105 : ft 111 105 = some (7, 0, 1, .new 42, 3) := Fm111 (dk_187 0 42 (dk_at s111_4 12 rfl rfl)) rfl
theorem f111_108 : ft 111 108 = some (7, 0, 1, .dup, 1) := Fm111 (dk_89 (dk_at s111_4 15 rfl rfl)) rfl
theorem f111_109 : ft 111 109 = some (7, 0, 1, .sipush 480, 3) := Fm111 (dk_17 1 224 (dk_at s111_4 16 rfl rfl)) rfl
theorem f111_112 : ft 111 112 = some (7, 0, 1, .invokespecial 44, 3) := Fm111 (dk_183 0 44 (dk_at s111_4 19 rfl rfl)) rfl
theorem f111_115 : ft 111 115 = some (7, 0, 1, .putfield 45, 3) := Fm111 (dk_181 0 45 (dk_at s111_5 0 rfl rfl)) rfl
theorem f111_118 : ft 111 118 = some (7, 0, 1, .aload_n 0, 1) := Fm111 (dk_42 (dk_at s111_5 3 rfl rfl)) rfl
theorem f111_119 : ft 111 119 = some (7, 0, 1, .aload_n 0, 1) := Fm111 (dk_42 (dk_at s111_5 4 rfl rfl)) rfl
theorem f111_120 : ft 111 120 = some (7, 0, 1, .ldc 49, 2) := Fm111 (dk_18 49 (dk_at s111_5 5 rfl rfl)) rfl
theorem f111_122 : ft 111 122 = some (7, 0, 1, .invokevirtual 51, 3) := Fm111 (dk_182 0 51 (dk_at s111_5 7 rfl rfl)) rfl
theorem f111_125 : ft 111 125 = some (7, 0, 1, .putfield 55, 3) := Fm111 (dk_181 0 55 (dk_at s111_5 10 rfl rfl)) rfl
theorem f111_128 : ft 111 128 = some (7, 0, 1, .aload_n 0, 1) := Fm111 (dk_42 (dk_at s111_5 13 rfl rfl)) rfl
theorem f111_129 : ft 111 129 = some (7, 0, 1, .aload_n 0, 1) := Fm111 (dk_42 (dk_at s111_5 14 rfl rfl)) rfl
theorem f111_130 : ft 111 130 = some (7, 0, 1, .ldc 58, 2) := Fm111 (dk_18 58 (dk_at s111_5 15 rfl rfl)) rfl
theorem f111_132 : ft 111 132 = some (7, 0, 1, .invokevirtual 51, 3) := Fm111 (dk_182 0 51 (dk_at s111_5 17 rfl rfl)) rfl
theorem f111_135 : ft 111 135 = some (7, 0, 1, .putfield 60, 3) := Fm111 (dk_181 0 60 (dk_at s111_5 20 rfl rfl)) rfl
theorem f111_138 : ft 111 138 = some (7, 0, 1, .aload_n 0, 1) := Fm111 (dk_42 (dk_at s111_5 23 rfl rfl)) rfl
theorem f111_139 : ft 111 139 = some (7, 0, 1, .aload_n 0, 1) := Fm111 (dk_42 (dk_at s111_6 0 rfl rfl)) rfl
theorem f111_140 : ft 111 140 = some (7, 0, 1, .ldc 62, 2) := Fm111 (dk_18 62 (dk_at s111_6 1 rfl rfl)) rfl
theorem f111_142 : ft 111 142 = some (7, 0, 1, .invokevirtual 51, 3) := Fm111 (dk_182 0 51 (dk_at s111_6 3 rfl rfl)) rfl
theorem f111_145 : ft 111 145 = some (7, 0, 1, .putfield 64, 3) := Fm111 (dk_181 0 64 (dk_at s111_6 6 rfl rfl)) rfl
theorem f111_148 : ft 111 148 = some (7, 0, 1, .aload_n 0, 1) := Fm111 (dk_42 (dk_at s111_6 9 rfl rfl)) rfl
theorem f111_149 : ft 111 149 = some (7, 0, 1, .aload_n 0, 1) := Fm111 (dk_42 (dk_at s111_6 10 rfl rfl)) rfl
theorem f111_150 : ft 111 150 = some (7, 0, 1, .ldc 66, 2) := Fm111 (dk_18 66 (dk_at s111_6 11 rfl rfl)) rfl
theorem f111_152 : ft 111 152 = some (7, 0, 1, .invokevirtual 51, 3) := Fm111 (dk_182 0 51 (dk_at s111_6 13 rfl rfl)) rfl
theorem f111_155 : ft 111 155 = some (7, 0, 1, .putfield 68, 3) := Fm111 (dk_181 0 68 (dk_at s111_6 16 rfl rfl)) rfl
theorem f111_158 : ft 111 158 = some (7, 0, 1, .return_, 1) := Fm111 (dk_177 (dk_at s111_6 19 rfl rfl)) rfl
theorem q111 {d : Nat} {m : Mem} {a0 : Int} (hd : 0 < d) (hz : TZ m) : le2 (gd (tg m a0 = 7) <| nw (nx m) (mal m 8 2) fun o1 m1 => bV (cl (d - 1) 129 [pR o1, pI 64] m1) fun m2 => nw (nx (mst m2 a0 0 o1)) (mal (mst m2 a0 0 o1) 8 2) fun o3 m3 => bV (cl (d - 1) 129 [pR o3, pI 1024] m3) fun m4 => nw (nx (mst m4 a0 5 o3)) (mal (mst m4 a0 5 o3) 8 2) fun o5 m5 => bV (cl (d - 1) 129 [pR o5, pI 1024] m5) fun m6 => nw (nx (mst m6 a0 6 o5)) (mal (mst m6 a0 6 o5) 8 2) fun o7 m7 => bV (cl (d - 1) 129 [pR o7, pI 1024] m7) fun m8 => nw (nx (mst m8 a0 7 o7)) (mal (mst m8 a0 7 o7) 8 2) fun o9 m9 => bV (cl (d - 1) 129 [pR o9, pI 1024] m9) fun m10 => nw (nx (mst m10 a0 8 o9)) (mal (mst m10 a0 8 o9) 8 2) fun o11 m11 => bV (cl (d - 1) 129 [pR o11, pI 1024] m11) fun m12 => nw (nx (mst m12 a0 9 o11)) (mal (mst m12 a0 9 o11) 112101 16384) fun o13 m13 => nw (nx (mst m13 a0 10 o13)) (mal (mst m13 a0 10 o13) 112101 33) fun o14 m14 => nw (nx (mst m14 a0 12 o14)) (mal (mst m14 a0 12 o14) 2 2) fun o15 m15 => bV (cl (d - 1) 51 [pR o15, pI 480] m15) fun m16 => bI (cl (d - 1) 112 [pR a0, pR 2] (mst m16 a0 15 o15)) fun v17 m17 => bI (cl (d - 1) 112 [pR a0, pR 4] (mst m17 a0 1 v17)) fun v18 m18 => bI (cl (d - 1) 112 [pR a0, pR 6] (mst m18 a0 2 v18)) fun v19 m19 => bI (cl (d - 1) 112 [pR a0, pR 8] (mst m19 a0 3 v19)) fun v20 m20 => some (.inl none, (mst m20 a0 4 v20))) (cl d 111 [pR a0] m) := by
  refine q_in (n := 1) (L := [pR a0]) rfl rfl rfl ?_
  refine r_aln0 (p := 1) f111_0 rfl ?_
  refine le2_gd (fun h1 => ?_)
  refine r_objinit (p := 4) f111_1 rfl rfl (dj1 (fun x => 0 < x ∧ x < 100) h1 (by decide)) (Nat.le_of_ble_eq_true rfl) ?_
  refine r_aln0 (p := 5) f111_4 rfl ?_
  refine r_new (t1 := 8) (f1 := 2) (p := 8) f111_5 rfl rfl rfl rfl rfl (fun o1 m1 h2 k1 => ?_)
  have hz1 := z_k k1 hz
  refine r_dup (p := 9) f111_8 rfl rfl ?_
  refine r_bipush (p := 11) f111_9 rfl (pinD rfl rfl) ?_
  refine r_ispV (p := 14) f111_11 rfl rfl rfl (Or.inl h2) hd (Nat.le_of_ble_eq_true rfl) rfl rfl rfl (fun _ => rfl) (fun m2 c2 => ?_)
  have hz2 := z_k c2 hz1
  have h3 := k_t1 k1 hz h1 (by decide)
  have h4 := k_t1 c2 hz1 h3 (by decide)
  refine r_pfR (f := 0) (p := 17) f111_14 rfl rfl rfl (by decide) (by decide) (Or.inl h4) rfl ?_
  refine r_aln0 (p := 18) f111_17 rfl ?_
  refine r_new (t1 := 8) (f1 := 2) (p := 21) f111_18 rfl rfl rfl rfl rfl (fun o3 m3 h5 k3 => ?_)
  have hz3 := z_k k3 hz2
  refine r_dup (p := 22) f111_21 rfl rfl ?_
  refine r_sipush (p := 25) f111_22 rfl (pinD rfl rfl) ?_
  refine r_ispV (p := 28) f111_25 rfl rfl rfl (Or.inl h5) hd (Nat.le_of_ble_eq_true rfl) rfl rfl rfl (fun _ => rfl) (fun m4 c4 => ?_)
  have hz4 := z_k c4 hz3
  have h6 := k_t1 k3 hz2 h4 (by decide)
  have h7 := k_t1 c4 hz3 h6 (by decide)
  refine r_pfR (f := 5) (p := 31) f111_28 rfl rfl rfl (by decide) (by decide) (Or.inl h7) rfl ?_
  refine r_aln0 (p := 32) f111_31 rfl ?_
  refine r_new (t1 := 8) (f1 := 2) (p := 35) f111_32 rfl rfl rfl rfl rfl (fun o5 m5 h8 k5 => ?_)
  have hz5 := z_k k5 hz4
  refine r_dup (p := 36) f111_35 rfl rfl ?_
  refine r_sipush (p := 39) f111_36 rfl (pinD rfl rfl) ?_
  refine r_ispV (p := 42) f111_39 rfl rfl rfl (Or.inl h8) hd (Nat.le_of_ble_eq_true rfl) rfl rfl rfl (fun _ => rfl) (fun m6 c6 => ?_)
  have hz6 := z_k c6 hz5
  have h9 := k_t1 k5 hz4 h7 (by decide)
  have h10 := k_t1 c6 hz5 h9 (by decide)
  refine r_pfR (f := 6) (p := 45) f111_42 rfl rfl rfl (by decide) (by decide) (Or.inl h10) rfl ?_
  refine r_aln0 (p := 46) f111_45 rfl ?_
  refine r_new (t1 := 8) (f1 := 2) (p := 49) f111_46 rfl rfl rfl rfl rfl (fun o7 m7 h11 k7 => ?_)
  have hz7 := z_k k7 hz6
  refine r_dup (p := 50) f111_49 rfl rfl ?_
  refine r_sipush (p := 53) f111_50 rfl (pinD rfl rfl) ?_
  refine r_ispV (p := 56) f111_53 rfl rfl rfl (Or.inl h11) hd (Nat.le_of_ble_eq_true rfl) rfl rfl rfl (fun _ => rfl) (fun m8 c8 => ?_)
  have hz8 := z_k c8 hz7
  have h12 := k_t1 k7 hz6 h10 (by decide)
  have h13 := k_t1 c8 hz7 h12 (by decide)
  refine r_pfR (f := 7) (p := 59) f111_56 rfl rfl rfl (by decide) (by decide) (Or.inl h13) rfl ?_
  refine r_aln0 (p := 60) f111_59 rfl ?_
  refine r_new (t1 := 8) (f1 := 2) (p := 63) f111_60 rfl rfl rfl rfl rfl (fun o9 m9 h14 k9 => ?_)
  have hz9 := z_k k9 hz8
  refine r_dup (p := 64) f111_63 rfl rfl ?_
  refine r_sipush (p := 67) f111_64 rfl (pinD rfl rfl) ?_
  refine r_ispV (p := 70) f111_67 rfl rfl rfl (Or.inl h14) hd (Nat.le_of_ble_eq_true rfl) rfl rfl rfl (fun _ => rfl) (fun m10 c10 => ?_)
  have hz10 := z_k c10 hz9
  have h15 := k_t1 k9 hz8 h13 (by decide)
  have h16 := k_t1 c10 hz9 h15 (by decide)
  refine r_pfR (f := 8) (p := 73) f111_70 rfl rfl rfl (by decide) (by decide) (Or.inl h16) rfl ?_
  refine r_aln0 (p := 74) f111_73 rfl ?_
  refine r_new (t1 := 8) (f1 := 2) (p := 77) f111_74 rfl rfl rfl rfl rfl (fun o11 m11 h17 k11 => ?_)
  have hz11 := z_k k11 hz10
  refine r_dup (p := 78) f111_77 rfl rfl ?_
  refine r_sipush (p := 81) f111_78 rfl (pinD rfl rfl) ?_
  refine r_ispV (p := 84) f111_81 rfl rfl rfl (Or.inl h17) hd (Nat.le_of_ble_eq_true rfl) rfl rfl rfl (fun _ => rfl) (fun m12 c12 => ?_)
  have hz12 := z_k c12 hz11
  have h18 := k_t1 k11 hz10 h16 (by decide)
  have h19 := k_t1 c12 hz11 h18 (by decide)
  refine r_pfR (f := 9) (p := 87) f111_84 rfl rfl rfl (by decide) (by decide) (Or.inl h19) rfl ?_
  refine r_aln0 (p := 88) f111_87 rfl ?_
  refine r_sipush (p := 91) f111_88 rfl (pinD rfl rfl) ?_
  refine r_newa (t1 := 112101) (p := 93) f111_91 rfl rfl (pinE rfl rfl) rfl rfl (fun o13 m13 h20 k13 => ?_)
  have hz13 := z_k k13 hz12
  have h21 := k_t1 k13 hz12 h19 (by decide)
  refine r_pfR (f := 10) (p := 96) f111_93 rfl rfl rfl (by decide) (by decide) (Or.inl h21) rfl ?_
  refine r_aln0 (p := 97) f111_96 rfl ?_
  refine r_bipush (p := 99) f111_97 rfl (pinD rfl rfl) ?_
  refine r_newa (t1 := 112101) (p := 101) f111_99 rfl rfl (pinE rfl rfl) rfl rfl (fun o14 m14 h22 k14 => ?_)
  have hz14 := z_k k14 hz13
  have h23 := k_t1 k14 hz13 h21 (by decide)
  refine r_pfR (f := 12) (p := 104) f111_101 rfl rfl rfl (by decide) (by decide) (Or.inl h23) rfl ?_
  refine r_aln0 (p := 105) f111_104 rfl ?_
  refine r_new (t1 := 2) (f1 := 2) (p := 108) f111_105 rfl rfl rfl rfl rfl (fun o15 m15 h24 k15 => ?_)
  have hz15 := z_k k15 hz14
  refine r_dup (p := 109) f111_108 rfl rfl ?_
  refine r_sipush (p := 112) f111_109 rfl (pinD rfl rfl) ?_
  refine r_ispV (p := 115) f111_112 rfl rfl rfl (Or.inl h24) hd (Nat.le_of_ble_eq_true rfl) rfl rfl rfl (fun _ => rfl) (fun m16 c16 => ?_)
  have hz16 := z_k c16 hz15
  have h25 := k_t1 k15 hz14 h23 (by decide)
  have h26 := k_t1 c16 hz15 h25 (by decide)
  refine r_pfR (f := 15) (p := 118) f111_115 rfl rfl rfl (by decide) (by decide) (Or.inl h26) rfl ?_
  refine r_aln0 (p := 119) f111_118 rfl ?_
  refine r_aln0 (p := 120) f111_119 rfl ?_
  refine r_ldcR (p := 122) f111_120 rfl rfl ?_
  refine r_invI (p := 125) f111_122 rfl rfl rfl (Or.inl h26) hd (Nat.le_of_ble_eq_true rfl) rfl rfl rfl (fun _ => rfl) (fun v17 m17 c17 => ?_)
  have hz17 := z_k c17 hz16
  have h27 := k_t1 c17 hz16 h26 (by decide)
  refine r_pfI (f := 1) (p := 128) f111_125 rfl rfl rfl (by decide) (by decide) (Or.inl h27) rfl ?_
  refine r_aln0 (p := 129) f111_128 rfl ?_
  refine r_aln0 (p := 130) f111_129 rfl ?_
  refine r_ldcR (p := 132) f111_130 rfl rfl ?_
  refine r_invI (p := 135) f111_132 rfl rfl rfl (Or.inl h27) hd (Nat.le_of_ble_eq_true rfl) rfl rfl rfl (fun _ => rfl) (fun v18 m18 c18 => ?_)
  have hz18 := z_k c18 hz17
  have h28 := k_t1 c18 hz17 h27 (by decide)
  refine r_pfI (f := 2) (p := 138) f111_135 rfl rfl rfl (by decide) (by decide) (Or.inl h28) rfl ?_
  refine r_aln0 (p := 139) f111_138 rfl ?_
  refine r_aln0 (p := 140) f111_139 rfl ?_
  refine r_ldcR (p := 142) f111_140 rfl rfl ?_
  refine r_invI (p := 145) f111_142 rfl rfl rfl (Or.inl h28) hd (Nat.le_of_ble_eq_true rfl) rfl rfl rfl (fun _ => rfl) (fun v19 m19 c19 => ?_)
  have hz19 := z_k c19 hz18
  have h29 := k_t1 c19 hz18 h28 (by decide)
  refine r_pfI (f := 3) (p := 148) f111_145 rfl rfl rfl (by decide) (by decide) (Or.inl h29) rfl ?_
  refine r_aln0 (p := 149) f111_148 rfl ?_
  refine r_aln0 (p := 150) f111_149 rfl ?_
  refine r_ldcR (p := 152) f111_150 rfl rfl ?_
  refine r_invI (p := 155) f111_152 rfl rfl rfl (Or.inl h29) hd (Nat.le_of_ble_eq_true rfl) rfl rfl rfl (fun _ => rfl) (fun v20 m20 c20 => ?_)
  have hz20 := z_k c20 hz19
  have h30 := k_t1 c20 hz19 h29 (by decide)
  refine r_pfI (f := 4) (p := 158) f111_155 rfl rfl rfl (by decide) (by decide) (Or.inl h30) rfl ?_
  exact r_ret f111_158
/-! 112 PathStore$Patcher.name (Ljava/lang/String;)I -/
def w112_2 : List UInt8 := [182, 0, 73, 132, 3, 1, 167, 255, 233, 28, 172]
abbrev u112_2 : List UInt8 := w112_2 ++ []
def w112_1 : List UInt8 := [182, 0, 73, 3, 62, 29, 43, 182, 0, 76, 162, 0, 21, 42, 180, 0, 14, 43, 29, 182, 0, 82]
abbrev u112_1 : List UInt8 := w112_1 ++ u112_2
def w112_0 : List UInt8 := [42, 180, 0, 14, 180, 0, 70, 61, 42, 180, 0, 14, 3, 182, 0, 73, 42, 180, 0, 14, 43, 182, 0, 76]
abbrev u112_0 : List UInt8 := w112_0 ++ u112_1
theorem s112_0 : (prog_17_method_2_code).data.toList.drop 0 = u112_0 := by decide +kernel
theorem s112_1 : (prog_17_method_2_code).data.toList.drop 24 = u112_1 := dk_seg s112_0 24 rfl rfl
theorem s112_2 : (prog_17_method_2_code).data.toList.drop 46 = u112_2 := dk_seg s112_1 22 rfl rfl
theorem Fm112 {pc len : Nat} {i : Instr} (h : decode (prog_17_method_2_code) pc = .ok (i, len)) (hl : len = ilen i len) : ft 112 pc = some (7, 1, 0, i, len) := ft_mk rfl h hl
theorem f112_0 : ft 112 0 = some (7, 1, 0, .aload_n 0, 1) := Fm112 (dk_42 (dk_at s112_0 0 rfl rfl)) rfl
theorem f112_1 : ft 112 1 = some (7, 1, 0, .getfield 14, 3) := Fm112 (dk_180 0 14 (dk_at s112_0 1 rfl rfl)) rfl
theorem f112_4 : ft 112 4 = some (7, 1, 0, .getfield 70, 3) := Fm112 (dk_180 0 70 (dk_at s112_0 4 rfl rfl)) rfl
theorem f112_7 : ft 112 7 = some (7, 1, 0, .istore_n 2, 1) := Fm112 (dk_61 (dk_at s112_0 7 rfl rfl)) rfl
theorem f112_8 : ft 112 8 = some (7, 1, 0, .aload_n 0, 1) := Fm112 (dk_42 (dk_at s112_0 8 rfl rfl)) rfl
theorem f112_9 : ft 112 9 = some (7, 1, 0, .getfield 14, 3) := Fm112 (dk_180 0 14 (dk_at s112_0 9 rfl rfl)) rfl
theorem f112_12 : ft 112 12 = some (7, 1, 0, .iconst 0, 1) := Fm112 (dk_3 (dk_at s112_0 12 rfl rfl)) rfl
theorem f112_13 : ft 112 13 = some (7, 1, 0, .invokevirtual 73, 3) := Fm112 (dk_182 0 73 (dk_at s112_0 13 rfl rfl)) rfl
theorem f112_16 : ft 112 16 = some (7, 1, 0, .aload_n 0, 1) := Fm112 (dk_42 (dk_at s112_0 16 rfl rfl)) rfl
theorem f112_17 : ft 112 17 = some (7, 1, 0, .getfield 14, 3) := Fm112 (dk_180 0 14 (dk_at s112_0 17 rfl rfl)) rfl
theorem f112_20 : ft 112 20 = some (7, 1, 0, .aload_n 1, 1) := Fm112 (dk_43 (dk_at s112_0 20 rfl rfl)) rfl
theorem f112_21 : ft 112 21 = some (7, 1, 0, .invokevirtual 76, 3) := Fm112 (dk_182 0 76 (dk_at s112_0 21 rfl rfl)) rfl
theorem f112_24 : ft 112 24 = some (7, 1, 0, .invokevirtual 73, 3) := Fm112 (dk_182 0 73 (dk_at s112_1 0 rfl rfl)) rfl
theorem f112_27 : ft 112 27 = some (7, 1, 0, .iconst 0, 1) := Fm112 (dk_3 (dk_at s112_1 3 rfl rfl)) rfl
theorem f112_28 : ft 112 28 = some (7, 1, 0, .istore_n 3, 1) := Fm112 (dk_62 (dk_at s112_1 4 rfl rfl)) rfl
theorem f112_29 : ft 112 29 = some (7, 1, 0, .iload_n 3, 1) := Fm112 (dk_29 (dk_at s112_1 5 rfl rfl)) rfl
theorem f112_30 : ft 112 30 = some (7, 1, 0, .aload_n 1, 1) := Fm112 (dk_43 (dk_at s112_1 6 rfl rfl)) rfl
theorem f112_31 : ft 112 31 = some (7, 1, 0, .invokevirtual 76, 3) := Fm112 (dk_182 0 76 (dk_at s112_1 7 rfl rfl)) rfl
theorem f112_34 : ft 112 34 = some (7, 1, 0, .if_icmp .ge 21, 3) := Fm112 (dk_162 0 21 (dk_at s112_1 10 rfl rfl)) rfl
theorem f112_37 : ft 112 37 = some (7, 1, 0, .aload_n 0, 1) := Fm112 (dk_42 (dk_at s112_1 13 rfl rfl)) rfl
theorem f112_38 : ft 112 38 = some (7, 1, 0, .getfield 14, 3) := Fm112 (dk_180 0 14 (dk_at s112_1 14 rfl rfl)) rfl
theorem f112_41 : ft 112 41 = some (7, 1, 0, .aload_n 1, 1) := Fm112 (dk_43 (dk_at s112_1 17 rfl rfl)) rfl
theorem f112_42 : ft 112 42 = some (7, 1, 0, .iload_n 3, 1) := Fm112 (dk_29 (dk_at s112_1 18 rfl rfl)) rfl
theorem f112_43 : ft 112 43 = some (7, 1, 0, .invokevirtual 82, 3) := Fm112 (dk_182 0 82 (dk_at s112_1 19 rfl rfl)) rfl
theorem f112_46 : ft 112 46 = some (7, 1, 0, .invokevirtual 73, 3) := Fm112 (dk_182 0 73 (dk_at s112_2 0 rfl rfl)) rfl
theorem f112_49 : ft 112 49 = some (7, 1, 0, .iinc 3 1, 3) := Fm112 (dk_132 3 1 (dk_at s112_2 3 rfl rfl)) rfl
theorem f112_52 : ft 112 52 = some (7, 1, 0, .goto (-23), 3) := Fm112 (dk_167 255 233 (dk_at s112_2 6 rfl rfl)) rfl
theorem f112_55 : ft 112 55 = some (7, 1, 0, .iload_n 2, 1) := Fm112 (dk_28 (dk_at s112_2 9 rfl rfl)) rfl
theorem f112_56 : ft 112 56 = some (7, 1, 0, .ireturn, 1) := Fm112 (dk_172 (dk_at s112_2 10 rfl rfl)) rfl
theorem q112 {d : Nat} {m : Mem} {a0 a1 : Int} (hd : 0 < d) (hz : TZ m) : le2 (gd (tg m a0 = 7) <| nm (vl m a0 0) fun v4 => gd (tg m v4 = 8) <| bV (cl (d - 1) 130 [pR v4, pI 0] m) fun m1 => nm (vl m1 a0 0) fun v5 => gd (tg m1 a1 = 31) <| bI (cl (d - 1) 349 [pR a1] m1) fun v2 m2 => gd (tg m2 v5 = 8) <| bV (cl (d - 1) 130 [pR v5, pI v2] m2) fun m3 => rn d 112 29 [pR a0, pR a1, pI (vl m v4 1), pI 0] [] m3) (cl d 112 [pR a0, pR a1] m) := by
  refine q_in (n := 4) (L := [pR a0, pR a1, pU, pU]) rfl rfl rfl ?_
  refine r_aln0 (p := 1) f112_0 rfl ?_
  refine le2_gd (fun h1 => ?_)
  refine r_gfR (f := 0) (p := 4) f112_1 rfl rfl rfl (Or.inl h1) rfl ?_
  refine r_nmR (fun v4 ev4 => ?_)
  refine le2_gd (fun h2 => ?_)
  refine r_gfI (f := 1) (p := 7) f112_4 rfl rfl rfl (Or.inl h2) rfl ?_
  refine r_isn2 (p := 8) f112_7 rfl rfl ?_
  refine r_aln0 (p := 9) f112_8 rfl ?_
  refine r_gfR (f := 0) (p := 12) f112_9 rfl rfl rfl (Or.inl h1) ev4.symm ?_
  refine r_iconst (p := 13) f112_12 rfl (pinD rfl rfl) ?_
  refine r_invV (p := 16) f112_13 rfl rfl rfl (Or.inl h2) hd (Nat.le_of_ble_eq_true rfl) rfl rfl rfl (fun _ => rfl) (fun m1 c1 => ?_)
  have hz1 := z_k c1 hz
  refine r_aln0 (p := 17) f112_16 rfl ?_
  have h3 := k_t1 c1 hz h1 (by decide)
  refine r_gfR (f := 0) (p := 20) f112_17 rfl rfl rfl (Or.inl h3) rfl ?_
  refine r_nmR (fun v5 ev5 => ?_)
  refine r_aln1 (p := 21) f112_20 rfl ?_
  refine le2_gd (fun h4 => ?_)
  refine r_invI (p := 24) f112_21 rfl rfl rfl (Or.inl h4) hd (Nat.le_of_ble_eq_true rfl) rfl rfl rfl (fun _ => rfl) (fun v2 m2 c2 => ?_)
  have hz2 := z_k c2 hz1
  refine le2_gd (fun h5 => ?_)
  refine r_invV (p := 27) f112_24 rfl rfl rfl (Or.inl h5) hd (Nat.le_of_ble_eq_true rfl) rfl rfl rfl (fun _ => rfl) (fun m3 c3 => ?_)
  have hz3 := z_k c3 hz2
  refine r_iconst (p := 28) f112_27 rfl (pinD rfl rfl) ?_
  refine r_isn3 (p := 29) f112_28 rfl rfl ?_
  exact le2_refl _
theorem q112_29 {d : Nat} {m : Mem} {a0 a1 a2 a3 : Int} (hd : 0 < d) (hz : TZ m) : le2 (gd (tg m a1 = 31) <| bI (cl (d - 1) 349 [pR a1] m) fun v1 m1 => if a3 < v1 then (gd (tg m1 a0 = 7) <| nm (vl m1 a0 0) fun v4 => bI (cl (d - 1) 351 [pR a1, pI a3] m1) fun v2 m2 => gd (tg m2 v4 = 8) <| bV (cl (d - 1) 130 [pR v4, pI v2] m2) fun m3 => rn d 112 29 [pR a0, pR a1, pI a2, pI (w32 (a3 + 1))] [] m3) else some (.inl (some (pI a2)), m1)) (rn d 112 29 [pR a0, pR a1, pI a2, pI a3] [] m) := by
  refine r_iln3 (p := 30) f112_29 rfl ?_
  refine r_aln1 (p := 31) f112_30 rfl ?_
  refine le2_gd (fun h1 => ?_)
  refine r_invI (p := 34) f112_31 rfl rfl rfl (Or.inl h1) hd (Nat.le_of_ble_eq_true rfl) rfl rfl rfl (fun _ => rfl) (fun v1 m1 c1 => ?_)
  have hz1 := z_k c1 hz
  refine r_icge (t := 55) (p := 37) f112_34 (by decide) rfl rfl ?_ ?_
  · refine r_aln0 (p := 38) f112_37 rfl ?_
    refine le2_gd (fun h2 => ?_)
    refine r_gfR (f := 0) (p := 41) f112_38 rfl rfl rfl (Or.inl h2) rfl ?_
    refine r_nmR (fun v4 ev4 => ?_)
    refine r_aln1 (p := 42) f112_41 rfl ?_
    refine r_iln3 (p := 43) f112_42 rfl ?_
    have h3 := k_t1 c1 hz h1 (by decide)
    refine r_invI (p := 46) f112_43 rfl rfl rfl (Or.inl h3) hd (Nat.le_of_ble_eq_true rfl) rfl rfl rfl (fun _ => rfl) (fun v2 m2 c2 => ?_)
    have hz2 := z_k c2 hz1
    refine le2_gd (fun h4 => ?_)
    refine r_invV (p := 49) f112_46 rfl rfl rfl (Or.inl h4) hd (Nat.le_of_ble_eq_true rfl) rfl rfl rfl (fun _ => rfl) (fun m3 c3 => ?_)
    have hz3 := z_k c3 hz2
    refine r_iinc3 (p := 52) f112_49 rfl rfl ?_
    refine r_goto (p := 29) f112_52 (by decide) rfl ?_
    exact le2_refl _
  · refine r_iln2 (p := 56) f112_55 rfl ?_
    exact r_iret1 f112_56
/-! 113 PathStore$Patcher.run (LPathStore$Row;I)I -/
def w113_3 : List UInt8 := [182, 0, 92, 54, 4, 167, 255, 199, 42, 182, 0, 214, 172]
abbrev u113_3 : List UInt8 := w113_3 ++ []
def w113_2 : List UInt8 := [183, 0, 213, 191, 42, 182, 0, 214, 87, 42, 89, 180, 0, 202, 4, 96, 181, 0, 202, 43, 21, 4]
abbrev u113_2 : List UInt8 := w113_2 ++ u113_3
def w113_1 : List UInt8 := [21, 4, 182, 0, 205, 42, 180, 0, 20, 3, 182, 0, 208, 16, 32, 164, 0, 11, 187, 0, 211, 89]
abbrev u113_1 : List UInt8 := w113_1 ++ u113_2
def w113_0 : List UInt8 := [42, 3, 181, 0, 202, 43, 28, 182, 0, 92, 62, 28, 6, 96, 54, 4, 21, 4, 29, 162, 0, 57, 42, 43]
abbrev u113_0 : List UInt8 := w113_0 ++ u113_1
theorem s113_0 : (prog_17_method_17_code).data.toList.drop 0 = u113_0 := by decide +kernel
theorem s113_1 : (prog_17_method_17_code).data.toList.drop 24 = u113_1 := dk_seg s113_0 24 rfl rfl
theorem s113_2 : (prog_17_method_17_code).data.toList.drop 46 = u113_2 := dk_seg s113_1 22 rfl rfl
theorem s113_3 : (prog_17_method_17_code).data.toList.drop 68 = u113_3 := dk_seg s113_2 22 rfl rfl
theorem Fm113 {pc len : Nat} {i : Instr} (h : decode (prog_17_method_17_code) pc = .ok (i, len)) (hl : len = ilen i len) : ft 113 pc = some (7, 1, 0, i, len) := ft_mk rfl h hl
theorem f113_0 : ft 113 0 = some (7, 1, 0, .aload_n 0, 1) := Fm113 (dk_42 (dk_at s113_0 0 rfl rfl)) rfl
theorem f113_1 : ft 113 1 = some (7, 1, 0, .iconst 0, 1) := Fm113 (dk_3 (dk_at s113_0 1 rfl rfl)) rfl
theorem f113_2 : ft 113 2 = some (7, 1, 0, .putfield 202, 3) := Fm113 (dk_181 0 202 (dk_at s113_0 2 rfl rfl)) rfl
theorem f113_5 : ft 113 5 = some (7, 1, 0, .aload_n 1, 1) := Fm113 (dk_43 (dk_at s113_0 5 rfl rfl)) rfl
theorem f113_6 : ft 113 6 = some (7, 1, 0, .iload_n 2, 1) := Fm113 (dk_28 (dk_at s113_0 6 rfl rfl)) rfl
theorem f113_7 : ft 113 7 = some (7, 1, 0, .invokevirtual 92, 3) := Fm113 (dk_182 0 92 (dk_at s113_0 7 rfl rfl)) rfl
theorem f113_10 : ft 113 10 = some (7, 1, 0, .istore_n 3, 1) := Fm113 (dk_62 (dk_at s113_0 10 rfl rfl)) rfl
theorem f113_11 : ft 113 11 = some (7, 1, 0, .iload_n 2, 1) := Fm113 (dk_28 (dk_at s113_0 11 rfl rfl)) rfl
theorem f113_12 : ft 113 12 = some (7, 1, 0, .iconst 3, 1) := Fm113 (dk_6 (dk_at s113_0 12 rfl rfl)) rfl
theorem f113_13 : ft 113 13 = some (7, 1, 0, .iadd, 1) := Fm113 (dk_96 (dk_at s113_0 13 rfl rfl)) rfl
theorem f113_14 : ft 113 14 = some (7, 1, 0, .istore 4, 2) := Fm113 (dk_54 4 (dk_at s113_0 14 rfl rfl)) rfl
theorem f113_16 : ft 113 16 = some (7, 1, 0, .iload 4, 2) := Fm113 (dk_21 4 (dk_at s113_0 16 rfl rfl)) rfl
theorem f113_18 : ft 113 18 = some (7, 1, 0, .iload_n 3, 1) := Fm113 (dk_29 (dk_at s113_0 18 rfl rfl)) rfl
theorem f113_19 : ft 113 19 = some (7, 1, 0, .if_icmp .ge 57, 3) := Fm113 (dk_162 0 57 (dk_at s113_0 19 rfl rfl)) rfl
theorem f113_22 : ft 113 22 = some (7, 1, 0, .aload_n 0, 1) := Fm113 (dk_42 (dk_at s113_0 22 rfl rfl)) rfl
theorem f113_23 : ft 113 23 = some (7, 1, 0, .aload_n 1, 1) := Fm113 (dk_43 (dk_at s113_0 23 rfl rfl)) rfl
theorem f113_24 : ft 113 24 = some (7, 1, 0, .iload 4, 2) := Fm113 (dk_21 4 (dk_at s113_1 0 rfl rfl)) rfl
theorem f113_26 : ft 113 26 = some (7, 1, 0, .invokevirtual 205, 3) := Fm113 (dk_182 0 205 (dk_at s113_1 2 rfl rfl)) rfl
theorem f113_29 : ft 113 29 = some (7, 1, 0, .aload_n 0, 1) := Fm113 (dk_42 (dk_at s113_1 5 rfl rfl)) rfl
theorem f113_30 : ft 113 30 = some (7, 1, 0, .getfield 20, 3) := Fm113 (dk_180 0 20 (dk_at s113_1 6 rfl rfl)) rfl
theorem f113_33 : ft 113 33 = some (7, 1, 0, .iconst 0, 1) := Fm113 (dk_3 (dk_at s113_1 9 rfl rfl)) rfl
theorem f113_34 : ft 113 34 = some (7, 1, 0, .invokevirtual 208, 3) := Fm113 (dk_182 0 208 (dk_at s113_1 10 rfl rfl)) rfl
theorem f113_37 : ft 113 37 = some (7, 1, 0, .bipush 32, 2) := Fm113 (dk_16 32 (dk_at s113_1 13 rfl rfl)) rfl
theorem f113_39 : ft 113 39 = some (7, 1, 0, .if_icmp .le 11, 3) := Fm113 (dk_164 0 11 (dk_at s113_1 15 rfl rfl)) rfl
theorem f113_42 : ft 113 42 = some (7, 1, 0, .new 211, 3) := Fm113 (dk_187 0 211 (dk_at s113_1 18 rfl rfl)) rfl
theorem f113_50 : ft 113 50 = some (7, 1, 0, .aload_n 0, 1) := Fm113 (dk_42 (dk_at s113_2 4 rfl rfl)) rfl
theorem f113_51 : ft 113 51 = some (7, 1, 0, .invokevirtual 214, 3) := Fm113 (dk_182 0 214 (dk_at s113_2 5 rfl rfl)) rfl
theorem f113_54 : ft 113 54 = some (7, 1, 0, .pop, 1) := Fm113 (dk_87 (dk_at s113_2 8 rfl rfl)) rfl
theorem f113_55 : ft 113 55 = some (7, 1, 0, .aload_n 0, 1) := Fm113 (dk_42 (dk_at s113_2 9 rfl rfl)) rfl
theorem f113_56 : ft 113 56 = some (7, 1, 0, .dup, 1) := Fm113 (dk_89 (dk_at s113_2 10 rfl rfl)) rfl
theorem f113_57 : ft 113 57 = some (7, 1, 0, .getfield 202, 3) := Fm113 (dk_180 0 202 (dk_at s113_2 11 rfl rfl)) rfl
theorem f113_60 : ft 113 60 = some (7, 1, 0, .iconst 1, 1) := Fm113 (dk_4 (dk_at s113_2 14 rfl rfl)) rfl
theorem f113_61 : ft 113 61 = some (7, 1, 0, .iadd, 1) := Fm113 (dk_96 (dk_at s113_2 15 rfl rfl)) rfl
theorem f113_62 : ft 113 62 = some (7, 1, 0, .putfield 202, 3) := Fm113 (dk_181 0 202 (dk_at s113_2 16 rfl rfl)) rfl
theorem f113_65 : ft 113 65 = some (7, 1, 0, .aload_n 1, 1) := Fm113 (dk_43 (dk_at s113_2 19 rfl rfl)) rfl
theorem f113_66 : ft 113 66 = some (7, 1, 0, .iload 4, 2) := Fm113 (dk_21 4 (dk_at s113_2 20 rfl rfl)) rfl
theorem f113_68 : ft 113 68 = some (7, 1, 0, .invokevirtual 92, 3) := Fm113 (dk_182 0 92 (dk_at s113_3 0 rfl rfl)) rfl
theorem f113_71 : ft 113 71 = some (7, 1, 0, .istore 4, 2) := Fm113 (dk_54 4 (dk_at s113_3 3 rfl rfl)) rfl
theorem f113_73 : ft 113 73 = some (7, 1, 0, .goto (-57), 3) := Fm113 (dk_167 255 199 (dk_at s113_3 5 rfl rfl)) rfl
theorem f113_76 : ft 113 76 = some (7, 1, 0, .aload_n 0, 1) := Fm113 (dk_42 (dk_at s113_3 8 rfl rfl)) rfl
theorem f113_77 : ft 113 77 = some (7, 1, 0, .invokevirtual 214, 3) := Fm113 (dk_182 0 214 (dk_at s113_3 9 rfl rfl)) rfl
theorem f113_80 : ft 113 80 = some (7, 1, 0, .ireturn, 1) := Fm113 (dk_172 (dk_at s113_3 12 rfl rfl)) rfl
theorem q113 {d : Nat} {m : Mem} {a0 a1 a2 : Int} (hd : 0 < d) (hz : TZ m) : le2 (gd (tg m a0 = 7) <| gd (tg m a1 = 8) <| bI (cl (d - 1) 137 [pR a1, pI a2] (mst m a0 16 0)) fun v1 m1 => rn d 113 16 [pR a0, pR a1, pI a2, pI v1, pI (w32 (a2 + 3))] [] m1) (cl d 113 [pR a0, pR a1, pI a2] m) := by
  refine q_in (n := 5) (L := [pR a0, pR a1, pI a2, pU, pU]) rfl rfl rfl ?_
  refine r_aln0 (p := 1) f113_0 rfl ?_
  refine r_iconst (p := 2) f113_1 rfl (pinD rfl rfl) ?_
  refine le2_gd (fun h1 => ?_)
  refine r_pfI (f := 16) (p := 5) f113_2 rfl rfl rfl (by decide) (by decide) (Or.inl h1) rfl ?_
  refine r_aln1 (p := 6) f113_5 rfl ?_
  refine r_iln2 (p := 7) f113_6 rfl ?_
  refine le2_gd (fun h2 => ?_)
  refine r_invI (p := 10) f113_7 rfl rfl rfl (Or.inl h2) hd (Nat.le_of_ble_eq_true rfl) rfl rfl rfl (fun _ => rfl) (fun v1 m1 c1 => ?_)
  have hz1 := z_k c1 hz
  refine r_isn3 (p := 11) f113_10 rfl rfl ?_
  refine r_iln2 (p := 12) f113_11 rfl ?_
  refine r_iconst (p := 13) f113_12 rfl (pinD rfl rfl) ?_
  refine r_iadd (p := 14) f113_13 rfl ?_
  refine r_isw4 (p := 16) f113_14 rfl rfl ?_
  exact le2_refl _
theorem q113_16 {d : Nat} {m : Mem} {a0 a1 a2 a3 a4 : Int} (hd : 0 < d) (hz : TZ m) : le2 (if a4 < a3 then (gd (tg m a0 = 7) <| bV (cl (d - 1) 114 [pR a0, pR a1, pI a4] m) fun m2 => nm (vl m2 a0 5) fun v6 => gd (tg m2 v6 = 8) <| bI (cl (d - 1) 149 [pR v6, pI 0] m2) fun v3 m3 => if 32 < v3 then (some (.inr 201, mal m3 201 6)) else bI (cl (d - 1) 128 [pR a0] m3) fun v4 m4 => gd (tg m4 a1 = 8) <| bI (cl (d - 1) 137 [pR a1, pI a4] (mst m4 a0 16 (w32 ((vl m4 a0 16) + 1)))) fun v5 m5 => rn d 113 16 [pR a0, pR a1, pI a2, pI a3, pI v5] [] m5) else gd (tg m a0 = 7) <| bI (cl (d - 1) 128 [pR a0] m) fun v1 m1 => some (.inl (some (pI v1)), m1)) (rn d 113 16 [pR a0, pR a1, pI a2, pI a3, pI a4] [] m) := by
  refine r_ilw4 (p := 18) f113_16 rfl ?_
  refine r_iln3 (p := 19) f113_18 rfl ?_
  refine r_icge (t := 76) (p := 22) f113_19 (by decide) rfl rfl ?_ ?_
  · refine r_aln0 (p := 23) f113_22 rfl ?_
    refine r_aln1 (p := 24) f113_23 rfl ?_
    refine r_ilw4 (p := 26) f113_24 rfl ?_
    refine le2_gd (fun h2 => ?_)
    refine r_invV (p := 29) f113_26 rfl rfl rfl (Or.inl h2) hd (Nat.le_of_ble_eq_true rfl) rfl rfl rfl (fun _ => rfl) (fun m2 c2 => ?_)
    have hz2 := z_k c2 hz
    refine r_aln0 (p := 30) f113_29 rfl ?_
    have h3 := k_t1 c2 hz h2 (by decide)
    refine r_gfR (f := 5) (p := 33) f113_30 rfl rfl rfl (Or.inl h3) rfl ?_
    refine r_nmR (fun v6 ev6 => ?_)
    refine r_iconst (p := 34) f113_33 rfl (pinD rfl rfl) ?_
    refine le2_gd (fun h4 => ?_)
    refine r_invI (p := 37) f113_34 rfl rfl rfl (Or.inl h4) hd (Nat.le_of_ble_eq_true rfl) rfl rfl rfl (fun _ => rfl) (fun v3 m3 c3 => ?_)
    have hz3 := z_k c3 hz2
    refine r_bipush (p := 39) f113_37 rfl (pinD rfl rfl) ?_
    refine r_icle (t := 50) (p := 42) f113_39 (by decide) rfl rfl ?_ ?_
    · exact r_throw (e := 201) (f0 := 6) f113_42 rfl (by decide) (Nat.le_of_ble_eq_true rfl) rfl rfl
    · refine r_aln0 (p := 51) f113_50 rfl ?_
      have h5 := k_t1 c3 hz2 h3 (by decide)
      refine r_invI (p := 54) f113_51 rfl rfl rfl (Or.inl h5) hd (Nat.le_of_ble_eq_true rfl) rfl rfl rfl (fun _ => rfl) (fun v4 m4 c4 => ?_)
      have hz4 := z_k c4 hz3
      refine r_pop (p := 55) f113_54 rfl rfl ?_
      refine r_aln0 (p := 56) f113_55 rfl ?_
      refine r_dup (p := 57) f113_56 rfl rfl ?_
      have h6 := k_t1 c4 hz3 h5 (by decide)
      refine r_gfI (f := 16) (p := 60) f113_57 rfl rfl rfl (Or.inl h6) rfl ?_
      refine r_iconst (p := 61) f113_60 rfl (pinD rfl rfl) ?_
      refine r_iadd (p := 62) f113_61 rfl ?_
      refine r_pfI (f := 16) (p := 65) f113_62 rfl rfl rfl (by decide) (by decide) (Or.inl h6) rfl ?_
      refine r_aln1 (p := 66) f113_65 rfl ?_
      refine r_ilw4 (p := 68) f113_66 rfl ?_
      refine le2_gd (fun h7 => ?_)
      refine r_invI (p := 71) f113_68 rfl rfl rfl (Or.inl h7) hd (Nat.le_of_ble_eq_true rfl) rfl rfl rfl (fun _ => rfl) (fun v5 m5 c5 => ?_)
      have hz5 := z_k c5 hz4
      refine r_isw4 (p := 73) f113_71 rfl rfl ?_
      refine r_goto (p := 16) f113_73 (by decide) rfl ?_
      exact le2_refl _
  · refine r_aln0 (p := 77) f113_76 rfl ?_
    refine le2_gd (fun h1 => ?_)
    refine r_invI (p := 80) f113_77 rfl rfl rfl (Or.inl h1) hd (Nat.le_of_ble_eq_true rfl) rfl rfl rfl (fun _ => rfl) (fun v1 m1 c1 => ?_)
    have hz1 := z_k c1 hz
    exact r_iret1 f113_80
/-! 114 PathStore$Patcher.step (LPathStore$Row;I)V -/
def w114_11 : List UInt8 := [180, 0, 68, 182, 0, 155, 21, 4, 21, 5, 182, 0, 194, 177]
abbrev u114_11 : List UInt8 := w114_11 ++ []
def w114_10 : List UInt8 := [29, 18, 192, 184, 0, 161, 153, 0, 7, 4, 167, 0, 4, 3, 184, 0, 100, 42, 43, 42, 43, 28, 42]
abbrev u114_10 : List UInt8 := w114_10 ++ u114_11
def w114_9 : List UInt8 := [182, 0, 186, 184, 0, 100, 167, 0, 54, 43, 29, 18, 190, 184, 0, 161, 54, 5, 21, 5, 154, 0, 13, 43]
abbrev u114_9 : List UInt8 := w114_9 ++ u114_10
def w114_8 : List UInt8 := [21, 4, 182, 0, 173, 42, 42, 180, 0, 89, 182, 0, 149, 42, 180, 0, 20, 42, 180, 0, 117, 43, 21, 5]
abbrev u114_8 : List UInt8 := w114_8 ++ u114_9
def w114_7 : List UInt8 := [167, 0, 107, 43, 29, 18, 184, 184, 0, 161, 153, 0, 46, 42, 43, 28, 182, 0, 165, 54, 5, 42, 43]
abbrev u114_7 : List UInt8 := w114_7 ++ u114_8
def w114_6 : List UInt8 := [180, 0, 117, 42, 180, 0, 20, 42, 180, 0, 117, 182, 0, 92, 42, 180, 0, 117, 100, 3, 182, 0, 145]
abbrev u114_6 : List UInt8 := w114_6 ++ u114_7
def w114_5 : List UInt8 := [182, 0, 165, 182, 0, 169, 42, 43, 21, 4, 182, 0, 173, 42, 42, 180, 0, 89, 182, 0, 149, 42, 42]
abbrev u114_5 : List UInt8 := w114_5 ++ u114_6
def w114_4 : List UInt8 := [42, 182, 0, 180, 167, 0, 171, 43, 29, 18, 182, 184, 0, 161, 153, 0, 57, 42, 43, 42, 43, 28]
abbrev u114_4 : List UInt8 := w114_4 ++ u114_5
def w114_3 : List UInt8 := [42, 182, 0, 176, 167, 0, 195, 43, 29, 18, 178, 184, 0, 161, 153, 0, 17, 42, 43, 21, 4, 182, 0, 173]
abbrev u114_3 : List UInt8 := w114_3 ++ u114_4
def w114_2 : List UInt8 := [184, 0, 161, 153, 0, 28, 42, 43, 42, 43, 28, 182, 0, 165, 182, 0, 169, 42, 43, 21, 4, 182, 0, 173]
abbrev u114_2 : List UInt8 := w114_2 ++ u114_3
def w114_1 : List UInt8 := [180, 0, 55, 182, 0, 155, 62, 42, 43, 28, 42, 180, 0, 60, 182, 0, 155, 54, 4, 43, 29, 18, 159]
abbrev u114_1 : List UInt8 := w114_1 ++ u114_2
def w114_0 : List UInt8 := [43, 28, 182, 0, 123, 16, 6, 160, 0, 7, 4, 167, 0, 4, 3, 184, 0, 100, 42, 43, 28, 42]
abbrev u114_0 : List UInt8 := w114_0 ++ u114_1
theorem s114_0 : (prog_17_method_15_code).data.toList.drop 0 = u114_0 := by decide +kernel
theorem s114_1 : (prog_17_method_15_code).data.toList.drop 22 = u114_1 := dk_seg s114_0 22 rfl rfl
theorem s114_2 : (prog_17_method_15_code).data.toList.drop 45 = u114_2 := dk_seg s114_1 23 rfl rfl
theorem s114_3 : (prog_17_method_15_code).data.toList.drop 69 = u114_3 := dk_seg s114_2 24 rfl rfl
theorem s114_4 : (prog_17_method_15_code).data.toList.drop 93 = u114_4 := dk_seg s114_3 24 rfl rfl
theorem s114_5 : (prog_17_method_15_code).data.toList.drop 115 = u114_5 := dk_seg s114_4 22 rfl rfl
theorem s114_6 : (prog_17_method_15_code).data.toList.drop 138 = u114_6 := dk_seg s114_5 23 rfl rfl
theorem s114_7 : (prog_17_method_15_code).data.toList.drop 161 = u114_7 := dk_seg s114_6 23 rfl rfl
theorem s114_8 : (prog_17_method_15_code).data.toList.drop 184 = u114_8 := dk_seg s114_7 23 rfl rfl
theorem s114_9 : (prog_17_method_15_code).data.toList.drop 208 = u114_9 := dk_seg s114_8 24 rfl rfl
theorem s114_10 : (prog_17_method_15_code).data.toList.drop 232 = u114_10 := dk_seg s114_9 24 rfl rfl
theorem s114_11 : (prog_17_method_15_code).data.toList.drop 255 = u114_11 := dk_seg s114_10 23 rfl rfl
theorem Fm114 {pc len : Nat} {i : Instr} (h : decode (prog_17_method_15_code) pc = .ok (i, len)) (hl : len = ilen i len) : ft 114 pc = some (7, 0, 0, i, len) := ft_mk rfl h hl
theorem f114_0 : ft 114 0 = some (7, 0, 0, .aload_n 1, 1) := Fm114 (dk_43 (dk_at s114_0 0 rfl rfl)) rfl
theorem f114_1 : ft 114 1 = some (7, 0, 0, .iload_n 2, 1) := Fm114 (dk_28 (dk_at s114_0 1 rfl rfl)) rfl
theorem f114_2 : ft 114 2 = some (7, 0, 0, .invokevirtual 123, 3) := Fm114 (dk_182 0 123 (dk_at s114_0 2 rfl rfl)) rfl
theorem f114_5 : ft 114 5 = some (7, 0, 0, .bipush 6, 2) := Fm114 (dk_16 6 (dk_at s114_0 5 rfl rfl)) rfl
theorem f114_7 : ft 114 7 = some (7, 0, 0, .if_icmp .ne 7, 3) := Fm114 (dk_160 0 7 (dk_at s114_0 7 rfl rfl)) rfl
theorem f114_10 : ft 114 10 = some (7, 0, 0, .iconst 1, 1) := Fm114 (dk_4 (dk_at s114_0 10 rfl rfl)) rfl
theorem f114_11 : ft 114 11 = some (7, 0, 0, .goto 4, 3) := Fm114 (dk_167 0 4 (dk_at s114_0 11 rfl rfl)) rfl
theorem f114_14 : ft 114 14 = some (7, 0, 0, .iconst 0, 1) := Fm114 (dk_3 (dk_at s114_0 14 rfl rfl)) rfl
theorem f114_15 : ft 114 15 = some (7, 0, 0, .invokestatic 100, 3) := Fm114 (dk_184 0 100 (dk_at s114_0 15 rfl rfl)) rfl
theorem f114_18 : ft 114 18 = some (7, 0, 0, .aload_n 0, 1) := Fm114 (dk_42 (dk_at s114_0 18 rfl rfl)) rfl
theorem f114_19 : ft 114 19 = some (7, 0, 0, .aload_n 1, 1) := Fm114 (dk_43 (dk_at s114_0 19 rfl rfl)) rfl
theorem f114_20 : ft 114 20 = some (7, 0, 0, .iload_n 2, 1) := Fm114 (dk_28 (dk_at s114_0 20 rfl rfl)) rfl
theorem f114_21 : ft 114 21 = some (7, 0, 0, .aload_n 0, 1) := Fm114 (dk_42 (dk_at s114_0 21 rfl rfl)) rfl
theorem f114_22 : ft 114 22 = some (7, 0, 0, .getfield 55, 3) := Fm114 (dk_180 0 55 (dk_at s114_1 0 rfl rfl)) rfl
theorem f114_25 : ft 114 25 = some (7, 0, 0, .invokevirtual 155, 3) := Fm114 (dk_182 0 155 (dk_at s114_1 3 rfl rfl)) rfl
theorem f114_28 : ft 114 28 = some (7, 0, 0, .istore_n 3, 1) := Fm114 (dk_62 (dk_at s114_1 6 rfl rfl)) rfl
theorem f114_29 : ft 114 29 = some (7, 0, 0, .aload_n 0, 1) := Fm114 (dk_42 (dk_at s114_1 7 rfl rfl)) rfl
theorem f114_30 : ft 114 30 = some (7, 0, 0, .aload_n 1, 1) := Fm114 (dk_43 (dk_at s114_1 8 rfl rfl)) rfl
theorem f114_31 : ft 114 31 = some (7, 0, 0, .iload_n 2, 1) := Fm114 (dk_28 (dk_at s114_1 9 rfl rfl)) rfl
theorem f114_32 : ft 114 32 = some (7, 0, 0, .aload_n 0, 1) := Fm114 (dk_42 (dk_at s114_1 10 rfl rfl)) rfl
theorem f114_33 : ft 114 33 = some (7, 0, 0, .getfield 60, 3) := Fm114 (dk_180 0 60 (dk_at s114_1 11 rfl rfl)) rfl
theorem f114_36 : ft 114 36 = some (7, 0, 0, .invokevirtual 155, 3) := Fm114 (dk_182 0 155 (dk_at s114_1 14 rfl rfl)) rfl
theorem f114_39 : ft 114 39 = some (7, 0, 0, .istore 4, 2) := Fm114 (dk_54 4 (dk_at s114_1 17 rfl rfl)) rfl
theorem f114_41 : ft 114 41 = some (7, 0, 0, .aload_n 1, 1) := Fm114 (dk_43 (dk_at s114_1 19 rfl rfl)) rfl
theorem f114_42 : ft 114 42 = some (7, 0, 0, .iload_n 3, 1) := Fm114 (dk_29 (dk_at s114_1 20 rfl rfl)) rfl
theorem f114_43 : ft 114 43 = some (7, 0, 0, .ldc 159, 2) := Fm114 (dk_18 159 (dk_at s114_1 21 rfl rfl)) rfl
theorem f114_45 : ft 114 45 = some (7, 0, 0, .invokestatic 161, 3) := Fm114 (dk_184 0 161 (dk_at s114_2 0 rfl rfl)) rfl
theorem f114_48 : ft 114 48 = some (7, 0, 0, .ifCond .eq 28, 3) := Fm114 (dk_153 0 28 (dk_at s114_2 3 rfl rfl)) rfl
theorem f114_51 : ft 114 51 = some (7, 0, 0, .aload_n 0, 1) := Fm114 (dk_42 (dk_at s114_2 6 rfl rfl)) rfl
theorem f114_52 : ft 114 52 = some (7, 0, 0, .aload_n 1, 1) := Fm114 (dk_43 (dk_at s114_2 7 rfl rfl)) rfl
theorem f114_53 : ft 114 53 = some (7, 0, 0, .aload_n 0, 1) := Fm114 (dk_42 (dk_at s114_2 8 rfl rfl)) rfl
theorem f114_54 : ft 114 54 = some (7, 0, 0, .aload_n 1, 1) := Fm114 (dk_43 (dk_at s114_2 9 rfl rfl)) rfl
theorem f114_55 : ft 114 55 = some (7, 0, 0, .iload_n 2, 1) := Fm114 (dk_28 (dk_at s114_2 10 rfl rfl)) rfl
theorem f114_56 : ft 114 56 = some (7, 0, 0, .invokevirtual 165, 3) := Fm114 (dk_182 0 165 (dk_at s114_2 11 rfl rfl)) rfl
theorem f114_59 : ft 114 59 = some (7, 0, 0, .invokevirtual 169, 3) := Fm114 (dk_182 0 169 (dk_at s114_2 14 rfl rfl)) rfl
theorem f114_62 : ft 114 62 = some (7, 0, 0, .aload_n 0, 1) := Fm114 (dk_42 (dk_at s114_2 17 rfl rfl)) rfl
theorem f114_63 : ft 114 63 = some (7, 0, 0, .aload_n 1, 1) := Fm114 (dk_43 (dk_at s114_2 18 rfl rfl)) rfl
theorem f114_64 : ft 114 64 = some (7, 0, 0, .iload 4, 2) := Fm114 (dk_21 4 (dk_at s114_2 19 rfl rfl)) rfl
theorem f114_66 : ft 114 66 = some (7, 0, 0, .invokevirtual 173, 3) := Fm114 (dk_182 0 173 (dk_at s114_2 21 rfl rfl)) rfl
theorem f114_69 : ft 114 69 = some (7, 0, 0, .aload_n 0, 1) := Fm114 (dk_42 (dk_at s114_3 0 rfl rfl)) rfl
theorem f114_70 : ft 114 70 = some (7, 0, 0, .invokevirtual 176, 3) := Fm114 (dk_182 0 176 (dk_at s114_3 1 rfl rfl)) rfl
theorem f114_73 : ft 114 73 = some (7, 0, 0, .goto 195, 3) := Fm114 (dk_167 0 195 (dk_at s114_3 4 rfl rfl)) rfl
theorem f114_76 : ft 114 76 = some (7, 0, 0, .aload_n 1, 1) := Fm114 (dk_43 (dk_at s114_3 7 rfl rfl)) rfl
theorem f114_77 : ft 114 77 = some (7, 0, 0, .iload_n 3, 1) := Fm114 (dk_29 (dk_at s114_3 8 rfl rfl)) rfl
theorem f114_78 : ft 114 78 = some (7, 0, 0, .ldc 178, 2) := Fm114 (dk_18 178 (dk_at s114_3 9 rfl rfl)) rfl
theorem f114_80 : ft 114 80 = some (7, 0, 0, .invokestatic 161, 3) := Fm114 (dk_184 0 161 (dk_at s114_3 11 rfl rfl)) rfl
theorem f114_83 : ft 114 83 = some (7, 0, 0, .ifCond .eq 17, 3) := Fm114 (dk_153 0 17 (dk_at s114_3 14 rfl rfl)) rfl
theorem f114_86 : ft 114 86 = some (7, 0, 0, .aload_n 0, 1) := Fm114 (dk_42 (dk_at s114_3 17 rfl rfl)) rfl
theorem f114_87 : ft 114 87 = some (7, 0, 0, .aload_n 1, 1) := Fm114 (dk_43 (dk_at s114_3 18 rfl rfl)) rfl
theorem f114_88 : ft 114 88 = some (7, 0, 0, .iload 4, 2) := Fm114 (dk_21 4 (dk_at s114_3 19 rfl rfl)) rfl
theorem f114_90 : ft 114 90 = some (7, 0, 0, .invokevirtual 173, 3) := Fm114 (dk_182 0 173 (dk_at s114_3 21 rfl rfl)) rfl
theorem f114_93 : ft 114 93 = some (7, 0, 0, .aload_n 0, 1) := Fm114 (dk_42 (dk_at s114_4 0 rfl rfl)) rfl
theorem f114_94 : ft 114 94 = some (7, 0, 0, .invokevirtual 180, 3) := Fm114 (dk_182 0 180 (dk_at s114_4 1 rfl rfl)) rfl
theorem f114_97 : ft 114 97 = some (7, 0, 0, .goto 171, 3) := Fm114 (dk_167 0 171 (dk_at s114_4 4 rfl rfl)) rfl
theorem f114_100 : ft 114 100 = some (7, 0, 0, .aload_n 1, 1) := Fm114 (dk_43 (dk_at s114_4 7 rfl rfl)) rfl
theorem f114_101 : ft 114 101 = some (7, 0, 0, .iload_n 3, 1) := Fm114 (dk_29 (dk_at s114_4 8 rfl rfl)) rfl
theorem f114_102 : ft 114 102 = some (7, 0, 0, .ldc 182, 2) := Fm114 (dk_18 182 (dk_at s114_4 9 rfl rfl)) rfl
theorem f114_104 : ft 114 104 = some (7, 0, 0, .invokestatic 161, 3) := Fm114 (dk_184 0 161 (dk_at s114_4 11 rfl rfl)) rfl
theorem f114_107 : ft 114 107 = some (7, 0, 0, .ifCond .eq 57, 3) := Fm114 (dk_153 0 57 (dk_at s114_4 14 rfl rfl)) rfl
theorem f114_110 : ft 114 110 = some (7, 0, 0, .aload_n 0, 1) := Fm114 (dk_42 (dk_at s114_4 17 rfl rfl)) rfl
theorem f114_111 : ft 114 111 = some (7, 0, 0, .aload_n 1, 1) := Fm114 (dk_43 (dk_at s114_4 18 rfl rfl)) rfl
theorem f114_112 : ft 114 112 = some (7, 0, 0, .aload_n 0, 1) := Fm114 (dk_42 (dk_at s114_4 19 rfl rfl)) rfl
theorem f114_113 : ft 114 113 = some (7, 0, 0, .aload_n 1, 1) := Fm114 (dk_43 (dk_at s114_4 20 rfl rfl)) rfl
theorem f114_114 : ft 114 114 = some (7, 0, 0, .iload_n 2, 1) := Fm114 (dk_28 (dk_at s114_4 21 rfl rfl)) rfl
theorem f114_115 : ft 114 115 = some (7, 0, 0, .invokevirtual 165, 3) := Fm114 (dk_182 0 165 (dk_at s114_5 0 rfl rfl)) rfl
theorem f114_118 : ft 114 118 = some (7, 0, 0, .invokevirtual 169, 3) := Fm114 (dk_182 0 169 (dk_at s114_5 3 rfl rfl)) rfl
theorem f114_121 : ft 114 121 = some (7, 0, 0, .aload_n 0, 1) := Fm114 (dk_42 (dk_at s114_5 6 rfl rfl)) rfl
theorem f114_122 : ft 114 122 = some (7, 0, 0, .aload_n 1, 1) := Fm114 (dk_43 (dk_at s114_5 7 rfl rfl)) rfl
theorem f114_123 : ft 114 123 = some (7, 0, 0, .iload 4, 2) := Fm114 (dk_21 4 (dk_at s114_5 8 rfl rfl)) rfl
theorem f114_125 : ft 114 125 = some (7, 0, 0, .invokevirtual 173, 3) := Fm114 (dk_182 0 173 (dk_at s114_5 10 rfl rfl)) rfl
theorem f114_128 : ft 114 128 = some (7, 0, 0, .aload_n 0, 1) := Fm114 (dk_42 (dk_at s114_5 13 rfl rfl)) rfl
theorem f114_129 : ft 114 129 = some (7, 0, 0, .aload_n 0, 1) := Fm114 (dk_42 (dk_at s114_5 14 rfl rfl)) rfl
theorem f114_130 : ft 114 130 = some (7, 0, 0, .getfield 89, 3) := Fm114 (dk_180 0 89 (dk_at s114_5 15 rfl rfl)) rfl
theorem f114_133 : ft 114 133 = some (7, 0, 0, .invokevirtual 149, 3) := Fm114 (dk_182 0 149 (dk_at s114_5 18 rfl rfl)) rfl
theorem f114_136 : ft 114 136 = some (7, 0, 0, .aload_n 0, 1) := Fm114 (dk_42 (dk_at s114_5 21 rfl rfl)) rfl
theorem f114_137 : ft 114 137 = some (7, 0, 0, .aload_n 0, 1) := Fm114 (dk_42 (dk_at s114_5 22 rfl rfl)) rfl
theorem f114_138 : ft 114 138 = some (7, 0, 0, .getfield 117, 3) := Fm114 (dk_180 0 117 (dk_at s114_6 0 rfl rfl)) rfl
theorem f114_141 : ft 114 141 = some (7, 0, 0, .aload_n 0, 1) := Fm114 (dk_42 (dk_at s114_6 3 rfl rfl)) rfl
theorem f114_142 : ft 114 142 = some (7, 0, 0, .getfield 20, 3) := Fm114 (dk_180 0 20 (dk_at s114_6 4 rfl rfl)) rfl
theorem f114_145 : ft 114 145 = some (7, 0, 0, .aload_n 0, 1) := Fm114 (dk_42 (dk_at s114_6 7 rfl rfl)) rfl
theorem f114_146 : ft 114 146 = some (7, 0, 0, .getfield 117, 3) := Fm114 (dk_180 0 117 (dk_at s114_6 8 rfl rfl)) rfl
theorem f114_149 : ft 114 149 = some (7, 0, 0, .invokevirtual 92, 3) := Fm114 (dk_182 0 92 (dk_at s114_6 11 rfl rfl)) rfl
theorem f114_152 : ft 114 152 = some (7, 0, 0, .aload_n 0, 1) := Fm114 (dk_42 (dk_at s114_6 14 rfl rfl)) rfl
theorem f114_153 : ft 114 153 = some (7, 0, 0, .getfield 117, 3) := Fm114 (dk_180 0 117 (dk_at s114_6 15 rfl rfl)) rfl
theorem f114_156 : ft 114 156 = some (7, 0, 0, .isub, 1) := Fm114 (dk_100 (dk_at s114_6 18 rfl rfl)) rfl
theorem f114_157 : ft 114 157 = some (7, 0, 0, .iconst 0, 1) := Fm114 (dk_3 (dk_at s114_6 19 rfl rfl)) rfl
theorem f114_158 : ft 114 158 = some (7, 0, 0, .invokevirtual 145, 3) := Fm114 (dk_182 0 145 (dk_at s114_6 20 rfl rfl)) rfl
theorem f114_161 : ft 114 161 = some (7, 0, 0, .goto 107, 3) := Fm114 (dk_167 0 107 (dk_at s114_7 0 rfl rfl)) rfl
theorem f114_164 : ft 114 164 = some (7, 0, 0, .aload_n 1, 1) := Fm114 (dk_43 (dk_at s114_7 3 rfl rfl)) rfl
theorem f114_165 : ft 114 165 = some (7, 0, 0, .iload_n 3, 1) := Fm114 (dk_29 (dk_at s114_7 4 rfl rfl)) rfl
theorem f114_166 : ft 114 166 = some (7, 0, 0, .ldc 184, 2) := Fm114 (dk_18 184 (dk_at s114_7 5 rfl rfl)) rfl
theorem f114_168 : ft 114 168 = some (7, 0, 0, .invokestatic 161, 3) := Fm114 (dk_184 0 161 (dk_at s114_7 7 rfl rfl)) rfl
theorem f114_171 : ft 114 171 = some (7, 0, 0, .ifCond .eq 46, 3) := Fm114 (dk_153 0 46 (dk_at s114_7 10 rfl rfl)) rfl
theorem f114_174 : ft 114 174 = some (7, 0, 0, .aload_n 0, 1) := Fm114 (dk_42 (dk_at s114_7 13 rfl rfl)) rfl
theorem f114_175 : ft 114 175 = some (7, 0, 0, .aload_n 1, 1) := Fm114 (dk_43 (dk_at s114_7 14 rfl rfl)) rfl
theorem f114_176 : ft 114 176 = some (7, 0, 0, .iload_n 2, 1) := Fm114 (dk_28 (dk_at s114_7 15 rfl rfl)) rfl
theorem f114_177 : ft 114 177 = some (7, 0, 0, .invokevirtual 165, 3) := Fm114 (dk_182 0 165 (dk_at s114_7 16 rfl rfl)) rfl
theorem f114_180 : ft 114 180 = some (7, 0, 0, .istore 5, 2) := Fm114 (dk_54 5 (dk_at s114_7 19 rfl rfl)) rfl
theorem f114_182 : ft 114 182 = some (7, 0, 0, .aload_n 0, 1) := Fm114 (dk_42 (dk_at s114_7 21 rfl rfl)) rfl
theorem f114_183 : ft 114 183 = some (7, 0, 0, .aload_n 1, 1) := Fm114 (dk_43 (dk_at s114_7 22 rfl rfl)) rfl
theorem f114_184 : ft 114 184 = some (7, 0, 0, .iload 4, 2) := Fm114 (dk_21 4 (dk_at s114_8 0 rfl rfl)) rfl
theorem f114_186 : ft 114 186 = some (7, 0, 0, .invokevirtual 173, 3) := Fm114 (dk_182 0 173 (dk_at s114_8 2 rfl rfl)) rfl
theorem f114_189 : ft 114 189 = some (7, 0, 0, .aload_n 0, 1) := Fm114 (dk_42 (dk_at s114_8 5 rfl rfl)) rfl
theorem f114_190 : ft 114 190 = some (7, 0, 0, .aload_n 0, 1) := Fm114 (dk_42 (dk_at s114_8 6 rfl rfl)) rfl
theorem f114_191 : ft 114 191 = some (7, 0, 0, .getfield 89, 3) := Fm114 (dk_180 0 89 (dk_at s114_8 7 rfl rfl)) rfl
theorem f114_194 : ft 114 194 = some (7, 0, 0, .invokevirtual 149, 3) := Fm114 (dk_182 0 149 (dk_at s114_8 10 rfl rfl)) rfl
theorem f114_197 : ft 114 197 = some (7, 0, 0, .aload_n 0, 1) := Fm114 (dk_42 (dk_at s114_8 13 rfl rfl)) rfl
theorem f114_198 : ft 114 198 = some (7, 0, 0, .getfield 20, 3) := Fm114 (dk_180 0 20 (dk_at s114_8 14 rfl rfl)) rfl
theorem f114_201 : ft 114 201 = some (7, 0, 0, .aload_n 0, 1) := Fm114 (dk_42 (dk_at s114_8 17 rfl rfl)) rfl
theorem f114_202 : ft 114 202 = some (7, 0, 0, .getfield 117, 3) := Fm114 (dk_180 0 117 (dk_at s114_8 18 rfl rfl)) rfl
theorem f114_205 : ft 114 205 = some (7, 0, 0, .aload_n 1, 1) := Fm114 (dk_43 (dk_at s114_8 21 rfl rfl)) rfl
theorem f114_206 : ft 114 206 = some (7, 0, 0, .iload 5, 2) := Fm114 (dk_21 5 (dk_at s114_8 22 rfl rfl)) rfl
theorem f114_208 : ft 114 208 = some (7, 0, 0, .invokevirtual 186, 3) := Fm114 (dk_182 0 186 (dk_at s114_9 0 rfl rfl)) rfl
theorem f114_211 : ft 114 211 = some (7, 0, 0, .invokestatic 100, 3) := Fm114 (dk_184 0 100 (dk_at s114_9 3 rfl rfl)) rfl
theorem f114_214 : ft 114 214 = some (7, 0, 0, .goto 54, 3) := Fm114 (dk_167 0 54 (dk_at s114_9 6 rfl rfl)) rfl
theorem f114_217 : ft 114 217 = some (7, 0, 0, .aload_n 1, 1) := Fm114 (dk_43 (dk_at s114_9 9 rfl rfl)) rfl
theorem f114_218 : ft 114 218 = some (7, 0, 0, .iload_n 3, 1) := Fm114 (dk_29 (dk_at s114_9 10 rfl rfl)) rfl
theorem f114_219 : ft 114 219 = some (7, 0, 0, .ldc 190, 2) := Fm114 (dk_18 190 (dk_at s114_9 11 rfl rfl)) rfl
theorem f114_221 : ft 114 221 = some (7, 0, 0, .invokestatic 161, 3) := Fm114 (dk_184 0 161 (dk_at s114_9 13 rfl rfl)) rfl
theorem f114_224 : ft 114 224 = some (7, 0, 0, .istore 5, 2) := Fm114 (dk_54 5 (dk_at s114_9 16 rfl rfl)) rfl
theorem f114_226 : ft 114 226 = some (7, 0, 0, .iload 5, 2) := Fm114 (dk_21 5 (dk_at s114_9 18 rfl rfl)) rfl
theorem f114_228 : ft 114 228 = some (7, 0, 0, .ifCond .ne 13, 3) := Fm114 (dk_154 0 13 (dk_at s114_9 20 rfl rfl)) rfl
theorem f114_231 : ft 114 231 = some (7, 0, 0, .aload_n 1, 1) := Fm114 (dk_43 (dk_at s114_9 23 rfl rfl)) rfl
theorem f114_232 : ft 114 232 = some (7, 0, 0, .iload_n 3, 1) := Fm114 (dk_29 (dk_at s114_10 0 rfl rfl)) rfl
theorem f114_233 : ft 114 233 = some (7, 0, 0, .ldc 192, 2) := Fm114 (dk_18 192 (dk_at s114_10 1 rfl rfl)) rfl
theorem f114_235 : ft 114 235 = some (7, 0, 0, .invokestatic 161, 3) := Fm114 (dk_184 0 161 (dk_at s114_10 3 rfl rfl)) rfl
theorem f114_238 : ft 114 238 = some (7, 0, 0, .ifCond .eq 7, 3) := Fm114 (dk_153 0 7 (dk_at s114_10 6 rfl rfl)) rfl
theorem f114_241 : ft 114 241 = some (7, 0, 0, .iconst 1, 1) := Fm114 (dk_4 (dk_at s114_10 9 rfl rfl)) rfl
theorem f114_242 : ft 114 242 = some (7, 0, 0, .goto 4, 3) := Fm114 (dk_167 0 4 (dk_at s114_10 10 rfl rfl)) rfl
theorem f114_245 : ft 114 245 = some (7, 0, 0, .iconst 0, 1) := Fm114 (dk_3 (dk_at s114_10 13 rfl rfl)) rfl
theorem f114_246 : ft 114 246 = some (7, 0, 0, .invokestatic 100, 3) := Fm114 (dk_184 0 100 (dk_at s114_10 14 rfl rfl)) rfl
theorem f114_249 : ft 114 249 = some (7, 0, 0, .aload_n 0, 1) := Fm114 (dk_42 (dk_at s114_10 17 rfl rfl)) rfl
theorem f114_250 : ft 114 250 = some (7, 0, 0, .aload_n 1, 1) := Fm114 (dk_43 (dk_at s114_10 18 rfl rfl)) rfl
theorem f114_251 : ft 114 251 = some (7, 0, 0, .aload_n 0, 1) := Fm114 (dk_42 (dk_at s114_10 19 rfl rfl)) rfl
theorem f114_252 : ft 114 252 = some (7, 0, 0, .aload_n 1, 1) := Fm114 (dk_43 (dk_at s114_10 20 rfl rfl)) rfl
theorem f114_253 : ft 114 253 = some (7, 0, 0, .iload_n 2, 1) := Fm114 (dk_28 (dk_at s114_10 21 rfl rfl)) rfl
theorem f114_254 : ft 114 254 = some (7, 0, 0, .aload_n 0, 1) := Fm114 (dk_42 (dk_at s114_10 22 rfl rfl)) rfl
theorem f114_255 : ft 114 255 = some (7, 0, 0, .getfield 68, 3) := Fm114 (dk_180 0 68 (dk_at s114_11 0 rfl rfl)) rfl
theorem f114_258 : ft 114 258 = some (7, 0, 0, .invokevirtual 155, 3) := Fm114 (dk_182 0 155 (dk_at s114_11 3 rfl rfl)) rfl
theorem f114_261 : ft 114 261 = some (7, 0, 0, .iload 4, 2) := Fm114 (dk_21 4 (dk_at s114_11 6 rfl rfl)) rfl
theorem f114_263 : ft 114 263 = some (7, 0, 0, .iload 5, 2) := Fm114 (dk_21 5 (dk_at s114_11 8 rfl rfl)) rfl
theorem f114_265 : ft 114 265 = some (7, 0, 0, .invokevirtual 194, 3) := Fm114 (dk_182 0 194 (dk_at s114_11 10 rfl rfl)) rfl
theorem f114_268 : ft 114 268 = some (7, 0, 0, .return_, 1) := Fm114 (dk_177 (dk_at s114_11 13 rfl rfl)) rfl
theorem q114 {d : Nat} {m : Mem} {a0 a1 a2 : Int} (hd : 0 < d) (hz : TZ m) : le2 (gd (tg m a1 = 8) <| bI (cl (d - 1) 139 [pR a1, pI a2] m) fun v1 m1 => if v1 = 6 then (rn d 114 15 [pR a0, pR a1, pI a2, pU, pU, pU] [pI 1] m1) else rn d 114 15 [pR a0, pR a1, pI a2, pU, pU, pU] [pI 0] m1) (cl d 114 [pR a0, pR a1, pI a2] m) := by
  refine q_in (n := 6) (L := [pR a0, pR a1, pI a2, pU, pU, pU]) rfl rfl rfl ?_
  refine r_aln1 (p := 1) f114_0 rfl ?_
  refine r_iln2 (p := 2) f114_1 rfl ?_
  refine le2_gd (fun h1 => ?_)
  refine r_invI (p := 5) f114_2 rfl rfl rfl (Or.inl h1) hd (Nat.le_of_ble_eq_true rfl) rfl rfl rfl (fun _ => rfl) (fun v1 m1 c1 => ?_)
  have hz1 := z_k c1 hz
  refine r_bipush (p := 7) f114_5 rfl (pinD rfl rfl) ?_
  refine r_icne (t := 14) (p := 10) f114_7 (by decide) rfl rfl ?_ ?_
  · refine r_iconst (p := 11) f114_10 rfl (pinD rfl rfl) ?_
    refine r_goto (p := 15) f114_11 (by decide) rfl ?_
    exact le2_refl _
  · refine r_iconst (p := 15) f114_14 rfl (pinD rfl rfl) ?_
    exact le2_refl _
theorem q114_15 {d : Nat} {m : Mem} {a0 a1 a2 s0 : Int} (hd : 0 < d) (hz : TZ m) : le2 (bV (cl (d - 1) 115 [pI s0] m) fun m1 => gd (tg m1 a0 = 7) <| bI (cl (d - 1) 116 [pR a0, pR a1, pI a2, pI (vl m1 a0 1)] m1) fun v2 m2 => bI (cl (d - 1) 116 [pR a0, pR a1, pI a2, pI (vl m2 a0 2)] m2) fun v3 m3 => bI (cl (d - 1) 117 [pR a1, pI v2, pR 22] m3) fun v4 m4 => if v4 = 0 then (bI (cl (d - 1) 117 [pR a1, pI v2, pR 24] m4) fun v5 m5 => if v5 = 0 then (bI (cl (d - 1) 117 [pR a1, pI v2, pR 26] m5) fun v6 m6 => if v6 = 0 then (bI (cl (d - 1) 117 [pR a1, pI v2, pR 28] m6) fun v7 m7 => if v7 = 0 then (bI (cl (d - 1) 117 [pR a1, pI v2, pR 30] m7) fun v8 m8 => if v8 = 0 then (bI (cl (d - 1) 117 [pR a1, pI v2, pR 32] m8) fun v9 m9 => if v9 = 0 then (rn d 114 246 [pR a0, pR a1, pI a2, pI v2, pI v3, pI v8] [pI 0] m9) else rn d 114 246 [pR a0, pR a1, pI a2, pI v2, pI v3, pI v8] [pI 1] m9) else rn d 114 246 [pR a0, pR a1, pI a2, pI v2, pI v3, pI v8] [pI 1] m8) else bI (cl (d - 1) 118 [pR a0, pR a1, pI a2] m7) fun v10 m10 => bV (cl (d - 1) 120 [pR a0, pR a1, pI v3] m10) fun m11 => bV (cl (d - 1) 123 [pR a0, pI (vl m11 a0 11)] m11) fun m12 => nm (vl m12 a0 5) fun v27 => gd (tg m12 v27 = 8) <| bI (cl (d - 1) 147 [pR v27, pI (vl m12 a0 14), pR a1, pI v10] m12) fun v13 m13 => bV (cl (d - 1) 115 [pI v13] m13) fun m14 => some (.inl none, m14)) else bI (cl (d - 1) 118 [pR a0, pR a1, pI a2] m6) fun v15 m15 => bV (cl (d - 1) 119 [pR a0, pR a1, pI v15] m15) fun m16 => bV (cl (d - 1) 120 [pR a0, pR a1, pI v3] m16) fun m17 => bV (cl (d - 1) 123 [pR a0, pI (vl m17 a0 11)] m17) fun m18 => nm (vl m18 a0 14) fun v28 => nm (vl m18 a0 5) fun v29 => gd (tg m18 v29 = 8) <| bI (cl (d - 1) 137 [pR v29, pI v28] m18) fun v19 m19 => bV (cl (d - 1) 122 [pR a0, pI v28, pI (w32 (v19 - (vl m19 a0 14))), pI 0] m19) fun m20 => some (.inl none, m20)) else bV (cl (d - 1) 120 [pR a0, pR a1, pI v3] m5) fun m21 => bV (cl (d - 1) 126 [pR a0] m21) fun m22 => some (.inl none, m22)) else bI (cl (d - 1) 118 [pR a0, pR a1, pI a2] m4) fun v23 m23 => bV (cl (d - 1) 119 [pR a0, pR a1, pI v23] m23) fun m24 => bV (cl (d - 1) 120 [pR a0, pR a1, pI v3] m24) fun m25 => bV (cl (d - 1) 121 [pR a0] m25) fun m26 => some (.inl none, m26)) (rn d 114 15 [pR a0, pR a1, pI a2, pU, pU, pU] [pI s0] m) := by
  refine r_istV (p := 18) f114_15 rfl rfl rfl hd (Nat.le_of_ble_eq_true rfl) rfl rfl rfl (fun _ => rfl) (fun m1 c1 => ?_)
  have hz1 := z_k c1 hz
  refine r_aln0 (p := 19) f114_18 rfl ?_
  refine r_aln1 (p := 20) f114_19 rfl ?_
  refine r_iln2 (p := 21) f114_20 rfl ?_
  refine r_aln0 (p := 22) f114_21 rfl ?_
  refine le2_gd (fun h1 => ?_)
  refine r_gfI (f := 1) (p := 25) f114_22 rfl rfl rfl (Or.inl h1) rfl ?_
  refine r_invI (p := 28) f114_25 rfl rfl rfl (Or.inl h1) hd (Nat.le_of_ble_eq_true rfl) rfl rfl rfl (fun _ => rfl) (fun v2 m2 c2 => ?_)
  have hz2 := z_k c2 hz1
  refine r_isn3 (p := 29) f114_28 rfl rfl ?_
  refine r_aln0 (p := 30) f114_29 rfl ?_
  refine r_aln1 (p := 31) f114_30 rfl ?_
  refine r_iln2 (p := 32) f114_31 rfl ?_
  refine r_aln0 (p := 33) f114_32 rfl ?_
  have h2 := k_t1 c2 hz1 h1 (by decide)
  refine r_gfI (f := 2) (p := 36) f114_33 rfl rfl rfl (Or.inl h2) rfl ?_
  refine r_invI (p := 39) f114_36 rfl rfl rfl (Or.inl h2) hd (Nat.le_of_ble_eq_true rfl) rfl rfl rfl (fun _ => rfl) (fun v3 m3 c3 => ?_)
  have hz3 := z_k c3 hz2
  refine r_isw4 (p := 41) f114_39 rfl rfl ?_
  refine r_aln1 (p := 42) f114_41 rfl ?_
  refine r_iln3 (p := 43) f114_42 rfl ?_
  refine r_ldcR (p := 45) f114_43 rfl rfl ?_
  refine r_istI (p := 48) f114_45 rfl rfl rfl hd (Nat.le_of_ble_eq_true rfl) rfl rfl rfl (fun _ => rfl) (fun v4 m4 c4 => ?_)
  have hz4 := z_k c4 hz3
  refine r_ifeq (t := 76) (p := 51) f114_48 (by decide) rfl rfl ?_ ?_
  · refine r_aln1 (p := 77) f114_76 rfl ?_
    refine r_iln3 (p := 78) f114_77 rfl ?_
    refine r_ldcR (p := 80) f114_78 rfl rfl ?_
    refine r_istI (p := 83) f114_80 rfl rfl rfl hd (Nat.le_of_ble_eq_true rfl) rfl rfl rfl (fun _ => rfl) (fun v5 m5 c5 => ?_)
    have hz5 := z_k c5 hz4
    refine r_ifeq (t := 100) (p := 86) f114_83 (by decide) rfl rfl ?_ ?_
    · refine r_aln1 (p := 101) f114_100 rfl ?_
      refine r_iln3 (p := 102) f114_101 rfl ?_
      refine r_ldcR (p := 104) f114_102 rfl rfl ?_
      refine r_istI (p := 107) f114_104 rfl rfl rfl hd (Nat.le_of_ble_eq_true rfl) rfl rfl rfl (fun _ => rfl) (fun v6 m6 c6 => ?_)
      have hz6 := z_k c6 hz5
      refine r_ifeq (t := 164) (p := 110) f114_107 (by decide) rfl rfl ?_ ?_
      · refine r_aln1 (p := 165) f114_164 rfl ?_
        refine r_iln3 (p := 166) f114_165 rfl ?_
        refine r_ldcR (p := 168) f114_166 rfl rfl ?_
        refine r_istI (p := 171) f114_168 rfl rfl rfl hd (Nat.le_of_ble_eq_true rfl) rfl rfl rfl (fun _ => rfl) (fun v7 m7 c7 => ?_)
        have hz7 := z_k c7 hz6
        refine r_ifeq (t := 217) (p := 174) f114_171 (by decide) rfl rfl ?_ ?_
        · refine r_aln1 (p := 218) f114_217 rfl ?_
          refine r_iln3 (p := 219) f114_218 rfl ?_
          refine r_ldcR (p := 221) f114_219 rfl rfl ?_
          refine r_istI (p := 224) f114_221 rfl rfl rfl hd (Nat.le_of_ble_eq_true rfl) rfl rfl rfl (fun _ => rfl) (fun v8 m8 c8 => ?_)
          have hz8 := z_k c8 hz7
          refine r_isw5 (p := 226) f114_224 rfl rfl ?_
          refine r_ilw5 (p := 228) f114_226 rfl ?_
          refine r_ifne (t := 241) (p := 231) f114_228 (by decide) rfl rfl ?_ ?_
          · refine r_aln1 (p := 232) f114_231 rfl ?_
            refine r_iln3 (p := 233) f114_232 rfl ?_
            refine r_ldcR (p := 235) f114_233 rfl rfl ?_
            refine r_istI (p := 238) f114_235 rfl rfl rfl hd (Nat.le_of_ble_eq_true rfl) rfl rfl rfl (fun _ => rfl) (fun v9 m9 c9 => ?_)
            have hz9 := z_k c9 hz8
            refine r_ifeq (t := 245) (p := 241) f114_238 (by decide) rfl rfl ?_ ?_
            · refine r_iconst (p := 246) f114_245 rfl (pinD rfl rfl) ?_
              exact le2_refl _
            · refine r_iconst (p := 242) f114_241 rfl (pinD rfl rfl) ?_
              refine r_goto (p := 246) f114_242 (by decide) rfl ?_
              exact le2_refl _
          · refine r_iconst (p := 242) f114_241 rfl (pinD rfl rfl) ?_
            refine r_goto (p := 246) f114_242 (by decide) rfl ?_
            exact le2_refl _
        · refine r_aln0 (p := 175) f114_174 rfl ?_
          refine r_aln1 (p := 176) f114_175 rfl ?_
          refine r_iln2 (p := 177) f114_176 rfl ?_
          have h3 := k_t1 c3 hz2 h2 (by decide)
          have h4 := k_t1 c4 hz3 h3 (by decide)
          have h5 := k_t1 c5 hz4 h4 (by decide)
          have h6 := k_t1 c6 hz5 h5 (by decide)
          have h7 := k_t1 c7 hz6 h6 (by decide)
          refine r_invI (p := 180) f114_177 rfl rfl rfl (Or.inl h7) hd (Nat.le_of_ble_eq_true rfl) rfl rfl rfl (fun _ => rfl) (fun v10 m10 c10 => ?_)
          have hz10 := z_k c10 hz7
          refine r_isw5 (p := 182) f114_180 rfl rfl ?_
          refine r_aln0 (p := 183) f114_182 rfl ?_
          refine r_aln1 (p := 184) f114_183 rfl ?_
          refine r_ilw4 (p := 186) f114_184 rfl ?_
          have h8 := k_t1 c10 hz7 h7 (by decide)
          refine r_invV (p := 189) f114_186 rfl rfl rfl (Or.inl h8) hd (Nat.le_of_ble_eq_true rfl) rfl rfl rfl (fun _ => rfl) (fun m11 c11 => ?_)
          have hz11 := z_k c11 hz10
          refine r_aln0 (p := 190) f114_189 rfl ?_
          refine r_aln0 (p := 191) f114_190 rfl ?_
          have h9 := k_t1 c11 hz10 h8 (by decide)
          refine r_gfI (f := 11) (p := 194) f114_191 rfl rfl rfl (Or.inl h9) rfl ?_
          refine r_invV (p := 197) f114_194 rfl rfl rfl (Or.inl h9) hd (Nat.le_of_ble_eq_true rfl) rfl rfl rfl (fun _ => rfl) (fun m12 c12 => ?_)
          have hz12 := z_k c12 hz11
          refine r_aln0 (p := 198) f114_197 rfl ?_
          have h10 := k_t1 c12 hz11 h9 (by decide)
          refine r_gfR (f := 5) (p := 201) f114_198 rfl rfl rfl (Or.inl h10) rfl ?_
          refine r_nmR (fun v27 ev27 => ?_)
          refine r_aln0 (p := 202) f114_201 rfl ?_
          refine r_gfI (f := 14) (p := 205) f114_202 rfl rfl rfl (Or.inl h10) rfl ?_
          refine r_aln1 (p := 206) f114_205 rfl ?_
          refine r_ilw5 (p := 208) f114_206 rfl ?_
          refine le2_gd (fun h11 => ?_)
          refine r_invI (p := 211) f114_208 rfl rfl rfl (Or.inl h11) hd (Nat.le_of_ble_eq_true rfl) rfl rfl rfl (fun _ => rfl) (fun v13 m13 c13 => ?_)
          have hz13 := z_k c13 hz12
          refine r_istV (p := 214) f114_211 rfl rfl rfl hd (Nat.le_of_ble_eq_true rfl) rfl rfl rfl (fun _ => rfl) (fun m14 c14 => ?_)
          have hz14 := z_k c14 hz13
          refine r_goto (p := 268) f114_214 (by decide) rfl ?_
          exact r_ret f114_268
      · refine r_aln0 (p := 111) f114_110 rfl ?_
        refine r_aln1 (p := 112) f114_111 rfl ?_
        refine r_aln0 (p := 113) f114_112 rfl ?_
        refine r_aln1 (p := 114) f114_113 rfl ?_
        refine r_iln2 (p := 115) f114_114 rfl ?_
        have h12 := k_t1 c3 hz2 h2 (by decide)
        have h13 := k_t1 c4 hz3 h12 (by decide)
        have h14 := k_t1 c5 hz4 h13 (by decide)
        have h15 := k_t1 c6 hz5 h14 (by decide)
        refine r_invI (p := 118) f114_115 rfl rfl rfl (Or.inl h15) hd (Nat.le_of_ble_eq_true rfl) rfl rfl rfl (fun _ => rfl) (fun v15 m15 c15 => ?_)
        have hz15 := z_k c15 hz6
        have h16 := k_t1 c15 hz6 h15 (by decide)
        refine r_invV (p := 121) f114_118 rfl rfl rfl (Or.inl h16) hd (Nat.le_of_ble_eq_true rfl) rfl rfl rfl (fun _ => rfl) (fun m16 c16 => ?_)
        have hz16 := z_k c16 hz15
        refine r_aln0 (p := 122) f114_121 rfl ?_
        refine r_aln1 (p := 123) f114_122 rfl ?_
        refine r_ilw4 (p := 125) f114_123 rfl ?_
        have h17 := k_t1 c16 hz15 h16 (by decide)
        refine r_invV (p := 128) f114_125 rfl rfl rfl (Or.inl h17) hd (Nat.le_of_ble_eq_true rfl) rfl rfl rfl (fun _ => rfl) (fun m17 c17 => ?_)
        have hz17 := z_k c17 hz16
        refine r_aln0 (p := 129) f114_128 rfl ?_
        refine r_aln0 (p := 130) f114_129 rfl ?_
        have h18 := k_t1 c17 hz16 h17 (by decide)
        refine r_gfI (f := 11) (p := 133) f114_130 rfl rfl rfl (Or.inl h18) rfl ?_
        refine r_invV (p := 136) f114_133 rfl rfl rfl (Or.inl h18) hd (Nat.le_of_ble_eq_true rfl) rfl rfl rfl (fun _ => rfl) (fun m18 c18 => ?_)
        have hz18 := z_k c18 hz17
        refine r_aln0 (p := 137) f114_136 rfl ?_
        refine r_aln0 (p := 138) f114_137 rfl ?_
        have h19 := k_t1 c18 hz17 h18 (by decide)
        refine r_gfI (f := 14) (p := 141) f114_138 rfl rfl rfl (Or.inl h19) rfl ?_
        refine r_nmI (fun v28 ev28 => ?_)
        refine r_aln0 (p := 142) f114_141 rfl ?_
        refine r_gfR (f := 5) (p := 145) f114_142 rfl rfl rfl (Or.inl h19) rfl ?_
        refine r_nmR (fun v29 ev29 => ?_)
        refine r_aln0 (p := 146) f114_145 rfl ?_
        refine r_gfI (f := 14) (p := 149) f114_146 rfl rfl rfl (Or.inl h19) ev28.symm ?_
        refine le2_gd (fun h20 => ?_)
        refine r_invI (p := 152) f114_149 rfl rfl rfl (Or.inl h20) hd (Nat.le_of_ble_eq_true rfl) rfl rfl rfl (fun _ => rfl) (fun v19 m19 c19 => ?_)
        have hz19 := z_k c19 hz18
        refine r_aln0 (p := 153) f114_152 rfl ?_
        have h21 := k_t1 c19 hz18 h19 (by decide)
        refine r_gfI (f := 14) (p := 156) f114_153 rfl rfl rfl (Or.inl h21) rfl ?_
        refine r_isub (p := 157) f114_156 rfl ?_
        refine r_iconst (p := 158) f114_157 rfl (pinD rfl rfl) ?_
        refine r_invV (p := 161) f114_158 rfl rfl rfl (Or.inl h21) hd (Nat.le_of_ble_eq_true rfl) rfl rfl rfl (fun _ => rfl) (fun m20 c20 => ?_)
        have hz20 := z_k c20 hz19
        refine r_goto (p := 268) f114_161 (by decide) rfl ?_
        exact r_ret f114_268
    · refine r_aln0 (p := 87) f114_86 rfl ?_
      refine r_aln1 (p := 88) f114_87 rfl ?_
      refine r_ilw4 (p := 90) f114_88 rfl ?_
      have h22 := k_t1 c3 hz2 h2 (by decide)
      have h23 := k_t1 c4 hz3 h22 (by decide)
      have h24 := k_t1 c5 hz4 h23 (by decide)
      refine r_invV (p := 93) f114_90 rfl rfl rfl (Or.inl h24) hd (Nat.le_of_ble_eq_true rfl) rfl rfl rfl (fun _ => rfl) (fun m21 c21 => ?_)
      have hz21 := z_k c21 hz5
      refine r_aln0 (p := 94) f114_93 rfl ?_
      have h25 := k_t1 c21 hz5 h24 (by decide)
      refine r_invV (p := 97) f114_94 rfl rfl rfl (Or.inl h25) hd (Nat.le_of_ble_eq_true rfl) rfl rfl rfl (fun _ => rfl) (fun m22 c22 => ?_)
      have hz22 := z_k c22 hz21
      refine r_goto (p := 268) f114_97 (by decide) rfl ?_
      exact r_ret f114_268
  · refine r_aln0 (p := 52) f114_51 rfl ?_
    refine r_aln1 (p := 53) f114_52 rfl ?_
    refine r_aln0 (p := 54) f114_53 rfl ?_
    refine r_aln1 (p := 55) f114_54 rfl ?_
    refine r_iln2 (p := 56) f114_55 rfl ?_
    have h26 := k_t1 c3 hz2 h2 (by decide)
    have h27 := k_t1 c4 hz3 h26 (by decide)
    refine r_invI (p := 59) f114_56 rfl rfl rfl (Or.inl h27) hd (Nat.le_of_ble_eq_true rfl) rfl rfl rfl (fun _ => rfl) (fun v23 m23 c23 => ?_)
    have hz23 := z_k c23 hz4
    have h28 := k_t1 c23 hz4 h27 (by decide)
    refine r_invV (p := 62) f114_59 rfl rfl rfl (Or.inl h28) hd (Nat.le_of_ble_eq_true rfl) rfl rfl rfl (fun _ => rfl) (fun m24 c24 => ?_)
    have hz24 := z_k c24 hz23
    refine r_aln0 (p := 63) f114_62 rfl ?_
    refine r_aln1 (p := 64) f114_63 rfl ?_
    refine r_ilw4 (p := 66) f114_64 rfl ?_
    have h29 := k_t1 c24 hz23 h28 (by decide)
    refine r_invV (p := 69) f114_66 rfl rfl rfl (Or.inl h29) hd (Nat.le_of_ble_eq_true rfl) rfl rfl rfl (fun _ => rfl) (fun m25 c25 => ?_)
    have hz25 := z_k c25 hz24
    refine r_aln0 (p := 70) f114_69 rfl ?_
    have h30 := k_t1 c25 hz24 h29 (by decide)
    refine r_invV (p := 73) f114_70 rfl rfl rfl (Or.inl h30) hd (Nat.le_of_ble_eq_true rfl) rfl rfl rfl (fun _ => rfl) (fun m26 c26 => ?_)
    have hz26 := z_k c26 hz25
    refine r_goto (p := 268) f114_73 (by decide) rfl ?_
    exact r_ret f114_268
theorem q114_246 {d : Nat} {m : Mem} {a0 a1 a2 a3 a4 a5 s0 : Int} (hd : 0 < d) (hz : TZ m) : le2 (bV (cl (d - 1) 115 [pI s0] m) fun m1 => gd (tg m1 a0 = 7) <| bI (cl (d - 1) 116 [pR a0, pR a1, pI a2, pI (vl m1 a0 4)] m1) fun v2 m2 => bV (cl (d - 1) 127 [pR a0, pR a1, pI v2, pI a4, pI a5] m2) fun m3 => some (.inl none, m3)) (rn d 114 246 [pR a0, pR a1, pI a2, pI a3, pI a4, pI a5] [pI s0] m) := by
  refine r_istV (p := 249) f114_246 rfl rfl rfl hd (Nat.le_of_ble_eq_true rfl) rfl rfl rfl (fun _ => rfl) (fun m1 c1 => ?_)
  have hz1 := z_k c1 hz
  refine r_aln0 (p := 250) f114_249 rfl ?_
  refine r_aln1 (p := 251) f114_250 rfl ?_
  refine r_aln0 (p := 252) f114_251 rfl ?_
  refine r_aln1 (p := 253) f114_252 rfl ?_
  refine r_iln2 (p := 254) f114_253 rfl ?_
  refine r_aln0 (p := 255) f114_254 rfl ?_
  refine le2_gd (fun h1 => ?_)
  refine r_gfI (f := 4) (p := 258) f114_255 rfl rfl rfl (Or.inl h1) rfl ?_
  refine r_invI (p := 261) f114_258 rfl rfl rfl (Or.inl h1) hd (Nat.le_of_ble_eq_true rfl) rfl rfl rfl (fun _ => rfl) (fun v2 m2 c2 => ?_)
  have hz2 := z_k c2 hz1
  refine r_ilw4 (p := 263) f114_261 rfl ?_
  refine r_ilw5 (p := 265) f114_263 rfl ?_
  have h2 := k_t1 c2 hz1 h1 (by decide)
  refine r_invV (p := 268) f114_265 rfl rfl rfl (Or.inl h2) hd (Nat.le_of_ble_eq_true rfl) rfl rfl rfl (fun _ => rfl) (fun m3 c3 => ?_)
  have hz3 := z_k c3 hz2
  exact r_ret f114_268
/-! 115 PathStore$Patcher.can (Z)V -/
def w115_0 : List UInt8 := [26, 154, 0, 11, 187, 0, 86, 89, 183, 0, 88, 191, 177]
abbrev u115_0 : List UInt8 := w115_0 ++ []
theorem s115_0 : (prog_17_method_3_code).data.toList.drop 0 = u115_0 := by decide +kernel
theorem Fm115 {pc len : Nat} {i : Instr} (h : decode (prog_17_method_3_code) pc = .ok (i, len)) (hl : len = ilen i len) : ft 115 pc = some (7, 0, 0, i, len) := ft_mk rfl h hl
theorem f115_0 : ft 115 0 = some (7, 0, 0, .iload_n 0, 1) := Fm115 (dk_26 (dk_at s115_0 0 rfl rfl)) rfl
theorem f115_1 : ft 115 1 = some (7, 0, 0, .ifCond .ne 11, 3) := Fm115 (dk_154 0 11 (dk_at s115_0 1 rfl rfl)) rfl
theorem f115_4 : ft 115 4 = some (7, 0, 0, .new 86, 3) := Fm115 (dk_187 0 86 (dk_at s115_0 4 rfl rfl)) rfl
theorem f115_12 : ft 115 12 = some (7, 0, 0, .return_, 1) := Fm115 (dk_177 (dk_at s115_0 12 rfl rfl)) rfl
theorem q115 {d : Nat} {m : Mem} {a0 : Int} (hz : TZ m) : le2 (if a0 = 0 then (some (.inr 206, mal m 206 6)) else some (.inl none, m)) (cl d 115 [pI a0] m) := by
  refine q_in (n := 1) (L := [pI a0]) rfl rfl rfl ?_
  refine r_iln0 (p := 1) f115_0 rfl ?_
  refine r_ifne (t := 12) (p := 4) f115_1 (by decide) rfl rfl ?_ ?_
  · exact r_throw (e := 206) (f0 := 6) f115_4 rfl (by decide) (Nat.le_of_ble_eq_true rfl) rfl rfl
  · exact r_ret f115_12
/-! 116 PathStore$Patcher.string (LPathStore$Row;II)I -/
def w116_1 : List UInt8 := [182, 0, 123, 7, 160, 0, 7, 4, 167, 0, 4, 3, 184, 0, 100, 43, 21, 4, 182, 0, 130, 172]
abbrev u116_1 : List UInt8 := w116_1 ++ []
def w116_0 : List UInt8 := [43, 28, 42, 180, 0, 14, 29, 182, 0, 126, 54, 4, 21, 4, 155, 0, 21, 43, 43, 21, 4, 182, 0, 130]
abbrev u116_0 : List UInt8 := w116_0 ++ u116_1
theorem s116_0 : (prog_17_method_12_code).data.toList.drop 0 = u116_0 := by decide +kernel
theorem s116_1 : (prog_17_method_12_code).data.toList.drop 24 = u116_1 := dk_seg s116_0 24 rfl rfl
theorem Fm116 {pc len : Nat} {i : Instr} (h : decode (prog_17_method_12_code) pc = .ok (i, len)) (hl : len = ilen i len) : ft 116 pc = some (7, 1, 0, i, len) := ft_mk rfl h hl
theorem f116_0 : ft 116 0 = some (7, 1, 0, .aload_n 1, 1) := Fm116 (dk_43 (dk_at s116_0 0 rfl rfl)) rfl
theorem f116_1 : ft 116 1 = some (7, 1, 0, .iload_n 2, 1) := Fm116 (dk_28 (dk_at s116_0 1 rfl rfl)) rfl
theorem f116_2 : ft 116 2 = some (7, 1, 0, .aload_n 0, 1) := Fm116 (dk_42 (dk_at s116_0 2 rfl rfl)) rfl
theorem f116_3 : ft 116 3 = some (7, 1, 0, .getfield 14, 3) := Fm116 (dk_180 0 14 (dk_at s116_0 3 rfl rfl)) rfl
theorem f116_6 : ft 116 6 = some (7, 1, 0, .iload_n 3, 1) := Fm116 (dk_29 (dk_at s116_0 6 rfl rfl)) rfl
theorem f116_7 : ft 116 7 = some (7, 1, 0, .invokevirtual 126, 3) := Fm116 (dk_182 0 126 (dk_at s116_0 7 rfl rfl)) rfl
theorem f116_10 : ft 116 10 = some (7, 1, 0, .istore 4, 2) := Fm116 (dk_54 4 (dk_at s116_0 10 rfl rfl)) rfl
theorem f116_12 : ft 116 12 = some (7, 1, 0, .iload 4, 2) := Fm116 (dk_21 4 (dk_at s116_0 12 rfl rfl)) rfl
theorem f116_14 : ft 116 14 = some (7, 1, 0, .ifCond .lt 21, 3) := Fm116 (dk_155 0 21 (dk_at s116_0 14 rfl rfl)) rfl
theorem f116_17 : ft 116 17 = some (7, 1, 0, .aload_n 1, 1) := Fm116 (dk_43 (dk_at s116_0 17 rfl rfl)) rfl
theorem f116_18 : ft 116 18 = some (7, 1, 0, .aload_n 1, 1) := Fm116 (dk_43 (dk_at s116_0 18 rfl rfl)) rfl
theorem f116_19 : ft 116 19 = some (7, 1, 0, .iload 4, 2) := Fm116 (dk_21 4 (dk_at s116_0 19 rfl rfl)) rfl
theorem f116_21 : ft 116 21 = some (7, 1, 0, .invokevirtual 130, 3) := Fm116 (dk_182 0 130 (dk_at s116_0 21 rfl rfl)) rfl
theorem f116_24 : ft 116 24 = some (7, 1, 0, .invokevirtual 123, 3) := Fm116 (dk_182 0 123 (dk_at s116_1 0 rfl rfl)) rfl
theorem f116_27 : ft 116 27 = some (7, 1, 0, .iconst 4, 1) := Fm116 (dk_7 (dk_at s116_1 3 rfl rfl)) rfl
theorem f116_28 : ft 116 28 = some (7, 1, 0, .if_icmp .ne 7, 3) := Fm116 (dk_160 0 7 (dk_at s116_1 4 rfl rfl)) rfl
theorem f116_31 : ft 116 31 = some (7, 1, 0, .iconst 1, 1) := Fm116 (dk_4 (dk_at s116_1 7 rfl rfl)) rfl
theorem f116_32 : ft 116 32 = some (7, 1, 0, .goto 4, 3) := Fm116 (dk_167 0 4 (dk_at s116_1 8 rfl rfl)) rfl
theorem f116_35 : ft 116 35 = some (7, 1, 0, .iconst 0, 1) := Fm116 (dk_3 (dk_at s116_1 11 rfl rfl)) rfl
theorem f116_36 : ft 116 36 = some (7, 1, 0, .invokestatic 100, 3) := Fm116 (dk_184 0 100 (dk_at s116_1 12 rfl rfl)) rfl
theorem f116_39 : ft 116 39 = some (7, 1, 0, .aload_n 1, 1) := Fm116 (dk_43 (dk_at s116_1 15 rfl rfl)) rfl
theorem f116_40 : ft 116 40 = some (7, 1, 0, .iload 4, 2) := Fm116 (dk_21 4 (dk_at s116_1 16 rfl rfl)) rfl
theorem f116_42 : ft 116 42 = some (7, 1, 0, .invokevirtual 130, 3) := Fm116 (dk_182 0 130 (dk_at s116_1 18 rfl rfl)) rfl
theorem f116_45 : ft 116 45 = some (7, 1, 0, .ireturn, 1) := Fm116 (dk_172 (dk_at s116_1 21 rfl rfl)) rfl
theorem q116 {d : Nat} {m : Mem} {a0 a1 a2 a3 : Int} (hd : 0 < d) (hz : TZ m) : le2 (gd (tg m a0 = 7) <| gd (tg m a1 = 8) <| bI (cl (d - 1) 144 [pR a1, pI a2, pR (vl m a0 0), pI a3] m) fun v1 m1 => if v1 < 0 then (bV (cl (d - 1) 115 [pI 0] m1) fun m2 => bI (cl (d - 1) 136 [pR a1, pI v1] m2) fun v3 m3 => some (.inl (some (pI v3)), m3)) else bI (cl (d - 1) 136 [pR a1, pI v1] m1) fun v4 m4 => bI (cl (d - 1) 139 [pR a1, pI v4] m4) fun v5 m5 => if v5 = 4 then (bV (cl (d - 1) 115 [pI 1] m5) fun m8 => bI (cl (d - 1) 136 [pR a1, pI v1] m8) fun v9 m9 => some (.inl (some (pI v9)), m9)) else bV (cl (d - 1) 115 [pI 0] m5) fun m6 => bI (cl (d - 1) 136 [pR a1, pI v1] m6) fun v7 m7 => some (.inl (some (pI v7)), m7)) (cl d 116 [pR a0, pR a1, pI a2, pI a3] m) := by
  refine q_in (n := 5) (L := [pR a0, pR a1, pI a2, pI a3, pU]) rfl rfl rfl ?_
  refine r_aln1 (p := 1) f116_0 rfl ?_
  refine r_iln2 (p := 2) f116_1 rfl ?_
  refine r_aln0 (p := 3) f116_2 rfl ?_
  refine le2_gd (fun h1 => ?_)
  refine r_gfR (f := 0) (p := 6) f116_3 rfl rfl rfl (Or.inl h1) rfl ?_
  refine r_iln3 (p := 7) f116_6 rfl ?_
  refine le2_gd (fun h2 => ?_)
  refine r_invI (p := 10) f116_7 rfl rfl rfl (Or.inl h2) hd (Nat.le_of_ble_eq_true rfl) rfl rfl rfl (fun _ => rfl) (fun v1 m1 c1 => ?_)
  have hz1 := z_k c1 hz
  refine r_isw4 (p := 12) f116_10 rfl rfl ?_
  refine r_ilw4 (p := 14) f116_12 rfl ?_
  refine r_iflt (t := 35) (p := 17) f116_14 (by decide) rfl rfl ?_ ?_
  · refine r_iconst (p := 36) f116_35 rfl (pinD rfl rfl) ?_
    refine r_istV (p := 39) f116_36 rfl rfl rfl hd (Nat.le_of_ble_eq_true rfl) rfl rfl rfl (fun _ => rfl) (fun m2 c2 => ?_)
    have hz2 := z_k c2 hz1
    refine r_aln1 (p := 40) f116_39 rfl ?_
    refine r_ilw4 (p := 42) f116_40 rfl ?_
    have h3 := k_t1 c1 hz h2 (by decide)
    have h4 := k_t1 c2 hz1 h3 (by decide)
    refine r_invI (p := 45) f116_42 rfl rfl rfl (Or.inl h4) hd (Nat.le_of_ble_eq_true rfl) rfl rfl rfl (fun _ => rfl) (fun v3 m3 c3 => ?_)
    have hz3 := z_k c3 hz2
    exact r_iret1 f116_45
  · refine r_aln1 (p := 18) f116_17 rfl ?_
    refine r_aln1 (p := 19) f116_18 rfl ?_
    refine r_ilw4 (p := 21) f116_19 rfl ?_
    have h5 := k_t1 c1 hz h2 (by decide)
    refine r_invI (p := 24) f116_21 rfl rfl rfl (Or.inl h5) hd (Nat.le_of_ble_eq_true rfl) rfl rfl rfl (fun _ => rfl) (fun v4 m4 c4 => ?_)
    have hz4 := z_k c4 hz1
    have h6 := k_t1 c4 hz1 h5 (by decide)
    refine r_invI (p := 27) f116_24 rfl rfl rfl (Or.inl h6) hd (Nat.le_of_ble_eq_true rfl) rfl rfl rfl (fun _ => rfl) (fun v5 m5 c5 => ?_)
    have hz5 := z_k c5 hz4
    refine r_iconst (p := 28) f116_27 rfl (pinD rfl rfl) ?_
    refine r_icne (t := 35) (p := 31) f116_28 (by decide) rfl rfl ?_ ?_
    · refine r_iconst (p := 32) f116_31 rfl (pinD rfl rfl) ?_
      refine r_goto (p := 36) f116_32 (by decide) rfl ?_
      refine r_istV (p := 39) f116_36 rfl rfl rfl hd (Nat.le_of_ble_eq_true rfl) rfl rfl rfl (fun _ => rfl) (fun m8 c8 => ?_)
      have hz8 := z_k c8 hz5
      refine r_aln1 (p := 40) f116_39 rfl ?_
      refine r_ilw4 (p := 42) f116_40 rfl ?_
      have h9 := k_t1 c5 hz4 h6 (by decide)
      have h10 := k_t1 c8 hz5 h9 (by decide)
      refine r_invI (p := 45) f116_42 rfl rfl rfl (Or.inl h10) hd (Nat.le_of_ble_eq_true rfl) rfl rfl rfl (fun _ => rfl) (fun v9 m9 c9 => ?_)
      have hz9 := z_k c9 hz8
      exact r_iret1 f116_45
    · refine r_iconst (p := 36) f116_35 rfl (pinD rfl rfl) ?_
      refine r_istV (p := 39) f116_36 rfl rfl rfl hd (Nat.le_of_ble_eq_true rfl) rfl rfl rfl (fun _ => rfl) (fun m6 c6 => ?_)
      have hz6 := z_k c6 hz5
      refine r_aln1 (p := 40) f116_39 rfl ?_
      refine r_ilw4 (p := 42) f116_40 rfl ?_
      have h7 := k_t1 c5 hz4 h6 (by decide)
      have h8 := k_t1 c6 hz5 h7 (by decide)
      refine r_invI (p := 45) f116_42 rfl rfl rfl (Or.inl h8) hd (Nat.le_of_ble_eq_true rfl) rfl rfl rfl (fun _ => rfl) (fun v7 m7 c7 => ?_)
      have hz7 := z_k c7 hz6
      exact r_iret1 f116_45
/-! 117 PathStore$Patcher.says (LPathStore$Row;ILjava/lang/String;)Z -/
def w117_2 : List UInt8 := [132, 3, 1, 167, 255, 225, 4, 172]
abbrev u117_2 : List UInt8 := w117_2 ++ []
def w117_1 : List UInt8 := [162, 0, 29, 42, 180, 0, 96, 27, 6, 96, 29, 96, 51, 44, 29, 182, 0, 82, 159, 0, 5, 3, 172]
abbrev u117_1 : List UInt8 := w117_1 ++ u117_2
def w117_0 : List UInt8 := [42, 27, 4, 96, 182, 0, 108, 44, 182, 0, 76, 159, 0, 5, 3, 172, 3, 62, 29, 44, 182, 0, 76]
abbrev u117_0 : List UInt8 := w117_0 ++ u117_1
theorem s117_0 : (prog_17_method_14_code).data.toList.drop 0 = u117_0 := by decide +kernel
theorem s117_1 : (prog_17_method_14_code).data.toList.drop 23 = u117_1 := dk_seg s117_0 23 rfl rfl
theorem s117_2 : (prog_17_method_14_code).data.toList.drop 46 = u117_2 := dk_seg s117_1 23 rfl rfl
theorem Fm117 {pc len : Nat} {i : Instr} (h : decode (prog_17_method_14_code) pc = .ok (i, len)) (hl : len = ilen i len) : ft 117 pc = some (7, 4, 0, i, len) := ft_mk rfl h hl
theorem f117_0 : ft 117 0 = some (7, 4, 0, .aload_n 0, 1) := Fm117 (dk_42 (dk_at s117_0 0 rfl rfl)) rfl
theorem f117_1 : ft 117 1 = some (7, 4, 0, .iload_n 1, 1) := Fm117 (dk_27 (dk_at s117_0 1 rfl rfl)) rfl
theorem f117_2 : ft 117 2 = some (7, 4, 0, .iconst 1, 1) := Fm117 (dk_4 (dk_at s117_0 2 rfl rfl)) rfl
theorem f117_3 : ft 117 3 = some (7, 4, 0, .iadd, 1) := Fm117 (dk_96 (dk_at s117_0 3 rfl rfl)) rfl
theorem f117_4 : ft 117 4 = some (7, 4, 0, .invokevirtual 108, 3) := Fm117 (dk_182 0 108 (dk_at s117_0 4 rfl rfl)) rfl
theorem f117_7 : ft 117 7 = some (7, 4, 0, .aload_n 2, 1) := Fm117 (dk_44 (dk_at s117_0 7 rfl rfl)) rfl
theorem f117_8 : ft 117 8 = some (7, 4, 0, .invokevirtual 76, 3) := Fm117 (dk_182 0 76 (dk_at s117_0 8 rfl rfl)) rfl
theorem f117_11 : ft 117 11 = some (7, 4, 0, .if_icmp .eq 5, 3) := Fm117 (dk_159 0 5 (dk_at s117_0 11 rfl rfl)) rfl
theorem f117_14 : ft 117 14 = some (7, 4, 0, .iconst 0, 1) := Fm117 (dk_3 (dk_at s117_0 14 rfl rfl)) rfl
theorem f117_15 : ft 117 15 = some (7, 4, 0, .ireturn, 1) := Fm117 (dk_172 (dk_at s117_0 15 rfl rfl)) rfl
theorem f117_16 : ft 117 16 = some (7, 4, 0, .iconst 0, 1) := Fm117 (dk_3 (dk_at s117_0 16 rfl rfl)) rfl
theorem f117_17 : ft 117 17 = some (7, 4, 0, .istore_n 3, 1) := Fm117 (dk_62 (dk_at s117_0 17 rfl rfl)) rfl
theorem f117_18 : ft 117 18 = some (7, 4, 0, .iload_n 3, 1) := Fm117 (dk_29 (dk_at s117_0 18 rfl rfl)) rfl
theorem f117_19 : ft 117 19 = some (7, 4, 0, .aload_n 2, 1) := Fm117 (dk_44 (dk_at s117_0 19 rfl rfl)) rfl
theorem f117_20 : ft 117 20 = some (7, 4, 0, .invokevirtual 76, 3) := Fm117 (dk_182 0 76 (dk_at s117_0 20 rfl rfl)) rfl
theorem f117_23 : ft 117 23 = some (7, 4, 0, .if_icmp .ge 29, 3) := Fm117 (dk_162 0 29 (dk_at s117_1 0 rfl rfl)) rfl
theorem f117_26 : ft 117 26 = some (7, 4, 0, .aload_n 0, 1) := Fm117 (dk_42 (dk_at s117_1 3 rfl rfl)) rfl
theorem f117_27 : ft 117 27 = some (7, 4, 0, .getfield 96, 3) := Fm117 (dk_180 0 96 (dk_at s117_1 4 rfl rfl)) rfl
theorem f117_30 : ft 117 30 = some (7, 4, 0, .iload_n 1, 1) := Fm117 (dk_27 (dk_at s117_1 7 rfl rfl)) rfl
theorem f117_31 : ft 117 31 = some (7, 4, 0, .iconst 3, 1) := Fm117 (dk_6 (dk_at s117_1 8 rfl rfl)) rfl
theorem f117_32 : ft 117 32 = some (7, 4, 0, .iadd, 1) := Fm117 (dk_96 (dk_at s117_1 9 rfl rfl)) rfl
theorem f117_33 : ft 117 33 = some (7, 4, 0, .iload_n 3, 1) := Fm117 (dk_29 (dk_at s117_1 10 rfl rfl)) rfl
theorem f117_34 : ft 117 34 = some (7, 4, 0, .iadd, 1) := Fm117 (dk_96 (dk_at s117_1 11 rfl rfl)) rfl
theorem f117_35 : ft 117 35 = some (7, 4, 0, .baload, 1) := Fm117 (dk_51 (dk_at s117_1 12 rfl rfl)) rfl
theorem f117_36 : ft 117 36 = some (7, 4, 0, .aload_n 2, 1) := Fm117 (dk_44 (dk_at s117_1 13 rfl rfl)) rfl
theorem f117_37 : ft 117 37 = some (7, 4, 0, .iload_n 3, 1) := Fm117 (dk_29 (dk_at s117_1 14 rfl rfl)) rfl
theorem f117_38 : ft 117 38 = some (7, 4, 0, .invokevirtual 82, 3) := Fm117 (dk_182 0 82 (dk_at s117_1 15 rfl rfl)) rfl
theorem f117_41 : ft 117 41 = some (7, 4, 0, .if_icmp .eq 5, 3) := Fm117 (dk_159 0 5 (dk_at s117_1 18 rfl rfl)) rfl
theorem f117_44 : ft 117 44 = some (7, 4, 0, .iconst 0, 1) := Fm117 (dk_3 (dk_at s117_1 21 rfl rfl)) rfl
theorem f117_45 : ft 117 45 = some (7, 4, 0, .ireturn, 1) := Fm117 (dk_172 (dk_at s117_1 22 rfl rfl)) rfl
theorem f117_46 : ft 117 46 = some (7, 4, 0, .iinc 3 1, 3) := Fm117 (dk_132 3 1 (dk_at s117_2 0 rfl rfl)) rfl
theorem f117_49 : ft 117 49 = some (7, 4, 0, .goto (-31), 3) := Fm117 (dk_167 255 225 (dk_at s117_2 3 rfl rfl)) rfl
theorem f117_52 : ft 117 52 = some (7, 4, 0, .iconst 1, 1) := Fm117 (dk_4 (dk_at s117_2 6 rfl rfl)) rfl
theorem f117_53 : ft 117 53 = some (7, 4, 0, .ireturn, 1) := Fm117 (dk_172 (dk_at s117_2 7 rfl rfl)) rfl
theorem q117 {d : Nat} {m : Mem} {a0 a1 a2 : Int} (hd : 0 < d) (hz : TZ m) : le2 (gd (tg m a0 = 8) <| bI (cl (d - 1) 134 [pR a0, pI (w32 (a1 + 1))] m) fun v1 m1 => gd (tg m1 a2 = 31) <| bI (cl (d - 1) 349 [pR a2] m1) fun v2 m2 => if v1 = v2 then (rn d 117 18 [pR a0, pI a1, pR a2, pI 0] [] m2) else some (.inl (some (pI 0)), m2)) (cl d 117 [pR a0, pI a1, pR a2] m) := by
  refine q_in (n := 4) (L := [pR a0, pI a1, pR a2, pU]) rfl rfl rfl ?_
  refine r_aln0 (p := 1) f117_0 rfl ?_
  refine r_iln1 (p := 2) f117_1 rfl ?_
  refine r_iconst (p := 3) f117_2 rfl (pinD rfl rfl) ?_
  refine r_iadd (p := 4) f117_3 rfl ?_
  refine le2_gd (fun h1 => ?_)
  refine r_invI (p := 7) f117_4 rfl rfl rfl (Or.inl h1) hd (Nat.le_of_ble_eq_true rfl) rfl rfl rfl (fun _ => rfl) (fun v1 m1 c1 => ?_)
  have hz1 := z_k c1 hz
  refine r_aln2 (p := 8) f117_7 rfl ?_
  refine le2_gd (fun h2 => ?_)
  refine r_invI (p := 11) f117_8 rfl rfl rfl (Or.inl h2) hd (Nat.le_of_ble_eq_true rfl) rfl rfl rfl (fun _ => rfl) (fun v2 m2 c2 => ?_)
  have hz2 := z_k c2 hz1
  refine r_iceq (t := 16) (p := 14) f117_11 (by decide) rfl rfl ?_ ?_
  · refine r_iconst (p := 17) f117_16 rfl (pinD rfl rfl) ?_
    refine r_isn3 (p := 18) f117_17 rfl rfl ?_
    exact le2_refl _
  · refine r_iconst (p := 15) f117_14 rfl (pinD rfl rfl) ?_
    exact r_iret4 f117_15 (by decide)
theorem q117_18 {d : Nat} {m : Mem} {a0 a1 a2 a3 : Int} (hd : 0 < d) (hz : TZ m) : le2 (gd (tg m a2 = 31) <| bI (cl (d - 1) 349 [pR a2] m) fun v1 m1 => if a3 < v1 then (gd (tg m1 a0 = 8) <| nm (vl m1 a0 0) fun v3 => nm (w32 ((w32 (a1 + 3)) + a3)) fun v4 => gd (tg m1 v3 = 130103 ∨ tg m1 v3 = 132103) <| gd ((0 : Int) ≤ v4 ∧ v4 < ln m1 v3) <| bI (cl (d - 1) 351 [pR a2, pI a3] m1) fun v2 m2 => if (vl m1 v3 v4) = v2 then (rn d 117 18 [pR a0, pI a1, pR a2, pI (w32 (a3 + 1))] [] m2) else some (.inl (some (pI 0)), m2)) else some (.inl (some (pI 1)), m1)) (rn d 117 18 [pR a0, pI a1, pR a2, pI a3] [] m) := by
  refine r_iln3 (p := 19) f117_18 rfl ?_
  refine r_aln2 (p := 20) f117_19 rfl ?_
  refine le2_gd (fun h1 => ?_)
  refine r_invI (p := 23) f117_20 rfl rfl rfl (Or.inl h1) hd (Nat.le_of_ble_eq_true rfl) rfl rfl rfl (fun _ => rfl) (fun v1 m1 c1 => ?_)
  have hz1 := z_k c1 hz
  refine r_icge (t := 52) (p := 26) f117_23 (by decide) rfl rfl ?_ ?_
  · refine r_aln0 (p := 27) f117_26 rfl ?_
    refine le2_gd (fun h2 => ?_)
    refine r_gfR (f := 0) (p := 30) f117_27 rfl rfl rfl (Or.inl h2) rfl ?_
    refine r_nmR (fun v3 ev3 => ?_)
    refine r_iln1 (p := 31) f117_30 rfl ?_
    refine r_iconst (p := 32) f117_31 rfl (pinD rfl rfl) ?_
    refine r_iadd (p := 33) f117_32 rfl ?_
    refine r_iln3 (p := 34) f117_33 rfl ?_
    refine r_iadd (p := 35) f117_34 rfl ?_
    refine r_nmI (fun v4 ev4 => ?_)
    refine le2_gd (fun h3 => ?_)
    refine le2_gd (fun h4 => ?_)
    refine r_baload (p := 36) f117_35 rfl (dj2 (fun x => x % 1000 = 103 ∨ x % 1000 = 105) h3 (by decide) (by decide)) h4 rfl ?_
    refine r_aln2 (p := 37) f117_36 rfl ?_
    refine r_iln3 (p := 38) f117_37 rfl ?_
    have h5 := k_t1 c1 hz h1 (by decide)
    refine r_invI (p := 41) f117_38 rfl rfl rfl (Or.inl h5) hd (Nat.le_of_ble_eq_true rfl) rfl rfl rfl (fun _ => rfl) (fun v2 m2 c2 => ?_)
    have hz2 := z_k c2 hz1
    refine r_iceq (t := 46) (p := 44) f117_41 (by decide) rfl rfl ?_ ?_
    · refine r_iinc3 (p := 49) f117_46 rfl rfl ?_
      refine r_goto (p := 18) f117_49 (by decide) rfl ?_
      exact le2_refl _
    · refine r_iconst (p := 45) f117_44 rfl (pinD rfl rfl) ?_
      exact r_iret4 f117_45 (by decide)
  · refine r_iconst (p := 53) f117_52 rfl (pinD rfl rfl) ?_
    exact r_iret4 f117_53 (by decide)
/-! 118 PathStore$Patcher.given (LPathStore$Row;I)I -/
def w118_1 : List UInt8 := [184, 0, 100, 43, 29, 182, 0, 130, 172]
abbrev u118_1 : List UInt8 := w118_1 ++ []
def w118_0 : List UInt8 := [43, 28, 42, 180, 0, 14, 42, 180, 0, 64, 182, 0, 126, 62, 29, 155, 0, 7, 4, 167, 0, 4, 3]
abbrev u118_0 : List UInt8 := w118_0 ++ u118_1
theorem s118_0 : (prog_17_method_13_code).data.toList.drop 0 = u118_0 := by decide +kernel
theorem s118_1 : (prog_17_method_13_code).data.toList.drop 23 = u118_1 := dk_seg s118_0 23 rfl rfl
theorem Fm118 {pc len : Nat} {i : Instr} (h : decode (prog_17_method_13_code) pc = .ok (i, len)) (hl : len = ilen i len) : ft 118 pc = some (7, 1, 0, i, len) := ft_mk rfl h hl
theorem f118_0 : ft 118 0 = some (7, 1, 0, .aload_n 1, 1) := Fm118 (dk_43 (dk_at s118_0 0 rfl rfl)) rfl
theorem f118_1 : ft 118 1 = some (7, 1, 0, .iload_n 2, 1) := Fm118 (dk_28 (dk_at s118_0 1 rfl rfl)) rfl
theorem f118_2 : ft 118 2 = some (7, 1, 0, .aload_n 0, 1) := Fm118 (dk_42 (dk_at s118_0 2 rfl rfl)) rfl
theorem f118_3 : ft 118 3 = some (7, 1, 0, .getfield 14, 3) := Fm118 (dk_180 0 14 (dk_at s118_0 3 rfl rfl)) rfl
theorem f118_6 : ft 118 6 = some (7, 1, 0, .aload_n 0, 1) := Fm118 (dk_42 (dk_at s118_0 6 rfl rfl)) rfl
theorem f118_7 : ft 118 7 = some (7, 1, 0, .getfield 64, 3) := Fm118 (dk_180 0 64 (dk_at s118_0 7 rfl rfl)) rfl
theorem f118_10 : ft 118 10 = some (7, 1, 0, .invokevirtual 126, 3) := Fm118 (dk_182 0 126 (dk_at s118_0 10 rfl rfl)) rfl
theorem f118_13 : ft 118 13 = some (7, 1, 0, .istore_n 3, 1) := Fm118 (dk_62 (dk_at s118_0 13 rfl rfl)) rfl
theorem f118_14 : ft 118 14 = some (7, 1, 0, .iload_n 3, 1) := Fm118 (dk_29 (dk_at s118_0 14 rfl rfl)) rfl
theorem f118_15 : ft 118 15 = some (7, 1, 0, .ifCond .lt 7, 3) := Fm118 (dk_155 0 7 (dk_at s118_0 15 rfl rfl)) rfl
theorem f118_18 : ft 118 18 = some (7, 1, 0, .iconst 1, 1) := Fm118 (dk_4 (dk_at s118_0 18 rfl rfl)) rfl
theorem f118_19 : ft 118 19 = some (7, 1, 0, .goto 4, 3) := Fm118 (dk_167 0 4 (dk_at s118_0 19 rfl rfl)) rfl
theorem f118_22 : ft 118 22 = some (7, 1, 0, .iconst 0, 1) := Fm118 (dk_3 (dk_at s118_0 22 rfl rfl)) rfl
theorem f118_23 : ft 118 23 = some (7, 1, 0, .invokestatic 100, 3) := Fm118 (dk_184 0 100 (dk_at s118_1 0 rfl rfl)) rfl
theorem f118_26 : ft 118 26 = some (7, 1, 0, .aload_n 1, 1) := Fm118 (dk_43 (dk_at s118_1 3 rfl rfl)) rfl
theorem f118_27 : ft 118 27 = some (7, 1, 0, .iload_n 3, 1) := Fm118 (dk_29 (dk_at s118_1 4 rfl rfl)) rfl
theorem f118_28 : ft 118 28 = some (7, 1, 0, .invokevirtual 130, 3) := Fm118 (dk_182 0 130 (dk_at s118_1 5 rfl rfl)) rfl
theorem f118_31 : ft 118 31 = some (7, 1, 0, .ireturn, 1) := Fm118 (dk_172 (dk_at s118_1 8 rfl rfl)) rfl
theorem q118 {d : Nat} {m : Mem} {a0 a1 a2 : Int} (hd : 0 < d) (hz : TZ m) : le2 (gd (tg m a0 = 7) <| gd (tg m a1 = 8) <| bI (cl (d - 1) 144 [pR a1, pI a2, pR (vl m a0 0), pI (vl m a0 3)] m) fun v1 m1 => if v1 < 0 then (bV (cl (d - 1) 115 [pI 0] m1) fun m2 => bI (cl (d - 1) 136 [pR a1, pI v1] m2) fun v3 m3 => some (.inl (some (pI v3)), m3)) else bV (cl (d - 1) 115 [pI 1] m1) fun m4 => bI (cl (d - 1) 136 [pR a1, pI v1] m4) fun v5 m5 => some (.inl (some (pI v5)), m5)) (cl d 118 [pR a0, pR a1, pI a2] m) := by
  refine q_in (n := 4) (L := [pR a0, pR a1, pI a2, pU]) rfl rfl rfl ?_
  refine r_aln1 (p := 1) f118_0 rfl ?_
  refine r_iln2 (p := 2) f118_1 rfl ?_
  refine r_aln0 (p := 3) f118_2 rfl ?_
  refine le2_gd (fun h1 => ?_)
  refine r_gfR (f := 0) (p := 6) f118_3 rfl rfl rfl (Or.inl h1) rfl ?_
  refine r_aln0 (p := 7) f118_6 rfl ?_
  refine r_gfI (f := 3) (p := 10) f118_7 rfl rfl rfl (Or.inl h1) rfl ?_
  refine le2_gd (fun h2 => ?_)
  refine r_invI (p := 13) f118_10 rfl rfl rfl (Or.inl h2) hd (Nat.le_of_ble_eq_true rfl) rfl rfl rfl (fun _ => rfl) (fun v1 m1 c1 => ?_)
  have hz1 := z_k c1 hz
  refine r_isn3 (p := 14) f118_13 rfl rfl ?_
  refine r_iln3 (p := 15) f118_14 rfl ?_
  refine r_iflt (t := 22) (p := 18) f118_15 (by decide) rfl rfl ?_ ?_
  · refine r_iconst (p := 23) f118_22 rfl (pinD rfl rfl) ?_
    refine r_istV (p := 26) f118_23 rfl rfl rfl hd (Nat.le_of_ble_eq_true rfl) rfl rfl rfl (fun _ => rfl) (fun m2 c2 => ?_)
    have hz2 := z_k c2 hz1
    refine r_aln1 (p := 27) f118_26 rfl ?_
    refine r_iln3 (p := 28) f118_27 rfl ?_
    have h3 := k_t1 c1 hz h2 (by decide)
    have h4 := k_t1 c2 hz1 h3 (by decide)
    refine r_invI (p := 31) f118_28 rfl rfl rfl (Or.inl h4) hd (Nat.le_of_ble_eq_true rfl) rfl rfl rfl (fun _ => rfl) (fun v3 m3 c3 => ?_)
    have hz3 := z_k c3 hz2
    exact r_iret1 f118_31
  · refine r_iconst (p := 19) f118_18 rfl (pinD rfl rfl) ?_
    refine r_goto (p := 23) f118_19 (by decide) rfl ?_
    refine r_istV (p := 26) f118_23 rfl rfl rfl hd (Nat.le_of_ble_eq_true rfl) rfl rfl rfl (fun _ => rfl) (fun m4 c4 => ?_)
    have hz4 := z_k c4 hz1
    refine r_aln1 (p := 27) f118_26 rfl ?_
    refine r_iln3 (p := 28) f118_27 rfl ?_
    have h5 := k_t1 c1 hz h2 (by decide)
    have h6 := k_t1 c4 hz1 h5 (by decide)
    refine r_invI (p := 31) f118_28 rfl rfl rfl (Or.inl h6) hd (Nat.le_of_ble_eq_true rfl) rfl rfl rfl (fun _ => rfl) (fun v5 m5 c5 => ?_)
    have hz5 := z_k c5 hz4
    exact r_iret1 f118_31
/-! 119 PathStore$Patcher.hold (LPathStore$Row;I)V -/
def w119_1 : List UInt8 := [182, 0, 142, 177]
abbrev u119_1 : List UInt8 := w119_1 ++ []
def w119_0 : List UInt8 := [42, 180, 0, 26, 3, 181, 0, 70, 42, 180, 0, 26, 43, 180, 0, 96, 28, 43, 28, 182, 0, 92, 28, 100]
abbrev u119_0 : List UInt8 := w119_0 ++ u119_1
theorem s119_0 : (prog_17_method_11_code).data.toList.drop 0 = u119_0 := by decide +kernel
theorem s119_1 : (prog_17_method_11_code).data.toList.drop 24 = u119_1 := dk_seg s119_0 24 rfl rfl
theorem Fm119 {pc len : Nat} {i : Instr} (h : decode (prog_17_method_11_code) pc = .ok (i, len)) (hl : len = ilen i len) : ft 119 pc = some (7, 0, 0, i, len) := ft_mk rfl h hl
theorem f119_0 : ft 119 0 = some (7, 0, 0, .aload_n 0, 1) := Fm119 (dk_42 (dk_at s119_0 0 rfl rfl)) rfl
theorem f119_1 : ft 119 1 = some (7, 0, 0, .getfield 26, 3) := Fm119 (dk_180 0 26 (dk_at s119_0 1 rfl rfl)) rfl
theorem f119_4 : ft 119 4 = some (7, 0, 0, .iconst 0, 1) := Fm119 (dk_3 (dk_at s119_0 4 rfl rfl)) rfl
theorem f119_5 : ft 119 5 = some (7, 0, 0, .putfield 70, 3) := Fm119 (dk_181 0 70 (dk_at s119_0 5 rfl rfl)) rfl
theorem f119_8 : ft 119 8 = some (7, 0, 0, .aload_n 0, 1) := Fm119 (dk_42 (dk_at s119_0 8 rfl rfl)) rfl
theorem f119_9 : ft 119 9 = some (7, 0, 0, .getfield 26, 3) := Fm119 (dk_180 0 26 (dk_at s119_0 9 rfl rfl)) rfl
theorem f119_12 : ft 119 12 = some (7, 0, 0, .aload_n 1, 1) := Fm119 (dk_43 (dk_at s119_0 12 rfl rfl)) rfl
theorem f119_13 : ft 119 13 = some (7, 0, 0, .getfield 96, 3) := Fm119 (dk_180 0 96 (dk_at s119_0 13 rfl rfl)) rfl
theorem f119_16 : ft 119 16 = some (7, 0, 0, .iload_n 2, 1) := Fm119 (dk_28 (dk_at s119_0 16 rfl rfl)) rfl
theorem f119_17 : ft 119 17 = some (7, 0, 0, .aload_n 1, 1) := Fm119 (dk_43 (dk_at s119_0 17 rfl rfl)) rfl
theorem f119_18 : ft 119 18 = some (7, 0, 0, .iload_n 2, 1) := Fm119 (dk_28 (dk_at s119_0 18 rfl rfl)) rfl
theorem f119_19 : ft 119 19 = some (7, 0, 0, .invokevirtual 92, 3) := Fm119 (dk_182 0 92 (dk_at s119_0 19 rfl rfl)) rfl
theorem f119_22 : ft 119 22 = some (7, 0, 0, .iload_n 2, 1) := Fm119 (dk_28 (dk_at s119_0 22 rfl rfl)) rfl
theorem f119_23 : ft 119 23 = some (7, 0, 0, .isub, 1) := Fm119 (dk_100 (dk_at s119_0 23 rfl rfl)) rfl
theorem f119_24 : ft 119 24 = some (7, 0, 0, .invokevirtual 142, 3) := Fm119 (dk_182 0 142 (dk_at s119_1 0 rfl rfl)) rfl
theorem f119_27 : ft 119 27 = some (7, 0, 0, .return_, 1) := Fm119 (dk_177 (dk_at s119_1 3 rfl rfl)) rfl
theorem q119 {d : Nat} {m : Mem} {a0 a1 a2 : Int} (hd : 0 < d) (hz : TZ m) : le2 (gd (tg m a0 = 7) <| nm (vl m a0 7) fun v3 => gd (tg m v3 = 8) <| gd (tg m a1 = 8) <| bI (cl (d - 1) 137 [pR a1, pI a2] (mst m v3 1 0)) fun v1 m1 => bV (cl (d - 1) 143 [pR v3, pR (vl m a1 0), pI a2, pI (w32 (v1 - a2))] m1) fun m2 => some (.inl none, m2)) (cl d 119 [pR a0, pR a1, pI a2] m) := by
  refine q_in (n := 3) (L := [pR a0, pR a1, pI a2]) rfl rfl rfl ?_
  refine r_aln0 (p := 1) f119_0 rfl ?_
  refine le2_gd (fun h1 => ?_)
  refine r_gfR (f := 7) (p := 4) f119_1 rfl rfl rfl (Or.inl h1) rfl ?_
  refine r_nmR (fun v3 ev3 => ?_)
  refine r_iconst (p := 5) f119_4 rfl (pinD rfl rfl) ?_
  refine le2_gd (fun h2 => ?_)
  refine r_pfI (f := 1) (p := 8) f119_5 rfl rfl rfl (by decide) (by decide) (Or.inl h2) rfl ?_
  refine r_aln0 (p := 9) f119_8 rfl ?_
  refine r_gfR (f := 7) (p := 12) f119_9 rfl rfl rfl (Or.inl h1) (Eq.trans (sk_f (by decide)) ev3.symm) ?_
  refine r_aln1 (p := 13) f119_12 rfl ?_
  refine le2_gd (fun h3 => ?_)
  refine r_gfR (f := 0) (p := 16) f119_13 rfl rfl rfl (Or.inl h3) (sk_f (by decide)) ?_
  refine r_iln2 (p := 17) f119_16 rfl ?_
  refine r_aln1 (p := 18) f119_17 rfl ?_
  refine r_iln2 (p := 19) f119_18 rfl ?_
  refine r_invI (p := 22) f119_19 rfl rfl rfl (Or.inl h3) hd (Nat.le_of_ble_eq_true rfl) rfl rfl rfl (fun _ => rfl) (fun v1 m1 c1 => ?_)
  have hz1 := z_k c1 hz
  refine r_iln2 (p := 23) f119_22 rfl ?_
  refine r_isub (p := 24) f119_23 rfl ?_
  have h4 := k_t1 c1 hz h2 (by decide)
  refine r_invV (p := 27) f119_24 rfl rfl rfl (Or.inl h4) hd (Nat.le_of_ble_eq_true rfl) rfl rfl rfl (fun _ => rfl) (fun m2 c2 => ?_)
  have hz2 := z_k c2 hz1
  exact r_ret f119_27
/-! 120 PathStore$Patcher.pointer (LPathStore$Row;I)V -/
def w120_9 : List UInt8 := [180, 0, 32, 21, 5, 42, 180, 0, 32, 180, 0, 70, 21, 5, 100, 5, 100, 182, 0, 104, 167, 255, 52, 177]
abbrev u120_9 : List UInt8 := w120_9 ++ []
def w120_8 : List UInt8 := [16, 126, 167, 0, 5, 16, 47, 54, 6, 42, 180, 0, 32, 21, 6, 182, 0, 73, 167, 255, 148, 42]
abbrev u120_8 : List UInt8 := w120_8 ++ u120_9
def w120_7 : List UInt8 := [4, 167, 0, 4, 3, 184, 0, 100, 43, 180, 0, 96, 21, 4, 132, 4, 1, 51, 16, 48, 160, 0, 8]
abbrev u120_7 : List UInt8 := w120_7 ++ u120_8
def w120_6 : List UInt8 := [43, 180, 0, 96, 21, 4, 51, 16, 48, 159, 0, 15, 43, 180, 0, 96, 21, 4, 51, 16, 49, 160, 0, 7]
abbrev u120_6 : List UInt8 := w120_6 ++ u120_7
def w120_5 : List UInt8 := [180, 0, 96, 21, 4, 132, 4, 1, 51, 54, 6, 21, 6, 16, 126, 160, 0, 65, 21, 4, 29, 162, 0, 31]
abbrev u120_5 : List UInt8 := w120_5 ++ u120_6
def w120_4 : List UInt8 := [182, 0, 73, 21, 4, 29, 162, 0, 108, 43, 180, 0, 96, 21, 4, 51, 16, 47, 159, 0, 96, 43]
abbrev u120_4 : List UInt8 := w120_4 ++ u120_5
def w120_3 : List UInt8 := [90, 4, 96, 181, 0, 89, 21, 5, 79, 42, 180, 0, 32, 3, 182, 0, 73, 42, 180, 0, 32, 3]
abbrev u120_3 : List UInt8 := w120_3 ++ u120_4
def w120_2 : List UInt8 := [184, 0, 100, 132, 4, 1, 42, 180, 0, 32, 180, 0, 70, 54, 5, 42, 180, 0, 35, 42, 89, 180, 0, 89]
abbrev u120_2 : List UInt8 := w120_2 ++ u120_3
def w120_1 : List UInt8 := [21, 4, 29, 162, 0, 204, 43, 180, 0, 96, 21, 4, 51, 16, 47, 160, 0, 7, 4, 167, 0, 4, 3]
abbrev u120_1 : List UInt8 := w120_1 ++ u120_2
def w120_0 : List UInt8 := [42, 180, 0, 32, 3, 181, 0, 70, 42, 3, 181, 0, 89, 43, 28, 182, 0, 92, 62, 28, 6, 96, 54, 4]
abbrev u120_0 : List UInt8 := w120_0 ++ u120_1
theorem s120_0 : (prog_17_method_4_code).data.toList.drop 0 = u120_0 := by decide +kernel
theorem s120_1 : (prog_17_method_4_code).data.toList.drop 24 = u120_1 := dk_seg s120_0 24 rfl rfl
theorem s120_2 : (prog_17_method_4_code).data.toList.drop 47 = u120_2 := dk_seg s120_1 23 rfl rfl
theorem s120_3 : (prog_17_method_4_code).data.toList.drop 71 = u120_3 := dk_seg s120_2 24 rfl rfl
theorem s120_4 : (prog_17_method_4_code).data.toList.drop 93 = u120_4 := dk_seg s120_3 22 rfl rfl
theorem s120_5 : (prog_17_method_4_code).data.toList.drop 115 = u120_5 := dk_seg s120_4 22 rfl rfl
theorem s120_6 : (prog_17_method_4_code).data.toList.drop 139 = u120_6 := dk_seg s120_5 24 rfl rfl
theorem s120_7 : (prog_17_method_4_code).data.toList.drop 163 = u120_7 := dk_seg s120_6 24 rfl rfl
theorem s120_8 : (prog_17_method_4_code).data.toList.drop 186 = u120_8 := dk_seg s120_7 23 rfl rfl
theorem s120_9 : (prog_17_method_4_code).data.toList.drop 208 = u120_9 := dk_seg s120_8 22 rfl rfl
theorem Fm120 {pc len : Nat} {i : Instr} (h : decode (prog_17_method_4_code) pc = .ok (i, len)) (hl : len = ilen i len) : ft 120 pc = some (7, 0, 0, i, len) := ft_mk rfl h hl
theorem f120_0 : ft 120 0 = some (7, 0, 0, .aload_n 0, 1) := Fm120 (dk_42 (dk_at s120_0 0 rfl rfl)) rfl
theorem f120_1 : ft 120 1 = some (7, 0, 0, .getfield 32, 3) := Fm120 (dk_180 0 32 (dk_at s120_0 1 rfl rfl)) rfl
theorem f120_4 : ft 120 4 = some (7, 0, 0, .iconst 0, 1) := Fm120 (dk_3 (dk_at s120_0 4 rfl rfl)) rfl
theorem f120_5 : ft 120 5 = some (7, 0, 0, .putfield 70, 3) := Fm120 (dk_181 0 70 (dk_at s120_0 5 rfl rfl)) rfl
theorem f120_8 : ft 120 8 = some (7, 0, 0, .aload_n 0, 1) := Fm120 (dk_42 (dk_at s120_0 8 rfl rfl)) rfl
theorem f120_9 : ft 120 9 = some (7, 0, 0, .iconst 0, 1) := Fm120 (dk_3 (dk_at s120_0 9 rfl rfl)) rfl
theorem f120_10 : ft 120 10 = some (7, 0, 0, .putfield 89, 3) := Fm120 (dk_181 0 89 (dk_at s120_0 10 rfl rfl)) rfl
theorem f120_13 : ft 120 13 = some (7, 0, 0, .aload_n 1, 1) := Fm120 (dk_43 (dk_at s120_0 13 rfl rfl)) rfl
theorem f120_14 : ft 120 14 = some (7, 0, 0, .iload_n 2, 1) := Fm120 (dk_28 (dk_at s120_0 14 rfl rfl)) rfl
theorem f120_15 : ft 120 15 = some (7, 0, 0, .invokevirtual 92, 3) := Fm120 (dk_182 0 92 (dk_at s120_0 15 rfl rfl)) rfl
theorem f120_18 : ft 120 18 = some (7, 0, 0, .istore_n 3, 1) := Fm120 (dk_62 (dk_at s120_0 18 rfl rfl)) rfl
theorem f120_19 : ft 120 19 = some (7, 0, 0, .iload_n 2, 1) := Fm120 (dk_28 (dk_at s120_0 19 rfl rfl)) rfl
theorem f120_20 : ft 120 20 = some (7, 0, 0, .iconst 3, 1) := Fm120 (dk_6 (dk_at s120_0 20 rfl rfl)) rfl
theorem f120_21 : ft 120 21 = some (7, 0, 0, .iadd, 1) := Fm120 (dk_96 (dk_at s120_0 21 rfl rfl)) rfl
theorem f120_22 : ft 120 22 = some (7, 0, 0, .istore 4, 2) := Fm120 (dk_54 4 (dk_at s120_0 22 rfl rfl)) rfl
theorem f120_24 : ft 120 24 = some (7, 0, 0, .iload 4, 2) := Fm120 (dk_21 4 (dk_at s120_1 0 rfl rfl)) rfl
theorem f120_26 : ft 120 26 = some (7, 0, 0, .iload_n 3, 1) := Fm120 (dk_29 (dk_at s120_1 2 rfl rfl)) rfl
theorem f120_27 : ft 120 27 = some (7, 0, 0, .if_icmp .ge 204, 3) := Fm120 (dk_162 0 204 (dk_at s120_1 3 rfl rfl)) rfl
theorem f120_30 : ft 120 30 = some (7, 0, 0, .aload_n 1, 1) := Fm120 (dk_43 (dk_at s120_1 6 rfl rfl)) rfl
theorem f120_31 : ft 120 31 = some (7, 0, 0, .getfield 96, 3) := Fm120 (dk_180 0 96 (dk_at s120_1 7 rfl rfl)) rfl
theorem f120_34 : ft 120 34 = some (7, 0, 0, .iload 4, 2) := Fm120 (dk_21 4 (dk_at s120_1 10 rfl rfl)) rfl
theorem f120_36 : ft 120 36 = some (7, 0, 0, .baload, 1) := Fm120 (dk_51 (dk_at s120_1 12 rfl rfl)) rfl
theorem f120_37 : ft 120 37 = some (7, 0, 0, .bipush 47, 2) := Fm120 (dk_16 47 (dk_at s120_1 13 rfl rfl)) rfl
theorem f120_39 : ft 120 39 = some (7, 0, 0, .if_icmp .ne 7, 3) := Fm120 (dk_160 0 7 (dk_at s120_1 15 rfl rfl)) rfl
theorem f120_42 : ft 120 42 = some (7, 0, 0, .iconst 1, 1) := Fm120 (dk_4 (dk_at s120_1 18 rfl rfl)) rfl
theorem f120_43 : ft 120 43 = some (7, 0, 0, .goto 4, 3) := Fm120 (dk_167 0 4 (dk_at s120_1 19 rfl rfl)) rfl
theorem f120_46 : ft 120 46 = some (7, 0, 0, .iconst 0, 1) := Fm120 (dk_3 (dk_at s120_1 22 rfl rfl)) rfl
theorem f120_47 : ft 120 47 = some (7, 0, 0, .invokestatic 100, 3) := Fm120 (dk_184 0 100 (dk_at s120_2 0 rfl rfl)) rfl
theorem f120_50 : ft 120 50 = some (7, 0, 0, .iinc 4 1, 3) := Fm120 (dk_132 4 1 (dk_at s120_2 3 rfl rfl)) rfl
theorem f120_53 : ft 120 53 = some (7, 0, 0, .aload_n 0, 1) := Fm120 (dk_42 (dk_at s120_2 6 rfl rfl)) rfl
theorem f120_54 : ft 120 54 = some (7, 0, 0, .getfield 32, 3) := Fm120 (dk_180 0 32 (dk_at s120_2 7 rfl rfl)) rfl
theorem f120_57 : ft 120 57 = some (7, 0, 0, .getfield 70, 3) := Fm120 (dk_180 0 70 (dk_at s120_2 10 rfl rfl)) rfl
theorem f120_60 : ft 120 60 = some (7, 0, 0, .istore 5, 2) := Fm120 (dk_54 5 (dk_at s120_2 13 rfl rfl)) rfl
theorem f120_62 : ft 120 62 = some (7, 0, 0, .aload_n 0, 1) := Fm120 (dk_42 (dk_at s120_2 15 rfl rfl)) rfl
theorem f120_63 : ft 120 63 = some (7, 0, 0, .getfield 35, 3) := Fm120 (dk_180 0 35 (dk_at s120_2 16 rfl rfl)) rfl
theorem f120_66 : ft 120 66 = some (7, 0, 0, .aload_n 0, 1) := Fm120 (dk_42 (dk_at s120_2 19 rfl rfl)) rfl
theorem f120_67 : ft 120 67 = some (7, 0, 0, .dup, 1) := Fm120 (dk_89 (dk_at s120_2 20 rfl rfl)) rfl
theorem f120_68 : ft 120 68 = some (7, 0, 0, .getfield 89, 3) := Fm120 (dk_180 0 89 (dk_at s120_2 21 rfl rfl)) rfl
theorem f120_71 : ft 120 71 = some (7, 0, 0, .dup_x1, 1) := Fm120 (dk_90 (dk_at s120_3 0 rfl rfl)) rfl
theorem f120_72 : ft 120 72 = some (7, 0, 0, .iconst 1, 1) := Fm120 (dk_4 (dk_at s120_3 1 rfl rfl)) rfl
theorem f120_73 : ft 120 73 = some (7, 0, 0, .iadd, 1) := Fm120 (dk_96 (dk_at s120_3 2 rfl rfl)) rfl
theorem f120_74 : ft 120 74 = some (7, 0, 0, .putfield 89, 3) := Fm120 (dk_181 0 89 (dk_at s120_3 3 rfl rfl)) rfl
theorem f120_77 : ft 120 77 = some (7, 0, 0, .iload 5, 2) := Fm120 (dk_21 5 (dk_at s120_3 6 rfl rfl)) rfl
theorem f120_79 : ft 120 79 = some (7, 0, 0, .iastore, 1) := Fm120 (dk_79 (dk_at s120_3 8 rfl rfl)) rfl
theorem f120_80 : ft 120 80 = some (7, 0, 0, .aload_n 0, 1) := Fm120 (dk_42 (dk_at s120_3 9 rfl rfl)) rfl
theorem f120_81 : ft 120 81 = some (7, 0, 0, .getfield 32, 3) := Fm120 (dk_180 0 32 (dk_at s120_3 10 rfl rfl)) rfl
theorem f120_84 : ft 120 84 = some (7, 0, 0, .iconst 0, 1) := Fm120 (dk_3 (dk_at s120_3 13 rfl rfl)) rfl
theorem f120_85 : ft 120 85 = some (7, 0, 0, .invokevirtual 73, 3) := Fm120 (dk_182 0 73 (dk_at s120_3 14 rfl rfl)) rfl
theorem f120_88 : ft 120 88 = some (7, 0, 0, .aload_n 0, 1) := Fm120 (dk_42 (dk_at s120_3 17 rfl rfl)) rfl
theorem f120_89 : ft 120 89 = some (7, 0, 0, .getfield 32, 3) := Fm120 (dk_180 0 32 (dk_at s120_3 18 rfl rfl)) rfl
theorem f120_92 : ft 120 92 = some (7, 0, 0, .iconst 0, 1) := Fm120 (dk_3 (dk_at s120_3 21 rfl rfl)) rfl
theorem f120_93 : ft 120 93 = some (7, 0, 0, .invokevirtual 73, 3) := Fm120 (dk_182 0 73 (dk_at s120_4 0 rfl rfl)) rfl
theorem f120_96 : ft 120 96 = some (7, 0, 0, .iload 4, 2) := Fm120 (dk_21 4 (dk_at s120_4 3 rfl rfl)) rfl
theorem f120_98 : ft 120 98 = some (7, 0, 0, .iload_n 3, 1) := Fm120 (dk_29 (dk_at s120_4 5 rfl rfl)) rfl
theorem f120_99 : ft 120 99 = some (7, 0, 0, .if_icmp .ge 108, 3) := Fm120 (dk_162 0 108 (dk_at s120_4 6 rfl rfl)) rfl
theorem f120_102 : ft 120 102 = some (7, 0, 0, .aload_n 1, 1) := Fm120 (dk_43 (dk_at s120_4 9 rfl rfl)) rfl
theorem f120_103 : ft 120 103 = some (7, 0, 0, .getfield 96, 3) := Fm120 (dk_180 0 96 (dk_at s120_4 10 rfl rfl)) rfl
theorem f120_106 : ft 120 106 = some (7, 0, 0, .iload 4, 2) := Fm120 (dk_21 4 (dk_at s120_4 13 rfl rfl)) rfl
theorem f120_108 : ft 120 108 = some (7, 0, 0, .baload, 1) := Fm120 (dk_51 (dk_at s120_4 15 rfl rfl)) rfl
theorem f120_109 : ft 120 109 = some (7, 0, 0, .bipush 47, 2) := Fm120 (dk_16 47 (dk_at s120_4 16 rfl rfl)) rfl
theorem f120_111 : ft 120 111 = some (7, 0, 0, .if_icmp .eq 96, 3) := Fm120 (dk_159 0 96 (dk_at s120_4 18 rfl rfl)) rfl
theorem f120_114 : ft 120 114 = some (7, 0, 0, .aload_n 1, 1) := Fm120 (dk_43 (dk_at s120_4 21 rfl rfl)) rfl
theorem f120_115 : ft 120 115 = some (7, 0, 0, .getfield 96, 3) := Fm120 (dk_180 0 96 (dk_at s120_5 0 rfl rfl)) rfl
theorem f120_118 : ft 120 118 = some (7, 0, 0, .iload 4, 2) := Fm120 (dk_21 4 (dk_at s120_5 3 rfl rfl)) rfl
theorem f120_120 : ft 120 120 = some (7, 0, 0, .iinc 4 1, 3) := Fm120 (dk_132 4 1 (dk_at s120_5 5 rfl rfl)) rfl
theorem f120_123 : ft 120 123 = some (7, 0, 0, .baload, 1) := Fm120 (dk_51 (dk_at s120_5 8 rfl rfl)) rfl
theorem f120_124 : ft 120 124 = some (7, 0, 0, .istore 6, 2) := Fm120 (dk_54 6 (dk_at s120_5 9 rfl rfl)) rfl
theorem f120_126 : ft 120 126 = some (7, 0, 0, .iload 6, 2) := Fm120 (dk_21 6 (dk_at s120_5 11 rfl rfl)) rfl
theorem f120_128 : ft 120 128 = some (7, 0, 0, .bipush 126, 2) := Fm120 (dk_16 126 (dk_at s120_5 13 rfl rfl)) rfl
theorem f120_130 : ft 120 130 = some (7, 0, 0, .if_icmp .ne 65, 3) := Fm120 (dk_160 0 65 (dk_at s120_5 15 rfl rfl)) rfl
theorem f120_133 : ft 120 133 = some (7, 0, 0, .iload 4, 2) := Fm120 (dk_21 4 (dk_at s120_5 18 rfl rfl)) rfl
theorem f120_135 : ft 120 135 = some (7, 0, 0, .iload_n 3, 1) := Fm120 (dk_29 (dk_at s120_5 20 rfl rfl)) rfl
theorem f120_136 : ft 120 136 = some (7, 0, 0, .if_icmp .ge 31, 3) := Fm120 (dk_162 0 31 (dk_at s120_5 21 rfl rfl)) rfl
theorem f120_139 : ft 120 139 = some (7, 0, 0, .aload_n 1, 1) := Fm120 (dk_43 (dk_at s120_6 0 rfl rfl)) rfl
theorem f120_140 : ft 120 140 = some (7, 0, 0, .getfield 96, 3) := Fm120 (dk_180 0 96 (dk_at s120_6 1 rfl rfl)) rfl
theorem f120_143 : ft 120 143 = some (7, 0, 0, .iload 4, 2) := Fm120 (dk_21 4 (dk_at s120_6 4 rfl rfl)) rfl
theorem f120_145 : ft 120 145 = some (7, 0, 0, .baload, 1) := Fm120 (dk_51 (dk_at s120_6 6 rfl rfl)) rfl
theorem f120_146 : ft 120 146 = some (7, 0, 0, .bipush 48, 2) := Fm120 (dk_16 48 (dk_at s120_6 7 rfl rfl)) rfl
theorem f120_148 : ft 120 148 = some (7, 0, 0, .if_icmp .eq 15, 3) := Fm120 (dk_159 0 15 (dk_at s120_6 9 rfl rfl)) rfl
theorem f120_151 : ft 120 151 = some (7, 0, 0, .aload_n 1, 1) := Fm120 (dk_43 (dk_at s120_6 12 rfl rfl)) rfl
theorem f120_152 : ft 120 152 = some (7, 0, 0, .getfield 96, 3) := Fm120 (dk_180 0 96 (dk_at s120_6 13 rfl rfl)) rfl
theorem f120_155 : ft 120 155 = some (7, 0, 0, .iload 4, 2) := Fm120 (dk_21 4 (dk_at s120_6 16 rfl rfl)) rfl
theorem f120_157 : ft 120 157 = some (7, 0, 0, .baload, 1) := Fm120 (dk_51 (dk_at s120_6 18 rfl rfl)) rfl
theorem f120_158 : ft 120 158 = some (7, 0, 0, .bipush 49, 2) := Fm120 (dk_16 49 (dk_at s120_6 19 rfl rfl)) rfl
theorem f120_160 : ft 120 160 = some (7, 0, 0, .if_icmp .ne 7, 3) := Fm120 (dk_160 0 7 (dk_at s120_6 21 rfl rfl)) rfl
theorem f120_163 : ft 120 163 = some (7, 0, 0, .iconst 1, 1) := Fm120 (dk_4 (dk_at s120_7 0 rfl rfl)) rfl
theorem f120_164 : ft 120 164 = some (7, 0, 0, .goto 4, 3) := Fm120 (dk_167 0 4 (dk_at s120_7 1 rfl rfl)) rfl
theorem f120_167 : ft 120 167 = some (7, 0, 0, .iconst 0, 1) := Fm120 (dk_3 (dk_at s120_7 4 rfl rfl)) rfl
theorem f120_168 : ft 120 168 = some (7, 0, 0, .invokestatic 100, 3) := Fm120 (dk_184 0 100 (dk_at s120_7 5 rfl rfl)) rfl
theorem f120_171 : ft 120 171 = some (7, 0, 0, .aload_n 1, 1) := Fm120 (dk_43 (dk_at s120_7 8 rfl rfl)) rfl
theorem f120_172 : ft 120 172 = some (7, 0, 0, .getfield 96, 3) := Fm120 (dk_180 0 96 (dk_at s120_7 9 rfl rfl)) rfl
theorem f120_175 : ft 120 175 = some (7, 0, 0, .iload 4, 2) := Fm120 (dk_21 4 (dk_at s120_7 12 rfl rfl)) rfl
theorem f120_177 : ft 120 177 = some (7, 0, 0, .iinc 4 1, 3) := Fm120 (dk_132 4 1 (dk_at s120_7 14 rfl rfl)) rfl
theorem f120_180 : ft 120 180 = some (7, 0, 0, .baload, 1) := Fm120 (dk_51 (dk_at s120_7 17 rfl rfl)) rfl
theorem f120_181 : ft 120 181 = some (7, 0, 0, .bipush 48, 2) := Fm120 (dk_16 48 (dk_at s120_7 18 rfl rfl)) rfl
theorem f120_183 : ft 120 183 = some (7, 0, 0, .if_icmp .ne 8, 3) := Fm120 (dk_160 0 8 (dk_at s120_7 20 rfl rfl)) rfl
theorem f120_186 : ft 120 186 = some (7, 0, 0, .bipush 126, 2) := Fm120 (dk_16 126 (dk_at s120_8 0 rfl rfl)) rfl
theorem f120_188 : ft 120 188 = some (7, 0, 0, .goto 5, 3) := Fm120 (dk_167 0 5 (dk_at s120_8 2 rfl rfl)) rfl
theorem f120_191 : ft 120 191 = some (7, 0, 0, .bipush 47, 2) := Fm120 (dk_16 47 (dk_at s120_8 5 rfl rfl)) rfl
theorem f120_193 : ft 120 193 = some (7, 0, 0, .istore 6, 2) := Fm120 (dk_54 6 (dk_at s120_8 7 rfl rfl)) rfl
theorem f120_195 : ft 120 195 = some (7, 0, 0, .aload_n 0, 1) := Fm120 (dk_42 (dk_at s120_8 9 rfl rfl)) rfl
theorem f120_196 : ft 120 196 = some (7, 0, 0, .getfield 32, 3) := Fm120 (dk_180 0 32 (dk_at s120_8 10 rfl rfl)) rfl
theorem f120_199 : ft 120 199 = some (7, 0, 0, .iload 6, 2) := Fm120 (dk_21 6 (dk_at s120_8 13 rfl rfl)) rfl
theorem f120_201 : ft 120 201 = some (7, 0, 0, .invokevirtual 73, 3) := Fm120 (dk_182 0 73 (dk_at s120_8 15 rfl rfl)) rfl
theorem f120_204 : ft 120 204 = some (7, 0, 0, .goto (-108), 3) := Fm120 (dk_167 255 148 (dk_at s120_8 18 rfl rfl)) rfl
theorem f120_207 : ft 120 207 = some (7, 0, 0, .aload_n 0, 1) := Fm120 (dk_42 (dk_at s120_8 21 rfl rfl)) rfl
theorem f120_208 : ft 120 208 = some (7, 0, 0, .getfield 32, 3) := Fm120 (dk_180 0 32 (dk_at s120_9 0 rfl rfl)) rfl
theorem f120_211 : ft 120 211 = some (7, 0, 0, .iload 5, 2) := Fm120 (dk_21 5 (dk_at s120_9 3 rfl rfl)) rfl
theorem f120_213 : ft 120 213 = some (7, 0, 0, .aload_n 0, 1) := Fm120 (dk_42 (dk_at s120_9 5 rfl rfl)) rfl
theorem f120_214 : ft 120 214 = some (7, 0, 0, .getfield 32, 3) := Fm120 (dk_180 0 32 (dk_at s120_9 6 rfl rfl)) rfl
theorem f120_217 : ft 120 217 = some (7, 0, 0, .getfield 70, 3) := Fm120 (dk_180 0 70 (dk_at s120_9 9 rfl rfl)) rfl
theorem f120_220 : ft 120 220 = some (7, 0, 0, .iload 5, 2) := Fm120 (dk_21 5 (dk_at s120_9 12 rfl rfl)) rfl
theorem f120_222 : ft 120 222 = some (7, 0, 0, .isub, 1) := Fm120 (dk_100 (dk_at s120_9 14 rfl rfl)) rfl
theorem f120_223 : ft 120 223 = some (7, 0, 0, .iconst 2, 1) := Fm120 (dk_5 (dk_at s120_9 15 rfl rfl)) rfl
theorem f120_224 : ft 120 224 = some (7, 0, 0, .isub, 1) := Fm120 (dk_100 (dk_at s120_9 16 rfl rfl)) rfl
theorem f120_225 : ft 120 225 = some (7, 0, 0, .invokevirtual 104, 3) := Fm120 (dk_182 0 104 (dk_at s120_9 17 rfl rfl)) rfl
theorem f120_228 : ft 120 228 = some (7, 0, 0, .goto (-204), 3) := Fm120 (dk_167 255 52 (dk_at s120_9 20 rfl rfl)) rfl
theorem f120_231 : ft 120 231 = some (7, 0, 0, .return_, 1) := Fm120 (dk_177 (dk_at s120_9 23 rfl rfl)) rfl
theorem q120 {d : Nat} {m : Mem} {a0 a1 a2 : Int} (hd : 0 < d) (hz : TZ m) : le2 (gd (tg m a0 = 7) <| nm (vl m a0 9) fun v2 => gd (tg m v2 = 8) <| gd (tg m a1 = 8) <| bI (cl (d - 1) 137 [pR a1, pI a2] (mst (mst m v2 1 0) a0 11 0)) fun v1 m1 => rn d 120 24 [pR a0, pR a1, pI a2, pI v1, pI (w32 (a2 + 3)), pU, pU] [] m1) (cl d 120 [pR a0, pR a1, pI a2] m) := by
  refine q_in (n := 7) (L := [pR a0, pR a1, pI a2, pU, pU, pU, pU]) rfl rfl rfl ?_
  refine r_aln0 (p := 1) f120_0 rfl ?_
  refine le2_gd (fun h1 => ?_)
  refine r_gfR (f := 9) (p := 4) f120_1 rfl rfl rfl (Or.inl h1) rfl ?_
  refine r_nmR (fun v2 ev2 => ?_)
  refine r_iconst (p := 5) f120_4 rfl (pinD rfl rfl) ?_
  refine le2_gd (fun h2 => ?_)
  refine r_pfI (f := 1) (p := 8) f120_5 rfl rfl rfl (by decide) (by decide) (Or.inl h2) rfl ?_
  refine r_aln0 (p := 9) f120_8 rfl ?_
  refine r_iconst (p := 10) f120_9 rfl (pinD rfl rfl) ?_
  refine r_pfI (f := 11) (p := 13) f120_10 rfl rfl rfl (by decide) (by decide) (Or.inl h1) rfl ?_
  refine r_aln1 (p := 14) f120_13 rfl ?_
  refine r_iln2 (p := 15) f120_14 rfl ?_
  refine le2_gd (fun h3 => ?_)
  refine r_invI (p := 18) f120_15 rfl rfl rfl (Or.inl h3) hd (Nat.le_of_ble_eq_true rfl) rfl rfl rfl (fun _ => rfl) (fun v1 m1 c1 => ?_)
  have hz1 := z_k c1 hz
  refine r_isn3 (p := 19) f120_18 rfl rfl ?_
  refine r_iln2 (p := 20) f120_19 rfl ?_
  refine r_iconst (p := 21) f120_20 rfl (pinD rfl rfl) ?_
  refine r_iadd (p := 22) f120_21 rfl ?_
  refine r_isw4 (p := 24) f120_22 rfl rfl ?_
  exact le2_refl _
theorem q120_24 {d : Nat} {m : Mem} {a0 a1 a2 a3 a4 : Int} {z5 z6 : PV} (hz : TZ m) (hcz5 : cat z5 = 1) (hcz6 : cat z6 = 1) : le2 (if a4 < a3 then (gd (tg m a1 = 8) <| nm (vl m a1 0) fun v1 => gd (tg m v1 = 130103 ∨ tg m v1 = 132103) <| gd ((0 : Int) ≤ a4 ∧ a4 < ln m v1) <| if (vl m v1 a4) = 47 then (rn d 120 47 [pR a0, pR a1, pI a2, pI a3, pI a4, z5, z6] [pI 1] m) else rn d 120 47 [pR a0, pR a1, pI a2, pI a3, pI a4, z5, z6] [pI 0] m) else some (.inl none, m)) (rn d 120 24 [pR a0, pR a1, pI a2, pI a3, pI a4, z5, z6] [] m) := by
  refine r_ilw4 (p := 26) f120_24 rfl ?_
  refine r_iln3 (p := 27) f120_26 rfl ?_
  refine r_icge (t := 231) (p := 30) f120_27 (by decide) rfl rfl ?_ ?_
  · refine r_aln1 (p := 31) f120_30 rfl ?_
    refine le2_gd (fun h1 => ?_)
    refine r_gfR (f := 0) (p := 34) f120_31 rfl rfl rfl (Or.inl h1) rfl ?_
    refine r_nmR (fun v1 ev1 => ?_)
    refine r_ilw4 (p := 36) f120_34 rfl ?_
    refine le2_gd (fun h2 => ?_)
    refine le2_gd (fun h3 => ?_)
    refine r_baload (p := 37) f120_36 rfl (dj2 (fun x => x % 1000 = 103 ∨ x % 1000 = 105) h2 (by decide) (by decide)) h3 rfl ?_
    refine r_bipush (p := 39) f120_37 rfl (pinD rfl rfl) ?_
    refine r_icne (t := 46) (p := 42) f120_39 (by decide) rfl rfl ?_ ?_
    · refine r_iconst (p := 43) f120_42 rfl (pinD rfl rfl) ?_
      refine r_goto (p := 47) f120_43 (by decide) rfl ?_
      exact le2_refl _
    · refine r_iconst (p := 47) f120_46 rfl (pinD rfl rfl) ?_
      exact le2_refl _
  · exact r_ret f120_231
theorem q120_47 {d : Nat} {m : Mem} {a0 a1 a2 a3 a4 s0 : Int} {z5 z6 : PV} (hd : 0 < d) (hz : TZ m) (hcz5 : cat z5 = 1) (hcz6 : cat z6 = 1) : le2 (bV (cl (d - 1) 115 [pI s0] m) fun m1 => gd (tg m1 a0 = 7) <| nm (vl m1 a0 9) fun v4 => gd (tg m1 v4 = 8) <| nm (vl m1 v4 1) fun v5 => nm (vl m1 a0 10) fun v6 => nm (vl m1 a0 11) fun v7 => gd (tg m1 v6 = 112101) <| gd ((0 : Int) ≤ v7 ∧ v7 < ln m1 v6) <| bV (cl (d - 1) 130 [pR v4, pI 0] (mst (mst m1 a0 11 (w32 (v7 + 1))) v6 v7 v5)) fun m2 => nm (vl m2 a0 9) fun v8 => gd (tg m2 v8 = 8) <| bV (cl (d - 1) 130 [pR v8, pI 0] m2) fun m3 => rn d 120 96 [pR a0, pR a1, pI a2, pI a3, pI (w32 (a4 + 1)), pI v5, z6] [] m3) (rn d 120 47 [pR a0, pR a1, pI a2, pI a3, pI a4, z5, z6] [pI s0] m) := by
  refine r_istV (p := 50) f120_47 rfl rfl rfl hd (Nat.le_of_ble_eq_true rfl) rfl rfl rfl (fun _ => rfl) (fun m1 c1 => ?_)
  have hz1 := z_k c1 hz
  refine r_iinc4 (p := 53) f120_50 rfl rfl ?_
  refine r_aln0 (p := 54) f120_53 rfl ?_
  refine le2_gd (fun h1 => ?_)
  refine r_gfR (f := 9) (p := 57) f120_54 rfl rfl rfl (Or.inl h1) rfl ?_
  refine r_nmR (fun v4 ev4 => ?_)
  refine le2_gd (fun h2 => ?_)
  refine r_gfI (f := 1) (p := 60) f120_57 rfl rfl rfl (Or.inl h2) rfl ?_
  refine r_nmI (fun v5 ev5 => ?_)
  refine r_isw5 (p := 62) f120_60 rfl rfl ?_
  refine r_aln0 (p := 63) f120_62 rfl ?_
  refine r_gfR (f := 10) (p := 66) f120_63 rfl rfl rfl (Or.inl h1) rfl ?_
  refine r_nmR (fun v6 ev6 => ?_)
  refine r_aln0 (p := 67) f120_66 rfl ?_
  refine r_dup (p := 68) f120_67 rfl rfl ?_
  refine r_gfI (f := 11) (p := 71) f120_68 rfl rfl rfl (Or.inl h1) rfl ?_
  refine r_nmI (fun v7 ev7 => ?_)
  refine r_dup_x1 (p := 72) f120_71 rfl rfl rfl ?_
  refine r_iconst (p := 73) f120_72 rfl (pinD rfl rfl) ?_
  refine r_iadd (p := 74) f120_73 rfl ?_
  refine r_pfI (f := 11) (p := 77) f120_74 rfl rfl rfl (by decide) (by decide) (Or.inl h1) rfl ?_
  refine r_ilw5 (p := 79) f120_77 rfl ?_
  refine le2_gd (fun h3 => ?_)
  refine le2_gd (fun h4 => ?_)
  refine r_iastore (p := 80) f120_79 rfl (dj1 (fun x => 1000 ≤ x ∧ x % 1000 = 101 ∧ Nat.testBit (eM 120) (bix x 0) = true) h3 (by decide)) h4 ?_
  refine r_aln0 (p := 81) f120_80 rfl ?_
  refine r_gfR (f := 9) (p := 84) f120_81 rfl rfl rfl (Or.inl h1) (Eq.trans (sk_o (ne_oa (dj1 (fun x => x < 100) h1 (by decide)) (dj1 (fun x => ¬ x < 100) h3 (by decide)))) (Eq.trans (sk_f (by decide)) ev4.symm)) ?_
  refine r_iconst (p := 85) f120_84 rfl (pinD rfl rfl) ?_
  refine r_invV (p := 88) f120_85 rfl rfl rfl (Or.inl h2) hd (Nat.le_of_ble_eq_true rfl) rfl rfl rfl (fun _ => rfl) (fun m2 c2 => ?_)
  have hz2 := z_k c2 hz1
  refine r_aln0 (p := 89) f120_88 rfl ?_
  have h5 := k_t1 c2 hz1 h1 (by decide)
  refine r_gfR (f := 9) (p := 92) f120_89 rfl rfl rfl (Or.inl h5) rfl ?_
  refine r_nmR (fun v8 ev8 => ?_)
  refine r_iconst (p := 93) f120_92 rfl (pinD rfl rfl) ?_
  refine le2_gd (fun h6 => ?_)
  refine r_invV (p := 96) f120_93 rfl rfl rfl (Or.inl h6) hd (Nat.le_of_ble_eq_true rfl) rfl rfl rfl (fun _ => rfl) (fun m3 c3 => ?_)
  have hz3 := z_k c3 hz2
  exact le2_refl _
theorem q120_96 {d : Nat} {m : Mem} {a0 a1 a2 a3 a4 a5 : Int} {z6 : PV} (hd : 0 < d) (hz : TZ m) (hcz6 : cat z6 = 1) : le2 (if a4 < a3 then (gd (tg m a1 = 8) <| nm (vl m a1 0) fun v2 => gd (tg m v2 = 130103 ∨ tg m v2 = 132103) <| gd ((0 : Int) ≤ a4 ∧ a4 < ln m v2) <| nm (vl m v2 a4) fun v3 => if v3 = 47 then (rn d 120 207 [pR a0, pR a1, pI a2, pI a3, pI a4, pI a5, z6] [] m) else nm (w32 (a4 + 1)) fun v4 => if v3 = 126 then (if v4 < a3 then (gd ((0 : Int) ≤ v4 ∧ v4 < ln m v2) <| nm (vl m v2 v4) fun v5 => if v5 = 48 then (rn d 120 168 [pR a0, pR a1, pI a2, pI a3, pI v4, pI a5, pI v3] [pI 1] m) else if v5 = 49 then (rn d 120 168 [pR a0, pR a1, pI a2, pI a3, pI v4, pI a5, pI v3] [pI 1] m) else rn d 120 168 [pR a0, pR a1, pI a2, pI a3, pI v4, pI a5, pI v3] [pI 0] m) else rn d 120 168 [pR a0, pR a1, pI a2, pI a3, pI v4, pI a5, pI v3] [pI 0] m) else gd (tg m a0 = 7) <| nm (vl m a0 9) fun v6 => gd (tg m v6 = 8) <| bV (cl (d - 1) 130 [pR v6, pI v3] m) fun m1 => rn d 120 96 [pR a0, pR a1, pI a2, pI a3, pI v4, pI a5, pI v3] [] m1) else rn d 120 207 [pR a0, pR a1, pI a2, pI a3, pI a4, pI a5, z6] [] m) (rn d 120 96 [pR a0, pR a1, pI a2, pI a3, pI a4, pI a5, z6] [] m) := by
  refine r_ilw4 (p := 98) f120_96 rfl ?_
  refine r_iln3 (p := 99) f120_98 rfl ?_
  refine r_icge (t := 207) (p := 102) f120_99 (by decide) rfl rfl ?_ ?_
  · refine r_aln1 (p := 103) f120_102 rfl ?_
    refine le2_gd (fun h1 => ?_)
    refine r_gfR (f := 0) (p := 106) f120_103 rfl rfl rfl (Or.inl h1) rfl ?_
    refine r_nmR (fun v2 ev2 => ?_)
    refine r_ilw4 (p := 108) f120_106 rfl ?_
    refine le2_gd (fun h2 => ?_)
    refine le2_gd (fun h3 => ?_)
    refine r_baload (p := 109) f120_108 rfl (dj2 (fun x => x % 1000 = 103 ∨ x % 1000 = 105) h2 (by decide) (by decide)) h3 rfl ?_
    refine r_nmI (fun v3 ev3 => ?_)
    refine r_bipush (p := 111) f120_109 rfl (pinD rfl rfl) ?_
    refine r_iceq (t := 207) (p := 114) f120_111 (by decide) rfl rfl ?_ ?_
    · exact le2_refl _
    · refine r_aln1 (p := 115) f120_114 rfl ?_
      refine r_gfR (f := 0) (p := 118) f120_115 rfl rfl rfl (Or.inl h1) ev2.symm ?_
      refine r_ilw4 (p := 120) f120_118 rfl ?_
      refine r_iinc4 (p := 123) f120_120 rfl rfl ?_
      refine r_nml4 (fun v4 ev4 => ?_)
      refine r_baload (p := 124) f120_123 rfl (dj2 (fun x => x % 1000 = 103 ∨ x % 1000 = 105) h2 (by decide) (by decide)) h3 ev3.symm ?_
      refine r_isw6 (p := 126) f120_124 rfl rfl ?_
      refine r_ilw6 (p := 128) f120_126 rfl ?_
      refine r_bipush (p := 130) f120_128 rfl (pinD rfl rfl) ?_
      refine r_icne (t := 195) (p := 133) f120_130 (by decide) rfl rfl ?_ ?_
      · refine r_ilw4 (p := 135) f120_133 rfl ?_
        refine r_iln3 (p := 136) f120_135 rfl ?_
        refine r_icge (t := 167) (p := 139) f120_136 (by decide) rfl rfl ?_ ?_
        · refine r_aln1 (p := 140) f120_139 rfl ?_
          refine r_gfR (f := 0) (p := 143) f120_140 rfl rfl rfl (Or.inl h1) ev2.symm ?_
          refine r_ilw4 (p := 145) f120_143 rfl ?_
          refine le2_gd (fun h6 => ?_)
          refine r_baload (p := 146) f120_145 rfl (dj2 (fun x => x % 1000 = 103 ∨ x % 1000 = 105) h2 (by decide) (by decide)) h6 rfl ?_
          refine r_nmI (fun v5 ev5 => ?_)
          refine r_bipush (p := 148) f120_146 rfl (pinD rfl rfl) ?_
          refine r_iceq (t := 163) (p := 151) f120_148 (by decide) rfl rfl ?_ ?_
          · refine r_iconst (p := 164) f120_163 rfl (pinD rfl rfl) ?_
            refine r_goto (p := 168) f120_164 (by decide) rfl ?_
            exact le2_refl _
          · refine r_aln1 (p := 152) f120_151 rfl ?_
            refine r_gfR (f := 0) (p := 155) f120_152 rfl rfl rfl (Or.inl h1) ev2.symm ?_
            refine r_ilw4 (p := 157) f120_155 rfl ?_
            refine r_baload (p := 158) f120_157 rfl (dj2 (fun x => x % 1000 = 103 ∨ x % 1000 = 105) h2 (by decide) (by decide)) h6 ev5.symm ?_
            refine r_bipush (p := 160) f120_158 rfl (pinD rfl rfl) ?_
            refine r_icne (t := 167) (p := 163) f120_160 (by decide) rfl rfl ?_ ?_
            · refine r_iconst (p := 164) f120_163 rfl (pinD rfl rfl) ?_
              refine r_goto (p := 168) f120_164 (by decide) rfl ?_
              exact le2_refl _
            · refine r_iconst (p := 168) f120_167 rfl (pinD rfl rfl) ?_
              exact le2_refl _
        · refine r_iconst (p := 168) f120_167 rfl (pinD rfl rfl) ?_
          exact le2_refl _
      · refine r_aln0 (p := 196) f120_195 rfl ?_
        refine le2_gd (fun h4 => ?_)
        refine r_gfR (f := 9) (p := 199) f120_196 rfl rfl rfl (Or.inl h4) rfl ?_
        refine r_nmR (fun v6 ev6 => ?_)
        refine r_ilw6 (p := 201) f120_199 rfl ?_
        refine le2_gd (fun h5 => ?_)
        refine r_invV (p := 204) f120_201 rfl rfl rfl (Or.inl h5) hd (Nat.le_of_ble_eq_true rfl) rfl rfl rfl (fun _ => rfl) (fun m1 c1 => ?_)
        have hz1 := z_k c1 hz
        refine r_goto (p := 96) f120_204 (by decide) rfl ?_
        exact le2_refl _
  · exact le2_refl _
theorem q120_168 {d : Nat} {m : Mem} {a0 a1 a2 a3 a4 a5 a6 s0 : Int} (hd : 0 < d) (hz : TZ m) : le2 (bV (cl (d - 1) 115 [pI s0] m) fun m1 => gd (tg m1 a1 = 8) <| nm (vl m1 a1 0) fun v4 => nm (w32 (a4 + 1)) fun v5 => gd (tg m1 v4 = 130103 ∨ tg m1 v4 = 132103) <| gd ((0 : Int) ≤ a4 ∧ a4 < ln m1 v4) <| if (vl m1 v4 a4) = 48 then (gd (tg m1 a0 = 7) <| nm (vl m1 a0 9) fun v6 => gd (tg m1 v6 = 8) <| bV (cl (d - 1) 130 [pR v6, pI 126] m1) fun m3 => rn d 120 96 [pR a0, pR a1, pI a2, pI a3, pI v5, pI a5, pI 126] [] m3) else gd (tg m1 a0 = 7) <| nm (vl m1 a0 9) fun v7 => gd (tg m1 v7 = 8) <| bV (cl (d - 1) 130 [pR v7, pI 47] m1) fun m2 => rn d 120 96 [pR a0, pR a1, pI a2, pI a3, pI v5, pI a5, pI 47] [] m2) (rn d 120 168 [pR a0, pR a1, pI a2, pI a3, pI a4, pI a5, pI a6] [pI s0] m) := by
  refine r_istV (p := 171) f120_168 rfl rfl rfl hd (Nat.le_of_ble_eq_true rfl) rfl rfl rfl (fun _ => rfl) (fun m1 c1 => ?_)
  have hz1 := z_k c1 hz
  refine r_aln1 (p := 172) f120_171 rfl ?_
  refine le2_gd (fun h1 => ?_)
  refine r_gfR (f := 0) (p := 175) f120_172 rfl rfl rfl (Or.inl h1) rfl ?_
  refine r_nmR (fun v4 ev4 => ?_)
  refine r_ilw4 (p := 177) f120_175 rfl ?_
  refine r_iinc4 (p := 180) f120_177 rfl rfl ?_
  refine r_nml4 (fun v5 ev5 => ?_)
  refine le2_gd (fun h2 => ?_)
  refine le2_gd (fun h3 => ?_)
  refine r_baload (p := 181) f120_180 rfl (dj2 (fun x => x % 1000 = 103 ∨ x % 1000 = 105) h2 (by decide) (by decide)) h3 rfl ?_
  refine r_bipush (p := 183) f120_181 rfl (pinD rfl rfl) ?_
  refine r_icne (t := 191) (p := 186) f120_183 (by decide) rfl rfl ?_ ?_
  · refine r_bipush (p := 188) f120_186 rfl (pinD rfl rfl) ?_
    refine r_goto (p := 193) f120_188 (by decide) rfl ?_
    refine r_isw6 (p := 195) f120_193 rfl rfl ?_
    refine r_aln0 (p := 196) f120_195 rfl ?_
    refine le2_gd (fun h6 => ?_)
    refine r_gfR (f := 9) (p := 199) f120_196 rfl rfl rfl (Or.inl h6) rfl ?_
    refine r_nmR (fun v6 ev6 => ?_)
    refine r_ilw6 (p := 201) f120_199 rfl ?_
    refine le2_gd (fun h7 => ?_)
    refine r_invV (p := 204) f120_201 rfl rfl rfl (Or.inl h7) hd (Nat.le_of_ble_eq_true rfl) rfl rfl rfl (fun _ => rfl) (fun m3 c3 => ?_)
    have hz3 := z_k c3 hz1
    refine r_goto (p := 96) f120_204 (by decide) rfl ?_
    exact le2_refl _
  · refine r_bipush (p := 193) f120_191 rfl (pinD rfl rfl) ?_
    refine r_isw6 (p := 195) f120_193 rfl rfl ?_
    refine r_aln0 (p := 196) f120_195 rfl ?_
    refine le2_gd (fun h4 => ?_)
    refine r_gfR (f := 9) (p := 199) f120_196 rfl rfl rfl (Or.inl h4) rfl ?_
    refine r_nmR (fun v7 ev7 => ?_)
    refine r_ilw6 (p := 201) f120_199 rfl ?_
    refine le2_gd (fun h5 => ?_)
    refine r_invV (p := 204) f120_201 rfl rfl rfl (Or.inl h5) hd (Nat.le_of_ble_eq_true rfl) rfl rfl rfl (fun _ => rfl) (fun m2 c2 => ?_)
    have hz2 := z_k c2 hz1
    refine r_goto (p := 96) f120_204 (by decide) rfl ?_
    exact le2_refl _
theorem q120_207 {d : Nat} {m : Mem} {a0 a1 a2 a3 a4 a5 : Int} {z6 : PV} (hd : 0 < d) (hz : TZ m) (hcz6 : cat z6 = 1) : le2 (gd (tg m a0 = 7) <| nm (vl m a0 9) fun v2 => gd (tg m v2 = 8) <| bV (cl (d - 1) 133 [pR v2, pI a5, pI (w32 ((w32 ((vl m v2 1) - a5)) - 2))] m) fun m1 => rn d 120 24 [pR a0, pR a1, pI a2, pI a3, pI a4, pI a5, z6] [] m1) (rn d 120 207 [pR a0, pR a1, pI a2, pI a3, pI a4, pI a5, z6] [] m) := by
  refine r_aln0 (p := 208) f120_207 rfl ?_
  refine le2_gd (fun h1 => ?_)
  refine r_gfR (f := 9) (p := 211) f120_208 rfl rfl rfl (Or.inl h1) rfl ?_
  refine r_nmR (fun v2 ev2 => ?_)
  refine r_ilw5 (p := 213) f120_211 rfl ?_
  refine r_aln0 (p := 214) f120_213 rfl ?_
  refine r_gfR (f := 9) (p := 217) f120_214 rfl rfl rfl (Or.inl h1) ev2.symm ?_
  refine le2_gd (fun h2 => ?_)
  refine r_gfI (f := 1) (p := 220) f120_217 rfl rfl rfl (Or.inl h2) rfl ?_
  refine r_ilw5 (p := 222) f120_220 rfl ?_
  refine r_isub (p := 223) f120_222 rfl ?_
  refine r_iconst (p := 224) f120_223 rfl (pinD rfl rfl) ?_
  refine r_isub (p := 225) f120_224 rfl ?_
  refine r_invV (p := 228) f120_225 rfl rfl rfl (Or.inl h2) hd (Nat.le_of_ble_eq_true rfl) rfl rfl rfl (fun _ => rfl) (fun m1 c1 => ?_)
  have hz1 := z_k c1 hz
  refine r_goto (p := 24) f120_228 (by decide) rfl ?_
  exact le2_refl _
/-! 121 PathStore$Patcher.add ()V -/
def w121_12 : List UInt8 := [21, 5, 133, 182, 0, 138, 3, 3, 182, 0, 145, 177]
abbrev u121_12 : List UInt8 := w121_12 ++ []
def w121_11 : List UInt8 := [79, 42, 21, 5, 29, 160, 0, 14, 42, 180, 0, 20, 28, 182, 0, 92, 167, 0, 14, 42, 180, 0, 20, 28]
abbrev u121_11 : List UInt8 := w121_11 ++ u121_12
def w121_10 : List UInt8 := [4, 167, 0, 4, 3, 184, 0, 100, 42, 180, 0, 39, 42, 89, 180, 0, 120, 90, 4, 96, 181, 0, 120, 28]
abbrev u121_10 : List UInt8 := w121_10 ++ u121_11
def w121_9 : List UInt8 := [54, 4, 21, 4, 153, 0, 7, 29, 167, 0, 9, 42, 27, 29, 182, 0, 135, 54, 5, 21, 5, 155, 0, 7]
abbrev u121_9 : List UInt8 := w121_9 ++ u121_10
def w121_8 : List UInt8 := [160, 0, 23, 42, 180, 0, 32, 180, 0, 96, 27, 5, 96, 51, 16, 45, 160, 0, 7, 4, 167, 0, 4, 3]
abbrev u121_8 : List UInt8 := w121_8 ++ u121_9
def w121_7 : List UInt8 := [182, 0, 152, 177, 42, 180, 0, 20, 28, 182, 0, 133, 62, 42, 180, 0, 32, 27, 182, 0, 108, 4]
abbrev u121_7 : List UInt8 := w121_7 ++ u121_8
def w121_6 : List UInt8 := [182, 0, 92, 21, 4, 100, 3, 182, 0, 145, 167, 0, 16, 42, 42, 180, 0, 20, 28, 182, 0, 92, 27]
abbrev u121_6 : List UInt8 := w121_6 ++ u121_7
def w121_5 : List UInt8 := [79, 29, 155, 0, 35, 42, 180, 0, 20, 29, 182, 0, 130, 54, 4, 42, 21, 4, 42, 180, 0, 20, 21, 4]
abbrev u121_5 : List UInt8 := w121_5 ++ u121_6
def w121_4 : List UInt8 := [180, 0, 32, 27, 182, 0, 126, 62, 42, 180, 0, 39, 42, 89, 180, 0, 120, 90, 4, 96, 181, 0, 120, 28]
abbrev u121_4 : List UInt8 := w121_4 ++ u121_5
def w121_3 : List UInt8 := [184, 0, 100, 42, 180, 0, 20, 28, 182, 0, 123, 16, 6, 160, 0, 84, 42, 180, 0, 20, 28, 42]
abbrev u121_3 : List UInt8 := w121_3 ++ u121_4
def w121_2 : List UInt8 := [46, 60, 42, 180, 0, 117, 61, 42, 180, 0, 20, 28, 182, 0, 123, 8, 161, 0, 7, 4, 167, 0, 4, 3]
abbrev u121_2 : List UInt8 := w121_2 ++ u121_3
def w121_1 : List UInt8 := [182, 0, 145, 177, 42, 42, 180, 0, 89, 4, 100, 182, 0, 149, 42, 180, 0, 35, 42, 180, 0, 89, 4, 100]
abbrev u121_1 : List UInt8 := w121_1 ++ u121_2
def w121_0 : List UInt8 := [42, 180, 0, 89, 154, 0, 22, 42, 3, 181, 0, 120, 42, 3, 42, 180, 0, 20, 180, 0, 70, 3]
abbrev u121_0 : List UInt8 := w121_0 ++ u121_1
theorem s121_0 : (prog_17_method_8_code).data.toList.drop 0 = u121_0 := by decide +kernel
theorem s121_1 : (prog_17_method_8_code).data.toList.drop 22 = u121_1 := dk_seg s121_0 22 rfl rfl
theorem s121_2 : (prog_17_method_8_code).data.toList.drop 46 = u121_2 := dk_seg s121_1 24 rfl rfl
theorem s121_3 : (prog_17_method_8_code).data.toList.drop 70 = u121_3 := dk_seg s121_2 24 rfl rfl
theorem s121_4 : (prog_17_method_8_code).data.toList.drop 92 = u121_4 := dk_seg s121_3 22 rfl rfl
theorem s121_5 : (prog_17_method_8_code).data.toList.drop 116 = u121_5 := dk_seg s121_4 24 rfl rfl
theorem s121_6 : (prog_17_method_8_code).data.toList.drop 140 = u121_6 := dk_seg s121_5 24 rfl rfl
theorem s121_7 : (prog_17_method_8_code).data.toList.drop 163 = u121_7 := dk_seg s121_6 23 rfl rfl
theorem s121_8 : (prog_17_method_8_code).data.toList.drop 185 = u121_8 := dk_seg s121_7 22 rfl rfl
theorem s121_9 : (prog_17_method_8_code).data.toList.drop 209 = u121_9 := dk_seg s121_8 24 rfl rfl
theorem s121_10 : (prog_17_method_8_code).data.toList.drop 233 = u121_10 := dk_seg s121_9 24 rfl rfl
theorem s121_11 : (prog_17_method_8_code).data.toList.drop 257 = u121_11 := dk_seg s121_10 24 rfl rfl
theorem s121_12 : (prog_17_method_8_code).data.toList.drop 281 = u121_12 := dk_seg s121_11 24 rfl rfl
theorem Fm121 {pc len : Nat} {i : Instr} (h : decode (prog_17_method_8_code) pc = .ok (i, len)) (hl : len = ilen i len) : ft 121 pc = some (7, 0, 0, i, len) := ft_mk rfl h hl
theorem f121_0 : ft 121 0 = some (7, 0, 0, .aload_n 0, 1) := Fm121 (dk_42 (dk_at s121_0 0 rfl rfl)) rfl
theorem f121_1 : ft 121 1 = some (7, 0, 0, .getfield 89, 3) := Fm121 (dk_180 0 89 (dk_at s121_0 1 rfl rfl)) rfl
theorem f121_4 : ft 121 4 = some (7, 0, 0, .ifCond .ne 22, 3) := Fm121 (dk_154 0 22 (dk_at s121_0 4 rfl rfl)) rfl
theorem f121_7 : ft 121 7 = some (7, 0, 0, .aload_n 0, 1) := Fm121 (dk_42 (dk_at s121_0 7 rfl rfl)) rfl
theorem f121_8 : ft 121 8 = some (7, 0, 0, .iconst 0, 1) := Fm121 (dk_3 (dk_at s121_0 8 rfl rfl)) rfl
theorem f121_9 : ft 121 9 = some (7, 0, 0, .putfield 120, 3) := Fm121 (dk_181 0 120 (dk_at s121_0 9 rfl rfl)) rfl
theorem f121_12 : ft 121 12 = some (7, 0, 0, .aload_n 0, 1) := Fm121 (dk_42 (dk_at s121_0 12 rfl rfl)) rfl
theorem f121_13 : ft 121 13 = some (7, 0, 0, .iconst 0, 1) := Fm121 (dk_3 (dk_at s121_0 13 rfl rfl)) rfl
theorem f121_14 : ft 121 14 = some (7, 0, 0, .aload_n 0, 1) := Fm121 (dk_42 (dk_at s121_0 14 rfl rfl)) rfl
theorem f121_15 : ft 121 15 = some (7, 0, 0, .getfield 20, 3) := Fm121 (dk_180 0 20 (dk_at s121_0 15 rfl rfl)) rfl
theorem f121_18 : ft 121 18 = some (7, 0, 0, .getfield 70, 3) := Fm121 (dk_180 0 70 (dk_at s121_0 18 rfl rfl)) rfl
theorem f121_21 : ft 121 21 = some (7, 0, 0, .iconst 0, 1) := Fm121 (dk_3 (dk_at s121_0 21 rfl rfl)) rfl
theorem f121_22 : ft 121 22 = some (7, 0, 0, .invokevirtual 145, 3) := Fm121 (dk_182 0 145 (dk_at s121_1 0 rfl rfl)) rfl
theorem f121_25 : ft 121 25 = some (7, 0, 0, .return_, 1) := Fm121 (dk_177 (dk_at s121_1 3 rfl rfl)) rfl
theorem f121_26 : ft 121 26 = some (7, 0, 0, .aload_n 0, 1) := Fm121 (dk_42 (dk_at s121_1 4 rfl rfl)) rfl
theorem f121_27 : ft 121 27 = some (7, 0, 0, .aload_n 0, 1) := Fm121 (dk_42 (dk_at s121_1 5 rfl rfl)) rfl
theorem f121_28 : ft 121 28 = some (7, 0, 0, .getfield 89, 3) := Fm121 (dk_180 0 89 (dk_at s121_1 6 rfl rfl)) rfl
theorem f121_31 : ft 121 31 = some (7, 0, 0, .iconst 1, 1) := Fm121 (dk_4 (dk_at s121_1 9 rfl rfl)) rfl
theorem f121_32 : ft 121 32 = some (7, 0, 0, .isub, 1) := Fm121 (dk_100 (dk_at s121_1 10 rfl rfl)) rfl
theorem f121_33 : ft 121 33 = some (7, 0, 0, .invokevirtual 149, 3) := Fm121 (dk_182 0 149 (dk_at s121_1 11 rfl rfl)) rfl
theorem f121_36 : ft 121 36 = some (7, 0, 0, .aload_n 0, 1) := Fm121 (dk_42 (dk_at s121_1 14 rfl rfl)) rfl
theorem f121_37 : ft 121 37 = some (7, 0, 0, .getfield 35, 3) := Fm121 (dk_180 0 35 (dk_at s121_1 15 rfl rfl)) rfl
theorem f121_40 : ft 121 40 = some (7, 0, 0, .aload_n 0, 1) := Fm121 (dk_42 (dk_at s121_1 18 rfl rfl)) rfl
theorem f121_41 : ft 121 41 = some (7, 0, 0, .getfield 89, 3) := Fm121 (dk_180 0 89 (dk_at s121_1 19 rfl rfl)) rfl
theorem f121_44 : ft 121 44 = some (7, 0, 0, .iconst 1, 1) := Fm121 (dk_4 (dk_at s121_1 22 rfl rfl)) rfl
theorem f121_45 : ft 121 45 = some (7, 0, 0, .isub, 1) := Fm121 (dk_100 (dk_at s121_1 23 rfl rfl)) rfl
theorem f121_46 : ft 121 46 = some (7, 0, 0, .iaload, 1) := Fm121 (dk_46 (dk_at s121_2 0 rfl rfl)) rfl
theorem f121_47 : ft 121 47 = some (7, 0, 0, .istore_n 1, 1) := Fm121 (dk_60 (dk_at s121_2 1 rfl rfl)) rfl
theorem f121_48 : ft 121 48 = some (7, 0, 0, .aload_n 0, 1) := Fm121 (dk_42 (dk_at s121_2 2 rfl rfl)) rfl
theorem f121_49 : ft 121 49 = some (7, 0, 0, .getfield 117, 3) := Fm121 (dk_180 0 117 (dk_at s121_2 3 rfl rfl)) rfl
theorem f121_52 : ft 121 52 = some (7, 0, 0, .istore_n 2, 1) := Fm121 (dk_61 (dk_at s121_2 6 rfl rfl)) rfl
theorem f121_53 : ft 121 53 = some (7, 0, 0, .aload_n 0, 1) := Fm121 (dk_42 (dk_at s121_2 7 rfl rfl)) rfl
theorem f121_54 : ft 121 54 = some (7, 0, 0, .getfield 20, 3) := Fm121 (dk_180 0 20 (dk_at s121_2 8 rfl rfl)) rfl
theorem f121_57 : ft 121 57 = some (7, 0, 0, .iload_n 2, 1) := Fm121 (dk_28 (dk_at s121_2 11 rfl rfl)) rfl
theorem f121_58 : ft 121 58 = some (7, 0, 0, .invokevirtual 123, 3) := Fm121 (dk_182 0 123 (dk_at s121_2 12 rfl rfl)) rfl
theorem f121_61 : ft 121 61 = some (7, 0, 0, .iconst 5, 1) := Fm121 (dk_8 (dk_at s121_2 15 rfl rfl)) rfl
theorem f121_62 : ft 121 62 = some (7, 0, 0, .if_icmp .lt 7, 3) := Fm121 (dk_161 0 7 (dk_at s121_2 16 rfl rfl)) rfl
theorem f121_65 : ft 121 65 = some (7, 0, 0, .iconst 1, 1) := Fm121 (dk_4 (dk_at s121_2 19 rfl rfl)) rfl
theorem f121_66 : ft 121 66 = some (7, 0, 0, .goto 4, 3) := Fm121 (dk_167 0 4 (dk_at s121_2 20 rfl rfl)) rfl
theorem f121_69 : ft 121 69 = some (7, 0, 0, .iconst 0, 1) := Fm121 (dk_3 (dk_at s121_2 23 rfl rfl)) rfl
theorem f121_70 : ft 121 70 = some (7, 0, 0, .invokestatic 100, 3) := Fm121 (dk_184 0 100 (dk_at s121_3 0 rfl rfl)) rfl
theorem f121_73 : ft 121 73 = some (7, 0, 0, .aload_n 0, 1) := Fm121 (dk_42 (dk_at s121_3 3 rfl rfl)) rfl
theorem f121_74 : ft 121 74 = some (7, 0, 0, .getfield 20, 3) := Fm121 (dk_180 0 20 (dk_at s121_3 4 rfl rfl)) rfl
theorem f121_77 : ft 121 77 = some (7, 0, 0, .iload_n 2, 1) := Fm121 (dk_28 (dk_at s121_3 7 rfl rfl)) rfl
theorem f121_78 : ft 121 78 = some (7, 0, 0, .invokevirtual 123, 3) := Fm121 (dk_182 0 123 (dk_at s121_3 8 rfl rfl)) rfl
theorem f121_81 : ft 121 81 = some (7, 0, 0, .bipush 6, 2) := Fm121 (dk_16 6 (dk_at s121_3 11 rfl rfl)) rfl
theorem f121_83 : ft 121 83 = some (7, 0, 0, .if_icmp .ne 84, 3) := Fm121 (dk_160 0 84 (dk_at s121_3 13 rfl rfl)) rfl
theorem f121_86 : ft 121 86 = some (7, 0, 0, .aload_n 0, 1) := Fm121 (dk_42 (dk_at s121_3 16 rfl rfl)) rfl
theorem f121_87 : ft 121 87 = some (7, 0, 0, .getfield 20, 3) := Fm121 (dk_180 0 20 (dk_at s121_3 17 rfl rfl)) rfl
theorem f121_90 : ft 121 90 = some (7, 0, 0, .iload_n 2, 1) := Fm121 (dk_28 (dk_at s121_3 20 rfl rfl)) rfl
theorem f121_91 : ft 121 91 = some (7, 0, 0, .aload_n 0, 1) := Fm121 (dk_42 (dk_at s121_3 21 rfl rfl)) rfl
theorem f121_92 : ft 121 92 = some (7, 0, 0, .getfield 32, 3) := Fm121 (dk_180 0 32 (dk_at s121_4 0 rfl rfl)) rfl
theorem f121_95 : ft 121 95 = some (7, 0, 0, .iload_n 1, 1) := Fm121 (dk_27 (dk_at s121_4 3 rfl rfl)) rfl
theorem f121_96 : ft 121 96 = some (7, 0, 0, .invokevirtual 126, 3) := Fm121 (dk_182 0 126 (dk_at s121_4 4 rfl rfl)) rfl
theorem f121_99 : ft 121 99 = some (7, 0, 0, .istore_n 3, 1) := Fm121 (dk_62 (dk_at s121_4 7 rfl rfl)) rfl
theorem f121_100 : ft 121 100 = some (7, 0, 0, .aload_n 0, 1) := Fm121 (dk_42 (dk_at s121_4 8 rfl rfl)) rfl
theorem f121_101 : ft 121 101 = some (7, 0, 0, .getfield 39, 3) := Fm121 (dk_180 0 39 (dk_at s121_4 9 rfl rfl)) rfl
theorem f121_104 : ft 121 104 = some (7, 0, 0, .aload_n 0, 1) := Fm121 (dk_42 (dk_at s121_4 12 rfl rfl)) rfl
theorem f121_105 : ft 121 105 = some (7, 0, 0, .dup, 1) := Fm121 (dk_89 (dk_at s121_4 13 rfl rfl)) rfl
theorem f121_106 : ft 121 106 = some (7, 0, 0, .getfield 120, 3) := Fm121 (dk_180 0 120 (dk_at s121_4 14 rfl rfl)) rfl
theorem f121_109 : ft 121 109 = some (7, 0, 0, .dup_x1, 1) := Fm121 (dk_90 (dk_at s121_4 17 rfl rfl)) rfl
theorem f121_110 : ft 121 110 = some (7, 0, 0, .iconst 1, 1) := Fm121 (dk_4 (dk_at s121_4 18 rfl rfl)) rfl
theorem f121_111 : ft 121 111 = some (7, 0, 0, .iadd, 1) := Fm121 (dk_96 (dk_at s121_4 19 rfl rfl)) rfl
theorem f121_112 : ft 121 112 = some (7, 0, 0, .putfield 120, 3) := Fm121 (dk_181 0 120 (dk_at s121_4 20 rfl rfl)) rfl
theorem f121_115 : ft 121 115 = some (7, 0, 0, .iload_n 2, 1) := Fm121 (dk_28 (dk_at s121_4 23 rfl rfl)) rfl
theorem f121_116 : ft 121 116 = some (7, 0, 0, .iastore, 1) := Fm121 (dk_79 (dk_at s121_5 0 rfl rfl)) rfl
theorem f121_117 : ft 121 117 = some (7, 0, 0, .iload_n 3, 1) := Fm121 (dk_29 (dk_at s121_5 1 rfl rfl)) rfl
theorem f121_118 : ft 121 118 = some (7, 0, 0, .ifCond .lt 35, 3) := Fm121 (dk_155 0 35 (dk_at s121_5 2 rfl rfl)) rfl
theorem f121_121 : ft 121 121 = some (7, 0, 0, .aload_n 0, 1) := Fm121 (dk_42 (dk_at s121_5 5 rfl rfl)) rfl
theorem f121_122 : ft 121 122 = some (7, 0, 0, .getfield 20, 3) := Fm121 (dk_180 0 20 (dk_at s121_5 6 rfl rfl)) rfl
theorem f121_125 : ft 121 125 = some (7, 0, 0, .iload_n 3, 1) := Fm121 (dk_29 (dk_at s121_5 9 rfl rfl)) rfl
theorem f121_126 : ft 121 126 = some (7, 0, 0, .invokevirtual 130, 3) := Fm121 (dk_182 0 130 (dk_at s121_5 10 rfl rfl)) rfl
theorem f121_129 : ft 121 129 = some (7, 0, 0, .istore 4, 2) := Fm121 (dk_54 4 (dk_at s121_5 13 rfl rfl)) rfl
theorem f121_131 : ft 121 131 = some (7, 0, 0, .aload_n 0, 1) := Fm121 (dk_42 (dk_at s121_5 15 rfl rfl)) rfl
theorem f121_132 : ft 121 132 = some (7, 0, 0, .iload 4, 2) := Fm121 (dk_21 4 (dk_at s121_5 16 rfl rfl)) rfl
theorem f121_134 : ft 121 134 = some (7, 0, 0, .aload_n 0, 1) := Fm121 (dk_42 (dk_at s121_5 18 rfl rfl)) rfl
theorem f121_135 : ft 121 135 = some (7, 0, 0, .getfield 20, 3) := Fm121 (dk_180 0 20 (dk_at s121_5 19 rfl rfl)) rfl
theorem f121_138 : ft 121 138 = some (7, 0, 0, .iload 4, 2) := Fm121 (dk_21 4 (dk_at s121_5 22 rfl rfl)) rfl
theorem f121_140 : ft 121 140 = some (7, 0, 0, .invokevirtual 92, 3) := Fm121 (dk_182 0 92 (dk_at s121_6 0 rfl rfl)) rfl
theorem f121_143 : ft 121 143 = some (7, 0, 0, .iload 4, 2) := Fm121 (dk_21 4 (dk_at s121_6 3 rfl rfl)) rfl
theorem f121_145 : ft 121 145 = some (7, 0, 0, .isub, 1) := Fm121 (dk_100 (dk_at s121_6 5 rfl rfl)) rfl
theorem f121_146 : ft 121 146 = some (7, 0, 0, .iconst 0, 1) := Fm121 (dk_3 (dk_at s121_6 6 rfl rfl)) rfl
theorem f121_147 : ft 121 147 = some (7, 0, 0, .invokevirtual 145, 3) := Fm121 (dk_182 0 145 (dk_at s121_6 7 rfl rfl)) rfl
theorem f121_150 : ft 121 150 = some (7, 0, 0, .goto 16, 3) := Fm121 (dk_167 0 16 (dk_at s121_6 10 rfl rfl)) rfl
theorem f121_153 : ft 121 153 = some (7, 0, 0, .aload_n 0, 1) := Fm121 (dk_42 (dk_at s121_6 13 rfl rfl)) rfl
theorem f121_154 : ft 121 154 = some (7, 0, 0, .aload_n 0, 1) := Fm121 (dk_42 (dk_at s121_6 14 rfl rfl)) rfl
theorem f121_155 : ft 121 155 = some (7, 0, 0, .getfield 20, 3) := Fm121 (dk_180 0 20 (dk_at s121_6 15 rfl rfl)) rfl
theorem f121_158 : ft 121 158 = some (7, 0, 0, .iload_n 2, 1) := Fm121 (dk_28 (dk_at s121_6 18 rfl rfl)) rfl
theorem f121_159 : ft 121 159 = some (7, 0, 0, .invokevirtual 92, 3) := Fm121 (dk_182 0 92 (dk_at s121_6 19 rfl rfl)) rfl
theorem f121_162 : ft 121 162 = some (7, 0, 0, .iload_n 1, 1) := Fm121 (dk_27 (dk_at s121_6 22 rfl rfl)) rfl
theorem f121_163 : ft 121 163 = some (7, 0, 0, .invokevirtual 152, 3) := Fm121 (dk_182 0 152 (dk_at s121_7 0 rfl rfl)) rfl
theorem f121_166 : ft 121 166 = some (7, 0, 0, .return_, 1) := Fm121 (dk_177 (dk_at s121_7 3 rfl rfl)) rfl
theorem f121_167 : ft 121 167 = some (7, 0, 0, .aload_n 0, 1) := Fm121 (dk_42 (dk_at s121_7 4 rfl rfl)) rfl
theorem f121_168 : ft 121 168 = some (7, 0, 0, .getfield 20, 3) := Fm121 (dk_180 0 20 (dk_at s121_7 5 rfl rfl)) rfl
theorem f121_171 : ft 121 171 = some (7, 0, 0, .iload_n 2, 1) := Fm121 (dk_28 (dk_at s121_7 8 rfl rfl)) rfl
theorem f121_172 : ft 121 172 = some (7, 0, 0, .invokevirtual 133, 3) := Fm121 (dk_182 0 133 (dk_at s121_7 9 rfl rfl)) rfl
theorem f121_175 : ft 121 175 = some (7, 0, 0, .istore_n 3, 1) := Fm121 (dk_62 (dk_at s121_7 12 rfl rfl)) rfl
theorem f121_176 : ft 121 176 = some (7, 0, 0, .aload_n 0, 1) := Fm121 (dk_42 (dk_at s121_7 13 rfl rfl)) rfl
theorem f121_177 : ft 121 177 = some (7, 0, 0, .getfield 32, 3) := Fm121 (dk_180 0 32 (dk_at s121_7 14 rfl rfl)) rfl
theorem f121_180 : ft 121 180 = some (7, 0, 0, .iload_n 1, 1) := Fm121 (dk_27 (dk_at s121_7 17 rfl rfl)) rfl
theorem f121_181 : ft 121 181 = some (7, 0, 0, .invokevirtual 108, 3) := Fm121 (dk_182 0 108 (dk_at s121_7 18 rfl rfl)) rfl
theorem f121_184 : ft 121 184 = some (7, 0, 0, .iconst 1, 1) := Fm121 (dk_4 (dk_at s121_7 21 rfl rfl)) rfl
theorem f121_185 : ft 121 185 = some (7, 0, 0, .if_icmp .ne 23, 3) := Fm121 (dk_160 0 23 (dk_at s121_8 0 rfl rfl)) rfl
theorem f121_188 : ft 121 188 = some (7, 0, 0, .aload_n 0, 1) := Fm121 (dk_42 (dk_at s121_8 3 rfl rfl)) rfl
theorem f121_189 : ft 121 189 = some (7, 0, 0, .getfield 32, 3) := Fm121 (dk_180 0 32 (dk_at s121_8 4 rfl rfl)) rfl
theorem f121_192 : ft 121 192 = some (7, 0, 0, .getfield 96, 3) := Fm121 (dk_180 0 96 (dk_at s121_8 7 rfl rfl)) rfl
theorem f121_195 : ft 121 195 = some (7, 0, 0, .iload_n 1, 1) := Fm121 (dk_27 (dk_at s121_8 10 rfl rfl)) rfl
theorem f121_196 : ft 121 196 = some (7, 0, 0, .iconst 2, 1) := Fm121 (dk_5 (dk_at s121_8 11 rfl rfl)) rfl
theorem f121_197 : ft 121 197 = some (7, 0, 0, .iadd, 1) := Fm121 (dk_96 (dk_at s121_8 12 rfl rfl)) rfl
theorem f121_198 : ft 121 198 = some (7, 0, 0, .baload, 1) := Fm121 (dk_51 (dk_at s121_8 13 rfl rfl)) rfl
theorem f121_199 : ft 121 199 = some (7, 0, 0, .bipush 45, 2) := Fm121 (dk_16 45 (dk_at s121_8 14 rfl rfl)) rfl
theorem f121_201 : ft 121 201 = some (7, 0, 0, .if_icmp .ne 7, 3) := Fm121 (dk_160 0 7 (dk_at s121_8 16 rfl rfl)) rfl
theorem f121_204 : ft 121 204 = some (7, 0, 0, .iconst 1, 1) := Fm121 (dk_4 (dk_at s121_8 19 rfl rfl)) rfl
theorem f121_205 : ft 121 205 = some (7, 0, 0, .goto 4, 3) := Fm121 (dk_167 0 4 (dk_at s121_8 20 rfl rfl)) rfl
theorem f121_208 : ft 121 208 = some (7, 0, 0, .iconst 0, 1) := Fm121 (dk_3 (dk_at s121_8 23 rfl rfl)) rfl
theorem f121_209 : ft 121 209 = some (7, 0, 0, .istore 4, 2) := Fm121 (dk_54 4 (dk_at s121_9 0 rfl rfl)) rfl
theorem f121_211 : ft 121 211 = some (7, 0, 0, .iload 4, 2) := Fm121 (dk_21 4 (dk_at s121_9 2 rfl rfl)) rfl
theorem f121_213 : ft 121 213 = some (7, 0, 0, .ifCond .eq 7, 3) := Fm121 (dk_153 0 7 (dk_at s121_9 4 rfl rfl)) rfl
theorem f121_216 : ft 121 216 = some (7, 0, 0, .iload_n 3, 1) := Fm121 (dk_29 (dk_at s121_9 7 rfl rfl)) rfl
theorem f121_217 : ft 121 217 = some (7, 0, 0, .goto 9, 3) := Fm121 (dk_167 0 9 (dk_at s121_9 8 rfl rfl)) rfl
theorem f121_220 : ft 121 220 = some (7, 0, 0, .aload_n 0, 1) := Fm121 (dk_42 (dk_at s121_9 11 rfl rfl)) rfl
theorem f121_221 : ft 121 221 = some (7, 0, 0, .iload_n 1, 1) := Fm121 (dk_27 (dk_at s121_9 12 rfl rfl)) rfl
theorem f121_222 : ft 121 222 = some (7, 0, 0, .iload_n 3, 1) := Fm121 (dk_29 (dk_at s121_9 13 rfl rfl)) rfl
theorem f121_223 : ft 121 223 = some (7, 0, 0, .invokevirtual 135, 3) := Fm121 (dk_182 0 135 (dk_at s121_9 14 rfl rfl)) rfl
theorem f121_226 : ft 121 226 = some (7, 0, 0, .istore 5, 2) := Fm121 (dk_54 5 (dk_at s121_9 17 rfl rfl)) rfl
theorem f121_228 : ft 121 228 = some (7, 0, 0, .iload 5, 2) := Fm121 (dk_21 5 (dk_at s121_9 19 rfl rfl)) rfl
theorem f121_230 : ft 121 230 = some (7, 0, 0, .ifCond .lt 7, 3) := Fm121 (dk_155 0 7 (dk_at s121_9 21 rfl rfl)) rfl
theorem f121_233 : ft 121 233 = some (7, 0, 0, .iconst 1, 1) := Fm121 (dk_4 (dk_at s121_10 0 rfl rfl)) rfl
theorem f121_234 : ft 121 234 = some (7, 0, 0, .goto 4, 3) := Fm121 (dk_167 0 4 (dk_at s121_10 1 rfl rfl)) rfl
theorem f121_237 : ft 121 237 = some (7, 0, 0, .iconst 0, 1) := Fm121 (dk_3 (dk_at s121_10 4 rfl rfl)) rfl
theorem f121_238 : ft 121 238 = some (7, 0, 0, .invokestatic 100, 3) := Fm121 (dk_184 0 100 (dk_at s121_10 5 rfl rfl)) rfl
theorem f121_241 : ft 121 241 = some (7, 0, 0, .aload_n 0, 1) := Fm121 (dk_42 (dk_at s121_10 8 rfl rfl)) rfl
theorem f121_242 : ft 121 242 = some (7, 0, 0, .getfield 39, 3) := Fm121 (dk_180 0 39 (dk_at s121_10 9 rfl rfl)) rfl
theorem f121_245 : ft 121 245 = some (7, 0, 0, .aload_n 0, 1) := Fm121 (dk_42 (dk_at s121_10 12 rfl rfl)) rfl
theorem f121_246 : ft 121 246 = some (7, 0, 0, .dup, 1) := Fm121 (dk_89 (dk_at s121_10 13 rfl rfl)) rfl
theorem f121_247 : ft 121 247 = some (7, 0, 0, .getfield 120, 3) := Fm121 (dk_180 0 120 (dk_at s121_10 14 rfl rfl)) rfl
theorem f121_250 : ft 121 250 = some (7, 0, 0, .dup_x1, 1) := Fm121 (dk_90 (dk_at s121_10 17 rfl rfl)) rfl
theorem f121_251 : ft 121 251 = some (7, 0, 0, .iconst 1, 1) := Fm121 (dk_4 (dk_at s121_10 18 rfl rfl)) rfl
theorem f121_252 : ft 121 252 = some (7, 0, 0, .iadd, 1) := Fm121 (dk_96 (dk_at s121_10 19 rfl rfl)) rfl
theorem f121_253 : ft 121 253 = some (7, 0, 0, .putfield 120, 3) := Fm121 (dk_181 0 120 (dk_at s121_10 20 rfl rfl)) rfl
theorem f121_256 : ft 121 256 = some (7, 0, 0, .iload_n 2, 1) := Fm121 (dk_28 (dk_at s121_10 23 rfl rfl)) rfl
theorem f121_257 : ft 121 257 = some (7, 0, 0, .iastore, 1) := Fm121 (dk_79 (dk_at s121_11 0 rfl rfl)) rfl
theorem f121_258 : ft 121 258 = some (7, 0, 0, .aload_n 0, 1) := Fm121 (dk_42 (dk_at s121_11 1 rfl rfl)) rfl
theorem f121_259 : ft 121 259 = some (7, 0, 0, .iload 5, 2) := Fm121 (dk_21 5 (dk_at s121_11 2 rfl rfl)) rfl
theorem f121_261 : ft 121 261 = some (7, 0, 0, .iload_n 3, 1) := Fm121 (dk_29 (dk_at s121_11 4 rfl rfl)) rfl
theorem f121_262 : ft 121 262 = some (7, 0, 0, .if_icmp .ne 14, 3) := Fm121 (dk_160 0 14 (dk_at s121_11 5 rfl rfl)) rfl
theorem f121_265 : ft 121 265 = some (7, 0, 0, .aload_n 0, 1) := Fm121 (dk_42 (dk_at s121_11 8 rfl rfl)) rfl
theorem f121_266 : ft 121 266 = some (7, 0, 0, .getfield 20, 3) := Fm121 (dk_180 0 20 (dk_at s121_11 9 rfl rfl)) rfl
theorem f121_269 : ft 121 269 = some (7, 0, 0, .iload_n 2, 1) := Fm121 (dk_28 (dk_at s121_11 12 rfl rfl)) rfl
theorem f121_270 : ft 121 270 = some (7, 0, 0, .invokevirtual 92, 3) := Fm121 (dk_182 0 92 (dk_at s121_11 13 rfl rfl)) rfl
theorem f121_273 : ft 121 273 = some (7, 0, 0, .goto 14, 3) := Fm121 (dk_167 0 14 (dk_at s121_11 16 rfl rfl)) rfl
theorem f121_276 : ft 121 276 = some (7, 0, 0, .aload_n 0, 1) := Fm121 (dk_42 (dk_at s121_11 19 rfl rfl)) rfl
theorem f121_277 : ft 121 277 = some (7, 0, 0, .getfield 20, 3) := Fm121 (dk_180 0 20 (dk_at s121_11 20 rfl rfl)) rfl
theorem f121_280 : ft 121 280 = some (7, 0, 0, .iload_n 2, 1) := Fm121 (dk_28 (dk_at s121_11 23 rfl rfl)) rfl
theorem f121_281 : ft 121 281 = some (7, 0, 0, .iload 5, 2) := Fm121 (dk_21 5 (dk_at s121_12 0 rfl rfl)) rfl
theorem f121_283 : ft 121 283 = some (7, 0, 0, .i2l, 1) := Fm121 (dk_133 (dk_at s121_12 2 rfl rfl)) rfl
theorem f121_284 : ft 121 284 = some (7, 0, 0, .invokevirtual 138, 3) := Fm121 (dk_182 0 138 (dk_at s121_12 3 rfl rfl)) rfl
theorem f121_287 : ft 121 287 = some (7, 0, 0, .iconst 0, 1) := Fm121 (dk_3 (dk_at s121_12 6 rfl rfl)) rfl
theorem f121_288 : ft 121 288 = some (7, 0, 0, .iconst 0, 1) := Fm121 (dk_3 (dk_at s121_12 7 rfl rfl)) rfl
theorem f121_289 : ft 121 289 = some (7, 0, 0, .invokevirtual 145, 3) := Fm121 (dk_182 0 145 (dk_at s121_12 8 rfl rfl)) rfl
theorem f121_292 : ft 121 292 = some (7, 0, 0, .return_, 1) := Fm121 (dk_177 (dk_at s121_12 11 rfl rfl)) rfl
theorem q121 {d : Nat} {m : Mem} {a0 : Int} (hd : 0 < d) (hz : TZ m) : le2 (gd (tg m a0 = 7) <| nm (vl m a0 11) fun v4 => if v4 = 0 then (nm (vl m a0 5) fun v5 => gd (tg m v5 = 8) <| bV (cl (d - 1) 122 [pR a0, pI 0, pI (vl m v5 1), pI 0] (mst m a0 13 0)) fun m3 => some (.inl none, m3)) else bV (cl (d - 1) 123 [pR a0, pI (w32 (v4 - 1))] m) fun m1 => nm (vl m1 a0 10) fun v6 => nm (w32 ((vl m1 a0 11) - 1)) fun v7 => gd (tg m1 v6 = 112101) <| gd ((0 : Int) ≤ v7 ∧ v7 < ln m1 v6) <| nm (vl m1 v6 v7) fun v8 => nm (vl m1 a0 14) fun v9 => nm (vl m1 a0 5) fun v10 => gd (tg m1 v10 = 8) <| bI (cl (d - 1) 139 [pR v10, pI v9] m1) fun v2 m2 => if v2 < 5 then (rn d 121 70 [pR a0, pI v8, pI v9, pU, pU, pU] [pI 0] m2) else rn d 121 70 [pR a0, pI v8, pI v9, pU, pU, pU] [pI 1] m2) (cl d 121 [pR a0] m) := by
  refine q_in (n := 6) (L := [pR a0, pU, pU, pU, pU, pU]) rfl rfl rfl ?_
  refine r_aln0 (p := 1) f121_0 rfl ?_
  refine le2_gd (fun h1 => ?_)
  refine r_gfI (f := 11) (p := 4) f121_1 rfl rfl rfl (Or.inl h1) rfl ?_
  refine r_nmI (fun v4 ev4 => ?_)
  refine r_ifne (t := 26) (p := 7) f121_4 (by decide) rfl rfl ?_ ?_
  · refine r_aln0 (p := 8) f121_7 rfl ?_
    refine r_iconst (p := 9) f121_8 rfl (pinD rfl rfl) ?_
    refine r_pfI (f := 13) (p := 12) f121_9 rfl rfl rfl (by decide) (by decide) (Or.inl h1) rfl ?_
    refine r_aln0 (p := 13) f121_12 rfl ?_
    refine r_iconst (p := 14) f121_13 rfl (pinD rfl rfl) ?_
    refine r_aln0 (p := 15) f121_14 rfl ?_
    refine r_gfR (f := 5) (p := 18) f121_15 rfl rfl rfl (Or.inl h1) (sk_f (by decide)) ?_
    refine r_nmR (fun v5 ev5 => ?_)
    refine le2_gd (fun h6 => ?_)
    refine r_gfI (f := 1) (p := 21) f121_18 rfl rfl rfl (Or.inl h6) (sk_f (by decide)) ?_
    refine r_iconst (p := 22) f121_21 rfl (pinD rfl rfl) ?_
    refine r_invV (p := 25) f121_22 rfl rfl rfl (Or.inl h1) hd (Nat.le_of_ble_eq_true rfl) rfl rfl rfl (fun _ => rfl) (fun m3 c3 => ?_)
    have hz3 := z_k c3 hz
    exact r_ret f121_25
  · refine r_aln0 (p := 27) f121_26 rfl ?_
    refine r_aln0 (p := 28) f121_27 rfl ?_
    refine r_gfI (f := 11) (p := 31) f121_28 rfl rfl rfl (Or.inl h1) ev4.symm ?_
    refine r_iconst (p := 32) f121_31 rfl (pinD rfl rfl) ?_
    refine r_isub (p := 33) f121_32 rfl ?_
    refine r_invV (p := 36) f121_33 rfl rfl rfl (Or.inl h1) hd (Nat.le_of_ble_eq_true rfl) rfl rfl rfl (fun _ => rfl) (fun m1 c1 => ?_)
    have hz1 := z_k c1 hz
    refine r_aln0 (p := 37) f121_36 rfl ?_
    have h2 := k_t1 c1 hz h1 (by decide)
    refine r_gfR (f := 10) (p := 40) f121_37 rfl rfl rfl (Or.inl h2) rfl ?_
    refine r_nmR (fun v6 ev6 => ?_)
    refine r_aln0 (p := 41) f121_40 rfl ?_
    refine r_gfI (f := 11) (p := 44) f121_41 rfl rfl rfl (Or.inl h2) rfl ?_
    refine r_iconst (p := 45) f121_44 rfl (pinD rfl rfl) ?_
    refine r_isub (p := 46) f121_45 rfl ?_
    refine r_nmI (fun v7 ev7 => ?_)
    refine le2_gd (fun h3 => ?_)
    refine le2_gd (fun h4 => ?_)
    refine r_iaload (p := 47) f121_46 rfl (dj1 (fun x => x % 1000 = 101) h3 (by decide)) h4 rfl ?_
    refine r_nmI (fun v8 ev8 => ?_)
    refine r_isn1 (p := 48) f121_47 rfl rfl ?_
    refine r_aln0 (p := 49) f121_48 rfl ?_
    refine r_gfI (f := 14) (p := 52) f121_49 rfl rfl rfl (Or.inl h2) rfl ?_
    refine r_nmI (fun v9 ev9 => ?_)
    refine r_isn2 (p := 53) f121_52 rfl rfl ?_
    refine r_aln0 (p := 54) f121_53 rfl ?_
    refine r_gfR (f := 5) (p := 57) f121_54 rfl rfl rfl (Or.inl h2) rfl ?_
    refine r_nmR (fun v10 ev10 => ?_)
    refine r_iln2 (p := 58) f121_57 rfl ?_
    refine le2_gd (fun h5 => ?_)
    refine r_invI (p := 61) f121_58 rfl rfl rfl (Or.inl h5) hd (Nat.le_of_ble_eq_true rfl) rfl rfl rfl (fun _ => rfl) (fun v2 m2 c2 => ?_)
    have hz2 := z_k c2 hz1
    refine r_iconst (p := 62) f121_61 rfl (pinD rfl rfl) ?_
    refine r_iclt (t := 69) (p := 65) f121_62 (by decide) rfl rfl ?_ ?_
    · refine r_iconst (p := 70) f121_69 rfl (pinD rfl rfl) ?_
      exact le2_refl _
    · refine r_iconst (p := 66) f121_65 rfl (pinD rfl rfl) ?_
      refine r_goto (p := 70) f121_66 (by decide) rfl ?_
      exact le2_refl _
theorem q121_70 {d : Nat} {m : Mem} {a0 a1 a2 s0 : Int} (hd : 0 < d) (hz : TZ m) : le2 (bV (cl (d - 1) 115 [pI s0] m) fun m1 => gd (tg m1 a0 = 7) <| nm (vl m1 a0 5) fun v11 => gd (tg m1 v11 = 8) <| bI (cl (d - 1) 139 [pR v11, pI a2] m1) fun v2 m2 => if v2 = 6 then (nm (vl m2 a0 5) fun v12 => gd (tg m2 v12 = 8) <| bI (cl (d - 1) 144 [pR v12, pI a2, pR (vl m2 a0 9), pI a1] m2) fun v5 m5 => nm (vl m5 a0 12) fun v13 => nm (vl m5 a0 13) fun v14 => gd (tg m5 v13 = 112101) <| gd ((0 : Int) ≤ v14 ∧ v14 < ln m5 v13) <| if v5 < 0 then (nm (vl m5 a0 5) fun v15 => gd (tg m5 v15 = 8) <| bI (cl (d - 1) 137 [pR v15, pI a2] (mst (mst m5 a0 13 (w32 (v14 + 1))) v13 v14 a2)) fun v6 m6 => bV (cl (d - 1) 125 [pR a0, pI v6, pI a1] m6) fun m7 => some (.inl none, m7)) else nm (vl m5 a0 5) fun v16 => gd (tg m5 v16 = 8) <| bI (cl (d - 1) 136 [pR v16, pI v5] (mst (mst m5 a0 13 (w32 (v14 + 1))) v13 v14 a2)) fun v8 m8 => nm (vl m8 a0 5) fun v17 => gd (tg m8 v17 = 8) <| bI (cl (d - 1) 137 [pR v17, pI v8] m8) fun v9 m9 => bV (cl (d - 1) 122 [pR a0, pI v8, pI (w32 (v9 - v8)), pI 0] m9) fun m10 => some (.inl none, m10)) else nm (vl m2 a0 5) fun v18 => gd (tg m2 v18 = 8) <| bI (cl (d - 1) 145 [pR v18, pI a2] m2) fun v3 m3 => nm (vl m3 a0 9) fun v19 => gd (tg m3 v19 = 8) <| bI (cl (d - 1) 134 [pR v19, pI a1] m3) fun v4 m4 => if v4 = 1 then (nm (vl m4 a0 9) fun v20 => gd (tg m4 v20 = 8) <| nm (vl m4 v20 0) fun v21 => nm (w32 (a1 + 2)) fun v22 => gd (tg m4 v21 = 130103 ∨ tg m4 v21 = 132103) <| gd ((0 : Int) ≤ v22 ∧ v22 < ln m4 v21) <| if (vl m4 v21 v22) = 45 then (rn d 121 209 [pR a0, pI a1, pI a2, pI v3, pU, pU] [pI 1] m4) else rn d 121 209 [pR a0, pI a1, pI a2, pI v3, pU, pU] [pI 0] m4) else rn d 121 209 [pR a0, pI a1, pI a2, pI v3, pU, pU] [pI 0] m4) (rn d 121 70 [pR a0, pI a1, pI a2, pU, pU, pU] [pI s0] m) := by
  refine r_istV (p := 73) f121_70 rfl rfl rfl hd (Nat.le_of_ble_eq_true rfl) rfl rfl rfl (fun _ => rfl) (fun m1 c1 => ?_)
  have hz1 := z_k c1 hz
  refine r_aln0 (p := 74) f121_73 rfl ?_
  refine le2_gd (fun h1 => ?_)
  refine r_gfR (f := 5) (p := 77) f121_74 rfl rfl rfl (Or.inl h1) rfl ?_
  refine r_nmR (fun v11 ev11 => ?_)
  refine r_iln2 (p := 78) f121_77 rfl ?_
  refine le2_gd (fun h2 => ?_)
  refine r_invI (p := 81) f121_78 rfl rfl rfl (Or.inl h2) hd (Nat.le_of_ble_eq_true rfl) rfl rfl rfl (fun _ => rfl) (fun v2 m2 c2 => ?_)
  have hz2 := z_k c2 hz1
  refine r_bipush (p := 83) f121_81 rfl (pinD rfl rfl) ?_
  refine r_icne (t := 167) (p := 86) f121_83 (by decide) rfl rfl ?_ ?_
  · refine r_aln0 (p := 87) f121_86 rfl ?_
    have h11 := k_t1 c2 hz1 h1 (by decide)
    refine r_gfR (f := 5) (p := 90) f121_87 rfl rfl rfl (Or.inl h11) rfl ?_
    refine r_nmR (fun v12 ev12 => ?_)
    refine r_iln2 (p := 91) f121_90 rfl ?_
    refine r_aln0 (p := 92) f121_91 rfl ?_
    refine r_gfR (f := 9) (p := 95) f121_92 rfl rfl rfl (Or.inl h11) rfl ?_
    refine r_iln1 (p := 96) f121_95 rfl ?_
    refine le2_gd (fun h12 => ?_)
    refine r_invI (p := 99) f121_96 rfl rfl rfl (Or.inl h12) hd (Nat.le_of_ble_eq_true rfl) rfl rfl rfl (fun _ => rfl) (fun v5 m5 c5 => ?_)
    have hz5 := z_k c5 hz2
    refine r_isn3 (p := 100) f121_99 rfl rfl ?_
    refine r_aln0 (p := 101) f121_100 rfl ?_
    have h13 := k_t1 c5 hz2 h11 (by decide)
    refine r_gfR (f := 12) (p := 104) f121_101 rfl rfl rfl (Or.inl h13) rfl ?_
    refine r_nmR (fun v13 ev13 => ?_)
    refine r_aln0 (p := 105) f121_104 rfl ?_
    refine r_dup (p := 106) f121_105 rfl rfl ?_
    refine r_gfI (f := 13) (p := 109) f121_106 rfl rfl rfl (Or.inl h13) rfl ?_
    refine r_nmI (fun v14 ev14 => ?_)
    refine r_dup_x1 (p := 110) f121_109 rfl rfl rfl ?_
    refine r_iconst (p := 111) f121_110 rfl (pinD rfl rfl) ?_
    refine r_iadd (p := 112) f121_111 rfl ?_
    refine r_pfI (f := 13) (p := 115) f121_112 rfl rfl rfl (by decide) (by decide) (Or.inl h13) rfl ?_
    refine r_iln2 (p := 116) f121_115 rfl ?_
    refine le2_gd (fun h14 => ?_)
    refine le2_gd (fun h15 => ?_)
    refine r_iastore (p := 117) f121_116 rfl (dj1 (fun x => 1000 ≤ x ∧ x % 1000 = 101 ∧ Nat.testBit (eM 121) (bix x 0) = true) h14 (by decide)) h15 ?_
    refine r_iln3 (p := 118) f121_117 rfl ?_
    refine r_iflt (t := 153) (p := 121) f121_118 (by decide) rfl rfl ?_ ?_
    · refine r_aln0 (p := 154) f121_153 rfl ?_
      refine r_aln0 (p := 155) f121_154 rfl ?_
      refine r_gfR (f := 5) (p := 158) f121_155 rfl rfl rfl (Or.inl h13) (Eq.trans (sk_o (ne_oa (dj1 (fun x => x < 100) h13 (by decide)) (dj1 (fun x => ¬ x < 100) h14 (by decide)))) (sk_f (by decide))) ?_
      refine r_nmR (fun v15 ev15 => ?_)
      refine r_iln2 (p := 159) f121_158 rfl ?_
      refine le2_gd (fun h16 => ?_)
      refine r_invI (p := 162) f121_159 rfl rfl rfl (Or.inl h16) hd (Nat.le_of_ble_eq_true rfl) rfl rfl rfl (fun _ => rfl) (fun v6 m6 c6 => ?_)
      have hz6 := z_k c6 hz5
      refine r_iln1 (p := 163) f121_162 rfl ?_
      have h17 := k_t1 c6 hz5 h13 (by decide)
      refine r_invV (p := 166) f121_163 rfl rfl rfl (Or.inl h17) hd (Nat.le_of_ble_eq_true rfl) rfl rfl rfl (fun _ => rfl) (fun m7 c7 => ?_)
      have hz7 := z_k c7 hz6
      exact r_ret f121_166
    · refine r_aln0 (p := 122) f121_121 rfl ?_
      refine r_gfR (f := 5) (p := 125) f121_122 rfl rfl rfl (Or.inl h13) (Eq.trans (sk_o (ne_oa (dj1 (fun x => x < 100) h13 (by decide)) (dj1 (fun x => ¬ x < 100) h14 (by decide)))) (sk_f (by decide))) ?_
      refine r_nmR (fun v16 ev16 => ?_)
      refine r_iln3 (p := 126) f121_125 rfl ?_
      refine le2_gd (fun h18 => ?_)
      refine r_invI (p := 129) f121_126 rfl rfl rfl (Or.inl h18) hd (Nat.le_of_ble_eq_true rfl) rfl rfl rfl (fun _ => rfl) (fun v8 m8 c8 => ?_)
      have hz8 := z_k c8 hz5
      refine r_isw4 (p := 131) f121_129 rfl rfl ?_
      refine r_aln0 (p := 132) f121_131 rfl ?_
      refine r_ilw4 (p := 134) f121_132 rfl ?_
      refine r_aln0 (p := 135) f121_134 rfl ?_
      have h19 := k_t1 c8 hz5 h13 (by decide)
      refine r_gfR (f := 5) (p := 138) f121_135 rfl rfl rfl (Or.inl h19) rfl ?_
      refine r_nmR (fun v17 ev17 => ?_)
      refine r_ilw4 (p := 140) f121_138 rfl ?_
      refine le2_gd (fun h20 => ?_)
      refine r_invI (p := 143) f121_140 rfl rfl rfl (Or.inl h20) hd (Nat.le_of_ble_eq_true rfl) rfl rfl rfl (fun _ => rfl) (fun v9 m9 c9 => ?_)
      have hz9 := z_k c9 hz8
      refine r_ilw4 (p := 145) f121_143 rfl ?_
      refine r_isub (p := 146) f121_145 rfl ?_
      refine r_iconst (p := 147) f121_146 rfl (pinD rfl rfl) ?_
      have h21 := k_t1 c9 hz8 h19 (by decide)
      refine r_invV (p := 150) f121_147 rfl rfl rfl (Or.inl h21) hd (Nat.le_of_ble_eq_true rfl) rfl rfl rfl (fun _ => rfl) (fun m10 c10 => ?_)
      have hz10 := z_k c10 hz9
      refine r_goto (p := 166) f121_150 (by decide) rfl ?_
      exact r_ret f121_166
  · refine r_aln0 (p := 168) f121_167 rfl ?_
    have h3 := k_t1 c2 hz1 h1 (by decide)
    refine r_gfR (f := 5) (p := 171) f121_168 rfl rfl rfl (Or.inl h3) rfl ?_
    refine r_nmR (fun v18 ev18 => ?_)
    refine r_iln2 (p := 172) f121_171 rfl ?_
    refine le2_gd (fun h4 => ?_)
    refine r_invI (p := 175) f121_172 rfl rfl rfl (Or.inl h4) hd (Nat.le_of_ble_eq_true rfl) rfl rfl rfl (fun _ => rfl) (fun v3 m3 c3 => ?_)
    have hz3 := z_k c3 hz2
    refine r_isn3 (p := 176) f121_175 rfl rfl ?_
    refine r_aln0 (p := 177) f121_176 rfl ?_
    have h5 := k_t1 c3 hz2 h3 (by decide)
    refine r_gfR (f := 9) (p := 180) f121_177 rfl rfl rfl (Or.inl h5) rfl ?_
    refine r_nmR (fun v19 ev19 => ?_)
    refine r_iln1 (p := 181) f121_180 rfl ?_
    refine le2_gd (fun h6 => ?_)
    refine r_invI (p := 184) f121_181 rfl rfl rfl (Or.inl h6) hd (Nat.le_of_ble_eq_true rfl) rfl rfl rfl (fun _ => rfl) (fun v4 m4 c4 => ?_)
    have hz4 := z_k c4 hz3
    refine r_iconst (p := 185) f121_184 rfl (pinD rfl rfl) ?_
    refine r_icne (t := 208) (p := 188) f121_185 (by decide) rfl rfl ?_ ?_
    · refine r_aln0 (p := 189) f121_188 rfl ?_
      have h7 := k_t1 c4 hz3 h5 (by decide)
      refine r_gfR (f := 9) (p := 192) f121_189 rfl rfl rfl (Or.inl h7) rfl ?_
      refine r_nmR (fun v20 ev20 => ?_)
      refine le2_gd (fun h8 => ?_)
      refine r_gfR (f := 0) (p := 195) f121_192 rfl rfl rfl (Or.inl h8) rfl ?_
      refine r_nmR (fun v21 ev21 => ?_)
      refine r_iln1 (p := 196) f121_195 rfl ?_
      refine r_iconst (p := 197) f121_196 rfl (pinD rfl rfl) ?_
      refine r_iadd (p := 198) f121_197 rfl ?_
      refine r_nmI (fun v22 ev22 => ?_)
      refine le2_gd (fun h9 => ?_)
      refine le2_gd (fun h10 => ?_)
      refine r_baload (p := 199) f121_198 rfl (dj2 (fun x => x % 1000 = 103 ∨ x % 1000 = 105) h9 (by decide) (by decide)) h10 rfl ?_
      refine r_bipush (p := 201) f121_199 rfl (pinD rfl rfl) ?_
      refine r_icne (t := 208) (p := 204) f121_201 (by decide) rfl rfl ?_ ?_
      · refine r_iconst (p := 205) f121_204 rfl (pinD rfl rfl) ?_
        refine r_goto (p := 209) f121_205 (by decide) rfl ?_
        exact le2_refl _
      · refine r_iconst (p := 209) f121_208 rfl (pinD rfl rfl) ?_
        exact le2_refl _
    · refine r_iconst (p := 209) f121_208 rfl (pinD rfl rfl) ?_
      exact le2_refl _
theorem q121_209 {d : Nat} {m : Mem} {a0 a1 a2 a3 s0 : Int} (hd : 0 < d) (hz : TZ m) : le2 (if s0 = 0 then (gd (tg m a0 = 7) <| bI (cl (d - 1) 124 [pR a0, pI a1, pI a3] m) fun v1 m1 => if v1 < 0 then (rn d 121 238 [pR a0, pI a1, pI a2, pI a3, pI s0, pI v1] [pI 0] m1) else rn d 121 238 [pR a0, pI a1, pI a2, pI a3, pI s0, pI v1] [pI 1] m1) else if a3 < 0 then (rn d 121 238 [pR a0, pI a1, pI a2, pI a3, pI s0, pI a3] [pI 0] m) else rn d 121 238 [pR a0, pI a1, pI a2, pI a3, pI s0, pI a3] [pI 1] m) (rn d 121 209 [pR a0, pI a1, pI a2, pI a3, pU, pU] [pI s0] m) := by
  refine r_isw4 (p := 211) f121_209 rfl rfl ?_
  refine r_ilw4 (p := 213) f121_211 rfl ?_
  refine r_ifeq (t := 220) (p := 216) f121_213 (by decide) rfl rfl ?_ ?_
  · refine r_aln0 (p := 221) f121_220 rfl ?_
    refine r_iln1 (p := 222) f121_221 rfl ?_
    refine r_iln3 (p := 223) f121_222 rfl ?_
    refine le2_gd (fun h1 => ?_)
    refine r_invI (p := 226) f121_223 rfl rfl rfl (Or.inl h1) hd (Nat.le_of_ble_eq_true rfl) rfl rfl rfl (fun _ => rfl) (fun v1 m1 c1 => ?_)
    have hz1 := z_k c1 hz
    refine r_isw5 (p := 228) f121_226 rfl rfl ?_
    refine r_ilw5 (p := 230) f121_228 rfl ?_
    refine r_iflt (t := 237) (p := 233) f121_230 (by decide) rfl rfl ?_ ?_
    · refine r_iconst (p := 238) f121_237 rfl (pinD rfl rfl) ?_
      exact le2_refl _
    · refine r_iconst (p := 234) f121_233 rfl (pinD rfl rfl) ?_
      refine r_goto (p := 238) f121_234 (by decide) rfl ?_
      exact le2_refl _
  · refine r_iln3 (p := 217) f121_216 rfl ?_
    refine r_goto (p := 226) f121_217 (by decide) rfl ?_
    refine r_isw5 (p := 228) f121_226 rfl rfl ?_
    refine r_ilw5 (p := 230) f121_228 rfl ?_
    refine r_iflt (t := 237) (p := 233) f121_230 (by decide) rfl rfl ?_ ?_
    · refine r_iconst (p := 238) f121_237 rfl (pinD rfl rfl) ?_
      exact le2_refl _
    · refine r_iconst (p := 234) f121_233 rfl (pinD rfl rfl) ?_
      refine r_goto (p := 238) f121_234 (by decide) rfl ?_
      exact le2_refl _
theorem q121_238 {d : Nat} {m : Mem} {a0 a1 a2 a3 a4 a5 s0 : Int} (hd : 0 < d) (hz : TZ m) : le2 (bV (cl (d - 1) 115 [pI s0] m) fun m1 => gd (tg m1 a0 = 7) <| nm (vl m1 a0 12) fun v6 => nm (vl m1 a0 13) fun v7 => gd (tg m1 v6 = 112101) <| gd ((0 : Int) ≤ v7 ∧ v7 < ln m1 v6) <| if a5 = a3 then (nm (vl m1 a0 5) fun v8 => gd (tg m1 v8 = 8) <| bI (cl (d - 1) 137 [pR v8, pI a2] (mst (mst m1 a0 13 (w32 (v7 + 1))) v6 v7 a2)) fun v4 m4 => bV (cl (d - 1) 122 [pR a0, pI v4, pI 0, pI 0] m4) fun m5 => some (.inl none, m5)) else nm (vl m1 a0 5) fun v9 => gd (tg m1 v9 = 8) <| bI (cl (d - 1) 146 [pR v9, pI a2, pL a5] (mst (mst m1 a0 13 (w32 (v7 + 1))) v6 v7 a2)) fun v2 m2 => bV (cl (d - 1) 122 [pR a0, pI v2, pI 0, pI 0] m2) fun m3 => some (.inl none, m3)) (rn d 121 238 [pR a0, pI a1, pI a2, pI a3, pI a4, pI a5] [pI s0] m) := by
  refine r_istV (p := 241) f121_238 rfl rfl rfl hd (Nat.le_of_ble_eq_true rfl) rfl rfl rfl (fun _ => rfl) (fun m1 c1 => ?_)
  have hz1 := z_k c1 hz
  refine r_aln0 (p := 242) f121_241 rfl ?_
  refine le2_gd (fun h1 => ?_)
  refine r_gfR (f := 12) (p := 245) f121_242 rfl rfl rfl (Or.inl h1) rfl ?_
  refine r_nmR (fun v6 ev6 => ?_)
  refine r_aln0 (p := 246) f121_245 rfl ?_
  refine r_dup (p := 247) f121_246 rfl rfl ?_
  refine r_gfI (f := 13) (p := 250) f121_247 rfl rfl rfl (Or.inl h1) rfl ?_
  refine r_nmI (fun v7 ev7 => ?_)
  refine r_dup_x1 (p := 251) f121_250 rfl rfl rfl ?_
  refine r_iconst (p := 252) f121_251 rfl (pinD rfl rfl) ?_
  refine r_iadd (p := 253) f121_252 rfl ?_
  refine r_pfI (f := 13) (p := 256) f121_253 rfl rfl rfl (by decide) (by decide) (Or.inl h1) rfl ?_
  refine r_iln2 (p := 257) f121_256 rfl ?_
  refine le2_gd (fun h2 => ?_)
  refine le2_gd (fun h3 => ?_)
  refine r_iastore (p := 258) f121_257 rfl (dj1 (fun x => 1000 ≤ x ∧ x % 1000 = 101 ∧ Nat.testBit (eM 121) (bix x 0) = true) h2 (by decide)) h3 ?_
  refine r_aln0 (p := 259) f121_258 rfl ?_
  refine r_ilw5 (p := 261) f121_259 rfl ?_
  refine r_iln3 (p := 262) f121_261 rfl ?_
  refine r_icne (t := 276) (p := 265) f121_262 (by decide) rfl rfl ?_ ?_
  · refine r_aln0 (p := 266) f121_265 rfl ?_
    refine r_gfR (f := 5) (p := 269) f121_266 rfl rfl rfl (Or.inl h1) (Eq.trans (sk_o (ne_oa (dj1 (fun x => x < 100) h1 (by decide)) (dj1 (fun x => ¬ x < 100) h2 (by decide)))) (sk_f (by decide))) ?_
    refine r_nmR (fun v8 ev8 => ?_)
    refine r_iln2 (p := 270) f121_269 rfl ?_
    refine le2_gd (fun h6 => ?_)
    refine r_invI (p := 273) f121_270 rfl rfl rfl (Or.inl h6) hd (Nat.le_of_ble_eq_true rfl) rfl rfl rfl (fun _ => rfl) (fun v4 m4 c4 => ?_)
    have hz4 := z_k c4 hz1
    refine r_goto (p := 287) f121_273 (by decide) rfl ?_
    refine r_iconst (p := 288) f121_287 rfl (pinD rfl rfl) ?_
    refine r_iconst (p := 289) f121_288 rfl (pinD rfl rfl) ?_
    have h7 := k_t1 c4 hz1 h1 (by decide)
    refine r_invV (p := 292) f121_289 rfl rfl rfl (Or.inl h7) hd (Nat.le_of_ble_eq_true rfl) rfl rfl rfl (fun _ => rfl) (fun m5 c5 => ?_)
    have hz5 := z_k c5 hz4
    exact r_ret f121_292
  · refine r_aln0 (p := 277) f121_276 rfl ?_
    refine r_gfR (f := 5) (p := 280) f121_277 rfl rfl rfl (Or.inl h1) (Eq.trans (sk_o (ne_oa (dj1 (fun x => x < 100) h1 (by decide)) (dj1 (fun x => ¬ x < 100) h2 (by decide)))) (sk_f (by decide))) ?_
    refine r_nmR (fun v9 ev9 => ?_)
    refine r_iln2 (p := 281) f121_280 rfl ?_
    refine r_ilw5 (p := 283) f121_281 rfl ?_
    refine r_i2l (p := 284) f121_283 rfl ?_
    refine le2_gd (fun h4 => ?_)
    refine r_invI (p := 287) f121_284 rfl rfl rfl (Or.inl h4) hd (Nat.le_of_ble_eq_true rfl) rfl rfl rfl (fun _ => rfl) (fun v2 m2 c2 => ?_)
    have hz2 := z_k c2 hz1
    refine r_iconst (p := 288) f121_287 rfl (pinD rfl rfl) ?_
    refine r_iconst (p := 289) f121_288 rfl (pinD rfl rfl) ?_
    have h5 := k_t1 c2 hz1 h1 (by decide)
    refine r_invV (p := 292) f121_289 rfl rfl rfl (Or.inl h5) hd (Nat.le_of_ble_eq_true rfl) rfl rfl rfl (fun _ => rfl) (fun m3 c3 => ?_)
    have hz3 := z_k c3 hz2
    exact r_ret f121_292
/-! 122 PathStore$Patcher.splice (III)V -/
def w122_6 : List UInt8 := [167, 255, 209, 42, 180, 0, 20, 58, 5, 42, 42, 180, 0, 23, 181, 0, 20, 42, 25, 5, 181, 0, 23, 177]
abbrev u122_6 : List UInt8 := w122_6 ++ []
def w122_5 : List UInt8 := [180, 0, 20, 42, 180, 0, 39, 21, 5, 46, 4, 96, 182, 0, 108, 21, 4, 96, 182, 0, 104, 132, 5, 1]
abbrev u122_5 : List UInt8 := w122_5 ++ u122_6
def w122_4 : List UInt8 := [21, 5, 42, 180, 0, 120, 162, 0, 44, 42, 180, 0, 23, 42, 180, 0, 39, 21, 5, 46, 4, 96, 42]
abbrev u122_4 : List UInt8 := w122_4 ++ u122_5
def w122_3 : List UInt8 := [180, 0, 96, 27, 28, 96, 42, 180, 0, 20, 180, 0, 70, 27, 100, 28, 100, 182, 0, 142, 3, 54, 5]
abbrev u122_3 : List UInt8 := w122_3 ++ u122_4
def w122_2 : List UInt8 := [180, 0, 96, 29, 42, 180, 0, 26, 180, 0, 70, 29, 100, 182, 0, 142, 42, 180, 0, 23, 42, 180, 0, 20]
abbrev u122_2 : List UInt8 := w122_2 ++ u122_3
def w122_1 : List UInt8 := [180, 0, 23, 42, 180, 0, 20, 180, 0, 96, 3, 27, 182, 0, 142, 42, 180, 0, 23, 42, 180, 0, 26]
abbrev u122_1 : List UInt8 := w122_1 ++ u122_2
def w122_0 : List UInt8 := [42, 180, 0, 26, 180, 0, 70, 29, 100, 28, 100, 54, 4, 42, 180, 0, 23, 3, 181, 0, 70, 42]
abbrev u122_0 : List UInt8 := w122_0 ++ u122_1
theorem s122_0 : (prog_17_method_7_code).data.toList.drop 0 = u122_0 := by decide +kernel
theorem s122_1 : (prog_17_method_7_code).data.toList.drop 22 = u122_1 := dk_seg s122_0 22 rfl rfl
theorem s122_2 : (prog_17_method_7_code).data.toList.drop 45 = u122_2 := dk_seg s122_1 23 rfl rfl
theorem s122_3 : (prog_17_method_7_code).data.toList.drop 69 = u122_3 := dk_seg s122_2 24 rfl rfl
theorem s122_4 : (prog_17_method_7_code).data.toList.drop 92 = u122_4 := dk_seg s122_3 23 rfl rfl
theorem s122_5 : (prog_17_method_7_code).data.toList.drop 115 = u122_5 := dk_seg s122_4 23 rfl rfl
theorem s122_6 : (prog_17_method_7_code).data.toList.drop 139 = u122_6 := dk_seg s122_5 24 rfl rfl
theorem Fm122 {pc len : Nat} {i : Instr} (h : decode (prog_17_method_7_code) pc = .ok (i, len)) (hl : len = ilen i len) : ft 122 pc = some (7, 0, 0, i, len) := ft_mk rfl h hl
theorem f122_0 : ft 122 0 = some (7, 0, 0, .aload_n 0, 1) := Fm122 (dk_42 (dk_at s122_0 0 rfl rfl)) rfl
theorem f122_1 : ft 122 1 = some (7, 0, 0, .getfield 26, 3) := Fm122 (dk_180 0 26 (dk_at s122_0 1 rfl rfl)) rfl
theorem f122_4 : ft 122 4 = some (7, 0, 0, .getfield 70, 3) := Fm122 (dk_180 0 70 (dk_at s122_0 4 rfl rfl)) rfl
theorem f122_7 : ft 122 7 = some (7, 0, 0, .iload_n 3, 1) := Fm122 (dk_29 (dk_at s122_0 7 rfl rfl)) rfl
theorem f122_8 : ft 122 8 = some (7, 0, 0, .isub, 1) := Fm122 (dk_100 (dk_at s122_0 8 rfl rfl)) rfl
theorem f122_9 : ft 122 9 = some (7, 0, 0, .iload_n 2, 1) := Fm122 (dk_28 (dk_at s122_0 9 rfl rfl)) rfl
theorem f122_10 : ft 122 10 = some (7, 0, 0, .isub, 1) := Fm122 (dk_100 (dk_at s122_0 10 rfl rfl)) rfl
theorem f122_11 : ft 122 11 = some (7, 0, 0, .istore 4, 2) := Fm122 (dk_54 4 (dk_at s122_0 11 rfl rfl)) rfl
theorem f122_13 : ft 122 13 = some (7, 0, 0, .aload_n 0, 1) := Fm122 (dk_42 (dk_at s122_0 13 rfl rfl)) rfl
theorem f122_14 : ft 122 14 = some (7, 0, 0, .getfield 23, 3) := Fm122 (dk_180 0 23 (dk_at s122_0 14 rfl rfl)) rfl
theorem f122_17 : ft 122 17 = some (7, 0, 0, .iconst 0, 1) := Fm122 (dk_3 (dk_at s122_0 17 rfl rfl)) rfl
theorem f122_18 : ft 122 18 = some (7, 0, 0, .putfield 70, 3) := Fm122 (dk_181 0 70 (dk_at s122_0 18 rfl rfl)) rfl
theorem f122_21 : ft 122 21 = some (7, 0, 0, .aload_n 0, 1) := Fm122 (dk_42 (dk_at s122_0 21 rfl rfl)) rfl
theorem f122_22 : ft 122 22 = some (7, 0, 0, .getfield 23, 3) := Fm122 (dk_180 0 23 (dk_at s122_1 0 rfl rfl)) rfl
theorem f122_25 : ft 122 25 = some (7, 0, 0, .aload_n 0, 1) := Fm122 (dk_42 (dk_at s122_1 3 rfl rfl)) rfl
theorem f122_26 : ft 122 26 = some (7, 0, 0, .getfield 20, 3) := Fm122 (dk_180 0 20 (dk_at s122_1 4 rfl rfl)) rfl
theorem f122_29 : ft 122 29 = some (7, 0, 0, .getfield 96, 3) := Fm122 (dk_180 0 96 (dk_at s122_1 7 rfl rfl)) rfl
theorem f122_32 : ft 122 32 = some (7, 0, 0, .iconst 0, 1) := Fm122 (dk_3 (dk_at s122_1 10 rfl rfl)) rfl
theorem f122_33 : ft 122 33 = some (7, 0, 0, .iload_n 1, 1) := Fm122 (dk_27 (dk_at s122_1 11 rfl rfl)) rfl
theorem f122_34 : ft 122 34 = some (7, 0, 0, .invokevirtual 142, 3) := Fm122 (dk_182 0 142 (dk_at s122_1 12 rfl rfl)) rfl
theorem f122_37 : ft 122 37 = some (7, 0, 0, .aload_n 0, 1) := Fm122 (dk_42 (dk_at s122_1 15 rfl rfl)) rfl
theorem f122_38 : ft 122 38 = some (7, 0, 0, .getfield 23, 3) := Fm122 (dk_180 0 23 (dk_at s122_1 16 rfl rfl)) rfl
theorem f122_41 : ft 122 41 = some (7, 0, 0, .aload_n 0, 1) := Fm122 (dk_42 (dk_at s122_1 19 rfl rfl)) rfl
theorem f122_42 : ft 122 42 = some (7, 0, 0, .getfield 26, 3) := Fm122 (dk_180 0 26 (dk_at s122_1 20 rfl rfl)) rfl
theorem f122_45 : ft 122 45 = some (7, 0, 0, .getfield 96, 3) := Fm122 (dk_180 0 96 (dk_at s122_2 0 rfl rfl)) rfl
theorem f122_48 : ft 122 48 = some (7, 0, 0, .iload_n 3, 1) := Fm122 (dk_29 (dk_at s122_2 3 rfl rfl)) rfl
theorem f122_49 : ft 122 49 = some (7, 0, 0, .aload_n 0, 1) := Fm122 (dk_42 (dk_at s122_2 4 rfl rfl)) rfl
theorem f122_50 : ft 122 50 = some (7, 0, 0, .getfield 26, 3) := Fm122 (dk_180 0 26 (dk_at s122_2 5 rfl rfl)) rfl
theorem f122_53 : ft 122 53 = some (7, 0, 0, .getfield 70, 3) := Fm122 (dk_180 0 70 (dk_at s122_2 8 rfl rfl)) rfl
theorem f122_56 : ft 122 56 = some (7, 0, 0, .iload_n 3, 1) := Fm122 (dk_29 (dk_at s122_2 11 rfl rfl)) rfl
theorem f122_57 : ft 122 57 = some (7, 0, 0, .isub, 1) := Fm122 (dk_100 (dk_at s122_2 12 rfl rfl)) rfl
theorem f122_58 : ft 122 58 = some (7, 0, 0, .invokevirtual 142, 3) := Fm122 (dk_182 0 142 (dk_at s122_2 13 rfl rfl)) rfl
theorem f122_61 : ft 122 61 = some (7, 0, 0, .aload_n 0, 1) := Fm122 (dk_42 (dk_at s122_2 16 rfl rfl)) rfl
theorem f122_62 : ft 122 62 = some (7, 0, 0, .getfield 23, 3) := Fm122 (dk_180 0 23 (dk_at s122_2 17 rfl rfl)) rfl
theorem f122_65 : ft 122 65 = some (7, 0, 0, .aload_n 0, 1) := Fm122 (dk_42 (dk_at s122_2 20 rfl rfl)) rfl
theorem f122_66 : ft 122 66 = some (7, 0, 0, .getfield 20, 3) := Fm122 (dk_180 0 20 (dk_at s122_2 21 rfl rfl)) rfl
theorem f122_69 : ft 122 69 = some (7, 0, 0, .getfield 96, 3) := Fm122 (dk_180 0 96 (dk_at s122_3 0 rfl rfl)) rfl
theorem f122_72 : ft 122 72 = some (7, 0, 0, .iload_n 1, 1) := Fm122 (dk_27 (dk_at s122_3 3 rfl rfl)) rfl
theorem f122_73 : ft 122 73 = some (7, 0, 0, .iload_n 2, 1) := Fm122 (dk_28 (dk_at s122_3 4 rfl rfl)) rfl
theorem f122_74 : ft 122 74 = some (7, 0, 0, .iadd, 1) := Fm122 (dk_96 (dk_at s122_3 5 rfl rfl)) rfl
theorem f122_75 : ft 122 75 = some (7, 0, 0, .aload_n 0, 1) := Fm122 (dk_42 (dk_at s122_3 6 rfl rfl)) rfl
theorem f122_76 : ft 122 76 = some (7, 0, 0, .getfield 20, 3) := Fm122 (dk_180 0 20 (dk_at s122_3 7 rfl rfl)) rfl
theorem f122_79 : ft 122 79 = some (7, 0, 0, .getfield 70, 3) := Fm122 (dk_180 0 70 (dk_at s122_3 10 rfl rfl)) rfl
theorem f122_82 : ft 122 82 = some (7, 0, 0, .iload_n 1, 1) := Fm122 (dk_27 (dk_at s122_3 13 rfl rfl)) rfl
theorem f122_83 : ft 122 83 = some (7, 0, 0, .isub, 1) := Fm122 (dk_100 (dk_at s122_3 14 rfl rfl)) rfl
theorem f122_84 : ft 122 84 = some (7, 0, 0, .iload_n 2, 1) := Fm122 (dk_28 (dk_at s122_3 15 rfl rfl)) rfl
theorem f122_85 : ft 122 85 = some (7, 0, 0, .isub, 1) := Fm122 (dk_100 (dk_at s122_3 16 rfl rfl)) rfl
theorem f122_86 : ft 122 86 = some (7, 0, 0, .invokevirtual 142, 3) := Fm122 (dk_182 0 142 (dk_at s122_3 17 rfl rfl)) rfl
theorem f122_89 : ft 122 89 = some (7, 0, 0, .iconst 0, 1) := Fm122 (dk_3 (dk_at s122_3 20 rfl rfl)) rfl
theorem f122_90 : ft 122 90 = some (7, 0, 0, .istore 5, 2) := Fm122 (dk_54 5 (dk_at s122_3 21 rfl rfl)) rfl
theorem f122_92 : ft 122 92 = some (7, 0, 0, .iload 5, 2) := Fm122 (dk_21 5 (dk_at s122_4 0 rfl rfl)) rfl
theorem f122_94 : ft 122 94 = some (7, 0, 0, .aload_n 0, 1) := Fm122 (dk_42 (dk_at s122_4 2 rfl rfl)) rfl
theorem f122_95 : ft 122 95 = some (7, 0, 0, .getfield 120, 3) := Fm122 (dk_180 0 120 (dk_at s122_4 3 rfl rfl)) rfl
theorem f122_98 : ft 122 98 = some (7, 0, 0, .if_icmp .ge 44, 3) := Fm122 (dk_162 0 44 (dk_at s122_4 6 rfl rfl)) rfl
theorem f122_101 : ft 122 101 = some (7, 0, 0, .aload_n 0, 1) := Fm122 (dk_42 (dk_at s122_4 9 rfl rfl)) rfl
theorem f122_102 : ft 122 102 = some (7, 0, 0, .getfield 23, 3) := Fm122 (dk_180 0 23 (dk_at s122_4 10 rfl rfl)) rfl
theorem f122_105 : ft 122 105 = some (7, 0, 0, .aload_n 0, 1) := Fm122 (dk_42 (dk_at s122_4 13 rfl rfl)) rfl
theorem f122_106 : ft 122 106 = some (7, 0, 0, .getfield 39, 3) := Fm122 (dk_180 0 39 (dk_at s122_4 14 rfl rfl)) rfl
theorem f122_109 : ft 122 109 = some (7, 0, 0, .iload 5, 2) := Fm122 (dk_21 5 (dk_at s122_4 17 rfl rfl)) rfl
theorem f122_111 : ft 122 111 = some (7, 0, 0, .iaload, 1) := Fm122 (dk_46 (dk_at s122_4 19 rfl rfl)) rfl
theorem f122_112 : ft 122 112 = some (7, 0, 0, .iconst 1, 1) := Fm122 (dk_4 (dk_at s122_4 20 rfl rfl)) rfl
theorem f122_113 : ft 122 113 = some (7, 0, 0, .iadd, 1) := Fm122 (dk_96 (dk_at s122_4 21 rfl rfl)) rfl
theorem f122_114 : ft 122 114 = some (7, 0, 0, .aload_n 0, 1) := Fm122 (dk_42 (dk_at s122_4 22 rfl rfl)) rfl
theorem f122_115 : ft 122 115 = some (7, 0, 0, .getfield 20, 3) := Fm122 (dk_180 0 20 (dk_at s122_5 0 rfl rfl)) rfl
theorem f122_118 : ft 122 118 = some (7, 0, 0, .aload_n 0, 1) := Fm122 (dk_42 (dk_at s122_5 3 rfl rfl)) rfl
theorem f122_119 : ft 122 119 = some (7, 0, 0, .getfield 39, 3) := Fm122 (dk_180 0 39 (dk_at s122_5 4 rfl rfl)) rfl
theorem f122_122 : ft 122 122 = some (7, 0, 0, .iload 5, 2) := Fm122 (dk_21 5 (dk_at s122_5 7 rfl rfl)) rfl
theorem f122_124 : ft 122 124 = some (7, 0, 0, .iaload, 1) := Fm122 (dk_46 (dk_at s122_5 9 rfl rfl)) rfl
theorem f122_125 : ft 122 125 = some (7, 0, 0, .iconst 1, 1) := Fm122 (dk_4 (dk_at s122_5 10 rfl rfl)) rfl
theorem f122_126 : ft 122 126 = some (7, 0, 0, .iadd, 1) := Fm122 (dk_96 (dk_at s122_5 11 rfl rfl)) rfl
theorem f122_127 : ft 122 127 = some (7, 0, 0, .invokevirtual 108, 3) := Fm122 (dk_182 0 108 (dk_at s122_5 12 rfl rfl)) rfl
theorem f122_130 : ft 122 130 = some (7, 0, 0, .iload 4, 2) := Fm122 (dk_21 4 (dk_at s122_5 15 rfl rfl)) rfl
theorem f122_132 : ft 122 132 = some (7, 0, 0, .iadd, 1) := Fm122 (dk_96 (dk_at s122_5 17 rfl rfl)) rfl
theorem f122_133 : ft 122 133 = some (7, 0, 0, .invokevirtual 104, 3) := Fm122 (dk_182 0 104 (dk_at s122_5 18 rfl rfl)) rfl
theorem f122_136 : ft 122 136 = some (7, 0, 0, .iinc 5 1, 3) := Fm122 (dk_132 5 1 (dk_at s122_5 21 rfl rfl)) rfl
theorem f122_139 : ft 122 139 = some (7, 0, 0, .goto (-47), 3) := Fm122 (dk_167 255 209 (dk_at s122_6 0 rfl rfl)) rfl
theorem f122_142 : ft 122 142 = some (7, 0, 0, .aload_n 0, 1) := Fm122 (dk_42 (dk_at s122_6 3 rfl rfl)) rfl
theorem f122_143 : ft 122 143 = some (7, 0, 0, .getfield 20, 3) := Fm122 (dk_180 0 20 (dk_at s122_6 4 rfl rfl)) rfl
theorem f122_146 : ft 122 146 = some (7, 0, 0, .astore 5, 2) := Fm122 (dk_58 5 (dk_at s122_6 7 rfl rfl)) rfl
theorem f122_148 : ft 122 148 = some (7, 0, 0, .aload_n 0, 1) := Fm122 (dk_42 (dk_at s122_6 9 rfl rfl)) rfl
theorem f122_149 : ft 122 149 = some (7, 0, 0, .aload_n 0, 1) := Fm122 (dk_42 (dk_at s122_6 10 rfl rfl)) rfl
theorem f122_150 : ft 122 150 = some (7, 0, 0, .getfield 23, 3) := Fm122 (dk_180 0 23 (dk_at s122_6 11 rfl rfl)) rfl
theorem f122_153 : ft 122 153 = some (7, 0, 0, .putfield 20, 3) := Fm122 (dk_181 0 20 (dk_at s122_6 14 rfl rfl)) rfl
theorem f122_156 : ft 122 156 = some (7, 0, 0, .aload_n 0, 1) := Fm122 (dk_42 (dk_at s122_6 17 rfl rfl)) rfl
theorem f122_157 : ft 122 157 = some (7, 0, 0, .aload 5, 2) := Fm122 (dk_25 5 (dk_at s122_6 18 rfl rfl)) rfl
theorem f122_159 : ft 122 159 = some (7, 0, 0, .putfield 23, 3) := Fm122 (dk_181 0 23 (dk_at s122_6 20 rfl rfl)) rfl
theorem f122_162 : ft 122 162 = some (7, 0, 0, .return_, 1) := Fm122 (dk_177 (dk_at s122_6 23 rfl rfl)) rfl
theorem q122 {d : Nat} {m : Mem} {a0 a1 a2 a3 : Int} (hd : 0 < d) (hz : TZ m) : le2 (gd (tg m a0 = 7) <| nm (vl m a0 7) fun v4 => gd (tg m v4 = 8) <| nm (vl m a0 6) fun v5 => gd (tg m v5 = 8) <| nm (vl m a0 5) fun v6 => gd (tg m v6 = 8) <| bV (cl (d - 1) 143 [pR v5, pR (vl m v6 0), pI 0, pI a1] (mst m v5 1 0)) fun m1 => nm (vl m1 a0 6) fun v7 => nm (vl m1 a0 7) fun v8 => gd (tg m1 v8 = 8) <| gd (tg m1 v7 = 8) <| bV (cl (d - 1) 143 [pR v7, pR (vl m1 v8 0), pI a3, pI (w32 ((vl m1 v8 1) - a3))] m1) fun m2 => nm (vl m2 a0 6) fun v9 => nm (vl m2 a0 5) fun v10 => gd (tg m2 v10 = 8) <| gd (tg m2 v9 = 8) <| bV (cl (d - 1) 143 [pR v9, pR (vl m2 v10 0), pI (w32 (a1 + a2)), pI (w32 ((w32 ((vl m2 v10 1) - a1)) - a2))] m2) fun m3 => rn d 122 92 [pR a0, pI a1, pI a2, pI a3, pI (w32 ((w32 ((vl m v4 1) - a3)) - a2)), pI 0] [] m3) (cl d 122 [pR a0, pI a1, pI a2, pI a3] m) := by
  refine q_in (n := 6) (L := [pR a0, pI a1, pI a2, pI a3, pU, pU]) rfl rfl rfl ?_
  refine r_aln0 (p := 1) f122_0 rfl ?_
  refine le2_gd (fun h1 => ?_)
  refine r_gfR (f := 7) (p := 4) f122_1 rfl rfl rfl (Or.inl h1) rfl ?_
  refine r_nmR (fun v4 ev4 => ?_)
  refine le2_gd (fun h2 => ?_)
  refine r_gfI (f := 1) (p := 7) f122_4 rfl rfl rfl (Or.inl h2) rfl ?_
  refine r_iln3 (p := 8) f122_7 rfl ?_
  refine r_isub (p := 9) f122_8 rfl ?_
  refine r_iln2 (p := 10) f122_9 rfl ?_
  refine r_isub (p := 11) f122_10 rfl ?_
  refine r_isw4 (p := 13) f122_11 rfl rfl ?_
  refine r_aln0 (p := 14) f122_13 rfl ?_
  refine r_gfR (f := 6) (p := 17) f122_14 rfl rfl rfl (Or.inl h1) rfl ?_
  refine r_nmR (fun v5 ev5 => ?_)
  refine r_iconst (p := 18) f122_17 rfl (pinD rfl rfl) ?_
  refine le2_gd (fun h3 => ?_)
  refine r_pfI (f := 1) (p := 21) f122_18 rfl rfl rfl (by decide) (by decide) (Or.inl h3) rfl ?_
  refine r_aln0 (p := 22) f122_21 rfl ?_
  refine r_gfR (f := 6) (p := 25) f122_22 rfl rfl rfl (Or.inl h1) (Eq.trans (sk_f (by decide)) ev5.symm) ?_
  refine r_aln0 (p := 26) f122_25 rfl ?_
  refine r_gfR (f := 5) (p := 29) f122_26 rfl rfl rfl (Or.inl h1) (sk_f (by decide)) ?_
  refine r_nmR (fun v6 ev6 => ?_)
  refine le2_gd (fun h4 => ?_)
  refine r_gfR (f := 0) (p := 32) f122_29 rfl rfl rfl (Or.inl h4) (sk_f (by decide)) ?_
  refine r_iconst (p := 33) f122_32 rfl (pinD rfl rfl) ?_
  refine r_iln1 (p := 34) f122_33 rfl ?_
  refine r_invV (p := 37) f122_34 rfl rfl rfl (Or.inl h3) hd (Nat.le_of_ble_eq_true rfl) rfl rfl rfl (fun _ => rfl) (fun m1 c1 => ?_)
  have hz1 := z_k c1 hz
  refine r_aln0 (p := 38) f122_37 rfl ?_
  have h5 := k_t1 c1 hz h1 (by decide)
  refine r_gfR (f := 6) (p := 41) f122_38 rfl rfl rfl (Or.inl h5) rfl ?_
  refine r_nmR (fun v7 ev7 => ?_)
  refine r_aln0 (p := 42) f122_41 rfl ?_
  refine r_gfR (f := 7) (p := 45) f122_42 rfl rfl rfl (Or.inl h5) rfl ?_
  refine r_nmR (fun v8 ev8 => ?_)
  refine le2_gd (fun h6 => ?_)
  refine r_gfR (f := 0) (p := 48) f122_45 rfl rfl rfl (Or.inl h6) rfl ?_
  refine r_iln3 (p := 49) f122_48 rfl ?_
  refine r_aln0 (p := 50) f122_49 rfl ?_
  refine r_gfR (f := 7) (p := 53) f122_50 rfl rfl rfl (Or.inl h5) ev8.symm ?_
  refine r_gfI (f := 1) (p := 56) f122_53 rfl rfl rfl (Or.inl h6) rfl ?_
  refine r_iln3 (p := 57) f122_56 rfl ?_
  refine r_isub (p := 58) f122_57 rfl ?_
  refine le2_gd (fun h7 => ?_)
  refine r_invV (p := 61) f122_58 rfl rfl rfl (Or.inl h7) hd (Nat.le_of_ble_eq_true rfl) rfl rfl rfl (fun _ => rfl) (fun m2 c2 => ?_)
  have hz2 := z_k c2 hz1
  refine r_aln0 (p := 62) f122_61 rfl ?_
  have h8 := k_t1 c2 hz1 h5 (by decide)
  refine r_gfR (f := 6) (p := 65) f122_62 rfl rfl rfl (Or.inl h8) rfl ?_
  refine r_nmR (fun v9 ev9 => ?_)
  refine r_aln0 (p := 66) f122_65 rfl ?_
  refine r_gfR (f := 5) (p := 69) f122_66 rfl rfl rfl (Or.inl h8) rfl ?_
  refine r_nmR (fun v10 ev10 => ?_)
  refine le2_gd (fun h9 => ?_)
  refine r_gfR (f := 0) (p := 72) f122_69 rfl rfl rfl (Or.inl h9) rfl ?_
  refine r_iln1 (p := 73) f122_72 rfl ?_
  refine r_iln2 (p := 74) f122_73 rfl ?_
  refine r_iadd (p := 75) f122_74 rfl ?_
  refine r_aln0 (p := 76) f122_75 rfl ?_
  refine r_gfR (f := 5) (p := 79) f122_76 rfl rfl rfl (Or.inl h8) ev10.symm ?_
  refine r_gfI (f := 1) (p := 82) f122_79 rfl rfl rfl (Or.inl h9) rfl ?_
  refine r_iln1 (p := 83) f122_82 rfl ?_
  refine r_isub (p := 84) f122_83 rfl ?_
  refine r_iln2 (p := 85) f122_84 rfl ?_
  refine r_isub (p := 86) f122_85 rfl ?_
  refine le2_gd (fun h10 => ?_)
  refine r_invV (p := 89) f122_86 rfl rfl rfl (Or.inl h10) hd (Nat.le_of_ble_eq_true rfl) rfl rfl rfl (fun _ => rfl) (fun m3 c3 => ?_)
  have hz3 := z_k c3 hz2
  refine r_iconst (p := 90) f122_89 rfl (pinD rfl rfl) ?_
  refine r_isw5 (p := 92) f122_90 rfl rfl ?_
  exact le2_refl _
theorem q122_92 {d : Nat} {m : Mem} {a0 a1 a2 a3 a4 a5 : Int} (hd : 0 < d) (hz : TZ m) : le2 (gd (tg m a0 = 7) <| if a5 < (vl m a0 13) then (nm (vl m a0 6) fun v3 => nm (vl m a0 12) fun v4 => gd (tg m v4 = 112101) <| gd ((0 : Int) ≤ a5 ∧ a5 < ln m v4) <| nm (vl m v4 a5) fun v5 => nm (vl m a0 5) fun v6 => gd (tg m v6 = 8) <| bI (cl (d - 1) 134 [pR v6, pI (w32 (v5 + 1))] m) fun v1 m1 => gd (tg m1 v3 = 8) <| bV (cl (d - 1) 133 [pR v3, pI (w32 (v5 + 1)), pI (w32 (v1 + a4))] m1) fun m2 => rn d 122 92 [pR a0, pI a1, pI a2, pI a3, pI a4, pI (w32 (a5 + 1))] [] m2) else some (.inl none, (mst (mst m a0 5 (vl m a0 6)) a0 6 (vl m a0 5)))) (rn d 122 92 [pR a0, pI a1, pI a2, pI a3, pI a4, pI a5] [] m) := by
  refine r_ilw5 (p := 94) f122_92 rfl ?_
  refine r_aln0 (p := 95) f122_94 rfl ?_
  refine le2_gd (fun h1 => ?_)
  refine r_gfI (f := 13) (p := 98) f122_95 rfl rfl rfl (Or.inl h1) rfl ?_
  refine r_icge (t := 142) (p := 101) f122_98 (by decide) rfl rfl ?_ ?_
  · refine r_aln0 (p := 102) f122_101 rfl ?_
    refine r_gfR (f := 6) (p := 105) f122_102 rfl rfl rfl (Or.inl h1) rfl ?_
    refine r_nmR (fun v3 ev3 => ?_)
    refine r_aln0 (p := 106) f122_105 rfl ?_
    refine r_gfR (f := 12) (p := 109) f122_106 rfl rfl rfl (Or.inl h1) rfl ?_
    refine r_nmR (fun v4 ev4 => ?_)
    refine r_ilw5 (p := 111) f122_109 rfl ?_
    refine le2_gd (fun h2 => ?_)
    refine le2_gd (fun h3 => ?_)
    refine r_iaload (p := 112) f122_111 rfl (dj1 (fun x => x % 1000 = 101) h2 (by decide)) h3 rfl ?_
    refine r_nmI (fun v5 ev5 => ?_)
    refine r_iconst (p := 113) f122_112 rfl (pinD rfl rfl) ?_
    refine r_iadd (p := 114) f122_113 rfl ?_
    refine r_aln0 (p := 115) f122_114 rfl ?_
    refine r_gfR (f := 5) (p := 118) f122_115 rfl rfl rfl (Or.inl h1) rfl ?_
    refine r_nmR (fun v6 ev6 => ?_)
    refine r_aln0 (p := 119) f122_118 rfl ?_
    refine r_gfR (f := 12) (p := 122) f122_119 rfl rfl rfl (Or.inl h1) ev4.symm ?_
    refine r_ilw5 (p := 124) f122_122 rfl ?_
    refine r_iaload (p := 125) f122_124 rfl (dj1 (fun x => x % 1000 = 101) h2 (by decide)) h3 ev5.symm ?_
    refine r_iconst (p := 126) f122_125 rfl (pinD rfl rfl) ?_
    refine r_iadd (p := 127) f122_126 rfl ?_
    refine le2_gd (fun h4 => ?_)
    refine r_invI (p := 130) f122_127 rfl rfl rfl (Or.inl h4) hd (Nat.le_of_ble_eq_true rfl) rfl rfl rfl (fun _ => rfl) (fun v1 m1 c1 => ?_)
    have hz1 := z_k c1 hz
    refine r_ilw4 (p := 132) f122_130 rfl ?_
    refine r_iadd (p := 133) f122_132 rfl ?_
    refine le2_gd (fun h5 => ?_)
    refine r_invV (p := 136) f122_133 rfl rfl rfl (Or.inl h5) hd (Nat.le_of_ble_eq_true rfl) rfl rfl rfl (fun _ => rfl) (fun m2 c2 => ?_)
    have hz2 := z_k c2 hz1
    refine r_iinc5 (p := 139) f122_136 rfl rfl ?_
    refine r_goto (p := 92) f122_139 (by decide) rfl ?_
    exact le2_refl _
  · refine r_aln0 (p := 143) f122_142 rfl ?_
    refine r_gfR (f := 5) (p := 146) f122_143 rfl rfl rfl (Or.inl h1) rfl ?_
    refine r_asw5 (p := 148) f122_146 rfl rfl ?_
    refine r_aln0 (p := 149) f122_148 rfl ?_
    refine r_aln0 (p := 150) f122_149 rfl ?_
    refine r_gfR (f := 6) (p := 153) f122_150 rfl rfl rfl (Or.inl h1) rfl ?_
    refine r_pfR (f := 5) (p := 156) f122_153 rfl rfl rfl (by decide) (by decide) (Or.inl h1) rfl ?_
    refine r_aln0 (p := 157) f122_156 rfl ?_
    refine r_alw5 (p := 159) f122_157 rfl ?_
    refine r_pfR (f := 6) (p := 162) f122_159 rfl rfl rfl (by decide) (by decide) (Or.inl h1) rfl ?_
    exact r_ret f122_162
/-! 123 PathStore$Patcher.go (I)V -/
def w123_7 : List UInt8 := [21, 4, 133, 182, 0, 138, 181, 0, 117, 132, 2, 1, 167, 255, 94, 177]
abbrev u123_7 : List UInt8 := w123_7 ++ []
def w123_6 : List UInt8 := [182, 0, 135, 54, 4, 21, 4, 155, 0, 7, 4, 167, 0, 4, 3, 184, 0, 100, 42, 42, 180, 0, 20, 29]
abbrev u123_6 : List UInt8 := w123_6 ++ u123_7
def w123_5 : List UInt8 := [181, 0, 117, 167, 0, 53, 42, 42, 180, 0, 35, 28, 46, 42, 180, 0, 20, 29, 182, 0, 133, 4, 100]
abbrev u123_5 : List UInt8 := w123_5 ++ u123_6
def w123_4 : List UInt8 := [21, 4, 155, 0, 7, 4, 167, 0, 4, 3, 184, 0, 100, 42, 42, 180, 0, 20, 21, 4, 182, 0, 130]
abbrev u123_4 : List UInt8 := w123_4 ++ u123_5
def w123_3 : List UInt8 := [160, 0, 52, 42, 180, 0, 20, 29, 42, 180, 0, 32, 42, 180, 0, 35, 28, 46, 182, 0, 126, 54, 4]
abbrev u123_3 : List UInt8 := w123_3 ++ u123_4
def w123_2 : List UInt8 := [89, 180, 0, 120, 90, 4, 96, 181, 0, 120, 29, 79, 42, 180, 0, 20, 29, 182, 0, 123, 16, 6]
abbrev u123_2 : List UInt8 := w123_2 ++ u123_3
def w123_1 : List UInt8 := [180, 0, 20, 29, 182, 0, 123, 8, 161, 0, 7, 4, 167, 0, 4, 3, 184, 0, 100, 42, 180, 0, 39, 42]
abbrev u123_1 : List UInt8 := w123_1 ++ u123_2
def w123_0 : List UInt8 := [42, 3, 181, 0, 117, 42, 3, 181, 0, 120, 3, 61, 28, 27, 162, 0, 163, 42, 180, 0, 117, 62, 42]
abbrev u123_0 : List UInt8 := w123_0 ++ u123_1
theorem s123_0 : (prog_17_method_6_code).data.toList.drop 0 = u123_0 := by decide +kernel
theorem s123_1 : (prog_17_method_6_code).data.toList.drop 23 = u123_1 := dk_seg s123_0 23 rfl rfl
theorem s123_2 : (prog_17_method_6_code).data.toList.drop 47 = u123_2 := dk_seg s123_1 24 rfl rfl
theorem s123_3 : (prog_17_method_6_code).data.toList.drop 69 = u123_3 := dk_seg s123_2 22 rfl rfl
theorem s123_4 : (prog_17_method_6_code).data.toList.drop 92 = u123_4 := dk_seg s123_3 23 rfl rfl
theorem s123_5 : (prog_17_method_6_code).data.toList.drop 115 = u123_5 := dk_seg s123_4 23 rfl rfl
theorem s123_6 : (prog_17_method_6_code).data.toList.drop 138 = u123_6 := dk_seg s123_5 23 rfl rfl
theorem s123_7 : (prog_17_method_6_code).data.toList.drop 162 = u123_7 := dk_seg s123_6 24 rfl rfl
theorem Fm123 {pc len : Nat} {i : Instr} (h : decode (prog_17_method_6_code) pc = .ok (i, len)) (hl : len = ilen i len) : ft 123 pc = some (7, 0, 0, i, len) := ft_mk rfl h hl
theorem f123_0 : ft 123 0 = some (7, 0, 0, .aload_n 0, 1) := Fm123 (dk_42 (dk_at s123_0 0 rfl rfl)) rfl
theorem f123_1 : ft 123 1 = some (7, 0, 0, .iconst 0, 1) := Fm123 (dk_3 (dk_at s123_0 1 rfl rfl)) rfl
theorem f123_2 : ft 123 2 = some (7, 0, 0, .putfield 117, 3) := Fm123 (dk_181 0 117 (dk_at s123_0 2 rfl rfl)) rfl
theorem f123_5 : ft 123 5 = some (7, 0, 0, .aload_n 0, 1) := Fm123 (dk_42 (dk_at s123_0 5 rfl rfl)) rfl
theorem f123_6 : ft 123 6 = some (7, 0, 0, .iconst 0, 1) := Fm123 (dk_3 (dk_at s123_0 6 rfl rfl)) rfl
theorem f123_7 : ft 123 7 = some (7, 0, 0, .putfield 120, 3) := Fm123 (dk_181 0 120 (dk_at s123_0 7 rfl rfl)) rfl
theorem f123_10 : ft 123 10 = some (7, 0, 0, .iconst 0, 1) := Fm123 (dk_3 (dk_at s123_0 10 rfl rfl)) rfl
theorem f123_11 : ft 123 11 = some (7, 0, 0, .istore_n 2, 1) := Fm123 (dk_61 (dk_at s123_0 11 rfl rfl)) rfl
theorem f123_12 : ft 123 12 = some (7, 0, 0, .iload_n 2, 1) := Fm123 (dk_28 (dk_at s123_0 12 rfl rfl)) rfl
theorem f123_13 : ft 123 13 = some (7, 0, 0, .iload_n 1, 1) := Fm123 (dk_27 (dk_at s123_0 13 rfl rfl)) rfl
theorem f123_14 : ft 123 14 = some (7, 0, 0, .if_icmp .ge 163, 3) := Fm123 (dk_162 0 163 (dk_at s123_0 14 rfl rfl)) rfl
theorem f123_17 : ft 123 17 = some (7, 0, 0, .aload_n 0, 1) := Fm123 (dk_42 (dk_at s123_0 17 rfl rfl)) rfl
theorem f123_18 : ft 123 18 = some (7, 0, 0, .getfield 117, 3) := Fm123 (dk_180 0 117 (dk_at s123_0 18 rfl rfl)) rfl
theorem f123_21 : ft 123 21 = some (7, 0, 0, .istore_n 3, 1) := Fm123 (dk_62 (dk_at s123_0 21 rfl rfl)) rfl
theorem f123_22 : ft 123 22 = some (7, 0, 0, .aload_n 0, 1) := Fm123 (dk_42 (dk_at s123_0 22 rfl rfl)) rfl
theorem f123_23 : ft 123 23 = some (7, 0, 0, .getfield 20, 3) := Fm123 (dk_180 0 20 (dk_at s123_1 0 rfl rfl)) rfl
theorem f123_26 : ft 123 26 = some (7, 0, 0, .iload_n 3, 1) := Fm123 (dk_29 (dk_at s123_1 3 rfl rfl)) rfl
theorem f123_27 : ft 123 27 = some (7, 0, 0, .invokevirtual 123, 3) := Fm123 (dk_182 0 123 (dk_at s123_1 4 rfl rfl)) rfl
theorem f123_30 : ft 123 30 = some (7, 0, 0, .iconst 5, 1) := Fm123 (dk_8 (dk_at s123_1 7 rfl rfl)) rfl
theorem f123_31 : ft 123 31 = some (7, 0, 0, .if_icmp .lt 7, 3) := Fm123 (dk_161 0 7 (dk_at s123_1 8 rfl rfl)) rfl
theorem f123_34 : ft 123 34 = some (7, 0, 0, .iconst 1, 1) := Fm123 (dk_4 (dk_at s123_1 11 rfl rfl)) rfl
theorem f123_35 : ft 123 35 = some (7, 0, 0, .goto 4, 3) := Fm123 (dk_167 0 4 (dk_at s123_1 12 rfl rfl)) rfl
theorem f123_38 : ft 123 38 = some (7, 0, 0, .iconst 0, 1) := Fm123 (dk_3 (dk_at s123_1 15 rfl rfl)) rfl
theorem f123_39 : ft 123 39 = some (7, 0, 0, .invokestatic 100, 3) := Fm123 (dk_184 0 100 (dk_at s123_1 16 rfl rfl)) rfl
theorem f123_42 : ft 123 42 = some (7, 0, 0, .aload_n 0, 1) := Fm123 (dk_42 (dk_at s123_1 19 rfl rfl)) rfl
theorem f123_43 : ft 123 43 = some (7, 0, 0, .getfield 39, 3) := Fm123 (dk_180 0 39 (dk_at s123_1 20 rfl rfl)) rfl
theorem f123_46 : ft 123 46 = some (7, 0, 0, .aload_n 0, 1) := Fm123 (dk_42 (dk_at s123_1 23 rfl rfl)) rfl
theorem f123_47 : ft 123 47 = some (7, 0, 0, .dup, 1) := Fm123 (dk_89 (dk_at s123_2 0 rfl rfl)) rfl
theorem f123_48 : ft 123 48 = some (7, 0, 0, .getfield 120, 3) := Fm123 (dk_180 0 120 (dk_at s123_2 1 rfl rfl)) rfl
theorem f123_51 : ft 123 51 = some (7, 0, 0, .dup_x1, 1) := Fm123 (dk_90 (dk_at s123_2 4 rfl rfl)) rfl
theorem f123_52 : ft 123 52 = some (7, 0, 0, .iconst 1, 1) := Fm123 (dk_4 (dk_at s123_2 5 rfl rfl)) rfl
theorem f123_53 : ft 123 53 = some (7, 0, 0, .iadd, 1) := Fm123 (dk_96 (dk_at s123_2 6 rfl rfl)) rfl
theorem f123_54 : ft 123 54 = some (7, 0, 0, .putfield 120, 3) := Fm123 (dk_181 0 120 (dk_at s123_2 7 rfl rfl)) rfl
theorem f123_57 : ft 123 57 = some (7, 0, 0, .iload_n 3, 1) := Fm123 (dk_29 (dk_at s123_2 10 rfl rfl)) rfl
theorem f123_58 : ft 123 58 = some (7, 0, 0, .iastore, 1) := Fm123 (dk_79 (dk_at s123_2 11 rfl rfl)) rfl
theorem f123_59 : ft 123 59 = some (7, 0, 0, .aload_n 0, 1) := Fm123 (dk_42 (dk_at s123_2 12 rfl rfl)) rfl
theorem f123_60 : ft 123 60 = some (7, 0, 0, .getfield 20, 3) := Fm123 (dk_180 0 20 (dk_at s123_2 13 rfl rfl)) rfl
theorem f123_63 : ft 123 63 = some (7, 0, 0, .iload_n 3, 1) := Fm123 (dk_29 (dk_at s123_2 16 rfl rfl)) rfl
theorem f123_64 : ft 123 64 = some (7, 0, 0, .invokevirtual 123, 3) := Fm123 (dk_182 0 123 (dk_at s123_2 17 rfl rfl)) rfl
theorem f123_67 : ft 123 67 = some (7, 0, 0, .bipush 6, 2) := Fm123 (dk_16 6 (dk_at s123_2 20 rfl rfl)) rfl
theorem f123_69 : ft 123 69 = some (7, 0, 0, .if_icmp .ne 52, 3) := Fm123 (dk_160 0 52 (dk_at s123_3 0 rfl rfl)) rfl
theorem f123_72 : ft 123 72 = some (7, 0, 0, .aload_n 0, 1) := Fm123 (dk_42 (dk_at s123_3 3 rfl rfl)) rfl
theorem f123_73 : ft 123 73 = some (7, 0, 0, .getfield 20, 3) := Fm123 (dk_180 0 20 (dk_at s123_3 4 rfl rfl)) rfl
theorem f123_76 : ft 123 76 = some (7, 0, 0, .iload_n 3, 1) := Fm123 (dk_29 (dk_at s123_3 7 rfl rfl)) rfl
theorem f123_77 : ft 123 77 = some (7, 0, 0, .aload_n 0, 1) := Fm123 (dk_42 (dk_at s123_3 8 rfl rfl)) rfl
theorem f123_78 : ft 123 78 = some (7, 0, 0, .getfield 32, 3) := Fm123 (dk_180 0 32 (dk_at s123_3 9 rfl rfl)) rfl
theorem f123_81 : ft 123 81 = some (7, 0, 0, .aload_n 0, 1) := Fm123 (dk_42 (dk_at s123_3 12 rfl rfl)) rfl
theorem f123_82 : ft 123 82 = some (7, 0, 0, .getfield 35, 3) := Fm123 (dk_180 0 35 (dk_at s123_3 13 rfl rfl)) rfl
theorem f123_85 : ft 123 85 = some (7, 0, 0, .iload_n 2, 1) := Fm123 (dk_28 (dk_at s123_3 16 rfl rfl)) rfl
theorem f123_86 : ft 123 86 = some (7, 0, 0, .iaload, 1) := Fm123 (dk_46 (dk_at s123_3 17 rfl rfl)) rfl
theorem f123_87 : ft 123 87 = some (7, 0, 0, .invokevirtual 126, 3) := Fm123 (dk_182 0 126 (dk_at s123_3 18 rfl rfl)) rfl
theorem f123_90 : ft 123 90 = some (7, 0, 0, .istore 4, 2) := Fm123 (dk_54 4 (dk_at s123_3 21 rfl rfl)) rfl
theorem f123_92 : ft 123 92 = some (7, 0, 0, .iload 4, 2) := Fm123 (dk_21 4 (dk_at s123_4 0 rfl rfl)) rfl
theorem f123_94 : ft 123 94 = some (7, 0, 0, .ifCond .lt 7, 3) := Fm123 (dk_155 0 7 (dk_at s123_4 2 rfl rfl)) rfl
theorem f123_97 : ft 123 97 = some (7, 0, 0, .iconst 1, 1) := Fm123 (dk_4 (dk_at s123_4 5 rfl rfl)) rfl
theorem f123_98 : ft 123 98 = some (7, 0, 0, .goto 4, 3) := Fm123 (dk_167 0 4 (dk_at s123_4 6 rfl rfl)) rfl
theorem f123_101 : ft 123 101 = some (7, 0, 0, .iconst 0, 1) := Fm123 (dk_3 (dk_at s123_4 9 rfl rfl)) rfl
theorem f123_102 : ft 123 102 = some (7, 0, 0, .invokestatic 100, 3) := Fm123 (dk_184 0 100 (dk_at s123_4 10 rfl rfl)) rfl
theorem f123_105 : ft 123 105 = some (7, 0, 0, .aload_n 0, 1) := Fm123 (dk_42 (dk_at s123_4 13 rfl rfl)) rfl
theorem f123_106 : ft 123 106 = some (7, 0, 0, .aload_n 0, 1) := Fm123 (dk_42 (dk_at s123_4 14 rfl rfl)) rfl
theorem f123_107 : ft 123 107 = some (7, 0, 0, .getfield 20, 3) := Fm123 (dk_180 0 20 (dk_at s123_4 15 rfl rfl)) rfl
theorem f123_110 : ft 123 110 = some (7, 0, 0, .iload 4, 2) := Fm123 (dk_21 4 (dk_at s123_4 18 rfl rfl)) rfl
theorem f123_112 : ft 123 112 = some (7, 0, 0, .invokevirtual 130, 3) := Fm123 (dk_182 0 130 (dk_at s123_4 20 rfl rfl)) rfl
theorem f123_115 : ft 123 115 = some (7, 0, 0, .putfield 117, 3) := Fm123 (dk_181 0 117 (dk_at s123_5 0 rfl rfl)) rfl
theorem f123_118 : ft 123 118 = some (7, 0, 0, .goto 53, 3) := Fm123 (dk_167 0 53 (dk_at s123_5 3 rfl rfl)) rfl
theorem f123_121 : ft 123 121 = some (7, 0, 0, .aload_n 0, 1) := Fm123 (dk_42 (dk_at s123_5 6 rfl rfl)) rfl
theorem f123_122 : ft 123 122 = some (7, 0, 0, .aload_n 0, 1) := Fm123 (dk_42 (dk_at s123_5 7 rfl rfl)) rfl
theorem f123_123 : ft 123 123 = some (7, 0, 0, .getfield 35, 3) := Fm123 (dk_180 0 35 (dk_at s123_5 8 rfl rfl)) rfl
theorem f123_126 : ft 123 126 = some (7, 0, 0, .iload_n 2, 1) := Fm123 (dk_28 (dk_at s123_5 11 rfl rfl)) rfl
theorem f123_127 : ft 123 127 = some (7, 0, 0, .iaload, 1) := Fm123 (dk_46 (dk_at s123_5 12 rfl rfl)) rfl
theorem f123_128 : ft 123 128 = some (7, 0, 0, .aload_n 0, 1) := Fm123 (dk_42 (dk_at s123_5 13 rfl rfl)) rfl
theorem f123_129 : ft 123 129 = some (7, 0, 0, .getfield 20, 3) := Fm123 (dk_180 0 20 (dk_at s123_5 14 rfl rfl)) rfl
theorem f123_132 : ft 123 132 = some (7, 0, 0, .iload_n 3, 1) := Fm123 (dk_29 (dk_at s123_5 17 rfl rfl)) rfl
theorem f123_133 : ft 123 133 = some (7, 0, 0, .invokevirtual 133, 3) := Fm123 (dk_182 0 133 (dk_at s123_5 18 rfl rfl)) rfl
theorem f123_136 : ft 123 136 = some (7, 0, 0, .iconst 1, 1) := Fm123 (dk_4 (dk_at s123_5 21 rfl rfl)) rfl
theorem f123_137 : ft 123 137 = some (7, 0, 0, .isub, 1) := Fm123 (dk_100 (dk_at s123_5 22 rfl rfl)) rfl
theorem f123_138 : ft 123 138 = some (7, 0, 0, .invokevirtual 135, 3) := Fm123 (dk_182 0 135 (dk_at s123_6 0 rfl rfl)) rfl
theorem f123_141 : ft 123 141 = some (7, 0, 0, .istore 4, 2) := Fm123 (dk_54 4 (dk_at s123_6 3 rfl rfl)) rfl
theorem f123_143 : ft 123 143 = some (7, 0, 0, .iload 4, 2) := Fm123 (dk_21 4 (dk_at s123_6 5 rfl rfl)) rfl
theorem f123_145 : ft 123 145 = some (7, 0, 0, .ifCond .lt 7, 3) := Fm123 (dk_155 0 7 (dk_at s123_6 7 rfl rfl)) rfl
theorem f123_148 : ft 123 148 = some (7, 0, 0, .iconst 1, 1) := Fm123 (dk_4 (dk_at s123_6 10 rfl rfl)) rfl
theorem f123_149 : ft 123 149 = some (7, 0, 0, .goto 4, 3) := Fm123 (dk_167 0 4 (dk_at s123_6 11 rfl rfl)) rfl
theorem f123_152 : ft 123 152 = some (7, 0, 0, .iconst 0, 1) := Fm123 (dk_3 (dk_at s123_6 14 rfl rfl)) rfl
theorem f123_153 : ft 123 153 = some (7, 0, 0, .invokestatic 100, 3) := Fm123 (dk_184 0 100 (dk_at s123_6 15 rfl rfl)) rfl
theorem f123_156 : ft 123 156 = some (7, 0, 0, .aload_n 0, 1) := Fm123 (dk_42 (dk_at s123_6 18 rfl rfl)) rfl
theorem f123_157 : ft 123 157 = some (7, 0, 0, .aload_n 0, 1) := Fm123 (dk_42 (dk_at s123_6 19 rfl rfl)) rfl
theorem f123_158 : ft 123 158 = some (7, 0, 0, .getfield 20, 3) := Fm123 (dk_180 0 20 (dk_at s123_6 20 rfl rfl)) rfl
theorem f123_161 : ft 123 161 = some (7, 0, 0, .iload_n 3, 1) := Fm123 (dk_29 (dk_at s123_6 23 rfl rfl)) rfl
theorem f123_162 : ft 123 162 = some (7, 0, 0, .iload 4, 2) := Fm123 (dk_21 4 (dk_at s123_7 0 rfl rfl)) rfl
theorem f123_164 : ft 123 164 = some (7, 0, 0, .i2l, 1) := Fm123 (dk_133 (dk_at s123_7 2 rfl rfl)) rfl
theorem f123_165 : ft 123 165 = some (7, 0, 0, .invokevirtual 138, 3) := Fm123 (dk_182 0 138 (dk_at s123_7 3 rfl rfl)) rfl
theorem f123_168 : ft 123 168 = some (7, 0, 0, .putfield 117, 3) := Fm123 (dk_181 0 117 (dk_at s123_7 6 rfl rfl)) rfl
theorem f123_171 : ft 123 171 = some (7, 0, 0, .iinc 2 1, 3) := Fm123 (dk_132 2 1 (dk_at s123_7 9 rfl rfl)) rfl
theorem f123_174 : ft 123 174 = some (7, 0, 0, .goto (-162), 3) := Fm123 (dk_167 255 94 (dk_at s123_7 12 rfl rfl)) rfl
theorem f123_177 : ft 123 177 = some (7, 0, 0, .return_, 1) := Fm123 (dk_177 (dk_at s123_7 15 rfl rfl)) rfl
theorem q123 {d : Nat} {m : Mem} {a0 a1 : Int} (hz : TZ m) : le2 (gd (tg m a0 = 7) <| rn d 123 12 [pR a0, pI a1, pI 0, pU, pU] [] (mst (mst m a0 14 0) a0 13 0)) (cl d 123 [pR a0, pI a1] m) := by
  refine q_in (n := 5) (L := [pR a0, pI a1, pU, pU, pU]) rfl rfl rfl ?_
  refine r_aln0 (p := 1) f123_0 rfl ?_
  refine r_iconst (p := 2) f123_1 rfl (pinD rfl rfl) ?_
  refine le2_gd (fun h1 => ?_)
  refine r_pfI (f := 14) (p := 5) f123_2 rfl rfl rfl (by decide) (by decide) (Or.inl h1) rfl ?_
  refine r_aln0 (p := 6) f123_5 rfl ?_
  refine r_iconst (p := 7) f123_6 rfl (pinD rfl rfl) ?_
  refine r_pfI (f := 13) (p := 10) f123_7 rfl rfl rfl (by decide) (by decide) (Or.inl h1) rfl ?_
  refine r_iconst (p := 11) f123_10 rfl (pinD rfl rfl) ?_
  refine r_isn2 (p := 12) f123_11 rfl rfl ?_
  exact le2_refl _
theorem q123_12 {d : Nat} {m : Mem} {a0 a1 a2 : Int} {z3 z4 : PV} (hd : 0 < d) (hz : TZ m) (hcz3 : cat z3 = 1) (hcz4 : cat z4 = 1) : le2 (if a2 < a1 then (gd (tg m a0 = 7) <| nm (vl m a0 14) fun v2 => nm (vl m a0 5) fun v3 => gd (tg m v3 = 8) <| bI (cl (d - 1) 139 [pR v3, pI v2] m) fun v1 m1 => if v1 < 5 then (rn d 123 39 [pR a0, pI a1, pI a2, pI v2, z4] [pI 0] m1) else rn d 123 39 [pR a0, pI a1, pI a2, pI v2, z4] [pI 1] m1) else some (.inl none, m)) (rn d 123 12 [pR a0, pI a1, pI a2, z3, z4] [] m) := by
  refine r_iln2 (p := 13) f123_12 rfl ?_
  refine r_iln1 (p := 14) f123_13 rfl ?_
  refine r_icge (t := 177) (p := 17) f123_14 (by decide) rfl rfl ?_ ?_
  · refine r_aln0 (p := 18) f123_17 rfl ?_
    refine le2_gd (fun h1 => ?_)
    refine r_gfI (f := 14) (p := 21) f123_18 rfl rfl rfl (Or.inl h1) rfl ?_
    refine r_nmI (fun v2 ev2 => ?_)
    refine r_isn3 (p := 22) f123_21 rfl rfl ?_
    refine r_aln0 (p := 23) f123_22 rfl ?_
    refine r_gfR (f := 5) (p := 26) f123_23 rfl rfl rfl (Or.inl h1) rfl ?_
    refine r_nmR (fun v3 ev3 => ?_)
    refine r_iln3 (p := 27) f123_26 rfl ?_
    refine le2_gd (fun h2 => ?_)
    refine r_invI (p := 30) f123_27 rfl rfl rfl (Or.inl h2) hd (Nat.le_of_ble_eq_true rfl) rfl rfl rfl (fun _ => rfl) (fun v1 m1 c1 => ?_)
    have hz1 := z_k c1 hz
    refine r_iconst (p := 31) f123_30 rfl (pinD rfl rfl) ?_
    refine r_iclt (t := 38) (p := 34) f123_31 (by decide) rfl rfl ?_ ?_
    · refine r_iconst (p := 39) f123_38 rfl (pinD rfl rfl) ?_
      exact le2_refl _
    · refine r_iconst (p := 35) f123_34 rfl (pinD rfl rfl) ?_
      refine r_goto (p := 39) f123_35 (by decide) rfl ?_
      exact le2_refl _
  · exact r_ret f123_177
theorem q123_39 {d : Nat} {m : Mem} {a0 a1 a2 a3 s0 : Int} {z4 : PV} (hd : 0 < d) (hz : TZ m) (hcz4 : cat z4 = 1) : le2 (bV (cl (d - 1) 115 [pI s0] m) fun m1 => gd (tg m1 a0 = 7) <| nm (vl m1 a0 12) fun v6 => nm (vl m1 a0 13) fun v7 => gd (tg m1 v6 = 112101) <| gd ((0 : Int) ≤ v7 ∧ v7 < ln m1 v6) <| nm (vl m1 a0 5) fun v8 => gd (tg m1 v8 = 8) <| bI (cl (d - 1) 139 [pR v8, pI a3] (mst (mst m1 a0 13 (w32 (v7 + 1))) v6 v7 a3)) fun v2 m2 => if v2 = 6 then (nm (vl m2 a0 5) fun v9 => nm (vl m2 a0 10) fun v10 => gd (tg m2 v10 = 112101) <| gd ((0 : Int) ≤ a2 ∧ a2 < ln m2 v10) <| gd (tg m2 v9 = 8) <| bI (cl (d - 1) 144 [pR v9, pI a3, pR (vl m2 a0 9), pI (vl m2 v10 a2)] m2) fun v5 m5 => if v5 < 0 then (rn d 123 102 [pR a0, pI a1, pI a2, pI a3, pI v5] [pI 0] m5) else rn d 123 102 [pR a0, pI a1, pI a2, pI a3, pI v5] [pI 1] m5) else nm (vl m2 a0 10) fun v11 => gd (tg m2 v11 = 112101) <| gd ((0 : Int) ≤ a2 ∧ a2 < ln m2 v11) <| nm (vl m2 a0 5) fun v12 => gd (tg m2 v12 = 8) <| bI (cl (d - 1) 145 [pR v12, pI a3] m2) fun v3 m3 => bI (cl (d - 1) 124 [pR a0, pI (vl m2 v11 a2), pI (w32 (v3 - 1))] m3) fun v4 m4 => if v4 < 0 then (rn d 123 153 [pR a0, pI a1, pI a2, pI a3, pI v4] [pI 0] m4) else rn d 123 153 [pR a0, pI a1, pI a2, pI a3, pI v4] [pI 1] m4) (rn d 123 39 [pR a0, pI a1, pI a2, pI a3, z4] [pI s0] m) := by
  refine r_istV (p := 42) f123_39 rfl rfl rfl hd (Nat.le_of_ble_eq_true rfl) rfl rfl rfl (fun _ => rfl) (fun m1 c1 => ?_)
  have hz1 := z_k c1 hz
  refine r_aln0 (p := 43) f123_42 rfl ?_
  refine le2_gd (fun h1 => ?_)
  refine r_gfR (f := 12) (p := 46) f123_43 rfl rfl rfl (Or.inl h1) rfl ?_
  refine r_nmR (fun v6 ev6 => ?_)
  refine r_aln0 (p := 47) f123_46 rfl ?_
  refine r_dup (p := 48) f123_47 rfl rfl ?_
  refine r_gfI (f := 13) (p := 51) f123_48 rfl rfl rfl (Or.inl h1) rfl ?_
  refine r_nmI (fun v7 ev7 => ?_)
  refine r_dup_x1 (p := 52) f123_51 rfl rfl rfl ?_
  refine r_iconst (p := 53) f123_52 rfl (pinD rfl rfl) ?_
  refine r_iadd (p := 54) f123_53 rfl ?_
  refine r_pfI (f := 13) (p := 57) f123_54 rfl rfl rfl (by decide) (by decide) (Or.inl h1) rfl ?_
  refine r_iln3 (p := 58) f123_57 rfl ?_
  refine le2_gd (fun h2 => ?_)
  refine le2_gd (fun h3 => ?_)
  refine r_iastore (p := 59) f123_58 rfl (dj1 (fun x => 1000 ≤ x ∧ x % 1000 = 101 ∧ Nat.testBit (eM 123) (bix x 0) = true) h2 (by decide)) h3 ?_
  refine r_aln0 (p := 60) f123_59 rfl ?_
  refine r_gfR (f := 5) (p := 63) f123_60 rfl rfl rfl (Or.inl h1) (Eq.trans (sk_o (ne_oa (dj1 (fun x => x < 100) h1 (by decide)) (dj1 (fun x => ¬ x < 100) h2 (by decide)))) (sk_f (by decide))) ?_
  refine r_nmR (fun v8 ev8 => ?_)
  refine r_iln3 (p := 64) f123_63 rfl ?_
  refine le2_gd (fun h4 => ?_)
  refine r_invI (p := 67) f123_64 rfl rfl rfl (Or.inl h4) hd (Nat.le_of_ble_eq_true rfl) rfl rfl rfl (fun _ => rfl) (fun v2 m2 c2 => ?_)
  have hz2 := z_k c2 hz1
  refine r_bipush (p := 69) f123_67 rfl (pinD rfl rfl) ?_
  refine r_icne (t := 121) (p := 72) f123_69 (by decide) rfl rfl ?_ ?_
  · refine r_aln0 (p := 73) f123_72 rfl ?_
    have h10 := k_t1 c2 hz1 h1 (by decide)
    refine r_gfR (f := 5) (p := 76) f123_73 rfl rfl rfl (Or.inl h10) rfl ?_
    refine r_nmR (fun v9 ev9 => ?_)
    refine r_iln3 (p := 77) f123_76 rfl ?_
    refine r_aln0 (p := 78) f123_77 rfl ?_
    refine r_gfR (f := 9) (p := 81) f123_78 rfl rfl rfl (Or.inl h10) rfl ?_
    refine r_aln0 (p := 82) f123_81 rfl ?_
    refine r_gfR (f := 10) (p := 85) f123_82 rfl rfl rfl (Or.inl h10) rfl ?_
    refine r_nmR (fun v10 ev10 => ?_)
    refine r_iln2 (p := 86) f123_85 rfl ?_
    refine le2_gd (fun h11 => ?_)
    refine le2_gd (fun h12 => ?_)
    refine r_iaload (p := 87) f123_86 rfl (dj1 (fun x => x % 1000 = 101) h11 (by decide)) h12 rfl ?_
    refine le2_gd (fun h13 => ?_)
    refine r_invI (p := 90) f123_87 rfl rfl rfl (Or.inl h13) hd (Nat.le_of_ble_eq_true rfl) rfl rfl rfl (fun _ => rfl) (fun v5 m5 c5 => ?_)
    have hz5 := z_k c5 hz2
    refine r_isw4 (p := 92) f123_90 rfl rfl ?_
    refine r_ilw4 (p := 94) f123_92 rfl ?_
    refine r_iflt (t := 101) (p := 97) f123_94 (by decide) rfl rfl ?_ ?_
    · refine r_iconst (p := 102) f123_101 rfl (pinD rfl rfl) ?_
      exact le2_refl _
    · refine r_iconst (p := 98) f123_97 rfl (pinD rfl rfl) ?_
      refine r_goto (p := 102) f123_98 (by decide) rfl ?_
      exact le2_refl _
  · refine r_aln0 (p := 122) f123_121 rfl ?_
    refine r_aln0 (p := 123) f123_122 rfl ?_
    have h5 := k_t1 c2 hz1 h1 (by decide)
    refine r_gfR (f := 10) (p := 126) f123_123 rfl rfl rfl (Or.inl h5) rfl ?_
    refine r_nmR (fun v11 ev11 => ?_)
    refine r_iln2 (p := 127) f123_126 rfl ?_
    refine le2_gd (fun h6 => ?_)
    refine le2_gd (fun h7 => ?_)
    refine r_iaload (p := 128) f123_127 rfl (dj1 (fun x => x % 1000 = 101) h6 (by decide)) h7 rfl ?_
    refine r_aln0 (p := 129) f123_128 rfl ?_
    refine r_gfR (f := 5) (p := 132) f123_129 rfl rfl rfl (Or.inl h5) rfl ?_
    refine r_nmR (fun v12 ev12 => ?_)
    refine r_iln3 (p := 133) f123_132 rfl ?_
    refine le2_gd (fun h8 => ?_)
    refine r_invI (p := 136) f123_133 rfl rfl rfl (Or.inl h8) hd (Nat.le_of_ble_eq_true rfl) rfl rfl rfl (fun _ => rfl) (fun v3 m3 c3 => ?_)
    have hz3 := z_k c3 hz2
    refine r_iconst (p := 137) f123_136 rfl (pinD rfl rfl) ?_
    refine r_isub (p := 138) f123_137 rfl ?_
    have h9 := k_t1 c3 hz2 h5 (by decide)
    refine r_invI (p := 141) f123_138 rfl rfl rfl (Or.inl h9) hd (Nat.le_of_ble_eq_true rfl) rfl rfl rfl (fun _ => rfl) (fun v4 m4 c4 => ?_)
    have hz4 := z_k c4 hz3
    refine r_isw4 (p := 143) f123_141 rfl rfl ?_
    refine r_ilw4 (p := 145) f123_143 rfl ?_
    refine r_iflt (t := 152) (p := 148) f123_145 (by decide) rfl rfl ?_ ?_
    · refine r_iconst (p := 153) f123_152 rfl (pinD rfl rfl) ?_
      exact le2_refl _
    · refine r_iconst (p := 149) f123_148 rfl (pinD rfl rfl) ?_
      refine r_goto (p := 153) f123_149 (by decide) rfl ?_
      exact le2_refl _
theorem q123_102 {d : Nat} {m : Mem} {a0 a1 a2 a3 a4 s0 : Int} (hd : 0 < d) (hz : TZ m) : le2 (bV (cl (d - 1) 115 [pI s0] m) fun m1 => gd (tg m1 a0 = 7) <| nm (vl m1 a0 5) fun v3 => gd (tg m1 v3 = 8) <| bI (cl (d - 1) 136 [pR v3, pI a4] m1) fun v2 m2 => rn d 123 12 [pR a0, pI a1, pI (w32 (a2 + 1)), pI a3, pI a4] [] (mst m2 a0 14 v2)) (rn d 123 102 [pR a0, pI a1, pI a2, pI a3, pI a4] [pI s0] m) := by
  refine r_istV (p := 105) f123_102 rfl rfl rfl hd (Nat.le_of_ble_eq_true rfl) rfl rfl rfl (fun _ => rfl) (fun m1 c1 => ?_)
  have hz1 := z_k c1 hz
  refine r_aln0 (p := 106) f123_105 rfl ?_
  refine r_aln0 (p := 107) f123_106 rfl ?_
  refine le2_gd (fun h1 => ?_)
  refine r_gfR (f := 5) (p := 110) f123_107 rfl rfl rfl (Or.inl h1) rfl ?_
  refine r_nmR (fun v3 ev3 => ?_)
  refine r_ilw4 (p := 112) f123_110 rfl ?_
  refine le2_gd (fun h2 => ?_)
  refine r_invI (p := 115) f123_112 rfl rfl rfl (Or.inl h2) hd (Nat.le_of_ble_eq_true rfl) rfl rfl rfl (fun _ => rfl) (fun v2 m2 c2 => ?_)
  have hz2 := z_k c2 hz1
  have h3 := k_t1 c2 hz1 h1 (by decide)
  refine r_pfI (f := 14) (p := 118) f123_115 rfl rfl rfl (by decide) (by decide) (Or.inl h3) rfl ?_
  refine r_goto (p := 171) f123_118 (by decide) rfl ?_
  refine r_iinc2 (p := 174) f123_171 rfl rfl ?_
  refine r_goto (p := 12) f123_174 (by decide) rfl ?_
  exact le2_refl _
theorem q123_153 {d : Nat} {m : Mem} {a0 a1 a2 a3 a4 s0 : Int} (hd : 0 < d) (hz : TZ m) : le2 (bV (cl (d - 1) 115 [pI s0] m) fun m1 => gd (tg m1 a0 = 7) <| nm (vl m1 a0 5) fun v3 => gd (tg m1 v3 = 8) <| bI (cl (d - 1) 146 [pR v3, pI a3, pL a4] m1) fun v2 m2 => rn d 123 12 [pR a0, pI a1, pI (w32 (a2 + 1)), pI a3, pI a4] [] (mst m2 a0 14 v2)) (rn d 123 153 [pR a0, pI a1, pI a2, pI a3, pI a4] [pI s0] m) := by
  refine r_istV (p := 156) f123_153 rfl rfl rfl hd (Nat.le_of_ble_eq_true rfl) rfl rfl rfl (fun _ => rfl) (fun m1 c1 => ?_)
  have hz1 := z_k c1 hz
  refine r_aln0 (p := 157) f123_156 rfl ?_
  refine r_aln0 (p := 158) f123_157 rfl ?_
  refine le2_gd (fun h1 => ?_)
  refine r_gfR (f := 5) (p := 161) f123_158 rfl rfl rfl (Or.inl h1) rfl ?_
  refine r_nmR (fun v3 ev3 => ?_)
  refine r_iln3 (p := 162) f123_161 rfl ?_
  refine r_ilw4 (p := 164) f123_162 rfl ?_
  refine r_i2l (p := 165) f123_164 rfl ?_
  refine le2_gd (fun h2 => ?_)
  refine r_invI (p := 168) f123_165 rfl rfl rfl (Or.inl h2) hd (Nat.le_of_ble_eq_true rfl) rfl rfl rfl (fun _ => rfl) (fun v2 m2 c2 => ?_)
  have hz2 := z_k c2 hz1
  have h3 := k_t1 c2 hz1 h1 (by decide)
  refine r_pfI (f := 14) (p := 171) f123_168 rfl rfl rfl (by decide) (by decide) (Or.inl h3) rfl ?_
  refine r_iinc2 (p := 174) f123_171 rfl rfl ?_
  refine r_goto (p := 12) f123_174 (by decide) rfl ?_
  exact le2_refl _
/-! 124 PathStore$Patcher.index (II)I -/
def w124_4 : List UInt8 := [184, 0, 111, 54, 4, 132, 5, 1, 167, 255, 199, 21, 4, 28, 163, 0, 8, 21, 4, 167, 0, 4, 2, 172]
abbrev u124_4 : List UInt8 := w124_4 ++ []
def w124_3 : List UInt8 := [155, 0, 10, 21, 6, 16, 9, 164, 0, 5, 2, 172, 16, 10, 21, 4, 104, 21, 6, 96, 18, 110]
abbrev u124_3 : List UInt8 := w124_3 ++ u124_4
def w124_2 : List UInt8 := [162, 0, 57, 42, 180, 0, 32, 180, 0, 96, 27, 5, 96, 21, 5, 96, 51, 16, 48, 100, 54, 6, 21, 6]
abbrev u124_2 : List UInt8 := w124_2 ++ u124_3
def w124_1 : List UInt8 := [180, 0, 96, 27, 5, 96, 51, 16, 48, 160, 0, 5, 2, 172, 3, 54, 4, 3, 54, 5, 21, 5, 29]
abbrev u124_1 : List UInt8 := w124_1 ++ u124_2
def w124_0 : List UInt8 := [42, 180, 0, 32, 27, 182, 0, 108, 62, 29, 153, 0, 24, 29, 4, 164, 0, 21, 42, 180, 0, 32]
abbrev u124_0 : List UInt8 := w124_0 ++ u124_1
theorem s124_0 : (prog_17_method_5_code).data.toList.drop 0 = u124_0 := by decide +kernel
theorem s124_1 : (prog_17_method_5_code).data.toList.drop 22 = u124_1 := dk_seg s124_0 22 rfl rfl
theorem s124_2 : (prog_17_method_5_code).data.toList.drop 45 = u124_2 := dk_seg s124_1 23 rfl rfl
theorem s124_3 : (prog_17_method_5_code).data.toList.drop 69 = u124_3 := dk_seg s124_2 24 rfl rfl
theorem s124_4 : (prog_17_method_5_code).data.toList.drop 91 = u124_4 := dk_seg s124_3 22 rfl rfl
theorem Fm124 {pc len : Nat} {i : Instr} (h : decode (prog_17_method_5_code) pc = .ok (i, len)) (hl : len = ilen i len) : ft 124 pc = some (7, 1, 0, i, len) := ft_mk rfl h hl
theorem f124_0 : ft 124 0 = some (7, 1, 0, .aload_n 0, 1) := Fm124 (dk_42 (dk_at s124_0 0 rfl rfl)) rfl
theorem f124_1 : ft 124 1 = some (7, 1, 0, .getfield 32, 3) := Fm124 (dk_180 0 32 (dk_at s124_0 1 rfl rfl)) rfl
theorem f124_4 : ft 124 4 = some (7, 1, 0, .iload_n 1, 1) := Fm124 (dk_27 (dk_at s124_0 4 rfl rfl)) rfl
theorem f124_5 : ft 124 5 = some (7, 1, 0, .invokevirtual 108, 3) := Fm124 (dk_182 0 108 (dk_at s124_0 5 rfl rfl)) rfl
theorem f124_8 : ft 124 8 = some (7, 1, 0, .istore_n 3, 1) := Fm124 (dk_62 (dk_at s124_0 8 rfl rfl)) rfl
theorem f124_9 : ft 124 9 = some (7, 1, 0, .iload_n 3, 1) := Fm124 (dk_29 (dk_at s124_0 9 rfl rfl)) rfl
theorem f124_10 : ft 124 10 = some (7, 1, 0, .ifCond .eq 24, 3) := Fm124 (dk_153 0 24 (dk_at s124_0 10 rfl rfl)) rfl
theorem f124_13 : ft 124 13 = some (7, 1, 0, .iload_n 3, 1) := Fm124 (dk_29 (dk_at s124_0 13 rfl rfl)) rfl
theorem f124_14 : ft 124 14 = some (7, 1, 0, .iconst 1, 1) := Fm124 (dk_4 (dk_at s124_0 14 rfl rfl)) rfl
theorem f124_15 : ft 124 15 = some (7, 1, 0, .if_icmp .le 21, 3) := Fm124 (dk_164 0 21 (dk_at s124_0 15 rfl rfl)) rfl
theorem f124_18 : ft 124 18 = some (7, 1, 0, .aload_n 0, 1) := Fm124 (dk_42 (dk_at s124_0 18 rfl rfl)) rfl
theorem f124_19 : ft 124 19 = some (7, 1, 0, .getfield 32, 3) := Fm124 (dk_180 0 32 (dk_at s124_0 19 rfl rfl)) rfl
theorem f124_22 : ft 124 22 = some (7, 1, 0, .getfield 96, 3) := Fm124 (dk_180 0 96 (dk_at s124_1 0 rfl rfl)) rfl
theorem f124_25 : ft 124 25 = some (7, 1, 0, .iload_n 1, 1) := Fm124 (dk_27 (dk_at s124_1 3 rfl rfl)) rfl
theorem f124_26 : ft 124 26 = some (7, 1, 0, .iconst 2, 1) := Fm124 (dk_5 (dk_at s124_1 4 rfl rfl)) rfl
theorem f124_27 : ft 124 27 = some (7, 1, 0, .iadd, 1) := Fm124 (dk_96 (dk_at s124_1 5 rfl rfl)) rfl
theorem f124_28 : ft 124 28 = some (7, 1, 0, .baload, 1) := Fm124 (dk_51 (dk_at s124_1 6 rfl rfl)) rfl
theorem f124_29 : ft 124 29 = some (7, 1, 0, .bipush 48, 2) := Fm124 (dk_16 48 (dk_at s124_1 7 rfl rfl)) rfl
theorem f124_31 : ft 124 31 = some (7, 1, 0, .if_icmp .ne 5, 3) := Fm124 (dk_160 0 5 (dk_at s124_1 9 rfl rfl)) rfl
theorem f124_34 : ft 124 34 = some (7, 1, 0, .iconst (-1), 1) := Fm124 (dk_2 (dk_at s124_1 12 rfl rfl)) rfl
theorem f124_35 : ft 124 35 = some (7, 1, 0, .ireturn, 1) := Fm124 (dk_172 (dk_at s124_1 13 rfl rfl)) rfl
theorem f124_36 : ft 124 36 = some (7, 1, 0, .iconst 0, 1) := Fm124 (dk_3 (dk_at s124_1 14 rfl rfl)) rfl
theorem f124_37 : ft 124 37 = some (7, 1, 0, .istore 4, 2) := Fm124 (dk_54 4 (dk_at s124_1 15 rfl rfl)) rfl
theorem f124_39 : ft 124 39 = some (7, 1, 0, .iconst 0, 1) := Fm124 (dk_3 (dk_at s124_1 17 rfl rfl)) rfl
theorem f124_40 : ft 124 40 = some (7, 1, 0, .istore 5, 2) := Fm124 (dk_54 5 (dk_at s124_1 18 rfl rfl)) rfl
theorem f124_42 : ft 124 42 = some (7, 1, 0, .iload 5, 2) := Fm124 (dk_21 5 (dk_at s124_1 20 rfl rfl)) rfl
theorem f124_44 : ft 124 44 = some (7, 1, 0, .iload_n 3, 1) := Fm124 (dk_29 (dk_at s124_1 22 rfl rfl)) rfl
theorem f124_45 : ft 124 45 = some (7, 1, 0, .if_icmp .ge 57, 3) := Fm124 (dk_162 0 57 (dk_at s124_2 0 rfl rfl)) rfl
theorem f124_48 : ft 124 48 = some (7, 1, 0, .aload_n 0, 1) := Fm124 (dk_42 (dk_at s124_2 3 rfl rfl)) rfl
theorem f124_49 : ft 124 49 = some (7, 1, 0, .getfield 32, 3) := Fm124 (dk_180 0 32 (dk_at s124_2 4 rfl rfl)) rfl
theorem f124_52 : ft 124 52 = some (7, 1, 0, .getfield 96, 3) := Fm124 (dk_180 0 96 (dk_at s124_2 7 rfl rfl)) rfl
theorem f124_55 : ft 124 55 = some (7, 1, 0, .iload_n 1, 1) := Fm124 (dk_27 (dk_at s124_2 10 rfl rfl)) rfl
theorem f124_56 : ft 124 56 = some (7, 1, 0, .iconst 2, 1) := Fm124 (dk_5 (dk_at s124_2 11 rfl rfl)) rfl
theorem f124_57 : ft 124 57 = some (7, 1, 0, .iadd, 1) := Fm124 (dk_96 (dk_at s124_2 12 rfl rfl)) rfl
theorem f124_58 : ft 124 58 = some (7, 1, 0, .iload 5, 2) := Fm124 (dk_21 5 (dk_at s124_2 13 rfl rfl)) rfl
theorem f124_60 : ft 124 60 = some (7, 1, 0, .iadd, 1) := Fm124 (dk_96 (dk_at s124_2 15 rfl rfl)) rfl
theorem f124_61 : ft 124 61 = some (7, 1, 0, .baload, 1) := Fm124 (dk_51 (dk_at s124_2 16 rfl rfl)) rfl
theorem f124_62 : ft 124 62 = some (7, 1, 0, .bipush 48, 2) := Fm124 (dk_16 48 (dk_at s124_2 17 rfl rfl)) rfl
theorem f124_64 : ft 124 64 = some (7, 1, 0, .isub, 1) := Fm124 (dk_100 (dk_at s124_2 19 rfl rfl)) rfl
theorem f124_65 : ft 124 65 = some (7, 1, 0, .istore 6, 2) := Fm124 (dk_54 6 (dk_at s124_2 20 rfl rfl)) rfl
theorem f124_67 : ft 124 67 = some (7, 1, 0, .iload 6, 2) := Fm124 (dk_21 6 (dk_at s124_2 22 rfl rfl)) rfl
theorem f124_69 : ft 124 69 = some (7, 1, 0, .ifCond .lt 10, 3) := Fm124 (dk_155 0 10 (dk_at s124_3 0 rfl rfl)) rfl
theorem f124_72 : ft 124 72 = some (7, 1, 0, .iload 6, 2) := Fm124 (dk_21 6 (dk_at s124_3 3 rfl rfl)) rfl
theorem f124_74 : ft 124 74 = some (7, 1, 0, .bipush 9, 2) := Fm124 (dk_16 9 (dk_at s124_3 5 rfl rfl)) rfl
theorem f124_76 : ft 124 76 = some (7, 1, 0, .if_icmp .le 5, 3) := Fm124 (dk_164 0 5 (dk_at s124_3 7 rfl rfl)) rfl
theorem f124_79 : ft 124 79 = some (7, 1, 0, .iconst (-1), 1) := Fm124 (dk_2 (dk_at s124_3 10 rfl rfl)) rfl
theorem f124_80 : ft 124 80 = some (7, 1, 0, .ireturn, 1) := Fm124 (dk_172 (dk_at s124_3 11 rfl rfl)) rfl
theorem f124_81 : ft 124 81 = some (7, 1, 0, .bipush 10, 2) := Fm124 (dk_16 10 (dk_at s124_3 12 rfl rfl)) rfl
theorem f124_83 : ft 124 83 = some (7, 1, 0, .iload 4, 2) := Fm124 (dk_21 4 (dk_at s124_3 14 rfl rfl)) rfl
theorem f124_85 : ft 124 85 = some (7, 1, 0, .imul, 1) := Fm124 (dk_104 (dk_at s124_3 16 rfl rfl)) rfl
theorem f124_86 : ft 124 86 = some (7, 1, 0, .iload 6, 2) := Fm124 (dk_21 6 (dk_at s124_3 17 rfl rfl)) rfl
theorem f124_88 : ft 124 88 = some (7, 1, 0, .iadd, 1) := Fm124 (dk_96 (dk_at s124_3 19 rfl rfl)) rfl
theorem f124_89 : ft 124 89 = some (7, 1, 0, .ldc 110, 2) := Fm124 (dk_18 110 (dk_at s124_3 20 rfl rfl)) rfl
theorem f124_91 : ft 124 91 = some (7, 1, 0, .invokestatic 111, 3) := Fm124 (dk_184 0 111 (dk_at s124_4 0 rfl rfl)) rfl
theorem f124_94 : ft 124 94 = some (7, 1, 0, .istore 4, 2) := Fm124 (dk_54 4 (dk_at s124_4 3 rfl rfl)) rfl
theorem f124_96 : ft 124 96 = some (7, 1, 0, .iinc 5 1, 3) := Fm124 (dk_132 5 1 (dk_at s124_4 5 rfl rfl)) rfl
theorem f124_99 : ft 124 99 = some (7, 1, 0, .goto (-57), 3) := Fm124 (dk_167 255 199 (dk_at s124_4 8 rfl rfl)) rfl
theorem f124_102 : ft 124 102 = some (7, 1, 0, .iload 4, 2) := Fm124 (dk_21 4 (dk_at s124_4 11 rfl rfl)) rfl
theorem f124_104 : ft 124 104 = some (7, 1, 0, .iload_n 2, 1) := Fm124 (dk_28 (dk_at s124_4 13 rfl rfl)) rfl
theorem f124_105 : ft 124 105 = some (7, 1, 0, .if_icmp .gt 8, 3) := Fm124 (dk_163 0 8 (dk_at s124_4 14 rfl rfl)) rfl
theorem f124_108 : ft 124 108 = some (7, 1, 0, .iload 4, 2) := Fm124 (dk_21 4 (dk_at s124_4 17 rfl rfl)) rfl
theorem f124_110 : ft 124 110 = some (7, 1, 0, .goto 4, 3) := Fm124 (dk_167 0 4 (dk_at s124_4 19 rfl rfl)) rfl
theorem f124_113 : ft 124 113 = some (7, 1, 0, .iconst (-1), 1) := Fm124 (dk_2 (dk_at s124_4 22 rfl rfl)) rfl
theorem f124_114 : ft 124 114 = some (7, 1, 0, .ireturn, 1) := Fm124 (dk_172 (dk_at s124_4 23 rfl rfl)) rfl
theorem q124 {d : Nat} {m : Mem} {a0 a1 a2 : Int} (hd : 0 < d) (hz : TZ m) : le2 (gd (tg m a0 = 7) <| nm (vl m a0 9) fun v2 => gd (tg m v2 = 8) <| bI (cl (d - 1) 134 [pR v2, pI a1] m) fun v1 m1 => if v1 = 0 then (some (.inl (some (pI (-1))), m1)) else if 1 < v1 then (nm (vl m1 a0 9) fun v3 => gd (tg m1 v3 = 8) <| nm (vl m1 v3 0) fun v4 => nm (w32 (a1 + 2)) fun v5 => gd (tg m1 v4 = 130103 ∨ tg m1 v4 = 132103) <| gd ((0 : Int) ≤ v5 ∧ v5 < ln m1 v4) <| if (vl m1 v4 v5) = 48 then (some (.inl (some (pI (-1))), m1)) else rn d 124 42 [pR a0, pI a1, pI a2, pI v1, pI 0, pI 0, pU] [] m1) else rn d 124 42 [pR a0, pI a1, pI a2, pI v1, pI 0, pI 0, pU] [] m1) (cl d 124 [pR a0, pI a1, pI a2] m) := by
  refine q_in (n := 7) (L := [pR a0, pI a1, pI a2, pU, pU, pU, pU]) rfl rfl rfl ?_
  refine r_aln0 (p := 1) f124_0 rfl ?_
  refine le2_gd (fun h1 => ?_)
  refine r_gfR (f := 9) (p := 4) f124_1 rfl rfl rfl (Or.inl h1) rfl ?_
  refine r_nmR (fun v2 ev2 => ?_)
  refine r_iln1 (p := 5) f124_4 rfl ?_
  refine le2_gd (fun h2 => ?_)
  refine r_invI (p := 8) f124_5 rfl rfl rfl (Or.inl h2) hd (Nat.le_of_ble_eq_true rfl) rfl rfl rfl (fun _ => rfl) (fun v1 m1 c1 => ?_)
  have hz1 := z_k c1 hz
  refine r_isn3 (p := 9) f124_8 rfl rfl ?_
  refine r_iln3 (p := 10) f124_9 rfl ?_
  refine r_ifeq (t := 34) (p := 13) f124_10 (by decide) rfl rfl ?_ ?_
  · refine r_iconst (p := 35) f124_34 rfl (pinD rfl rfl) ?_
    exact r_iret1 f124_35
  · refine r_iln3 (p := 14) f124_13 rfl ?_
    refine r_iconst (p := 15) f124_14 rfl (pinD rfl rfl) ?_
    refine r_icle (t := 36) (p := 18) f124_15 (by decide) rfl rfl ?_ ?_
    · refine r_aln0 (p := 19) f124_18 rfl ?_
      have h3 := k_t1 c1 hz h1 (by decide)
      refine r_gfR (f := 9) (p := 22) f124_19 rfl rfl rfl (Or.inl h3) rfl ?_
      refine r_nmR (fun v3 ev3 => ?_)
      refine le2_gd (fun h4 => ?_)
      refine r_gfR (f := 0) (p := 25) f124_22 rfl rfl rfl (Or.inl h4) rfl ?_
      refine r_nmR (fun v4 ev4 => ?_)
      refine r_iln1 (p := 26) f124_25 rfl ?_
      refine r_iconst (p := 27) f124_26 rfl (pinD rfl rfl) ?_
      refine r_iadd (p := 28) f124_27 rfl ?_
      refine r_nmI (fun v5 ev5 => ?_)
      refine le2_gd (fun h5 => ?_)
      refine le2_gd (fun h6 => ?_)
      refine r_baload (p := 29) f124_28 rfl (dj2 (fun x => x % 1000 = 103 ∨ x % 1000 = 105) h5 (by decide) (by decide)) h6 rfl ?_
      refine r_bipush (p := 31) f124_29 rfl (pinD rfl rfl) ?_
      refine r_icne (t := 36) (p := 34) f124_31 (by decide) rfl rfl ?_ ?_
      · refine r_iconst (p := 35) f124_34 rfl (pinD rfl rfl) ?_
        exact r_iret1 f124_35
      · refine r_iconst (p := 37) f124_36 rfl (pinD rfl rfl) ?_
        refine r_isw4 (p := 39) f124_37 rfl rfl ?_
        refine r_iconst (p := 40) f124_39 rfl (pinD rfl rfl) ?_
        refine r_isw5 (p := 42) f124_40 rfl rfl ?_
        exact le2_refl _
    · refine r_iconst (p := 37) f124_36 rfl (pinD rfl rfl) ?_
      refine r_isw4 (p := 39) f124_37 rfl rfl ?_
      refine r_iconst (p := 40) f124_39 rfl (pinD rfl rfl) ?_
      refine r_isw5 (p := 42) f124_40 rfl rfl ?_
      exact le2_refl _
theorem q124_42 {d : Nat} {m : Mem} {a0 a1 a2 a3 a4 a5 : Int} {z6 : PV} (hz : TZ m) (hcz6 : cat z6 = 1) : le2 (if a5 < a3 then (gd (tg m a0 = 7) <| nm (vl m a0 9) fun v1 => gd (tg m v1 = 8) <| nm (vl m v1 0) fun v2 => nm (w32 ((w32 (a1 + 2)) + a5)) fun v3 => gd (tg m v2 = 130103 ∨ tg m v2 = 132103) <| gd ((0 : Int) ≤ v3 ∧ v3 < ln m v2) <| nm (w32 ((vl m v2 v3) - 48)) fun v4 => if v4 < 0 then (some (.inl (some (pI (-1))), m)) else if 9 < v4 then (some (.inl (some (pI (-1))), m)) else rn d 124 42 [pR a0, pI a1, pI a2, pI a3, pI (min (w32 ((w32 (10 * a4)) + v4)) 100000), pI (w32 (a5 + 1)), pI v4] [] m) else if a2 < a4 then (some (.inl (some (pI (-1))), m)) else some (.inl (some (pI a4)), m)) (rn d 124 42 [pR a0, pI a1, pI a2, pI a3, pI a4, pI a5, z6] [] m) := by
  refine r_ilw5 (p := 44) f124_42 rfl ?_
  refine r_iln3 (p := 45) f124_44 rfl ?_
  refine r_icge (t := 102) (p := 48) f124_45 (by decide) rfl rfl ?_ ?_
  · refine r_aln0 (p := 49) f124_48 rfl ?_
    refine le2_gd (fun h1 => ?_)
    refine r_gfR (f := 9) (p := 52) f124_49 rfl rfl rfl (Or.inl h1) rfl ?_
    refine r_nmR (fun v1 ev1 => ?_)
    refine le2_gd (fun h2 => ?_)
    refine r_gfR (f := 0) (p := 55) f124_52 rfl rfl rfl (Or.inl h2) rfl ?_
    refine r_nmR (fun v2 ev2 => ?_)
    refine r_iln1 (p := 56) f124_55 rfl ?_
    refine r_iconst (p := 57) f124_56 rfl (pinD rfl rfl) ?_
    refine r_iadd (p := 58) f124_57 rfl ?_
    refine r_ilw5 (p := 60) f124_58 rfl ?_
    refine r_iadd (p := 61) f124_60 rfl ?_
    refine r_nmI (fun v3 ev3 => ?_)
    refine le2_gd (fun h3 => ?_)
    refine le2_gd (fun h4 => ?_)
    refine r_baload (p := 62) f124_61 rfl (dj2 (fun x => x % 1000 = 103 ∨ x % 1000 = 105) h3 (by decide) (by decide)) h4 rfl ?_
    refine r_bipush (p := 64) f124_62 rfl (pinD rfl rfl) ?_
    refine r_isub (p := 65) f124_64 rfl ?_
    refine r_nmI (fun v4 ev4 => ?_)
    refine r_isw6 (p := 67) f124_65 rfl rfl ?_
    refine r_ilw6 (p := 69) f124_67 rfl ?_
    refine r_iflt (t := 79) (p := 72) f124_69 (by decide) rfl rfl ?_ ?_
    · refine r_iconst (p := 80) f124_79 rfl (pinD rfl rfl) ?_
      exact r_iret1 f124_80
    · refine r_ilw6 (p := 74) f124_72 rfl ?_
      refine r_bipush (p := 76) f124_74 rfl (pinD rfl rfl) ?_
      refine r_icle (t := 81) (p := 79) f124_76 (by decide) rfl rfl ?_ ?_
      · refine r_iconst (p := 80) f124_79 rfl (pinD rfl rfl) ?_
        exact r_iret1 f124_80
      · refine r_bipush (p := 83) f124_81 rfl (pinD rfl rfl) ?_
        refine r_ilw4 (p := 85) f124_83 rfl ?_
        refine r_imul (p := 86) f124_85 rfl ?_
        refine r_ilw6 (p := 88) f124_86 rfl ?_
        refine r_iadd (p := 89) f124_88 rfl ?_
        refine r_ldcI (p := 91) f124_89 rfl rfl (pinD rfl rfl) ?_
        refine r_math7 (p := 94) f124_91 rfl rfl (Nat.le_of_ble_eq_true rfl) ?_
        refine r_isw4 (p := 96) f124_94 rfl rfl ?_
        refine r_iinc5 (p := 99) f124_96 rfl rfl ?_
        refine r_goto (p := 42) f124_99 (by decide) rfl ?_
        exact le2_refl _
  · refine r_ilw4 (p := 104) f124_102 rfl ?_
    refine r_iln2 (p := 105) f124_104 rfl ?_
    refine r_icgt (t := 113) (p := 108) f124_105 (by decide) rfl rfl ?_ ?_
    · refine r_iconst (p := 114) f124_113 rfl (pinD rfl rfl) ?_
      exact r_iret1 f124_114
    · refine r_ilw4 (p := 110) f124_108 rfl ?_
      refine r_goto (p := 114) f124_110 (by decide) rfl ?_
      exact r_iret1 f124_114
/-! 125 PathStore$Patcher.named (II)V -/
def w125_2 : List UInt8 := [182, 0, 142, 42, 27, 3, 29, 182, 0, 145, 177]
abbrev u125_2 : List UInt8 := w125_2 ++ []
def w125_1 : List UInt8 := [180, 0, 32, 28, 182, 0, 108, 96, 182, 0, 142, 42, 180, 0, 26, 42, 180, 0, 26, 180, 0, 96, 3, 29]
abbrev u125_1 : List UInt8 := w125_1 ++ u125_2
def w125_0 : List UInt8 := [42, 180, 0, 26, 180, 0, 70, 62, 42, 180, 0, 26, 42, 180, 0, 32, 180, 0, 96, 28, 5, 42]
abbrev u125_0 : List UInt8 := w125_0 ++ u125_1
theorem s125_0 : (prog_17_method_9_code).data.toList.drop 0 = u125_0 := by decide +kernel
theorem s125_1 : (prog_17_method_9_code).data.toList.drop 22 = u125_1 := dk_seg s125_0 22 rfl rfl
theorem s125_2 : (prog_17_method_9_code).data.toList.drop 46 = u125_2 := dk_seg s125_1 24 rfl rfl
theorem Fm125 {pc len : Nat} {i : Instr} (h : decode (prog_17_method_9_code) pc = .ok (i, len)) (hl : len = ilen i len) : ft 125 pc = some (7, 0, 0, i, len) := ft_mk rfl h hl
theorem f125_0 : ft 125 0 = some (7, 0, 0, .aload_n 0, 1) := Fm125 (dk_42 (dk_at s125_0 0 rfl rfl)) rfl
theorem f125_1 : ft 125 1 = some (7, 0, 0, .getfield 26, 3) := Fm125 (dk_180 0 26 (dk_at s125_0 1 rfl rfl)) rfl
theorem f125_4 : ft 125 4 = some (7, 0, 0, .getfield 70, 3) := Fm125 (dk_180 0 70 (dk_at s125_0 4 rfl rfl)) rfl
theorem f125_7 : ft 125 7 = some (7, 0, 0, .istore_n 3, 1) := Fm125 (dk_62 (dk_at s125_0 7 rfl rfl)) rfl
theorem f125_8 : ft 125 8 = some (7, 0, 0, .aload_n 0, 1) := Fm125 (dk_42 (dk_at s125_0 8 rfl rfl)) rfl
theorem f125_9 : ft 125 9 = some (7, 0, 0, .getfield 26, 3) := Fm125 (dk_180 0 26 (dk_at s125_0 9 rfl rfl)) rfl
theorem f125_12 : ft 125 12 = some (7, 0, 0, .aload_n 0, 1) := Fm125 (dk_42 (dk_at s125_0 12 rfl rfl)) rfl
theorem f125_13 : ft 125 13 = some (7, 0, 0, .getfield 32, 3) := Fm125 (dk_180 0 32 (dk_at s125_0 13 rfl rfl)) rfl
theorem f125_16 : ft 125 16 = some (7, 0, 0, .getfield 96, 3) := Fm125 (dk_180 0 96 (dk_at s125_0 16 rfl rfl)) rfl
theorem f125_19 : ft 125 19 = some (7, 0, 0, .iload_n 2, 1) := Fm125 (dk_28 (dk_at s125_0 19 rfl rfl)) rfl
theorem f125_20 : ft 125 20 = some (7, 0, 0, .iconst 2, 1) := Fm125 (dk_5 (dk_at s125_0 20 rfl rfl)) rfl
theorem f125_21 : ft 125 21 = some (7, 0, 0, .aload_n 0, 1) := Fm125 (dk_42 (dk_at s125_0 21 rfl rfl)) rfl
theorem f125_22 : ft 125 22 = some (7, 0, 0, .getfield 32, 3) := Fm125 (dk_180 0 32 (dk_at s125_1 0 rfl rfl)) rfl
theorem f125_25 : ft 125 25 = some (7, 0, 0, .iload_n 2, 1) := Fm125 (dk_28 (dk_at s125_1 3 rfl rfl)) rfl
theorem f125_26 : ft 125 26 = some (7, 0, 0, .invokevirtual 108, 3) := Fm125 (dk_182 0 108 (dk_at s125_1 4 rfl rfl)) rfl
theorem f125_29 : ft 125 29 = some (7, 0, 0, .iadd, 1) := Fm125 (dk_96 (dk_at s125_1 7 rfl rfl)) rfl
theorem f125_30 : ft 125 30 = some (7, 0, 0, .invokevirtual 142, 3) := Fm125 (dk_182 0 142 (dk_at s125_1 8 rfl rfl)) rfl
theorem f125_33 : ft 125 33 = some (7, 0, 0, .aload_n 0, 1) := Fm125 (dk_42 (dk_at s125_1 11 rfl rfl)) rfl
theorem f125_34 : ft 125 34 = some (7, 0, 0, .getfield 26, 3) := Fm125 (dk_180 0 26 (dk_at s125_1 12 rfl rfl)) rfl
theorem f125_37 : ft 125 37 = some (7, 0, 0, .aload_n 0, 1) := Fm125 (dk_42 (dk_at s125_1 15 rfl rfl)) rfl
theorem f125_38 : ft 125 38 = some (7, 0, 0, .getfield 26, 3) := Fm125 (dk_180 0 26 (dk_at s125_1 16 rfl rfl)) rfl
theorem f125_41 : ft 125 41 = some (7, 0, 0, .getfield 96, 3) := Fm125 (dk_180 0 96 (dk_at s125_1 19 rfl rfl)) rfl
theorem f125_44 : ft 125 44 = some (7, 0, 0, .iconst 0, 1) := Fm125 (dk_3 (dk_at s125_1 22 rfl rfl)) rfl
theorem f125_45 : ft 125 45 = some (7, 0, 0, .iload_n 3, 1) := Fm125 (dk_29 (dk_at s125_1 23 rfl rfl)) rfl
theorem f125_46 : ft 125 46 = some (7, 0, 0, .invokevirtual 142, 3) := Fm125 (dk_182 0 142 (dk_at s125_2 0 rfl rfl)) rfl
theorem f125_49 : ft 125 49 = some (7, 0, 0, .aload_n 0, 1) := Fm125 (dk_42 (dk_at s125_2 3 rfl rfl)) rfl
theorem f125_50 : ft 125 50 = some (7, 0, 0, .iload_n 1, 1) := Fm125 (dk_27 (dk_at s125_2 4 rfl rfl)) rfl
theorem f125_51 : ft 125 51 = some (7, 0, 0, .iconst 0, 1) := Fm125 (dk_3 (dk_at s125_2 5 rfl rfl)) rfl
theorem f125_52 : ft 125 52 = some (7, 0, 0, .iload_n 3, 1) := Fm125 (dk_29 (dk_at s125_2 6 rfl rfl)) rfl
theorem f125_53 : ft 125 53 = some (7, 0, 0, .invokevirtual 145, 3) := Fm125 (dk_182 0 145 (dk_at s125_2 7 rfl rfl)) rfl
theorem f125_56 : ft 125 56 = some (7, 0, 0, .return_, 1) := Fm125 (dk_177 (dk_at s125_2 10 rfl rfl)) rfl
theorem q125 {d : Nat} {m : Mem} {a0 a1 a2 : Int} (hd : 0 < d) (hz : TZ m) : le2 (gd (tg m a0 = 7) <| nm (vl m a0 7) fun v5 => gd (tg m v5 = 8) <| nm (vl m v5 1) fun v6 => nm (vl m a0 9) fun v7 => gd (tg m v7 = 8) <| bI (cl (d - 1) 134 [pR v7, pI a2] m) fun v1 m1 => bV (cl (d - 1) 143 [pR v5, pR (vl m v7 0), pI a2, pI (w32 (2 + v1))] m1) fun m2 => nm (vl m2 a0 7) fun v8 => gd (tg m2 v8 = 8) <| bV (cl (d - 1) 143 [pR v8, pR (vl m2 v8 0), pI 0, pI v6] m2) fun m3 => bV (cl (d - 1) 122 [pR a0, pI a1, pI 0, pI v6] m3) fun m4 => some (.inl none, m4)) (cl d 125 [pR a0, pI a1, pI a2] m) := by
  refine q_in (n := 4) (L := [pR a0, pI a1, pI a2, pU]) rfl rfl rfl ?_
  refine r_aln0 (p := 1) f125_0 rfl ?_
  refine le2_gd (fun h1 => ?_)
  refine r_gfR (f := 7) (p := 4) f125_1 rfl rfl rfl (Or.inl h1) rfl ?_
  refine r_nmR (fun v5 ev5 => ?_)
  refine le2_gd (fun h2 => ?_)
  refine r_gfI (f := 1) (p := 7) f125_4 rfl rfl rfl (Or.inl h2) rfl ?_
  refine r_nmI (fun v6 ev6 => ?_)
  refine r_isn3 (p := 8) f125_7 rfl rfl ?_
  refine r_aln0 (p := 9) f125_8 rfl ?_
  refine r_gfR (f := 7) (p := 12) f125_9 rfl rfl rfl (Or.inl h1) ev5.symm ?_
  refine r_aln0 (p := 13) f125_12 rfl ?_
  refine r_gfR (f := 9) (p := 16) f125_13 rfl rfl rfl (Or.inl h1) rfl ?_
  refine r_nmR (fun v7 ev7 => ?_)
  refine le2_gd (fun h3 => ?_)
  refine r_gfR (f := 0) (p := 19) f125_16 rfl rfl rfl (Or.inl h3) rfl ?_
  refine r_iln2 (p := 20) f125_19 rfl ?_
  refine r_iconst (p := 21) f125_20 rfl (pinD rfl rfl) ?_
  refine r_aln0 (p := 22) f125_21 rfl ?_
  refine r_gfR (f := 9) (p := 25) f125_22 rfl rfl rfl (Or.inl h1) ev7.symm ?_
  refine r_iln2 (p := 26) f125_25 rfl ?_
  refine r_invI (p := 29) f125_26 rfl rfl rfl (Or.inl h3) hd (Nat.le_of_ble_eq_true rfl) rfl rfl rfl (fun _ => rfl) (fun v1 m1 c1 => ?_)
  have hz1 := z_k c1 hz
  refine r_iadd (p := 30) f125_29 rfl ?_
  have h4 := k_t1 c1 hz h2 (by decide)
  refine r_invV (p := 33) f125_30 rfl rfl rfl (Or.inl h4) hd (Nat.le_of_ble_eq_true rfl) rfl rfl rfl (fun _ => rfl) (fun m2 c2 => ?_)
  have hz2 := z_k c2 hz1
  refine r_aln0 (p := 34) f125_33 rfl ?_
  have h5 := k_t1 c1 hz h1 (by decide)
  have h6 := k_t1 c2 hz1 h5 (by decide)
  refine r_gfR (f := 7) (p := 37) f125_34 rfl rfl rfl (Or.inl h6) rfl ?_
  refine r_nmR (fun v8 ev8 => ?_)
  refine r_aln0 (p := 38) f125_37 rfl ?_
  refine r_gfR (f := 7) (p := 41) f125_38 rfl rfl rfl (Or.inl h6) ev8.symm ?_
  refine le2_gd (fun h7 => ?_)
  refine r_gfR (f := 0) (p := 44) f125_41 rfl rfl rfl (Or.inl h7) rfl ?_
  refine r_iconst (p := 45) f125_44 rfl (pinD rfl rfl) ?_
  refine r_iln3 (p := 46) f125_45 rfl ?_
  refine r_invV (p := 49) f125_46 rfl rfl rfl (Or.inl h7) hd (Nat.le_of_ble_eq_true rfl) rfl rfl rfl (fun _ => rfl) (fun m3 c3 => ?_)
  have hz3 := z_k c3 hz2
  refine r_aln0 (p := 50) f125_49 rfl ?_
  refine r_iln1 (p := 51) f125_50 rfl ?_
  refine r_iconst (p := 52) f125_51 rfl (pinD rfl rfl) ?_
  refine r_iln3 (p := 53) f125_52 rfl ?_
  have h8 := k_t1 c3 hz2 h6 (by decide)
  refine r_invV (p := 56) f125_53 rfl rfl rfl (Or.inl h8) hd (Nat.le_of_ble_eq_true rfl) rfl rfl rfl (fun _ => rfl) (fun m4 c4 => ?_)
  have hz4 := z_k c4 hz3
  exact r_ret f125_56
/-! 126 PathStore$Patcher.remove ()V -/
def w126_4 : List UInt8 := [28, 27, 100, 3, 182, 0, 145, 177]
abbrev u126_4 : List UInt8 := w126_4 ++ []
def w126_3 : List UInt8 := [180, 0, 35, 42, 180, 0, 89, 4, 100, 46, 182, 0, 126, 60, 42, 180, 0, 26, 3, 181, 0, 70, 42, 27]
abbrev u126_3 : List UInt8 := w126_3 ++ u126_4
def w126_2 : List UInt8 := [62, 42, 180, 0, 20, 29, 182, 0, 123, 16, 6, 160, 0, 27, 42, 180, 0, 20, 29, 42, 180, 0, 32, 42]
abbrev u126_2 : List UInt8 := w126_2 ++ u126_3
def w126_1 : List UInt8 := [180, 0, 117, 60, 42, 180, 0, 20, 27, 182, 0, 92, 61, 42, 180, 0, 39, 42, 180, 0, 120, 4, 100, 46]
abbrev u126_1 : List UInt8 := w126_1 ++ u126_2
def w126_0 : List UInt8 := [42, 180, 0, 89, 158, 0, 7, 4, 167, 0, 4, 3, 184, 0, 100, 42, 42, 180, 0, 89, 182, 0, 149, 42]
abbrev u126_0 : List UInt8 := w126_0 ++ u126_1
theorem s126_0 : (prog_17_method_10_code).data.toList.drop 0 = u126_0 := by decide +kernel
theorem s126_1 : (prog_17_method_10_code).data.toList.drop 24 = u126_1 := dk_seg s126_0 24 rfl rfl
theorem s126_2 : (prog_17_method_10_code).data.toList.drop 48 = u126_2 := dk_seg s126_1 24 rfl rfl
theorem s126_3 : (prog_17_method_10_code).data.toList.drop 72 = u126_3 := dk_seg s126_2 24 rfl rfl
theorem s126_4 : (prog_17_method_10_code).data.toList.drop 96 = u126_4 := dk_seg s126_3 24 rfl rfl
theorem Fm126 {pc len : Nat} {i : Instr} (h : decode (prog_17_method_10_code) pc = .ok (i, len)) (hl : len = ilen i len) : ft 126 pc = some (7, 0, 0, i, len) := ft_mk rfl h hl
theorem f126_0 : ft 126 0 = some (7, 0, 0, .aload_n 0, 1) := Fm126 (dk_42 (dk_at s126_0 0 rfl rfl)) rfl
theorem f126_1 : ft 126 1 = some (7, 0, 0, .getfield 89, 3) := Fm126 (dk_180 0 89 (dk_at s126_0 1 rfl rfl)) rfl
theorem f126_4 : ft 126 4 = some (7, 0, 0, .ifCond .le 7, 3) := Fm126 (dk_158 0 7 (dk_at s126_0 4 rfl rfl)) rfl
theorem f126_7 : ft 126 7 = some (7, 0, 0, .iconst 1, 1) := Fm126 (dk_4 (dk_at s126_0 7 rfl rfl)) rfl
theorem f126_8 : ft 126 8 = some (7, 0, 0, .goto 4, 3) := Fm126 (dk_167 0 4 (dk_at s126_0 8 rfl rfl)) rfl
theorem f126_11 : ft 126 11 = some (7, 0, 0, .iconst 0, 1) := Fm126 (dk_3 (dk_at s126_0 11 rfl rfl)) rfl
theorem f126_12 : ft 126 12 = some (7, 0, 0, .invokestatic 100, 3) := Fm126 (dk_184 0 100 (dk_at s126_0 12 rfl rfl)) rfl
theorem f126_15 : ft 126 15 = some (7, 0, 0, .aload_n 0, 1) := Fm126 (dk_42 (dk_at s126_0 15 rfl rfl)) rfl
theorem f126_16 : ft 126 16 = some (7, 0, 0, .aload_n 0, 1) := Fm126 (dk_42 (dk_at s126_0 16 rfl rfl)) rfl
theorem f126_17 : ft 126 17 = some (7, 0, 0, .getfield 89, 3) := Fm126 (dk_180 0 89 (dk_at s126_0 17 rfl rfl)) rfl
theorem f126_20 : ft 126 20 = some (7, 0, 0, .invokevirtual 149, 3) := Fm126 (dk_182 0 149 (dk_at s126_0 20 rfl rfl)) rfl
theorem f126_23 : ft 126 23 = some (7, 0, 0, .aload_n 0, 1) := Fm126 (dk_42 (dk_at s126_0 23 rfl rfl)) rfl
theorem f126_24 : ft 126 24 = some (7, 0, 0, .getfield 117, 3) := Fm126 (dk_180 0 117 (dk_at s126_1 0 rfl rfl)) rfl
theorem f126_27 : ft 126 27 = some (7, 0, 0, .istore_n 1, 1) := Fm126 (dk_60 (dk_at s126_1 3 rfl rfl)) rfl
theorem f126_28 : ft 126 28 = some (7, 0, 0, .aload_n 0, 1) := Fm126 (dk_42 (dk_at s126_1 4 rfl rfl)) rfl
theorem f126_29 : ft 126 29 = some (7, 0, 0, .getfield 20, 3) := Fm126 (dk_180 0 20 (dk_at s126_1 5 rfl rfl)) rfl
theorem f126_32 : ft 126 32 = some (7, 0, 0, .iload_n 1, 1) := Fm126 (dk_27 (dk_at s126_1 8 rfl rfl)) rfl
theorem f126_33 : ft 126 33 = some (7, 0, 0, .invokevirtual 92, 3) := Fm126 (dk_182 0 92 (dk_at s126_1 9 rfl rfl)) rfl
theorem f126_36 : ft 126 36 = some (7, 0, 0, .istore_n 2, 1) := Fm126 (dk_61 (dk_at s126_1 12 rfl rfl)) rfl
theorem f126_37 : ft 126 37 = some (7, 0, 0, .aload_n 0, 1) := Fm126 (dk_42 (dk_at s126_1 13 rfl rfl)) rfl
theorem f126_38 : ft 126 38 = some (7, 0, 0, .getfield 39, 3) := Fm126 (dk_180 0 39 (dk_at s126_1 14 rfl rfl)) rfl
theorem f126_41 : ft 126 41 = some (7, 0, 0, .aload_n 0, 1) := Fm126 (dk_42 (dk_at s126_1 17 rfl rfl)) rfl
theorem f126_42 : ft 126 42 = some (7, 0, 0, .getfield 120, 3) := Fm126 (dk_180 0 120 (dk_at s126_1 18 rfl rfl)) rfl
theorem f126_45 : ft 126 45 = some (7, 0, 0, .iconst 1, 1) := Fm126 (dk_4 (dk_at s126_1 21 rfl rfl)) rfl
theorem f126_46 : ft 126 46 = some (7, 0, 0, .isub, 1) := Fm126 (dk_100 (dk_at s126_1 22 rfl rfl)) rfl
theorem f126_47 : ft 126 47 = some (7, 0, 0, .iaload, 1) := Fm126 (dk_46 (dk_at s126_1 23 rfl rfl)) rfl
theorem f126_48 : ft 126 48 = some (7, 0, 0, .istore_n 3, 1) := Fm126 (dk_62 (dk_at s126_2 0 rfl rfl)) rfl
theorem f126_49 : ft 126 49 = some (7, 0, 0, .aload_n 0, 1) := Fm126 (dk_42 (dk_at s126_2 1 rfl rfl)) rfl
theorem f126_50 : ft 126 50 = some (7, 0, 0, .getfield 20, 3) := Fm126 (dk_180 0 20 (dk_at s126_2 2 rfl rfl)) rfl
theorem f126_53 : ft 126 53 = some (7, 0, 0, .iload_n 3, 1) := Fm126 (dk_29 (dk_at s126_2 5 rfl rfl)) rfl
theorem f126_54 : ft 126 54 = some (7, 0, 0, .invokevirtual 123, 3) := Fm126 (dk_182 0 123 (dk_at s126_2 6 rfl rfl)) rfl
theorem f126_57 : ft 126 57 = some (7, 0, 0, .bipush 6, 2) := Fm126 (dk_16 6 (dk_at s126_2 9 rfl rfl)) rfl
theorem f126_59 : ft 126 59 = some (7, 0, 0, .if_icmp .ne 27, 3) := Fm126 (dk_160 0 27 (dk_at s126_2 11 rfl rfl)) rfl
theorem f126_62 : ft 126 62 = some (7, 0, 0, .aload_n 0, 1) := Fm126 (dk_42 (dk_at s126_2 14 rfl rfl)) rfl
theorem f126_63 : ft 126 63 = some (7, 0, 0, .getfield 20, 3) := Fm126 (dk_180 0 20 (dk_at s126_2 15 rfl rfl)) rfl
theorem f126_66 : ft 126 66 = some (7, 0, 0, .iload_n 3, 1) := Fm126 (dk_29 (dk_at s126_2 18 rfl rfl)) rfl
theorem f126_67 : ft 126 67 = some (7, 0, 0, .aload_n 0, 1) := Fm126 (dk_42 (dk_at s126_2 19 rfl rfl)) rfl
theorem f126_68 : ft 126 68 = some (7, 0, 0, .getfield 32, 3) := Fm126 (dk_180 0 32 (dk_at s126_2 20 rfl rfl)) rfl
theorem f126_71 : ft 126 71 = some (7, 0, 0, .aload_n 0, 1) := Fm126 (dk_42 (dk_at s126_2 23 rfl rfl)) rfl
theorem f126_72 : ft 126 72 = some (7, 0, 0, .getfield 35, 3) := Fm126 (dk_180 0 35 (dk_at s126_3 0 rfl rfl)) rfl
theorem f126_75 : ft 126 75 = some (7, 0, 0, .aload_n 0, 1) := Fm126 (dk_42 (dk_at s126_3 3 rfl rfl)) rfl
theorem f126_76 : ft 126 76 = some (7, 0, 0, .getfield 89, 3) := Fm126 (dk_180 0 89 (dk_at s126_3 4 rfl rfl)) rfl
theorem f126_79 : ft 126 79 = some (7, 0, 0, .iconst 1, 1) := Fm126 (dk_4 (dk_at s126_3 7 rfl rfl)) rfl
theorem f126_80 : ft 126 80 = some (7, 0, 0, .isub, 1) := Fm126 (dk_100 (dk_at s126_3 8 rfl rfl)) rfl
theorem f126_81 : ft 126 81 = some (7, 0, 0, .iaload, 1) := Fm126 (dk_46 (dk_at s126_3 9 rfl rfl)) rfl
theorem f126_82 : ft 126 82 = some (7, 0, 0, .invokevirtual 126, 3) := Fm126 (dk_182 0 126 (dk_at s126_3 10 rfl rfl)) rfl
theorem f126_85 : ft 126 85 = some (7, 0, 0, .istore_n 1, 1) := Fm126 (dk_60 (dk_at s126_3 13 rfl rfl)) rfl
theorem f126_86 : ft 126 86 = some (7, 0, 0, .aload_n 0, 1) := Fm126 (dk_42 (dk_at s126_3 14 rfl rfl)) rfl
theorem f126_87 : ft 126 87 = some (7, 0, 0, .getfield 26, 3) := Fm126 (dk_180 0 26 (dk_at s126_3 15 rfl rfl)) rfl
theorem f126_90 : ft 126 90 = some (7, 0, 0, .iconst 0, 1) := Fm126 (dk_3 (dk_at s126_3 18 rfl rfl)) rfl
theorem f126_91 : ft 126 91 = some (7, 0, 0, .putfield 70, 3) := Fm126 (dk_181 0 70 (dk_at s126_3 19 rfl rfl)) rfl
theorem f126_94 : ft 126 94 = some (7, 0, 0, .aload_n 0, 1) := Fm126 (dk_42 (dk_at s126_3 22 rfl rfl)) rfl
theorem f126_95 : ft 126 95 = some (7, 0, 0, .iload_n 1, 1) := Fm126 (dk_27 (dk_at s126_3 23 rfl rfl)) rfl
theorem f126_96 : ft 126 96 = some (7, 0, 0, .iload_n 2, 1) := Fm126 (dk_28 (dk_at s126_4 0 rfl rfl)) rfl
theorem f126_97 : ft 126 97 = some (7, 0, 0, .iload_n 1, 1) := Fm126 (dk_27 (dk_at s126_4 1 rfl rfl)) rfl
theorem f126_98 : ft 126 98 = some (7, 0, 0, .isub, 1) := Fm126 (dk_100 (dk_at s126_4 2 rfl rfl)) rfl
theorem f126_99 : ft 126 99 = some (7, 0, 0, .iconst 0, 1) := Fm126 (dk_3 (dk_at s126_4 3 rfl rfl)) rfl
theorem f126_100 : ft 126 100 = some (7, 0, 0, .invokevirtual 145, 3) := Fm126 (dk_182 0 145 (dk_at s126_4 4 rfl rfl)) rfl
theorem f126_103 : ft 126 103 = some (7, 0, 0, .return_, 1) := Fm126 (dk_177 (dk_at s126_4 7 rfl rfl)) rfl
theorem q126 {d : Nat} {m : Mem} {a0 : Int} (hz : TZ m) : le2 (gd (tg m a0 = 7) <| if 0 < (vl m a0 11) then (rn d 126 12 [pR a0, pU, pU, pU] [pI 1] m) else rn d 126 12 [pR a0, pU, pU, pU] [pI 0] m) (cl d 126 [pR a0] m) := by
  refine q_in (n := 4) (L := [pR a0, pU, pU, pU]) rfl rfl rfl ?_
  refine r_aln0 (p := 1) f126_0 rfl ?_
  refine le2_gd (fun h1 => ?_)
  refine r_gfI (f := 11) (p := 4) f126_1 rfl rfl rfl (Or.inl h1) rfl ?_
  refine r_ifle (t := 11) (p := 7) f126_4 (by decide) rfl rfl ?_ ?_
  · refine r_iconst (p := 8) f126_7 rfl (pinD rfl rfl) ?_
    refine r_goto (p := 12) f126_8 (by decide) rfl ?_
    exact le2_refl _
  · refine r_iconst (p := 12) f126_11 rfl (pinD rfl rfl) ?_
    exact le2_refl _
theorem q126_12 {d : Nat} {m : Mem} {a0 s0 : Int} (hd : 0 < d) (hz : TZ m) : le2 (bV (cl (d - 1) 115 [pI s0] m) fun m1 => gd (tg m1 a0 = 7) <| bV (cl (d - 1) 123 [pR a0, pI (vl m1 a0 11)] m1) fun m2 => nm (vl m2 a0 14) fun v6 => nm (vl m2 a0 5) fun v7 => gd (tg m2 v7 = 8) <| bI (cl (d - 1) 137 [pR v7, pI v6] m2) fun v3 m3 => nm (vl m3 a0 12) fun v8 => nm (w32 ((vl m3 a0 13) - 1)) fun v9 => gd (tg m3 v8 = 112101) <| gd ((0 : Int) ≤ v9 ∧ v9 < ln m3 v8) <| nm (vl m3 v8 v9) fun v10 => nm (vl m3 a0 5) fun v11 => gd (tg m3 v11 = 8) <| bI (cl (d - 1) 139 [pR v11, pI v10] m3) fun v4 m4 => if v4 = 6 then (nm (vl m4 a0 5) fun v12 => nm (vl m4 a0 10) fun v13 => nm (w32 ((vl m4 a0 11) - 1)) fun v14 => gd (tg m4 v13 = 112101) <| gd ((0 : Int) ≤ v14 ∧ v14 < ln m4 v13) <| gd (tg m4 v12 = 8) <| bI (cl (d - 1) 144 [pR v12, pI v10, pR (vl m4 a0 9), pI (vl m4 v13 v14)] m4) fun v5 m5 => rn d 126 86 [pR a0, pI v5, pI v3, pI v10] [] m5) else rn d 126 86 [pR a0, pI v6, pI v3, pI v10] [] m4) (rn d 126 12 [pR a0, pU, pU, pU] [pI s0] m) := by
  refine r_istV (p := 15) f126_12 rfl rfl rfl hd (Nat.le_of_ble_eq_true rfl) rfl rfl rfl (fun _ => rfl) (fun m1 c1 => ?_)
  have hz1 := z_k c1 hz
  refine r_aln0 (p := 16) f126_15 rfl ?_
  refine r_aln0 (p := 17) f126_16 rfl ?_
  refine le2_gd (fun h1 => ?_)
  refine r_gfI (f := 11) (p := 20) f126_17 rfl rfl rfl (Or.inl h1) rfl ?_
  refine r_invV (p := 23) f126_20 rfl rfl rfl (Or.inl h1) hd (Nat.le_of_ble_eq_true rfl) rfl rfl rfl (fun _ => rfl) (fun m2 c2 => ?_)
  have hz2 := z_k c2 hz1
  refine r_aln0 (p := 24) f126_23 rfl ?_
  have h2 := k_t1 c2 hz1 h1 (by decide)
  refine r_gfI (f := 14) (p := 27) f126_24 rfl rfl rfl (Or.inl h2) rfl ?_
  refine r_nmI (fun v6 ev6 => ?_)
  refine r_isn1 (p := 28) f126_27 rfl rfl ?_
  refine r_aln0 (p := 29) f126_28 rfl ?_
  refine r_gfR (f := 5) (p := 32) f126_29 rfl rfl rfl (Or.inl h2) rfl ?_
  refine r_nmR (fun v7 ev7 => ?_)
  refine r_iln1 (p := 33) f126_32 rfl ?_
  refine le2_gd (fun h3 => ?_)
  refine r_invI (p := 36) f126_33 rfl rfl rfl (Or.inl h3) hd (Nat.le_of_ble_eq_true rfl) rfl rfl rfl (fun _ => rfl) (fun v3 m3 c3 => ?_)
  have hz3 := z_k c3 hz2
  refine r_isn2 (p := 37) f126_36 rfl rfl ?_
  refine r_aln0 (p := 38) f126_37 rfl ?_
  have h4 := k_t1 c3 hz2 h2 (by decide)
  refine r_gfR (f := 12) (p := 41) f126_38 rfl rfl rfl (Or.inl h4) rfl ?_
  refine r_nmR (fun v8 ev8 => ?_)
  refine r_aln0 (p := 42) f126_41 rfl ?_
  refine r_gfI (f := 13) (p := 45) f126_42 rfl rfl rfl (Or.inl h4) rfl ?_
  refine r_iconst (p := 46) f126_45 rfl (pinD rfl rfl) ?_
  refine r_isub (p := 47) f126_46 rfl ?_
  refine r_nmI (fun v9 ev9 => ?_)
  refine le2_gd (fun h5 => ?_)
  refine le2_gd (fun h6 => ?_)
  refine r_iaload (p := 48) f126_47 rfl (dj1 (fun x => x % 1000 = 101) h5 (by decide)) h6 rfl ?_
  refine r_nmI (fun v10 ev10 => ?_)
  refine r_isn3 (p := 49) f126_48 rfl rfl ?_
  refine r_aln0 (p := 50) f126_49 rfl ?_
  refine r_gfR (f := 5) (p := 53) f126_50 rfl rfl rfl (Or.inl h4) rfl ?_
  refine r_nmR (fun v11 ev11 => ?_)
  refine r_iln3 (p := 54) f126_53 rfl ?_
  refine le2_gd (fun h7 => ?_)
  refine r_invI (p := 57) f126_54 rfl rfl rfl (Or.inl h7) hd (Nat.le_of_ble_eq_true rfl) rfl rfl rfl (fun _ => rfl) (fun v4 m4 c4 => ?_)
  have hz4 := z_k c4 hz3
  refine r_bipush (p := 59) f126_57 rfl (pinD rfl rfl) ?_
  refine r_icne (t := 86) (p := 62) f126_59 (by decide) rfl rfl ?_ ?_
  · refine r_aln0 (p := 63) f126_62 rfl ?_
    have h8 := k_t1 c4 hz3 h4 (by decide)
    refine r_gfR (f := 5) (p := 66) f126_63 rfl rfl rfl (Or.inl h8) rfl ?_
    refine r_nmR (fun v12 ev12 => ?_)
    refine r_iln3 (p := 67) f126_66 rfl ?_
    refine r_aln0 (p := 68) f126_67 rfl ?_
    refine r_gfR (f := 9) (p := 71) f126_68 rfl rfl rfl (Or.inl h8) rfl ?_
    refine r_aln0 (p := 72) f126_71 rfl ?_
    refine r_gfR (f := 10) (p := 75) f126_72 rfl rfl rfl (Or.inl h8) rfl ?_
    refine r_nmR (fun v13 ev13 => ?_)
    refine r_aln0 (p := 76) f126_75 rfl ?_
    refine r_gfI (f := 11) (p := 79) f126_76 rfl rfl rfl (Or.inl h8) rfl ?_
    refine r_iconst (p := 80) f126_79 rfl (pinD rfl rfl) ?_
    refine r_isub (p := 81) f126_80 rfl ?_
    refine r_nmI (fun v14 ev14 => ?_)
    refine le2_gd (fun h9 => ?_)
    refine le2_gd (fun h10 => ?_)
    refine r_iaload (p := 82) f126_81 rfl (dj1 (fun x => x % 1000 = 101) h9 (by decide)) h10 rfl ?_
    refine le2_gd (fun h11 => ?_)
    refine r_invI (p := 85) f126_82 rfl rfl rfl (Or.inl h11) hd (Nat.le_of_ble_eq_true rfl) rfl rfl rfl (fun _ => rfl) (fun v5 m5 c5 => ?_)
    have hz5 := z_k c5 hz4
    refine r_isn1 (p := 86) f126_85 rfl rfl ?_
    exact le2_refl _
  · exact le2_refl _
theorem q126_86 {d : Nat} {m : Mem} {a0 a1 a2 a3 : Int} (hd : 0 < d) (hz : TZ m) : le2 (gd (tg m a0 = 7) <| nm (vl m a0 7) fun v2 => gd (tg m v2 = 8) <| bV (cl (d - 1) 122 [pR a0, pI a1, pI (w32 (a2 - a1)), pI 0] (mst m v2 1 0)) fun m1 => some (.inl none, m1)) (rn d 126 86 [pR a0, pI a1, pI a2, pI a3] [] m) := by
  refine r_aln0 (p := 87) f126_86 rfl ?_
  refine le2_gd (fun h1 => ?_)
  refine r_gfR (f := 7) (p := 90) f126_87 rfl rfl rfl (Or.inl h1) rfl ?_
  refine r_nmR (fun v2 ev2 => ?_)
  refine r_iconst (p := 91) f126_90 rfl (pinD rfl rfl) ?_
  refine le2_gd (fun h2 => ?_)
  refine r_pfI (f := 1) (p := 94) f126_91 rfl rfl rfl (by decide) (by decide) (Or.inl h2) rfl ?_
  refine r_aln0 (p := 95) f126_94 rfl ?_
  refine r_iln1 (p := 96) f126_95 rfl ?_
  refine r_iln2 (p := 97) f126_96 rfl ?_
  refine r_iln1 (p := 98) f126_97 rfl ?_
  refine r_isub (p := 99) f126_98 rfl ?_
  refine r_iconst (p := 100) f126_99 rfl (pinD rfl rfl) ?_
  refine r_invV (p := 103) f126_100 rfl rfl rfl (Or.inl h1) hd (Nat.le_of_ble_eq_true rfl) rfl rfl rfl (fun _ => rfl) (fun m1 c1 => ?_)
  have hz1 := z_k c1 hz
  exact r_ret f126_103
/-! 127 PathStore$Patcher.transfer (LPathStore$Row;IIZ)V -/
def w127_9 : List UInt8 := [177]
abbrev u127_9 : List UInt8 := w127_9 ++ []
def w127_8 : List UInt8 := [180, 0, 96, 3, 42, 180, 0, 29, 180, 0, 70, 182, 0, 142, 42, 43, 29, 182, 0, 173, 42, 182, 0, 176]
abbrev u127_8 : List UInt8 := w127_8 ++ u127_9
def w127_7 : List UInt8 := [182, 0, 142, 42, 182, 0, 180, 42, 180, 0, 26, 3, 181, 0, 70, 42, 180, 0, 26, 42, 180, 0, 29]
abbrev u127_7 : List UInt8 := w127_7 ++ u127_8
def w127_6 : List UInt8 := [3, 181, 0, 70, 42, 180, 0, 29, 42, 180, 0, 26, 180, 0, 96, 3, 42, 180, 0, 26, 180, 0, 70]
abbrev u127_6 : List UInt8 := w127_6 ++ u127_7
def w127_5 : List UInt8 := [184, 0, 100, 42, 42, 180, 0, 20, 42, 180, 0, 117, 182, 0, 169, 21, 4, 153, 0, 67, 42, 180, 0, 29]
abbrev u127_5 : List UInt8 := w127_5 ++ u127_6
def w127_4 : List UInt8 := [153, 0, 19, 43, 180, 0, 96, 29, 6, 96, 21, 5, 96, 51, 16, 47, 159, 0, 7, 4, 167, 0, 4, 3]
abbrev u127_4 : List UInt8 := w127_4 ++ u127_5
def w127_3 : List UInt8 := [153, 0, 16, 21, 7, 153, 0, 11, 21, 6, 21, 5, 160, 0, 4, 177, 21, 4, 153, 0, 24, 21, 7]
abbrev u127_3 : List UInt8 := w127_3 ++ u127_4
def w127_2 : List UInt8 := [54, 7, 42, 43, 29, 182, 0, 173, 42, 43, 28, 182, 0, 173, 42, 42, 180, 0, 89, 182, 0, 149, 21, 4]
abbrev u127_2 : List UInt8 := w127_2 ++ u127_3
def w127_1 : List UInt8 := [161, 0, 23, 43, 28, 6, 96, 43, 29, 6, 96, 21, 5, 182, 0, 198, 153, 0, 7, 4, 167, 0, 4, 3]
abbrev u127_1 : List UInt8 := w127_1 ++ u127_2
def w127_0 : List UInt8 := [43, 28, 4, 96, 182, 0, 108, 54, 5, 43, 29, 4, 96, 182, 0, 108, 54, 6, 21, 6, 21, 5]
abbrev u127_0 : List UInt8 := w127_0 ++ u127_1
theorem s127_0 : (prog_17_method_16_code).data.toList.drop 0 = u127_0 := by decide +kernel
theorem s127_1 : (prog_17_method_16_code).data.toList.drop 22 = u127_1 := dk_seg s127_0 22 rfl rfl
theorem s127_2 : (prog_17_method_16_code).data.toList.drop 46 = u127_2 := dk_seg s127_1 24 rfl rfl
theorem s127_3 : (prog_17_method_16_code).data.toList.drop 70 = u127_3 := dk_seg s127_2 24 rfl rfl
theorem s127_4 : (prog_17_method_16_code).data.toList.drop 93 = u127_4 := dk_seg s127_3 23 rfl rfl
theorem s127_5 : (prog_17_method_16_code).data.toList.drop 117 = u127_5 := dk_seg s127_4 24 rfl rfl
theorem s127_6 : (prog_17_method_16_code).data.toList.drop 141 = u127_6 := dk_seg s127_5 24 rfl rfl
theorem s127_7 : (prog_17_method_16_code).data.toList.drop 164 = u127_7 := dk_seg s127_6 23 rfl rfl
theorem s127_8 : (prog_17_method_16_code).data.toList.drop 187 = u127_8 := dk_seg s127_7 23 rfl rfl
theorem s127_9 : (prog_17_method_16_code).data.toList.drop 211 = u127_9 := dk_seg s127_8 24 rfl rfl
theorem Fm127 {pc len : Nat} {i : Instr} (h : decode (prog_17_method_16_code) pc = .ok (i, len)) (hl : len = ilen i len) : ft 127 pc = some (7, 0, 0, i, len) := ft_mk rfl h hl
theorem f127_0 : ft 127 0 = some (7, 0, 0, .aload_n 1, 1) := Fm127 (dk_43 (dk_at s127_0 0 rfl rfl)) rfl
theorem f127_1 : ft 127 1 = some (7, 0, 0, .iload_n 2, 1) := Fm127 (dk_28 (dk_at s127_0 1 rfl rfl)) rfl
theorem f127_2 : ft 127 2 = some (7, 0, 0, .iconst 1, 1) := Fm127 (dk_4 (dk_at s127_0 2 rfl rfl)) rfl
theorem f127_3 : ft 127 3 = some (7, 0, 0, .iadd, 1) := Fm127 (dk_96 (dk_at s127_0 3 rfl rfl)) rfl
theorem f127_4 : ft 127 4 = some (7, 0, 0, .invokevirtual 108, 3) := Fm127 (dk_182 0 108 (dk_at s127_0 4 rfl rfl)) rfl
theorem f127_7 : ft 127 7 = some (7, 0, 0, .istore 5, 2) := Fm127 (dk_54 5 (dk_at s127_0 7 rfl rfl)) rfl
theorem f127_9 : ft 127 9 = some (7, 0, 0, .aload_n 1, 1) := Fm127 (dk_43 (dk_at s127_0 9 rfl rfl)) rfl
theorem f127_10 : ft 127 10 = some (7, 0, 0, .iload_n 3, 1) := Fm127 (dk_29 (dk_at s127_0 10 rfl rfl)) rfl
theorem f127_11 : ft 127 11 = some (7, 0, 0, .iconst 1, 1) := Fm127 (dk_4 (dk_at s127_0 11 rfl rfl)) rfl
theorem f127_12 : ft 127 12 = some (7, 0, 0, .iadd, 1) := Fm127 (dk_96 (dk_at s127_0 12 rfl rfl)) rfl
theorem f127_13 : ft 127 13 = some (7, 0, 0, .invokevirtual 108, 3) := Fm127 (dk_182 0 108 (dk_at s127_0 13 rfl rfl)) rfl
theorem f127_16 : ft 127 16 = some (7, 0, 0, .istore 6, 2) := Fm127 (dk_54 6 (dk_at s127_0 16 rfl rfl)) rfl
theorem f127_18 : ft 127 18 = some (7, 0, 0, .iload 6, 2) := Fm127 (dk_21 6 (dk_at s127_0 18 rfl rfl)) rfl
theorem f127_20 : ft 127 20 = some (7, 0, 0, .iload 5, 2) := Fm127 (dk_21 5 (dk_at s127_0 20 rfl rfl)) rfl
theorem f127_22 : ft 127 22 = some (7, 0, 0, .if_icmp .lt 23, 3) := Fm127 (dk_161 0 23 (dk_at s127_1 0 rfl rfl)) rfl
theorem f127_25 : ft 127 25 = some (7, 0, 0, .aload_n 1, 1) := Fm127 (dk_43 (dk_at s127_1 3 rfl rfl)) rfl
theorem f127_26 : ft 127 26 = some (7, 0, 0, .iload_n 2, 1) := Fm127 (dk_28 (dk_at s127_1 4 rfl rfl)) rfl
theorem f127_27 : ft 127 27 = some (7, 0, 0, .iconst 3, 1) := Fm127 (dk_6 (dk_at s127_1 5 rfl rfl)) rfl
theorem f127_28 : ft 127 28 = some (7, 0, 0, .iadd, 1) := Fm127 (dk_96 (dk_at s127_1 6 rfl rfl)) rfl
theorem f127_29 : ft 127 29 = some (7, 0, 0, .aload_n 1, 1) := Fm127 (dk_43 (dk_at s127_1 7 rfl rfl)) rfl
theorem f127_30 : ft 127 30 = some (7, 0, 0, .iload_n 3, 1) := Fm127 (dk_29 (dk_at s127_1 8 rfl rfl)) rfl
theorem f127_31 : ft 127 31 = some (7, 0, 0, .iconst 3, 1) := Fm127 (dk_6 (dk_at s127_1 9 rfl rfl)) rfl
theorem f127_32 : ft 127 32 = some (7, 0, 0, .iadd, 1) := Fm127 (dk_96 (dk_at s127_1 10 rfl rfl)) rfl
theorem f127_33 : ft 127 33 = some (7, 0, 0, .iload 5, 2) := Fm127 (dk_21 5 (dk_at s127_1 11 rfl rfl)) rfl
theorem f127_35 : ft 127 35 = some (7, 0, 0, .invokevirtual 198, 3) := Fm127 (dk_182 0 198 (dk_at s127_1 13 rfl rfl)) rfl
theorem f127_38 : ft 127 38 = some (7, 0, 0, .ifCond .eq 7, 3) := Fm127 (dk_153 0 7 (dk_at s127_1 16 rfl rfl)) rfl
theorem f127_41 : ft 127 41 = some (7, 0, 0, .iconst 1, 1) := Fm127 (dk_4 (dk_at s127_1 19 rfl rfl)) rfl
theorem f127_42 : ft 127 42 = some (7, 0, 0, .goto 4, 3) := Fm127 (dk_167 0 4 (dk_at s127_1 20 rfl rfl)) rfl
theorem f127_45 : ft 127 45 = some (7, 0, 0, .iconst 0, 1) := Fm127 (dk_3 (dk_at s127_1 23 rfl rfl)) rfl
theorem f127_46 : ft 127 46 = some (7, 0, 0, .istore 7, 2) := Fm127 (dk_54 7 (dk_at s127_2 0 rfl rfl)) rfl
theorem f127_48 : ft 127 48 = some (7, 0, 0, .aload_n 0, 1) := Fm127 (dk_42 (dk_at s127_2 2 rfl rfl)) rfl
theorem f127_49 : ft 127 49 = some (7, 0, 0, .aload_n 1, 1) := Fm127 (dk_43 (dk_at s127_2 3 rfl rfl)) rfl
theorem f127_50 : ft 127 50 = some (7, 0, 0, .iload_n 3, 1) := Fm127 (dk_29 (dk_at s127_2 4 rfl rfl)) rfl
theorem f127_51 : ft 127 51 = some (7, 0, 0, .invokevirtual 173, 3) := Fm127 (dk_182 0 173 (dk_at s127_2 5 rfl rfl)) rfl
theorem f127_54 : ft 127 54 = some (7, 0, 0, .aload_n 0, 1) := Fm127 (dk_42 (dk_at s127_2 8 rfl rfl)) rfl
theorem f127_55 : ft 127 55 = some (7, 0, 0, .aload_n 1, 1) := Fm127 (dk_43 (dk_at s127_2 9 rfl rfl)) rfl
theorem f127_56 : ft 127 56 = some (7, 0, 0, .iload_n 2, 1) := Fm127 (dk_28 (dk_at s127_2 10 rfl rfl)) rfl
theorem f127_57 : ft 127 57 = some (7, 0, 0, .invokevirtual 173, 3) := Fm127 (dk_182 0 173 (dk_at s127_2 11 rfl rfl)) rfl
theorem f127_60 : ft 127 60 = some (7, 0, 0, .aload_n 0, 1) := Fm127 (dk_42 (dk_at s127_2 14 rfl rfl)) rfl
theorem f127_61 : ft 127 61 = some (7, 0, 0, .aload_n 0, 1) := Fm127 (dk_42 (dk_at s127_2 15 rfl rfl)) rfl
theorem f127_62 : ft 127 62 = some (7, 0, 0, .getfield 89, 3) := Fm127 (dk_180 0 89 (dk_at s127_2 16 rfl rfl)) rfl
theorem f127_65 : ft 127 65 = some (7, 0, 0, .invokevirtual 149, 3) := Fm127 (dk_182 0 149 (dk_at s127_2 19 rfl rfl)) rfl
theorem f127_68 : ft 127 68 = some (7, 0, 0, .iload 4, 2) := Fm127 (dk_21 4 (dk_at s127_2 22 rfl rfl)) rfl
theorem f127_70 : ft 127 70 = some (7, 0, 0, .ifCond .eq 16, 3) := Fm127 (dk_153 0 16 (dk_at s127_3 0 rfl rfl)) rfl
theorem f127_73 : ft 127 73 = some (7, 0, 0, .iload 7, 2) := Fm127 (dk_21 7 (dk_at s127_3 3 rfl rfl)) rfl
theorem f127_75 : ft 127 75 = some (7, 0, 0, .ifCond .eq 11, 3) := Fm127 (dk_153 0 11 (dk_at s127_3 5 rfl rfl)) rfl
theorem f127_78 : ft 127 78 = some (7, 0, 0, .iload 6, 2) := Fm127 (dk_21 6 (dk_at s127_3 8 rfl rfl)) rfl
theorem f127_80 : ft 127 80 = some (7, 0, 0, .iload 5, 2) := Fm127 (dk_21 5 (dk_at s127_3 10 rfl rfl)) rfl
theorem f127_82 : ft 127 82 = some (7, 0, 0, .if_icmp .ne 4, 3) := Fm127 (dk_160 0 4 (dk_at s127_3 12 rfl rfl)) rfl
theorem f127_85 : ft 127 85 = some (7, 0, 0, .return_, 1) := Fm127 (dk_177 (dk_at s127_3 15 rfl rfl)) rfl
theorem f127_86 : ft 127 86 = some (7, 0, 0, .iload 4, 2) := Fm127 (dk_21 4 (dk_at s127_3 16 rfl rfl)) rfl
theorem f127_88 : ft 127 88 = some (7, 0, 0, .ifCond .eq 24, 3) := Fm127 (dk_153 0 24 (dk_at s127_3 18 rfl rfl)) rfl
theorem f127_91 : ft 127 91 = some (7, 0, 0, .iload 7, 2) := Fm127 (dk_21 7 (dk_at s127_3 21 rfl rfl)) rfl
theorem f127_93 : ft 127 93 = some (7, 0, 0, .ifCond .eq 19, 3) := Fm127 (dk_153 0 19 (dk_at s127_4 0 rfl rfl)) rfl
theorem f127_96 : ft 127 96 = some (7, 0, 0, .aload_n 1, 1) := Fm127 (dk_43 (dk_at s127_4 3 rfl rfl)) rfl
theorem f127_97 : ft 127 97 = some (7, 0, 0, .getfield 96, 3) := Fm127 (dk_180 0 96 (dk_at s127_4 4 rfl rfl)) rfl
theorem f127_100 : ft 127 100 = some (7, 0, 0, .iload_n 3, 1) := Fm127 (dk_29 (dk_at s127_4 7 rfl rfl)) rfl
theorem f127_101 : ft 127 101 = some (7, 0, 0, .iconst 3, 1) := Fm127 (dk_6 (dk_at s127_4 8 rfl rfl)) rfl
theorem f127_102 : ft 127 102 = some (7, 0, 0, .iadd, 1) := Fm127 (dk_96 (dk_at s127_4 9 rfl rfl)) rfl
theorem f127_103 : ft 127 103 = some (7, 0, 0, .iload 5, 2) := Fm127 (dk_21 5 (dk_at s127_4 10 rfl rfl)) rfl
theorem f127_105 : ft 127 105 = some (7, 0, 0, .iadd, 1) := Fm127 (dk_96 (dk_at s127_4 12 rfl rfl)) rfl
theorem f127_106 : ft 127 106 = some (7, 0, 0, .baload, 1) := Fm127 (dk_51 (dk_at s127_4 13 rfl rfl)) rfl
theorem f127_107 : ft 127 107 = some (7, 0, 0, .bipush 47, 2) := Fm127 (dk_16 47 (dk_at s127_4 14 rfl rfl)) rfl
theorem f127_109 : ft 127 109 = some (7, 0, 0, .if_icmp .eq 7, 3) := Fm127 (dk_159 0 7 (dk_at s127_4 16 rfl rfl)) rfl
theorem f127_112 : ft 127 112 = some (7, 0, 0, .iconst 1, 1) := Fm127 (dk_4 (dk_at s127_4 19 rfl rfl)) rfl
theorem f127_113 : ft 127 113 = some (7, 0, 0, .goto 4, 3) := Fm127 (dk_167 0 4 (dk_at s127_4 20 rfl rfl)) rfl
theorem f127_116 : ft 127 116 = some (7, 0, 0, .iconst 0, 1) := Fm127 (dk_3 (dk_at s127_4 23 rfl rfl)) rfl
theorem f127_117 : ft 127 117 = some (7, 0, 0, .invokestatic 100, 3) := Fm127 (dk_184 0 100 (dk_at s127_5 0 rfl rfl)) rfl
theorem f127_120 : ft 127 120 = some (7, 0, 0, .aload_n 0, 1) := Fm127 (dk_42 (dk_at s127_5 3 rfl rfl)) rfl
theorem f127_121 : ft 127 121 = some (7, 0, 0, .aload_n 0, 1) := Fm127 (dk_42 (dk_at s127_5 4 rfl rfl)) rfl
theorem f127_122 : ft 127 122 = some (7, 0, 0, .getfield 20, 3) := Fm127 (dk_180 0 20 (dk_at s127_5 5 rfl rfl)) rfl
theorem f127_125 : ft 127 125 = some (7, 0, 0, .aload_n 0, 1) := Fm127 (dk_42 (dk_at s127_5 8 rfl rfl)) rfl
theorem f127_126 : ft 127 126 = some (7, 0, 0, .getfield 117, 3) := Fm127 (dk_180 0 117 (dk_at s127_5 9 rfl rfl)) rfl
theorem f127_129 : ft 127 129 = some (7, 0, 0, .invokevirtual 169, 3) := Fm127 (dk_182 0 169 (dk_at s127_5 12 rfl rfl)) rfl
theorem f127_132 : ft 127 132 = some (7, 0, 0, .iload 4, 2) := Fm127 (dk_21 4 (dk_at s127_5 15 rfl rfl)) rfl
theorem f127_134 : ft 127 134 = some (7, 0, 0, .ifCond .eq 67, 3) := Fm127 (dk_153 0 67 (dk_at s127_5 17 rfl rfl)) rfl
theorem f127_137 : ft 127 137 = some (7, 0, 0, .aload_n 0, 1) := Fm127 (dk_42 (dk_at s127_5 20 rfl rfl)) rfl
theorem f127_138 : ft 127 138 = some (7, 0, 0, .getfield 29, 3) := Fm127 (dk_180 0 29 (dk_at s127_5 21 rfl rfl)) rfl
theorem f127_141 : ft 127 141 = some (7, 0, 0, .iconst 0, 1) := Fm127 (dk_3 (dk_at s127_6 0 rfl rfl)) rfl
theorem f127_142 : ft 127 142 = some (7, 0, 0, .putfield 70, 3) := Fm127 (dk_181 0 70 (dk_at s127_6 1 rfl rfl)) rfl
theorem f127_145 : ft 127 145 = some (7, 0, 0, .aload_n 0, 1) := Fm127 (dk_42 (dk_at s127_6 4 rfl rfl)) rfl
theorem f127_146 : ft 127 146 = some (7, 0, 0, .getfield 29, 3) := Fm127 (dk_180 0 29 (dk_at s127_6 5 rfl rfl)) rfl
theorem f127_149 : ft 127 149 = some (7, 0, 0, .aload_n 0, 1) := Fm127 (dk_42 (dk_at s127_6 8 rfl rfl)) rfl
theorem f127_150 : ft 127 150 = some (7, 0, 0, .getfield 26, 3) := Fm127 (dk_180 0 26 (dk_at s127_6 9 rfl rfl)) rfl
theorem f127_153 : ft 127 153 = some (7, 0, 0, .getfield 96, 3) := Fm127 (dk_180 0 96 (dk_at s127_6 12 rfl rfl)) rfl
theorem f127_156 : ft 127 156 = some (7, 0, 0, .iconst 0, 1) := Fm127 (dk_3 (dk_at s127_6 15 rfl rfl)) rfl
theorem f127_157 : ft 127 157 = some (7, 0, 0, .aload_n 0, 1) := Fm127 (dk_42 (dk_at s127_6 16 rfl rfl)) rfl
theorem f127_158 : ft 127 158 = some (7, 0, 0, .getfield 26, 3) := Fm127 (dk_180 0 26 (dk_at s127_6 17 rfl rfl)) rfl
theorem f127_161 : ft 127 161 = some (7, 0, 0, .getfield 70, 3) := Fm127 (dk_180 0 70 (dk_at s127_6 20 rfl rfl)) rfl
theorem f127_164 : ft 127 164 = some (7, 0, 0, .invokevirtual 142, 3) := Fm127 (dk_182 0 142 (dk_at s127_7 0 rfl rfl)) rfl
theorem f127_167 : ft 127 167 = some (7, 0, 0, .aload_n 0, 1) := Fm127 (dk_42 (dk_at s127_7 3 rfl rfl)) rfl
theorem f127_168 : ft 127 168 = some (7, 0, 0, .invokevirtual 180, 3) := Fm127 (dk_182 0 180 (dk_at s127_7 4 rfl rfl)) rfl
theorem f127_171 : ft 127 171 = some (7, 0, 0, .aload_n 0, 1) := Fm127 (dk_42 (dk_at s127_7 7 rfl rfl)) rfl
theorem f127_172 : ft 127 172 = some (7, 0, 0, .getfield 26, 3) := Fm127 (dk_180 0 26 (dk_at s127_7 8 rfl rfl)) rfl
theorem f127_175 : ft 127 175 = some (7, 0, 0, .iconst 0, 1) := Fm127 (dk_3 (dk_at s127_7 11 rfl rfl)) rfl
theorem f127_176 : ft 127 176 = some (7, 0, 0, .putfield 70, 3) := Fm127 (dk_181 0 70 (dk_at s127_7 12 rfl rfl)) rfl
theorem f127_179 : ft 127 179 = some (7, 0, 0, .aload_n 0, 1) := Fm127 (dk_42 (dk_at s127_7 15 rfl rfl)) rfl
theorem f127_180 : ft 127 180 = some (7, 0, 0, .getfield 26, 3) := Fm127 (dk_180 0 26 (dk_at s127_7 16 rfl rfl)) rfl
theorem f127_183 : ft 127 183 = some (7, 0, 0, .aload_n 0, 1) := Fm127 (dk_42 (dk_at s127_7 19 rfl rfl)) rfl
theorem f127_184 : ft 127 184 = some (7, 0, 0, .getfield 29, 3) := Fm127 (dk_180 0 29 (dk_at s127_7 20 rfl rfl)) rfl
theorem f127_187 : ft 127 187 = some (7, 0, 0, .getfield 96, 3) := Fm127 (dk_180 0 96 (dk_at s127_8 0 rfl rfl)) rfl
theorem f127_190 : ft 127 190 = some (7, 0, 0, .iconst 0, 1) := Fm127 (dk_3 (dk_at s127_8 3 rfl rfl)) rfl
theorem f127_191 : ft 127 191 = some (7, 0, 0, .aload_n 0, 1) := Fm127 (dk_42 (dk_at s127_8 4 rfl rfl)) rfl
theorem f127_192 : ft 127 192 = some (7, 0, 0, .getfield 29, 3) := Fm127 (dk_180 0 29 (dk_at s127_8 5 rfl rfl)) rfl
theorem f127_195 : ft 127 195 = some (7, 0, 0, .getfield 70, 3) := Fm127 (dk_180 0 70 (dk_at s127_8 8 rfl rfl)) rfl
theorem f127_198 : ft 127 198 = some (7, 0, 0, .invokevirtual 142, 3) := Fm127 (dk_182 0 142 (dk_at s127_8 11 rfl rfl)) rfl
theorem f127_201 : ft 127 201 = some (7, 0, 0, .aload_n 0, 1) := Fm127 (dk_42 (dk_at s127_8 14 rfl rfl)) rfl
theorem f127_202 : ft 127 202 = some (7, 0, 0, .aload_n 1, 1) := Fm127 (dk_43 (dk_at s127_8 15 rfl rfl)) rfl
theorem f127_203 : ft 127 203 = some (7, 0, 0, .iload_n 3, 1) := Fm127 (dk_29 (dk_at s127_8 16 rfl rfl)) rfl
theorem f127_204 : ft 127 204 = some (7, 0, 0, .invokevirtual 173, 3) := Fm127 (dk_182 0 173 (dk_at s127_8 17 rfl rfl)) rfl
theorem f127_207 : ft 127 207 = some (7, 0, 0, .aload_n 0, 1) := Fm127 (dk_42 (dk_at s127_8 20 rfl rfl)) rfl
theorem f127_208 : ft 127 208 = some (7, 0, 0, .invokevirtual 176, 3) := Fm127 (dk_182 0 176 (dk_at s127_8 21 rfl rfl)) rfl
theorem f127_211 : ft 127 211 = some (7, 0, 0, .return_, 1) := Fm127 (dk_177 (dk_at s127_9 0 rfl rfl)) rfl
theorem q127 {d : Nat} {m : Mem} {a0 a1 a2 a3 a4 : Int} (hd : 0 < d) (hz : TZ m) : le2 (gd (tg m a1 = 8) <| bI (cl (d - 1) 134 [pR a1, pI (w32 (a2 + 1))] m) fun v1 m1 => bI (cl (d - 1) 134 [pR a1, pI (w32 (a3 + 1))] m1) fun v2 m2 => if v2 < v1 then (rn d 127 46 [pR a0, pR a1, pI a2, pI a3, pI a4, pI v1, pI v2, pU] [pI 0] m2) else bI (cl (d - 1) 135 [pR a1, pI (w32 (a2 + 3)), pR a1, pI (w32 (a3 + 3)), pI v1] m2) fun v3 m3 => if v3 = 0 then (rn d 127 46 [pR a0, pR a1, pI a2, pI a3, pI a4, pI v1, pI v2, pU] [pI 0] m3) else rn d 127 46 [pR a0, pR a1, pI a2, pI a3, pI a4, pI v1, pI v2, pU] [pI 1] m3) (cl d 127 [pR a0, pR a1, pI a2, pI a3, pI a4] m) := by
  refine q_in (n := 8) (L := [pR a0, pR a1, pI a2, pI a3, pI a4, pU, pU, pU]) rfl rfl rfl ?_
  refine r_aln1 (p := 1) f127_0 rfl ?_
  refine r_iln2 (p := 2) f127_1 rfl ?_
  refine r_iconst (p := 3) f127_2 rfl (pinD rfl rfl) ?_
  refine r_iadd (p := 4) f127_3 rfl ?_
  refine le2_gd (fun h1 => ?_)
  refine r_invI (p := 7) f127_4 rfl rfl rfl (Or.inl h1) hd (Nat.le_of_ble_eq_true rfl) rfl rfl rfl (fun _ => rfl) (fun v1 m1 c1 => ?_)
  have hz1 := z_k c1 hz
  refine r_isw5 (p := 9) f127_7 rfl rfl ?_
  refine r_aln1 (p := 10) f127_9 rfl ?_
  refine r_iln3 (p := 11) f127_10 rfl ?_
  refine r_iconst (p := 12) f127_11 rfl (pinD rfl rfl) ?_
  refine r_iadd (p := 13) f127_12 rfl ?_
  have h2 := k_t1 c1 hz h1 (by decide)
  refine r_invI (p := 16) f127_13 rfl rfl rfl (Or.inl h2) hd (Nat.le_of_ble_eq_true rfl) rfl rfl rfl (fun _ => rfl) (fun v2 m2 c2 => ?_)
  have hz2 := z_k c2 hz1
  refine r_isw6 (p := 18) f127_16 rfl rfl ?_
  refine r_ilw6 (p := 20) f127_18 rfl ?_
  refine r_ilw5 (p := 22) f127_20 rfl ?_
  refine r_iclt (t := 45) (p := 25) f127_22 (by decide) rfl rfl ?_ ?_
  · refine r_iconst (p := 46) f127_45 rfl (pinD rfl rfl) ?_
    exact le2_refl _
  · refine r_aln1 (p := 26) f127_25 rfl ?_
    refine r_iln2 (p := 27) f127_26 rfl ?_
    refine r_iconst (p := 28) f127_27 rfl (pinD rfl rfl) ?_
    refine r_iadd (p := 29) f127_28 rfl ?_
    refine r_aln1 (p := 30) f127_29 rfl ?_
    refine r_iln3 (p := 31) f127_30 rfl ?_
    refine r_iconst (p := 32) f127_31 rfl (pinD rfl rfl) ?_
    refine r_iadd (p := 33) f127_32 rfl ?_
    refine r_ilw5 (p := 35) f127_33 rfl ?_
    have h3 := k_t1 c2 hz1 h2 (by decide)
    refine r_invI (p := 38) f127_35 rfl rfl rfl (Or.inl h3) hd (Nat.le_of_ble_eq_true rfl) rfl rfl rfl (fun _ => rfl) (fun v3 m3 c3 => ?_)
    have hz3 := z_k c3 hz2
    refine r_ifeq (t := 45) (p := 41) f127_38 (by decide) rfl rfl ?_ ?_
    · refine r_iconst (p := 46) f127_45 rfl (pinD rfl rfl) ?_
      exact le2_refl _
    · refine r_iconst (p := 42) f127_41 rfl (pinD rfl rfl) ?_
      refine r_goto (p := 46) f127_42 (by decide) rfl ?_
      exact le2_refl _
theorem q127_46 {d : Nat} {m : Mem} {a0 a1 a2 a3 a4 a5 a6 s0 : Int} (hd : 0 < d) (hz : TZ m) : le2 (gd (tg m a0 = 7) <| bV (cl (d - 1) 120 [pR a0, pR a1, pI a3] m) fun m1 => bV (cl (d - 1) 120 [pR a0, pR a1, pI a2] m1) fun m2 => bV (cl (d - 1) 123 [pR a0, pI (vl m2 a0 11)] m2) fun m3 => if a4 = 0 then (rn d 127 86 [pR a0, pR a1, pI a2, pI a3, pI a4, pI a5, pI a6, pI s0] [] m3) else if s0 = 0 then (rn d 127 86 [pR a0, pR a1, pI a2, pI a3, pI a4, pI a5, pI a6, pI s0] [] m3) else if a6 = a5 then (some (.inl none, m3)) else rn d 127 86 [pR a0, pR a1, pI a2, pI a3, pI a4, pI a5, pI a6, pI s0] [] m3) (rn d 127 46 [pR a0, pR a1, pI a2, pI a3, pI a4, pI a5, pI a6, pU] [pI s0] m) := by
  refine r_isw7 (p := 48) f127_46 rfl rfl ?_
  refine r_aln0 (p := 49) f127_48 rfl ?_
  refine r_aln1 (p := 50) f127_49 rfl ?_
  refine r_iln3 (p := 51) f127_50 rfl ?_
  refine le2_gd (fun h1 => ?_)
  refine r_invV (p := 54) f127_51 rfl rfl rfl (Or.inl h1) hd (Nat.le_of_ble_eq_true rfl) rfl rfl rfl (fun _ => rfl) (fun m1 c1 => ?_)
  have hz1 := z_k c1 hz
  refine r_aln0 (p := 55) f127_54 rfl ?_
  refine r_aln1 (p := 56) f127_55 rfl ?_
  refine r_iln2 (p := 57) f127_56 rfl ?_
  have h2 := k_t1 c1 hz h1 (by decide)
  refine r_invV (p := 60) f127_57 rfl rfl rfl (Or.inl h2) hd (Nat.le_of_ble_eq_true rfl) rfl rfl rfl (fun _ => rfl) (fun m2 c2 => ?_)
  have hz2 := z_k c2 hz1
  refine r_aln0 (p := 61) f127_60 rfl ?_
  refine r_aln0 (p := 62) f127_61 rfl ?_
  have h3 := k_t1 c2 hz1 h2 (by decide)
  refine r_gfI (f := 11) (p := 65) f127_62 rfl rfl rfl (Or.inl h3) rfl ?_
  refine r_invV (p := 68) f127_65 rfl rfl rfl (Or.inl h3) hd (Nat.le_of_ble_eq_true rfl) rfl rfl rfl (fun _ => rfl) (fun m3 c3 => ?_)
  have hz3 := z_k c3 hz2
  refine r_ilw4 (p := 70) f127_68 rfl ?_
  refine r_ifeq (t := 86) (p := 73) f127_70 (by decide) rfl rfl ?_ ?_
  · exact le2_refl _
  · refine r_ilw7 (p := 75) f127_73 rfl ?_
    refine r_ifeq (t := 86) (p := 78) f127_75 (by decide) rfl rfl ?_ ?_
    · exact le2_refl _
    · refine r_ilw6 (p := 80) f127_78 rfl ?_
      refine r_ilw5 (p := 82) f127_80 rfl ?_
      refine r_icne (t := 86) (p := 85) f127_82 (by decide) rfl rfl ?_ ?_
      · exact r_ret f127_85
      · exact le2_refl _
theorem q127_86 {d : Nat} {m : Mem} {a0 a1 a2 a3 a4 a5 a6 a7 : Int} (hz : TZ m) : le2 (if a4 = 0 then (rn d 127 117 [pR a0, pR a1, pI a2, pI a3, pI a4, pI a5, pI a6, pI a7] [pI 1] m) else if a7 = 0 then (rn d 127 117 [pR a0, pR a1, pI a2, pI a3, pI a4, pI a5, pI a6, pI a7] [pI 1] m) else gd (tg m a1 = 8) <| nm (vl m a1 0) fun v1 => nm (w32 ((w32 (a3 + 3)) + a5)) fun v2 => gd (tg m v1 = 130103 ∨ tg m v1 = 132103) <| gd ((0 : Int) ≤ v2 ∧ v2 < ln m v1) <| if (vl m v1 v2) = 47 then (rn d 127 117 [pR a0, pR a1, pI a2, pI a3, pI a4, pI a5, pI a6, pI a7] [pI 0] m) else rn d 127 117 [pR a0, pR a1, pI a2, pI a3, pI a4, pI a5, pI a6, pI a7] [pI 1] m) (rn d 127 86 [pR a0, pR a1, pI a2, pI a3, pI a4, pI a5, pI a6, pI a7] [] m) := by
  refine r_ilw4 (p := 88) f127_86 rfl ?_
  refine r_ifeq (t := 112) (p := 91) f127_88 (by decide) rfl rfl ?_ ?_
  · refine r_iconst (p := 113) f127_112 rfl (pinD rfl rfl) ?_
    refine r_goto (p := 117) f127_113 (by decide) rfl ?_
    exact le2_refl _
  · refine r_ilw7 (p := 93) f127_91 rfl ?_
    refine r_ifeq (t := 112) (p := 96) f127_93 (by decide) rfl rfl ?_ ?_
    · refine r_iconst (p := 113) f127_112 rfl (pinD rfl rfl) ?_
      refine r_goto (p := 117) f127_113 (by decide) rfl ?_
      exact le2_refl _
    · refine r_aln1 (p := 97) f127_96 rfl ?_
      refine le2_gd (fun h1 => ?_)
      refine r_gfR (f := 0) (p := 100) f127_97 rfl rfl rfl (Or.inl h1) rfl ?_
      refine r_nmR (fun v1 ev1 => ?_)
      refine r_iln3 (p := 101) f127_100 rfl ?_
      refine r_iconst (p := 102) f127_101 rfl (pinD rfl rfl) ?_
      refine r_iadd (p := 103) f127_102 rfl ?_
      refine r_ilw5 (p := 105) f127_103 rfl ?_
      refine r_iadd (p := 106) f127_105 rfl ?_
      refine r_nmI (fun v2 ev2 => ?_)
      refine le2_gd (fun h2 => ?_)
      refine le2_gd (fun h3 => ?_)
      refine r_baload (p := 107) f127_106 rfl (dj2 (fun x => x % 1000 = 103 ∨ x % 1000 = 105) h2 (by decide) (by decide)) h3 rfl ?_
      refine r_bipush (p := 109) f127_107 rfl (pinD rfl rfl) ?_
      refine r_iceq (t := 116) (p := 112) f127_109 (by decide) rfl rfl ?_ ?_
      · refine r_iconst (p := 117) f127_116 rfl (pinD rfl rfl) ?_
        exact le2_refl _
      · refine r_iconst (p := 113) f127_112 rfl (pinD rfl rfl) ?_
        refine r_goto (p := 117) f127_113 (by decide) rfl ?_
        exact le2_refl _
theorem q127_117 {d : Nat} {m : Mem} {a0 a1 a2 a3 a4 a5 a6 a7 s0 : Int} (hd : 0 < d) (hz : TZ m) : le2 (bV (cl (d - 1) 115 [pI s0] m) fun m1 => gd (tg m1 a0 = 7) <| bV (cl (d - 1) 119 [pR a0, pR (vl m1 a0 5), pI (vl m1 a0 14)] m1) fun m2 => if a4 = 0 then (rn d 127 201 [pR a0, pR a1, pI a2, pI a3, pI a4, pI a5, pI a6, pI a7] [] m2) else nm (vl m2 a0 8) fun v6 => gd (tg m2 v6 = 8) <| nm (vl m2 a0 7) fun v7 => gd (tg m2 v7 = 8) <| bV (cl (d - 1) 143 [pR v6, pR (vl m2 v7 0), pI 0, pI (vl (mst m2 v6 1 0) v7 1)] (mst m2 v6 1 0)) fun m3 => bV (cl (d - 1) 126 [pR a0] m3) fun m4 => nm (vl m4 a0 7) fun v8 => gd (tg m4 v8 = 8) <| nm (vl m4 a0 8) fun v9 => gd (tg m4 v9 = 8) <| bV (cl (d - 1) 143 [pR v8, pR (vl m4 v9 0), pI 0, pI (vl (mst m4 v8 1 0) v9 1)] (mst m4 v8 1 0)) fun m5 => rn d 127 201 [pR a0, pR a1, pI a2, pI a3, pI a4, pI a5, pI a6, pI a7] [] m5) (rn d 127 117 [pR a0, pR a1, pI a2, pI a3, pI a4, pI a5, pI a6, pI a7] [pI s0] m) := by
  refine r_istV (p := 120) f127_117 rfl rfl rfl hd (Nat.le_of_ble_eq_true rfl) rfl rfl rfl (fun _ => rfl) (fun m1 c1 => ?_)
  have hz1 := z_k c1 hz
  refine r_aln0 (p := 121) f127_120 rfl ?_
  refine r_aln0 (p := 122) f127_121 rfl ?_
  refine le2_gd (fun h1 => ?_)
  refine r_gfR (f := 5) (p := 125) f127_122 rfl rfl rfl (Or.inl h1) rfl ?_
  refine r_aln0 (p := 126) f127_125 rfl ?_
  refine r_gfI (f := 14) (p := 129) f127_126 rfl rfl rfl (Or.inl h1) rfl ?_
  refine r_invV (p := 132) f127_129 rfl rfl rfl (Or.inl h1) hd (Nat.le_of_ble_eq_true rfl) rfl rfl rfl (fun _ => rfl) (fun m2 c2 => ?_)
  have hz2 := z_k c2 hz1
  refine r_ilw4 (p := 134) f127_132 rfl ?_
  refine r_ifeq (t := 201) (p := 137) f127_134 (by decide) rfl rfl ?_ ?_
  · exact le2_refl _
  · refine r_aln0 (p := 138) f127_137 rfl ?_
    have h2 := k_t1 c2 hz1 h1 (by decide)
    refine r_gfR (f := 8) (p := 141) f127_138 rfl rfl rfl (Or.inl h2) rfl ?_
    refine r_nmR (fun v6 ev6 => ?_)
    refine r_iconst (p := 142) f127_141 rfl (pinD rfl rfl) ?_
    refine le2_gd (fun h3 => ?_)
    refine r_pfI (f := 1) (p := 145) f127_142 rfl rfl rfl (by decide) (by decide) (Or.inl h3) rfl ?_
    refine r_aln0 (p := 146) f127_145 rfl ?_
    refine r_gfR (f := 8) (p := 149) f127_146 rfl rfl rfl (Or.inl h2) (Eq.trans (sk_f (by decide)) ev6.symm) ?_
    refine r_aln0 (p := 150) f127_149 rfl ?_
    refine r_gfR (f := 7) (p := 153) f127_150 rfl rfl rfl (Or.inl h2) (sk_f (by decide)) ?_
    refine r_nmR (fun v7 ev7 => ?_)
    refine le2_gd (fun h4 => ?_)
    refine r_gfR (f := 0) (p := 156) f127_153 rfl rfl rfl (Or.inl h4) (sk_f (by decide)) ?_
    refine r_iconst (p := 157) f127_156 rfl (pinD rfl rfl) ?_
    refine r_aln0 (p := 158) f127_157 rfl ?_
    refine r_gfR (f := 7) (p := 161) f127_158 rfl rfl rfl (Or.inl h2) (Eq.trans (sk_f (by decide)) ev7.symm) ?_
    refine r_gfI (f := 1) (p := 164) f127_161 rfl rfl rfl (Or.inl h4) rfl ?_
    refine r_invV (p := 167) f127_164 rfl rfl rfl (Or.inl h3) hd (Nat.le_of_ble_eq_true rfl) rfl rfl rfl (fun _ => rfl) (fun m3 c3 => ?_)
    have hz3 := z_k c3 hz2
    refine r_aln0 (p := 168) f127_167 rfl ?_
    have h5 := k_t1 c3 hz2 h2 (by decide)
    refine r_invV (p := 171) f127_168 rfl rfl rfl (Or.inl h5) hd (Nat.le_of_ble_eq_true rfl) rfl rfl rfl (fun _ => rfl) (fun m4 c4 => ?_)
    have hz4 := z_k c4 hz3
    refine r_aln0 (p := 172) f127_171 rfl ?_
    have h6 := k_t1 c4 hz3 h5 (by decide)
    refine r_gfR (f := 7) (p := 175) f127_172 rfl rfl rfl (Or.inl h6) rfl ?_
    refine r_nmR (fun v8 ev8 => ?_)
    refine r_iconst (p := 176) f127_175 rfl (pinD rfl rfl) ?_
    refine le2_gd (fun h7 => ?_)
    refine r_pfI (f := 1) (p := 179) f127_176 rfl rfl rfl (by decide) (by decide) (Or.inl h7) rfl ?_
    refine r_aln0 (p := 180) f127_179 rfl ?_
    refine r_gfR (f := 7) (p := 183) f127_180 rfl rfl rfl (Or.inl h6) (Eq.trans (sk_f (by decide)) ev8.symm) ?_
    refine r_aln0 (p := 184) f127_183 rfl ?_
    refine r_gfR (f := 8) (p := 187) f127_184 rfl rfl rfl (Or.inl h6) (sk_f (by decide)) ?_
    refine r_nmR (fun v9 ev9 => ?_)
    refine le2_gd (fun h8 => ?_)
    refine r_gfR (f := 0) (p := 190) f127_187 rfl rfl rfl (Or.inl h8) (sk_f (by decide)) ?_
    refine r_iconst (p := 191) f127_190 rfl (pinD rfl rfl) ?_
    refine r_aln0 (p := 192) f127_191 rfl ?_
    refine r_gfR (f := 8) (p := 195) f127_192 rfl rfl rfl (Or.inl h6) (Eq.trans (sk_f (by decide)) ev9.symm) ?_
    refine r_gfI (f := 1) (p := 198) f127_195 rfl rfl rfl (Or.inl h8) rfl ?_
    refine r_invV (p := 201) f127_198 rfl rfl rfl (Or.inl h7) hd (Nat.le_of_ble_eq_true rfl) rfl rfl rfl (fun _ => rfl) (fun m5 c5 => ?_)
    have hz5 := z_k c5 hz4
    exact le2_refl _
theorem q127_201 {d : Nat} {m : Mem} {a0 a1 a2 a3 a4 a5 a6 a7 : Int} (hd : 0 < d) (hz : TZ m) : le2 (gd (tg m a0 = 7) <| bV (cl (d - 1) 120 [pR a0, pR a1, pI a3] m) fun m1 => bV (cl (d - 1) 121 [pR a0] m1) fun m2 => some (.inl none, m2)) (rn d 127 201 [pR a0, pR a1, pI a2, pI a3, pI a4, pI a5, pI a6, pI a7] [] m) := by
  refine r_aln0 (p := 202) f127_201 rfl ?_
  refine r_aln1 (p := 203) f127_202 rfl ?_
  refine r_iln3 (p := 204) f127_203 rfl ?_
  refine le2_gd (fun h1 => ?_)
  refine r_invV (p := 207) f127_204 rfl rfl rfl (Or.inl h1) hd (Nat.le_of_ble_eq_true rfl) rfl rfl rfl (fun _ => rfl) (fun m1 c1 => ?_)
  have hz1 := z_k c1 hz
  refine r_aln0 (p := 208) f127_207 rfl ?_
  have h2 := k_t1 c1 hz h1 (by decide)
  refine r_invV (p := 211) f127_208 rfl rfl rfl (Or.inl h2) hd (Nat.le_of_ble_eq_true rfl) rfl rfl rfl (fun _ => rfl) (fun m2 c2 => ?_)
  have hz2 := z_k c2 hz1
  exact r_ret f127_211
/-! 128 PathStore$Patcher.size ()I -/
def w128_1 : List UInt8 := [180, 0, 216, 172]
abbrev u128_1 : List UInt8 := w128_1 ++ []
def w128_0 : List UInt8 := [42, 180, 0, 45, 3, 181, 0, 216, 42, 180, 0, 45, 42, 180, 0, 20, 3, 182, 0, 217, 42, 180, 0, 45]
abbrev u128_0 : List UInt8 := w128_0 ++ u128_1
theorem s128_0 : (prog_17_method_18_code).data.toList.drop 0 = u128_0 := by decide +kernel
theorem s128_1 : (prog_17_method_18_code).data.toList.drop 24 = u128_1 := dk_seg s128_0 24 rfl rfl
theorem Fm128 {pc len : Nat} {i : Instr} (h : decode (prog_17_method_18_code) pc = .ok (i, len)) (hl : len = ilen i len) : ft 128 pc = some (7, 1, 0, i, len) := ft_mk rfl h hl
theorem f128_0 : ft 128 0 = some (7, 1, 0, .aload_n 0, 1) := Fm128 (dk_42 (dk_at s128_0 0 rfl rfl)) rfl
theorem f128_1 : ft 128 1 = some (7, 1, 0, .getfield 45, 3) := Fm128 (dk_180 0 45 (dk_at s128_0 1 rfl rfl)) rfl
theorem f128_4 : ft 128 4 = some (7, 1, 0, .iconst 0, 1) := Fm128 (dk_3 (dk_at s128_0 4 rfl rfl)) rfl
theorem f128_5 : ft 128 5 = some (7, 1, 0, .putfield 216, 3) := Fm128 (dk_181 0 216 (dk_at s128_0 5 rfl rfl)) rfl
theorem f128_8 : ft 128 8 = some (7, 1, 0, .aload_n 0, 1) := Fm128 (dk_42 (dk_at s128_0 8 rfl rfl)) rfl
theorem f128_9 : ft 128 9 = some (7, 1, 0, .getfield 45, 3) := Fm128 (dk_180 0 45 (dk_at s128_0 9 rfl rfl)) rfl
theorem f128_12 : ft 128 12 = some (7, 1, 0, .aload_n 0, 1) := Fm128 (dk_42 (dk_at s128_0 12 rfl rfl)) rfl
theorem f128_13 : ft 128 13 = some (7, 1, 0, .getfield 20, 3) := Fm128 (dk_180 0 20 (dk_at s128_0 13 rfl rfl)) rfl
theorem f128_16 : ft 128 16 = some (7, 1, 0, .iconst 0, 1) := Fm128 (dk_3 (dk_at s128_0 16 rfl rfl)) rfl
theorem f128_17 : ft 128 17 = some (7, 1, 0, .invokevirtual 217, 3) := Fm128 (dk_182 0 217 (dk_at s128_0 17 rfl rfl)) rfl
theorem f128_20 : ft 128 20 = some (7, 1, 0, .aload_n 0, 1) := Fm128 (dk_42 (dk_at s128_0 20 rfl rfl)) rfl
theorem f128_21 : ft 128 21 = some (7, 1, 0, .getfield 45, 3) := Fm128 (dk_180 0 45 (dk_at s128_0 21 rfl rfl)) rfl
theorem f128_24 : ft 128 24 = some (7, 1, 0, .getfield 216, 3) := Fm128 (dk_180 0 216 (dk_at s128_1 0 rfl rfl)) rfl
theorem f128_27 : ft 128 27 = some (7, 1, 0, .ireturn, 1) := Fm128 (dk_172 (dk_at s128_1 3 rfl rfl)) rfl
theorem q128 {d : Nat} {m : Mem} {a0 : Int} (hd : 0 < d) (hz : TZ m) : le2 (gd (tg m a0 = 7) <| nm (vl m a0 15) fun v2 => gd (tg m v2 = 2) <| bV (cl (d - 1) 52 [pR v2, pR (vl m a0 5), pI 0] (mst m v2 1 0)) fun m1 => nm (vl m1 a0 15) fun v3 => gd (tg m1 v3 = 2) <| some (.inl (some (pI (vl m1 v3 1))), m1)) (cl d 128 [pR a0] m) := by
  refine q_in (n := 1) (L := [pR a0]) rfl rfl rfl ?_
  refine r_aln0 (p := 1) f128_0 rfl ?_
  refine le2_gd (fun h1 => ?_)
  refine r_gfR (f := 15) (p := 4) f128_1 rfl rfl rfl (Or.inl h1) rfl ?_
  refine r_nmR (fun v2 ev2 => ?_)
  refine r_iconst (p := 5) f128_4 rfl (pinD rfl rfl) ?_
  refine le2_gd (fun h2 => ?_)
  refine r_pfI (f := 1) (p := 8) f128_5 rfl rfl rfl (by decide) (by decide) (Or.inl h2) rfl ?_
  refine r_aln0 (p := 9) f128_8 rfl ?_
  refine r_gfR (f := 15) (p := 12) f128_9 rfl rfl rfl (Or.inl h1) (Eq.trans (sk_f (by decide)) ev2.symm) ?_
  refine r_aln0 (p := 13) f128_12 rfl ?_
  refine r_gfR (f := 5) (p := 16) f128_13 rfl rfl rfl (Or.inl h1) (sk_f (by decide)) ?_
  refine r_iconst (p := 17) f128_16 rfl (pinD rfl rfl) ?_
  refine r_invV (p := 20) f128_17 rfl rfl rfl (Or.inl h2) hd (Nat.le_of_ble_eq_true rfl) rfl rfl rfl (fun _ => rfl) (fun m1 c1 => ?_)
  have hz1 := z_k c1 hz
  refine r_aln0 (p := 21) f128_20 rfl ?_
  have h3 := k_t1 c1 hz h1 (by decide)
  refine r_gfR (f := 15) (p := 24) f128_21 rfl rfl rfl (Or.inl h3) rfl ?_
  refine r_nmR (fun v3 ev3 => ?_)
  refine le2_gd (fun h4 => ?_)
  refine r_gfI (f := 1) (p := 27) f128_24 rfl rfl rfl (Or.inl h4) rfl ?_
  exact r_iret1 f128_27
