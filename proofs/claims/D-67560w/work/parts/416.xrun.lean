/-! what methods do, written by wip/D-67560w/tools/gen_parts.py -/
set_option maxRecDepth 100000
set_option maxHeartbeats 4000000
/-! 103 PathStore$Runner.<init> ()V -/
def w103_0 : List UInt8 := [42, 183, 0, 3, 42, 17, 1, 0, 188, 10, 181, 0, 9, 177]
abbrev u103_0 : List UInt8 := w103_0 ++ []
theorem s103_0 : (prog_22_method_1_code).data.toList.drop 0 = u103_0 := by decide +kernel
theorem Fm103 {pc len : Nat} {i : Instr} (h : decode (prog_22_method_1_code) pc = .ok (i, len)) (hl : len = ilen i len) : ft 103 pc = some (6, 0, 1, i, len) := ft_mk rfl h hl
theorem f103_0 : ft 103 0 = some (6, 0, 1, .aload_n 0, 1) := Fm103 (dk_42 (dk_at s103_0 0 rfl rfl)) rfl
theorem f103_1 : ft 103 1 = some (6, 0, 1, .invokespecial 3, 3) := Fm103 (dk_183 0 3 (dk_at s103_0 1 rfl rfl)) rfl
theorem f103_4 : ft 103 4 = some (6, 0, 1, .aload_n 0, 1) := Fm103 (dk_42 (dk_at s103_0 4 rfl rfl)) rfl
theorem f103_5 : ft 103 5 = some (6, 0, 1, .sipush 256, 3) := Fm103 (dk_17 1 0 (dk_at s103_0 5 rfl rfl)) rfl
theorem f103_8 : ft 103 8 = some (6, 0, 1, .newarray .int, 2) := Fm103 (dk_188_10 (dk_at s103_0 8 rfl rfl)) rfl
theorem f103_10 : ft 103 10 = some (6, 0, 1, .putfield 9, 3) := Fm103 (dk_181 0 9 (dk_at s103_0 10 rfl rfl)) rfl
theorem f103_13 : ft 103 13 = some (6, 0, 1, .return_, 1) := Fm103 (dk_177 (dk_at s103_0 13 rfl rfl)) rfl
theorem q103 {d : Nat} {m : Mem} {a0 : Int} (hz : TZ m) : le2 (gd (tg m a0 = 6) <| nw (nx m) (mal m 104101 256) fun o1 m1 => some (.inl none, (mst m1 a0 2 o1))) (cl d 103 [pR a0] m) := by
  refine q_in (n := 1) (L := [pR a0]) rfl rfl rfl ?_
  refine r_aln0 (p := 1) f103_0 rfl ?_
  refine le2_gd (fun h1 => ?_)
  refine r_objinit (p := 4) f103_1 rfl rfl (dj1 (fun x => 0 < x ∧ x < 100) h1 (by decide)) (Nat.le_of_ble_eq_true rfl) ?_
  refine r_aln0 (p := 5) f103_4 rfl ?_
  refine r_sipush (p := 8) f103_5 rfl (pinD rfl rfl) ?_
  refine r_newa (t1 := 104101) (p := 10) f103_8 rfl rfl (pinE rfl rfl) rfl rfl (fun o1 m1 h2 k1 => ?_)
  have hz1 := z_k k1 hz
  have h3 := k_t1 k1 hz h1 (by decide)
  refine r_pfR (f := 2) (p := 13) f103_10 rfl rfl rfl (by decide) (by decide) (Or.inl h3) rfl ?_
  exact r_ret f103_13
/-! 104 PathStore$Runner.over (LPathStore$Row;I)V -/
def w104_0 : List UInt8 := [42, 43, 181, 0, 15, 42, 28, 181, 0, 19, 42, 3, 181, 0, 23, 177]
abbrev u104_0 : List UInt8 := w104_0 ++ []
theorem s104_0 : (prog_22_method_2_code).data.toList.drop 0 = u104_0 := by decide +kernel
theorem Fm104 {pc len : Nat} {i : Instr} (h : decode (prog_22_method_2_code) pc = .ok (i, len)) (hl : len = ilen i len) : ft 104 pc = some (6, 0, 0, i, len) := ft_mk rfl h hl
theorem f104_0 : ft 104 0 = some (6, 0, 0, .aload_n 0, 1) := Fm104 (dk_42 (dk_at s104_0 0 rfl rfl)) rfl
theorem f104_1 : ft 104 1 = some (6, 0, 0, .aload_n 1, 1) := Fm104 (dk_43 (dk_at s104_0 1 rfl rfl)) rfl
theorem f104_2 : ft 104 2 = some (6, 0, 0, .putfield 15, 3) := Fm104 (dk_181 0 15 (dk_at s104_0 2 rfl rfl)) rfl
theorem f104_5 : ft 104 5 = some (6, 0, 0, .aload_n 0, 1) := Fm104 (dk_42 (dk_at s104_0 5 rfl rfl)) rfl
theorem f104_6 : ft 104 6 = some (6, 0, 0, .iload_n 2, 1) := Fm104 (dk_28 (dk_at s104_0 6 rfl rfl)) rfl
theorem f104_7 : ft 104 7 = some (6, 0, 0, .putfield 19, 3) := Fm104 (dk_181 0 19 (dk_at s104_0 7 rfl rfl)) rfl
theorem f104_10 : ft 104 10 = some (6, 0, 0, .aload_n 0, 1) := Fm104 (dk_42 (dk_at s104_0 10 rfl rfl)) rfl
theorem f104_11 : ft 104 11 = some (6, 0, 0, .iconst 0, 1) := Fm104 (dk_3 (dk_at s104_0 11 rfl rfl)) rfl
theorem f104_12 : ft 104 12 = some (6, 0, 0, .putfield 23, 3) := Fm104 (dk_181 0 23 (dk_at s104_0 12 rfl rfl)) rfl
theorem f104_15 : ft 104 15 = some (6, 0, 0, .return_, 1) := Fm104 (dk_177 (dk_at s104_0 15 rfl rfl)) rfl
theorem q104 {d : Nat} {m : Mem} {a0 a1 a2 : Int} (hz : TZ m) : le2 (gd (tg m a0 = 6) <| some (.inl none, (mst (mst (mst m a0 0 a1) a0 1 a2) a0 3 0))) (cl d 104 [pR a0, pR a1, pI a2] m) := by
  refine q_in (n := 3) (L := [pR a0, pR a1, pI a2]) rfl rfl rfl ?_
  refine r_aln0 (p := 1) f104_0 rfl ?_
  refine r_aln1 (p := 2) f104_1 rfl ?_
  refine le2_gd (fun h1 => ?_)
  refine r_pfR (f := 0) (p := 5) f104_2 rfl rfl rfl (by decide) (by decide) (Or.inl h1) rfl ?_
  refine r_aln0 (p := 6) f104_5 rfl ?_
  refine r_iln2 (p := 7) f104_6 rfl ?_
  refine r_pfI (f := 1) (p := 10) f104_7 rfl rfl rfl (by decide) (by decide) (Or.inl h1) rfl ?_
  refine r_aln0 (p := 11) f104_10 rfl ?_
  refine r_iconst (p := 12) f104_11 rfl (pinD rfl rfl) ?_
  refine r_pfI (f := 3) (p := 15) f104_12 rfl rfl rfl (by decide) (by decide) (Or.inl h1) rfl ?_
  exact r_ret f104_15
/-! 105 PathStore$Runner.run (LPathStore$Query;I)I -/
def w105_5 : List UInt8 := [167, 255, 167, 42, 180, 0, 23, 29, 100, 172]
abbrev u105_5 : List UInt8 := w105_5 ++ []
def w105_4 : List UInt8 := [42, 180, 0, 9, 21, 6, 46, 182, 0, 63, 132, 6, 1, 167, 255, 194, 21, 5, 62, 132, 4, 1]
abbrev u105_4 : List UInt8 := w105_4 ++ u105_5
def w105_3 : List UInt8 := [21, 4, 50, 42, 180, 0, 9, 21, 6, 46, 182, 0, 60, 167, 0, 21, 42, 43, 180, 0, 51, 21, 4, 50]
abbrev u105_3 : List UInt8 := w105_3 ++ u105_4
def w105_2 : List UInt8 := [21, 5, 162, 0, 61, 43, 180, 0, 51, 21, 4, 50, 180, 0, 55, 153, 0, 24, 42, 43, 180, 0, 51]
abbrev u105_2 : List UInt8 := w105_2 ++ u105_3
def w105_1 : List UInt8 := [3, 54, 4, 21, 4, 43, 180, 0, 50, 162, 0, 86, 42, 180, 0, 23, 54, 5, 29, 54, 6, 21, 6]
abbrev u105_1 : List UInt8 := w105_1 ++ u105_2
def w105_0 : List UInt8 := [42, 180, 0, 23, 62, 42, 43, 180, 0, 41, 153, 0, 10, 42, 180, 0, 19, 167, 0, 4, 28, 182, 0, 46]
abbrev u105_0 : List UInt8 := w105_0 ++ u105_1
theorem s105_0 : (prog_22_method_5_code).data.toList.drop 0 = u105_0 := by decide +kernel
theorem s105_1 : (prog_22_method_5_code).data.toList.drop 24 = u105_1 := dk_seg s105_0 24 rfl rfl
theorem s105_2 : (prog_22_method_5_code).data.toList.drop 47 = u105_2 := dk_seg s105_1 23 rfl rfl
theorem s105_3 : (prog_22_method_5_code).data.toList.drop 70 = u105_3 := dk_seg s105_2 23 rfl rfl
theorem s105_4 : (prog_22_method_5_code).data.toList.drop 94 = u105_4 := dk_seg s105_3 24 rfl rfl
theorem s105_5 : (prog_22_method_5_code).data.toList.drop 116 = u105_5 := dk_seg s105_4 22 rfl rfl
theorem Fm105 {pc len : Nat} {i : Instr} (h : decode (prog_22_method_5_code) pc = .ok (i, len)) (hl : len = ilen i len) : ft 105 pc = some (6, 1, 0, i, len) := ft_mk rfl h hl
theorem f105_0 : ft 105 0 = some (6, 1, 0, .aload_n 0, 1) := Fm105 (dk_42 (dk_at s105_0 0 rfl rfl)) rfl
theorem f105_1 : ft 105 1 = some (6, 1, 0, .getfield 23, 3) := Fm105 (dk_180 0 23 (dk_at s105_0 1 rfl rfl)) rfl
theorem f105_4 : ft 105 4 = some (6, 1, 0, .istore_n 3, 1) := Fm105 (dk_62 (dk_at s105_0 4 rfl rfl)) rfl
theorem f105_5 : ft 105 5 = some (6, 1, 0, .aload_n 0, 1) := Fm105 (dk_42 (dk_at s105_0 5 rfl rfl)) rfl
theorem f105_6 : ft 105 6 = some (6, 1, 0, .aload_n 1, 1) := Fm105 (dk_43 (dk_at s105_0 6 rfl rfl)) rfl
theorem f105_7 : ft 105 7 = some (6, 1, 0, .getfield 41, 3) := Fm105 (dk_180 0 41 (dk_at s105_0 7 rfl rfl)) rfl
theorem f105_10 : ft 105 10 = some (6, 1, 0, .ifCond .eq 10, 3) := Fm105 (dk_153 0 10 (dk_at s105_0 10 rfl rfl)) rfl
theorem f105_13 : ft 105 13 = some (6, 1, 0, .aload_n 0, 1) := Fm105 (dk_42 (dk_at s105_0 13 rfl rfl)) rfl
theorem f105_14 : ft 105 14 = some (6, 1, 0, .getfield 19, 3) := Fm105 (dk_180 0 19 (dk_at s105_0 14 rfl rfl)) rfl
theorem f105_17 : ft 105 17 = some (6, 1, 0, .goto 4, 3) := Fm105 (dk_167 0 4 (dk_at s105_0 17 rfl rfl)) rfl
theorem f105_20 : ft 105 20 = some (6, 1, 0, .iload_n 2, 1) := Fm105 (dk_28 (dk_at s105_0 20 rfl rfl)) rfl
theorem f105_21 : ft 105 21 = some (6, 1, 0, .invokevirtual 46, 3) := Fm105 (dk_182 0 46 (dk_at s105_0 21 rfl rfl)) rfl
theorem f105_24 : ft 105 24 = some (6, 1, 0, .iconst 0, 1) := Fm105 (dk_3 (dk_at s105_1 0 rfl rfl)) rfl
theorem f105_25 : ft 105 25 = some (6, 1, 0, .istore 4, 2) := Fm105 (dk_54 4 (dk_at s105_1 1 rfl rfl)) rfl
theorem f105_27 : ft 105 27 = some (6, 1, 0, .iload 4, 2) := Fm105 (dk_21 4 (dk_at s105_1 3 rfl rfl)) rfl
theorem f105_29 : ft 105 29 = some (6, 1, 0, .aload_n 1, 1) := Fm105 (dk_43 (dk_at s105_1 5 rfl rfl)) rfl
theorem f105_30 : ft 105 30 = some (6, 1, 0, .getfield 50, 3) := Fm105 (dk_180 0 50 (dk_at s105_1 6 rfl rfl)) rfl
theorem f105_33 : ft 105 33 = some (6, 1, 0, .if_icmp .ge 86, 3) := Fm105 (dk_162 0 86 (dk_at s105_1 9 rfl rfl)) rfl
theorem f105_36 : ft 105 36 = some (6, 1, 0, .aload_n 0, 1) := Fm105 (dk_42 (dk_at s105_1 12 rfl rfl)) rfl
theorem f105_37 : ft 105 37 = some (6, 1, 0, .getfield 23, 3) := Fm105 (dk_180 0 23 (dk_at s105_1 13 rfl rfl)) rfl
theorem f105_40 : ft 105 40 = some (6, 1, 0, .istore 5, 2) := Fm105 (dk_54 5 (dk_at s105_1 16 rfl rfl)) rfl
theorem f105_42 : ft 105 42 = some (6, 1, 0, .iload_n 3, 1) := Fm105 (dk_29 (dk_at s105_1 18 rfl rfl)) rfl
theorem f105_43 : ft 105 43 = some (6, 1, 0, .istore 6, 2) := Fm105 (dk_54 6 (dk_at s105_1 19 rfl rfl)) rfl
theorem f105_45 : ft 105 45 = some (6, 1, 0, .iload 6, 2) := Fm105 (dk_21 6 (dk_at s105_1 21 rfl rfl)) rfl
theorem f105_47 : ft 105 47 = some (6, 1, 0, .iload 5, 2) := Fm105 (dk_21 5 (dk_at s105_2 0 rfl rfl)) rfl
theorem f105_49 : ft 105 49 = some (6, 1, 0, .if_icmp .ge 61, 3) := Fm105 (dk_162 0 61 (dk_at s105_2 2 rfl rfl)) rfl
theorem f105_52 : ft 105 52 = some (6, 1, 0, .aload_n 1, 1) := Fm105 (dk_43 (dk_at s105_2 5 rfl rfl)) rfl
theorem f105_53 : ft 105 53 = some (6, 1, 0, .getfield 51, 3) := Fm105 (dk_180 0 51 (dk_at s105_2 6 rfl rfl)) rfl
theorem f105_56 : ft 105 56 = some (6, 1, 0, .iload 4, 2) := Fm105 (dk_21 4 (dk_at s105_2 9 rfl rfl)) rfl
theorem f105_58 : ft 105 58 = some (6, 1, 0, .aaload, 1) := Fm105 (dk_50 (dk_at s105_2 11 rfl rfl)) rfl
theorem f105_59 : ft 105 59 = some (6, 1, 0, .getfield 55, 3) := Fm105 (dk_180 0 55 (dk_at s105_2 12 rfl rfl)) rfl
theorem f105_62 : ft 105 62 = some (6, 1, 0, .ifCond .eq 24, 3) := Fm105 (dk_153 0 24 (dk_at s105_2 15 rfl rfl)) rfl
theorem f105_65 : ft 105 65 = some (6, 1, 0, .aload_n 0, 1) := Fm105 (dk_42 (dk_at s105_2 18 rfl rfl)) rfl
theorem f105_66 : ft 105 66 = some (6, 1, 0, .aload_n 1, 1) := Fm105 (dk_43 (dk_at s105_2 19 rfl rfl)) rfl
theorem f105_67 : ft 105 67 = some (6, 1, 0, .getfield 51, 3) := Fm105 (dk_180 0 51 (dk_at s105_2 20 rfl rfl)) rfl
theorem f105_70 : ft 105 70 = some (6, 1, 0, .iload 4, 2) := Fm105 (dk_21 4 (dk_at s105_3 0 rfl rfl)) rfl
theorem f105_72 : ft 105 72 = some (6, 1, 0, .aaload, 1) := Fm105 (dk_50 (dk_at s105_3 2 rfl rfl)) rfl
theorem f105_73 : ft 105 73 = some (6, 1, 0, .aload_n 0, 1) := Fm105 (dk_42 (dk_at s105_3 3 rfl rfl)) rfl
theorem f105_74 : ft 105 74 = some (6, 1, 0, .getfield 9, 3) := Fm105 (dk_180 0 9 (dk_at s105_3 4 rfl rfl)) rfl
theorem f105_77 : ft 105 77 = some (6, 1, 0, .iload 6, 2) := Fm105 (dk_21 6 (dk_at s105_3 7 rfl rfl)) rfl
theorem f105_79 : ft 105 79 = some (6, 1, 0, .iaload, 1) := Fm105 (dk_46 (dk_at s105_3 9 rfl rfl)) rfl
theorem f105_80 : ft 105 80 = some (6, 1, 0, .invokevirtual 60, 3) := Fm105 (dk_182 0 60 (dk_at s105_3 10 rfl rfl)) rfl
theorem f105_83 : ft 105 83 = some (6, 1, 0, .goto 21, 3) := Fm105 (dk_167 0 21 (dk_at s105_3 13 rfl rfl)) rfl
theorem f105_86 : ft 105 86 = some (6, 1, 0, .aload_n 0, 1) := Fm105 (dk_42 (dk_at s105_3 16 rfl rfl)) rfl
theorem f105_87 : ft 105 87 = some (6, 1, 0, .aload_n 1, 1) := Fm105 (dk_43 (dk_at s105_3 17 rfl rfl)) rfl
theorem f105_88 : ft 105 88 = some (6, 1, 0, .getfield 51, 3) := Fm105 (dk_180 0 51 (dk_at s105_3 18 rfl rfl)) rfl
theorem f105_91 : ft 105 91 = some (6, 1, 0, .iload 4, 2) := Fm105 (dk_21 4 (dk_at s105_3 21 rfl rfl)) rfl
theorem f105_93 : ft 105 93 = some (6, 1, 0, .aaload, 1) := Fm105 (dk_50 (dk_at s105_3 23 rfl rfl)) rfl
theorem f105_94 : ft 105 94 = some (6, 1, 0, .aload_n 0, 1) := Fm105 (dk_42 (dk_at s105_4 0 rfl rfl)) rfl
theorem f105_95 : ft 105 95 = some (6, 1, 0, .getfield 9, 3) := Fm105 (dk_180 0 9 (dk_at s105_4 1 rfl rfl)) rfl
theorem f105_98 : ft 105 98 = some (6, 1, 0, .iload 6, 2) := Fm105 (dk_21 6 (dk_at s105_4 4 rfl rfl)) rfl
theorem f105_100 : ft 105 100 = some (6, 1, 0, .iaload, 1) := Fm105 (dk_46 (dk_at s105_4 6 rfl rfl)) rfl
theorem f105_101 : ft 105 101 = some (6, 1, 0, .invokevirtual 63, 3) := Fm105 (dk_182 0 63 (dk_at s105_4 7 rfl rfl)) rfl
theorem f105_104 : ft 105 104 = some (6, 1, 0, .iinc 6 1, 3) := Fm105 (dk_132 6 1 (dk_at s105_4 10 rfl rfl)) rfl
theorem f105_107 : ft 105 107 = some (6, 1, 0, .goto (-62), 3) := Fm105 (dk_167 255 194 (dk_at s105_4 13 rfl rfl)) rfl
theorem f105_110 : ft 105 110 = some (6, 1, 0, .iload 5, 2) := Fm105 (dk_21 5 (dk_at s105_4 16 rfl rfl)) rfl
theorem f105_112 : ft 105 112 = some (6, 1, 0, .istore_n 3, 1) := Fm105 (dk_62 (dk_at s105_4 18 rfl rfl)) rfl
theorem f105_113 : ft 105 113 = some (6, 1, 0, .iinc 4 1, 3) := Fm105 (dk_132 4 1 (dk_at s105_4 19 rfl rfl)) rfl
theorem f105_116 : ft 105 116 = some (6, 1, 0, .goto (-89), 3) := Fm105 (dk_167 255 167 (dk_at s105_5 0 rfl rfl)) rfl
theorem f105_119 : ft 105 119 = some (6, 1, 0, .aload_n 0, 1) := Fm105 (dk_42 (dk_at s105_5 3 rfl rfl)) rfl
theorem f105_120 : ft 105 120 = some (6, 1, 0, .getfield 23, 3) := Fm105 (dk_180 0 23 (dk_at s105_5 4 rfl rfl)) rfl
theorem f105_123 : ft 105 123 = some (6, 1, 0, .iload_n 3, 1) := Fm105 (dk_29 (dk_at s105_5 7 rfl rfl)) rfl
theorem f105_124 : ft 105 124 = some (6, 1, 0, .isub, 1) := Fm105 (dk_100 (dk_at s105_5 8 rfl rfl)) rfl
theorem f105_125 : ft 105 125 = some (6, 1, 0, .ireturn, 1) := Fm105 (dk_172 (dk_at s105_5 9 rfl rfl)) rfl
theorem q105 {d : Nat} {m : Mem} {a0 a1 a2 : Int} (hd : 0 < d) (hz : TZ m) : le2 (gd (tg m a0 = 6) <| nm (vl m a0 3) fun v3 => gd (tg m a1 = 15) <| if (vl m a1 0) = 0 then (bV (cl (d - 1) 106 [pR a0, pI a2] m) fun m1 => rn d 105 27 [pR a0, pR a1, pI a2, pI v3, pI 0, pU, pU] [] m1) else bV (cl (d - 1) 106 [pR a0, pI (vl m a0 1)] m) fun m2 => rn d 105 27 [pR a0, pR a1, pI a2, pI v3, pI 0, pU, pU] [] m2) (cl d 105 [pR a0, pR a1, pI a2] m) := by
  refine q_in (n := 7) (L := [pR a0, pR a1, pI a2, pU, pU, pU, pU]) rfl rfl rfl ?_
  refine r_aln0 (p := 1) f105_0 rfl ?_
  refine le2_gd (fun h1 => ?_)
  refine r_gfI (f := 3) (p := 4) f105_1 rfl rfl rfl (Or.inl h1) rfl ?_
  refine r_nmI (fun v3 ev3 => ?_)
  refine r_isn3 (p := 5) f105_4 rfl rfl ?_
  refine r_aln0 (p := 6) f105_5 rfl ?_
  refine r_aln1 (p := 7) f105_6 rfl ?_
  refine le2_gd (fun h2 => ?_)
  refine r_gfIZ (f := 0) (p := 10) f105_7 rfl rfl rfl (Or.inl h2) rfl ?_
  refine r_ifeq (t := 20) (p := 13) f105_10 (by decide) rfl rfl ?_ ?_
  · refine r_iln2 (p := 21) f105_20 rfl ?_
    refine r_invV (p := 24) f105_21 rfl rfl rfl (Or.inl h1) hd (Nat.le_of_ble_eq_true rfl) rfl rfl rfl (fun _ => rfl) (fun m1 c1 => ?_)
    have hz1 := z_k c1 hz
    refine r_iconst (p := 25) f105_24 rfl (pinD rfl rfl) ?_
    refine r_isw4 (p := 27) f105_25 rfl rfl ?_
    exact le2_refl _
  · refine r_aln0 (p := 14) f105_13 rfl ?_
    refine r_gfI (f := 1) (p := 17) f105_14 rfl rfl rfl (Or.inl h1) rfl ?_
    refine r_goto (p := 21) f105_17 (by decide) rfl ?_
    refine r_invV (p := 24) f105_21 rfl rfl rfl (Or.inl h1) hd (Nat.le_of_ble_eq_true rfl) rfl rfl rfl (fun _ => rfl) (fun m2 c2 => ?_)
    have hz2 := z_k c2 hz
    refine r_iconst (p := 25) f105_24 rfl (pinD rfl rfl) ?_
    refine r_isw4 (p := 27) f105_25 rfl rfl ?_
    exact le2_refl _
theorem q105_27 {d : Nat} {m : Mem} {a0 a1 a2 a3 a4 : Int} {z5 z6 : PV} (hz : TZ m) (hcz5 : cat z5 = 1) (hcz6 : cat z6 = 1) : le2 (gd (tg m a1 = 15) <| if a4 < (vl m a1 3) then (gd (tg m a0 = 6) <| rn d 105 45 [pR a0, pR a1, pI a2, pI a3, pI a4, pI (vl m a0 3), pI a3] [] m) else gd (tg m a0 = 6) <| some (.inl (some (pI (w32 ((vl m a0 3) - a3)))), m)) (rn d 105 27 [pR a0, pR a1, pI a2, pI a3, pI a4, z5, z6] [] m) := by
  refine r_ilw4 (p := 29) f105_27 rfl ?_
  refine r_aln1 (p := 30) f105_29 rfl ?_
  refine le2_gd (fun h1 => ?_)
  refine r_gfI (f := 3) (p := 33) f105_30 rfl rfl rfl (Or.inl h1) rfl ?_
  refine r_icge (t := 119) (p := 36) f105_33 (by decide) rfl rfl ?_ ?_
  · refine r_aln0 (p := 37) f105_36 rfl ?_
    refine le2_gd (fun h3 => ?_)
    refine r_gfI (f := 3) (p := 40) f105_37 rfl rfl rfl (Or.inl h3) rfl ?_
    refine r_isw5 (p := 42) f105_40 rfl rfl ?_
    refine r_iln3 (p := 43) f105_42 rfl ?_
    refine r_isw6 (p := 45) f105_43 rfl rfl ?_
    exact le2_refl _
  · refine r_aln0 (p := 120) f105_119 rfl ?_
    refine le2_gd (fun h2 => ?_)
    refine r_gfI (f := 3) (p := 123) f105_120 rfl rfl rfl (Or.inl h2) rfl ?_
    refine r_iln3 (p := 124) f105_123 rfl ?_
    refine r_isub (p := 125) f105_124 rfl ?_
    exact r_iret1 f105_125
theorem q105_45 {d : Nat} {m : Mem} {a0 a1 a2 a3 a4 a5 a6 : Int} (hd : 0 < d) (hz : TZ m) : le2 (if a6 < a5 then (gd (tg m a1 = 15) <| nm (vl m a1 2) fun v3 => gd (tg m v3 = 303113 ∨ tg m v3 = 304113) <| gd ((0 : Int) ≤ a4 ∧ a4 < ln m v3) <| nm (vl m v3 a4) fun v4 => gd (tg m v4 = 16) <| if (vl m v4 0) = 0 then (gd (tg m a0 = 6) <| nm (vl m a0 2) fun v5 => gd (tg m v5 = 104101 ∨ tg m v5 = 107101) <| gd ((0 : Int) ≤ a6 ∧ a6 < ln m v5) <| bV (cl (d - 1) 109 [pR a0, pR v4, pI (vl m v5 a6)] m) fun m1 => rn d 105 45 [pR a0, pR a1, pI a2, pI a3, pI a4, pI a5, pI (w32 (a6 + 1))] [] m1) else gd (tg m a0 = 6) <| nm (vl m a0 2) fun v6 => gd (tg m v6 = 104101 ∨ tg m v6 = 107101) <| gd ((0 : Int) ≤ a6 ∧ a6 < ln m v6) <| bV (cl (d - 1) 108 [pR a0, pR v4, pI (vl m v6 a6)] m) fun m2 => rn d 105 45 [pR a0, pR a1, pI a2, pI a3, pI a4, pI a5, pI (w32 (a6 + 1))] [] m2) else rn d 105 27 [pR a0, pR a1, pI a2, pI a5, pI (w32 (a4 + 1)), pI a5, pI a6] [] m) (rn d 105 45 [pR a0, pR a1, pI a2, pI a3, pI a4, pI a5, pI a6] [] m) := by
  refine r_ilw6 (p := 47) f105_45 rfl ?_
  refine r_ilw5 (p := 49) f105_47 rfl ?_
  refine r_icge (t := 110) (p := 52) f105_49 (by decide) rfl rfl ?_ ?_
  · refine r_aln1 (p := 53) f105_52 rfl ?_
    refine le2_gd (fun h1 => ?_)
    refine r_gfR (f := 2) (p := 56) f105_53 rfl rfl rfl (Or.inl h1) rfl ?_
    refine r_nmR (fun v3 ev3 => ?_)
    refine r_ilw4 (p := 58) f105_56 rfl ?_
    refine le2_gd (fun h2 => ?_)
    refine le2_gd (fun h3 => ?_)
    refine r_aaload (p := 59) f105_58 rfl (dj2 (fun x => 110 < x % 1000 ∧ x % 1000 < 119) h2 (by decide) (by decide)) h3 rfl ?_
    refine r_nmR (fun v4 ev4 => ?_)
    refine le2_gd (fun h4 => ?_)
    refine r_gfIZ (f := 0) (p := 62) f105_59 rfl rfl rfl (Or.inl h4) rfl ?_
    refine r_ifeq (t := 86) (p := 65) f105_62 (by decide) rfl rfl ?_ ?_
    · refine r_aln0 (p := 87) f105_86 rfl ?_
      refine r_aln1 (p := 88) f105_87 rfl ?_
      refine r_gfR (f := 2) (p := 91) f105_88 rfl rfl rfl (Or.inl h1) ev3.symm ?_
      refine r_ilw4 (p := 93) f105_91 rfl ?_
      refine r_aaload (p := 94) f105_93 rfl (dj2 (fun x => 110 < x % 1000 ∧ x % 1000 < 119) h2 (by decide) (by decide)) h3 ev4.symm ?_
      refine r_aln0 (p := 95) f105_94 rfl ?_
      refine le2_gd (fun h5 => ?_)
      refine r_gfR (f := 2) (p := 98) f105_95 rfl rfl rfl (Or.inl h5) rfl ?_
      refine r_nmR (fun v5 ev5 => ?_)
      refine r_ilw6 (p := 100) f105_98 rfl ?_
      refine le2_gd (fun h6 => ?_)
      refine le2_gd (fun h7 => ?_)
      refine r_iaload (p := 101) f105_100 rfl (dj2 (fun x => x % 1000 = 101) h6 (by decide) (by decide)) h7 rfl ?_
      refine r_invV (p := 104) f105_101 rfl rfl rfl (Or.inl h5) hd (Nat.le_of_ble_eq_true rfl) rfl rfl rfl (fun _ => rfl) (fun m1 c1 => ?_)
      have hz1 := z_k c1 hz
      refine r_iinc6 (p := 107) f105_104 rfl rfl ?_
      refine r_goto (p := 45) f105_107 (by decide) rfl ?_
      exact le2_refl _
    · refine r_aln0 (p := 66) f105_65 rfl ?_
      refine r_aln1 (p := 67) f105_66 rfl ?_
      refine r_gfR (f := 2) (p := 70) f105_67 rfl rfl rfl (Or.inl h1) ev3.symm ?_
      refine r_ilw4 (p := 72) f105_70 rfl ?_
      refine r_aaload (p := 73) f105_72 rfl (dj2 (fun x => 110 < x % 1000 ∧ x % 1000 < 119) h2 (by decide) (by decide)) h3 ev4.symm ?_
      refine r_aln0 (p := 74) f105_73 rfl ?_
      refine le2_gd (fun h8 => ?_)
      refine r_gfR (f := 2) (p := 77) f105_74 rfl rfl rfl (Or.inl h8) rfl ?_
      refine r_nmR (fun v6 ev6 => ?_)
      refine r_ilw6 (p := 79) f105_77 rfl ?_
      refine le2_gd (fun h9 => ?_)
      refine le2_gd (fun h10 => ?_)
      refine r_iaload (p := 80) f105_79 rfl (dj2 (fun x => x % 1000 = 101) h9 (by decide) (by decide)) h10 rfl ?_
      refine r_invV (p := 83) f105_80 rfl rfl rfl (Or.inl h8) hd (Nat.le_of_ble_eq_true rfl) rfl rfl rfl (fun _ => rfl) (fun m2 c2 => ?_)
      have hz2 := z_k c2 hz
      refine r_goto (p := 104) f105_83 (by decide) rfl ?_
      refine r_iinc6 (p := 107) f105_104 rfl rfl ?_
      refine r_goto (p := 45) f105_107 (by decide) rfl ?_
      exact le2_refl _
  · refine r_ilw5 (p := 112) f105_110 rfl ?_
    refine r_isn3 (p := 113) f105_112 rfl rfl ?_
    refine r_iinc4 (p := 116) f105_113 rfl rfl ?_
    refine r_goto (p := 27) f105_116 (by decide) rfl ?_
    exact le2_refl _
/-! 106 PathStore$Runner.add (I)V -/
def w106_2 : List UInt8 := [42, 89, 180, 0, 23, 90, 4, 96, 181, 0, 23, 27, 79, 177]
abbrev u106_2 : List UInt8 := w106_2 ++ []
def w106_1 : List UInt8 := [77, 42, 180, 0, 9, 3, 44, 3, 42, 180, 0, 23, 184, 0, 35, 42, 44, 181, 0, 9, 42, 180, 0, 9]
abbrev u106_1 : List UInt8 := w106_1 ++ u106_2
def w106_0 : List UInt8 := [42, 182, 0, 32, 42, 180, 0, 23, 42, 180, 0, 9, 190, 160, 0, 31, 5, 42, 180, 0, 23, 104, 188, 10]
abbrev u106_0 : List UInt8 := w106_0 ++ u106_1
theorem s106_0 : (prog_22_method_4_code).data.toList.drop 0 = u106_0 := by decide +kernel
theorem s106_1 : (prog_22_method_4_code).data.toList.drop 24 = u106_1 := dk_seg s106_0 24 rfl rfl
theorem s106_2 : (prog_22_method_4_code).data.toList.drop 48 = u106_2 := dk_seg s106_1 24 rfl rfl
theorem Fm106 {pc len : Nat} {i : Instr} (h : decode (prog_22_method_4_code) pc = .ok (i, len)) (hl : len = ilen i len) : ft 106 pc = some (6, 0, 0, i, len) := ft_mk rfl h hl
theorem f106_0 : ft 106 0 = some (6, 0, 0, .aload_n 0, 1) := Fm106 (dk_42 (dk_at s106_0 0 rfl rfl)) rfl
theorem f106_1 : ft 106 1 = some (6, 0, 0, .invokevirtual 32, 3) := Fm106 (dk_182 0 32 (dk_at s106_0 1 rfl rfl)) rfl
theorem f106_4 : ft 106 4 = some (6, 0, 0, .aload_n 0, 1) := Fm106 (dk_42 (dk_at s106_0 4 rfl rfl)) rfl
theorem f106_5 : ft 106 5 = some (6, 0, 0, .getfield 23, 3) := Fm106 (dk_180 0 23 (dk_at s106_0 5 rfl rfl)) rfl
theorem f106_8 : ft 106 8 = some (6, 0, 0, .aload_n 0, 1) := Fm106 (dk_42 (dk_at s106_0 8 rfl rfl)) rfl
theorem f106_9 : ft 106 9 = some (6, 0, 0, .getfield 9, 3) := Fm106 (dk_180 0 9 (dk_at s106_0 9 rfl rfl)) rfl
theorem f106_12 : ft 106 12 = some (6, 0, 0, .arraylength, 1) := Fm106 (dk_190 (dk_at s106_0 12 rfl rfl)) rfl
theorem f106_13 : ft 106 13 = some (6, 0, 0, .if_icmp .ne 31, 3) := Fm106 (dk_160 0 31 (dk_at s106_0 13 rfl rfl)) rfl
theorem f106_16 : ft 106 16 = some (6, 0, 0, .iconst 2, 1) := Fm106 (dk_5 (dk_at s106_0 16 rfl rfl)) rfl
theorem f106_17 : ft 106 17 = some (6, 0, 0, .aload_n 0, 1) := Fm106 (dk_42 (dk_at s106_0 17 rfl rfl)) rfl
theorem f106_18 : ft 106 18 = some (6, 0, 0, .getfield 23, 3) := Fm106 (dk_180 0 23 (dk_at s106_0 18 rfl rfl)) rfl
theorem f106_21 : ft 106 21 = some (6, 0, 0, .imul, 1) := Fm106 (dk_104 (dk_at s106_0 21 rfl rfl)) rfl
theorem f106_22 : ft 106 22 = some (6, 0, 0, .newarray .int, 2) := Fm106 (dk_188_10 (dk_at s106_0 22 rfl rfl)) rfl
theorem f106_24 : ft 106 24 = some (6, 0, 0, .astore_n 2, 1) := Fm106 (dk_77 (dk_at s106_1 0 rfl rfl)) rfl
theorem f106_25 : ft 106 25 = some (6, 0, 0, .aload_n 0, 1) := Fm106 (dk_42 (dk_at s106_1 1 rfl rfl)) rfl
theorem f106_26 : ft 106 26 = some (6, 0, 0, .getfield 9, 3) := Fm106 (dk_180 0 9 (dk_at s106_1 2 rfl rfl)) rfl
theorem f106_29 : ft 106 29 = some (6, 0, 0, .iconst 0, 1) := Fm106 (dk_3 (dk_at s106_1 5 rfl rfl)) rfl
theorem f106_30 : ft 106 30 = some (6, 0, 0, .aload_n 2, 1) := Fm106 (dk_44 (dk_at s106_1 6 rfl rfl)) rfl
theorem f106_31 : ft 106 31 = some (6, 0, 0, .iconst 0, 1) := Fm106 (dk_3 (dk_at s106_1 7 rfl rfl)) rfl
theorem f106_32 : ft 106 32 = some (6, 0, 0, .aload_n 0, 1) := Fm106 (dk_42 (dk_at s106_1 8 rfl rfl)) rfl
theorem f106_33 : ft 106 33 = some (6, 0, 0, .getfield 23, 3) := Fm106 (dk_180 0 23 (dk_at s106_1 9 rfl rfl)) rfl
theorem f106_36 : ft 106 36 = some (6, 0, 0, .invokestatic 35, 3) := Fm106 (dk_184 0 35 (dk_at s106_1 12 rfl rfl)) rfl
theorem f106_39 : ft 106 39 = some (6, 0, 0, .aload_n 0, 1) := Fm106 (dk_42 (dk_at s106_1 15 rfl rfl)) rfl
theorem f106_40 : ft 106 40 = some (6, 0, 0, .aload_n 2, 1) := Fm106 (dk_44 (dk_at s106_1 16 rfl rfl)) rfl
theorem f106_41 : ft 106 41 = some (6, 0, 0, .putfield 9, 3) := Fm106 (dk_181 0 9 (dk_at s106_1 17 rfl rfl)) rfl
theorem f106_44 : ft 106 44 = some (6, 0, 0, .aload_n 0, 1) := Fm106 (dk_42 (dk_at s106_1 20 rfl rfl)) rfl
theorem f106_45 : ft 106 45 = some (6, 0, 0, .getfield 9, 3) := Fm106 (dk_180 0 9 (dk_at s106_1 21 rfl rfl)) rfl
theorem f106_48 : ft 106 48 = some (6, 0, 0, .aload_n 0, 1) := Fm106 (dk_42 (dk_at s106_2 0 rfl rfl)) rfl
theorem f106_49 : ft 106 49 = some (6, 0, 0, .dup, 1) := Fm106 (dk_89 (dk_at s106_2 1 rfl rfl)) rfl
theorem f106_50 : ft 106 50 = some (6, 0, 0, .getfield 23, 3) := Fm106 (dk_180 0 23 (dk_at s106_2 2 rfl rfl)) rfl
theorem f106_53 : ft 106 53 = some (6, 0, 0, .dup_x1, 1) := Fm106 (dk_90 (dk_at s106_2 5 rfl rfl)) rfl
theorem f106_54 : ft 106 54 = some (6, 0, 0, .iconst 1, 1) := Fm106 (dk_4 (dk_at s106_2 6 rfl rfl)) rfl
theorem f106_55 : ft 106 55 = some (6, 0, 0, .iadd, 1) := Fm106 (dk_96 (dk_at s106_2 7 rfl rfl)) rfl
theorem f106_56 : ft 106 56 = some (6, 0, 0, .putfield 23, 3) := Fm106 (dk_181 0 23 (dk_at s106_2 8 rfl rfl)) rfl
theorem f106_59 : ft 106 59 = some (6, 0, 0, .iload_n 1, 1) := Fm106 (dk_27 (dk_at s106_2 11 rfl rfl)) rfl
theorem f106_60 : ft 106 60 = some (6, 0, 0, .iastore, 1) := Fm106 (dk_79 (dk_at s106_2 12 rfl rfl)) rfl
theorem f106_61 : ft 106 61 = some (6, 0, 0, .return_, 1) := Fm106 (dk_177 (dk_at s106_2 13 rfl rfl)) rfl
theorem q106 {d : Nat} {m : Mem} {a0 a1 : Int} (hd : 0 < d) (hz : TZ m) : le2 (gd (tg m a0 = 6) <| bV (cl (d - 1) 107 [pR a0] m) fun m1 => nm (vl m1 a0 3) fun v3 => nm (vl m1 a0 2) fun v4 => gd (tg m1 v4 = 104101 ∨ tg m1 v4 = 107101) <| if v3 = (ln m1 v4) then (nm (w32 (2 * v3)) fun v5 => gd ((0 : Int) ≤ v5 ∧ v5 ≤ 2000000) <| nw (nx m1) (mal m1 107101 v5) fun o2 m2 => nm (vl m2 a0 2) fun v6 => nm (vl m2 a0 3) fun v7 => gd (tg m2 v6 = 104101 ∨ tg m2 v6 = 107101) <| gd ((0 : Int) ≤ v7 ∧ (0 : Int) ≤ 0 ∧ (0 : Int) ≤ 0 ∧ 0 + v7 ≤ ln m2 v6 ∧ 0 + v7 ≤ ln m2 o2) <| rn d 106 44 [pR a0, pI a1, pR o2] [] (mst (mcp m2 v6 0 o2 0 v7) a0 2 o2)) else rn d 106 44 [pR a0, pI a1, pU] [] m1) (cl d 106 [pR a0, pI a1] m) := by
  refine q_in (n := 3) (L := [pR a0, pI a1, pU]) rfl rfl rfl ?_
  refine r_aln0 (p := 1) f106_0 rfl ?_
  refine le2_gd (fun h1 => ?_)
  refine r_invV (p := 4) f106_1 rfl rfl rfl (Or.inl h1) hd (Nat.le_of_ble_eq_true rfl) rfl rfl rfl (fun _ => rfl) (fun m1 c1 => ?_)
  have hz1 := z_k c1 hz
  refine r_aln0 (p := 5) f106_4 rfl ?_
  have h2 := k_t1 c1 hz h1 (by decide)
  refine r_gfI (f := 3) (p := 8) f106_5 rfl rfl rfl (Or.inl h2) rfl ?_
  refine r_nmI (fun v3 ev3 => ?_)
  refine r_aln0 (p := 9) f106_8 rfl ?_
  refine r_gfR (f := 2) (p := 12) f106_9 rfl rfl rfl (Or.inl h2) rfl ?_
  refine r_nmR (fun v4 ev4 => ?_)
  refine le2_gd (fun h3 => ?_)
  refine r_alen (p := 13) f106_12 rfl (dj2 (fun x => 100 < x % 1000 ∧ x % 1000 < 119) h3 (by decide) (by decide)) ?_
  refine r_icne (t := 44) (p := 16) f106_13 (by decide) rfl rfl ?_ ?_
  · refine r_iconst (p := 17) f106_16 rfl (pinD rfl rfl) ?_
    refine r_aln0 (p := 18) f106_17 rfl ?_
    refine r_gfI (f := 3) (p := 21) f106_18 rfl rfl rfl (Or.inl h2) ev3.symm ?_
    refine r_imul (p := 22) f106_21 rfl ?_
    refine r_nmI (fun v5 ev5 => ?_)
    refine le2_gd (fun h4 => ?_)
    refine r_newa (t1 := 107101) (p := 24) f106_22 rfl rfl h4 rfl rfl (fun o2 m2 h5 k2 => ?_)
    have hz2 := z_k k2 hz1
    refine r_asn2 (p := 25) f106_24 rfl rfl ?_
    refine r_aln0 (p := 26) f106_25 rfl ?_
    have h6 := k_t1 k2 hz1 h2 (by decide)
    refine r_gfR (f := 2) (p := 29) f106_26 rfl rfl rfl (Or.inl h6) rfl ?_
    refine r_nmR (fun v6 ev6 => ?_)
    refine r_iconst (p := 30) f106_29 rfl (pinD rfl rfl) ?_
    refine r_aln2 (p := 31) f106_30 rfl ?_
    refine r_iconst (p := 32) f106_31 rfl (pinD rfl rfl) ?_
    refine r_aln0 (p := 33) f106_32 rfl ?_
    refine r_gfI (f := 3) (p := 36) f106_33 rfl rfl rfl (Or.inl h6) rfl ?_
    refine r_nmI (fun v7 ev7 => ?_)
    refine le2_gd (fun h7 => ?_)
    refine le2_gd (fun h8 => ?_)
    refine r_acopy (el := 101) (p := 39) f106_36 rfl rfl h8 (dj2 (fun x => 1000 ≤ x ∧ x % 1000 = 101) h7 (by decide) (by decide)) (dj1 (fun x => 1000 ≤ x ∧ x % 1000 = 101 ∧ Nat.testBit (eM 106) (bix x 0) = true) h5 (by decide)) (by decide) (Nat.le_of_ble_eq_true rfl) ?_
    refine r_aln0 (p := 40) f106_39 rfl ?_
    refine r_aln2 (p := 41) f106_40 rfl ?_
    refine r_pfR (f := 2) (p := 44) f106_41 rfl rfl rfl (by decide) (by decide) (Or.inl h6) rfl ?_
    exact le2_refl _
  · exact le2_refl _
theorem q106_44 {d : Nat} {m : Mem} {a0 a1 : Int} {z2 : PV} (hz : TZ m) (hcz2 : cat z2 = 1) : le2 (gd (tg m a0 = 6) <| nm (vl m a0 2) fun v1 => nm (vl m a0 3) fun v2 => gd (tg m v1 = 104101 ∨ tg m v1 = 107101) <| gd ((0 : Int) ≤ v2 ∧ v2 < ln m v1) <| some (.inl none, (mst (mst m a0 3 (w32 (v2 + 1))) v1 v2 a1))) (rn d 106 44 [pR a0, pI a1, z2] [] m) := by
  refine r_aln0 (p := 45) f106_44 rfl ?_
  refine le2_gd (fun h1 => ?_)
  refine r_gfR (f := 2) (p := 48) f106_45 rfl rfl rfl (Or.inl h1) rfl ?_
  refine r_nmR (fun v1 ev1 => ?_)
  refine r_aln0 (p := 49) f106_48 rfl ?_
  refine r_dup (p := 50) f106_49 rfl rfl ?_
  refine r_gfI (f := 3) (p := 53) f106_50 rfl rfl rfl (Or.inl h1) rfl ?_
  refine r_nmI (fun v2 ev2 => ?_)
  refine r_dup_x1 (p := 54) f106_53 rfl rfl rfl ?_
  refine r_iconst (p := 55) f106_54 rfl (pinD rfl rfl) ?_
  refine r_iadd (p := 56) f106_55 rfl ?_
  refine r_pfI (f := 3) (p := 59) f106_56 rfl rfl rfl (by decide) (by decide) (Or.inl h1) rfl ?_
  refine r_iln1 (p := 60) f106_59 rfl ?_
  refine le2_gd (fun h2 => ?_)
  refine le2_gd (fun h3 => ?_)
  refine r_iastore (p := 61) f106_60 rfl (dj2 (fun x => 1000 ≤ x ∧ x % 1000 = 101 ∧ Nat.testBit (eM 106) (bix x 0) = true) h2 (by decide) (by decide)) h3 ?_
  exact r_ret f106_61
/-! 107 PathStore$Runner.work ()V -/
def w107_1 : List UInt8 := [191, 177]
abbrev u107_1 : List UInt8 := w107_1 ++ []
def w107_0 : List UInt8 := [42, 89, 180, 0, 26, 4, 96, 90, 181, 0, 26, 17, 39, 16, 164, 0, 11, 187, 0, 29, 89, 183, 0, 31]
abbrev u107_0 : List UInt8 := w107_0 ++ u107_1
theorem s107_0 : (prog_22_method_3_code).data.toList.drop 0 = u107_0 := by decide +kernel
theorem s107_1 : (prog_22_method_3_code).data.toList.drop 24 = u107_1 := dk_seg s107_0 24 rfl rfl
theorem Fm107 {pc len : Nat} {i : Instr} (h : decode (prog_22_method_3_code) pc = .ok (i, len)) (hl : len = ilen i len) : ft 107 pc = some (6, 0, 0, i, len) := ft_mk rfl h hl
theorem f107_0 : ft 107 0 = some (6, 0, 0, .aload_n 0, 1) := Fm107 (dk_42 (dk_at s107_0 0 rfl rfl)) rfl
theorem f107_1 : ft 107 1 = some (6, 0, 0, .dup, 1) := Fm107 (dk_89 (dk_at s107_0 1 rfl rfl)) rfl
theorem f107_2 : ft 107 2 = some (6, 0, 0, .getfield 26, 3) := Fm107 (dk_180 0 26 (dk_at s107_0 2 rfl rfl)) rfl
theorem f107_5 : ft 107 5 = some (6, 0, 0, .iconst 1, 1) := Fm107 (dk_4 (dk_at s107_0 5 rfl rfl)) rfl
theorem f107_6 : ft 107 6 = some (6, 0, 0, .iadd, 1) := Fm107 (dk_96 (dk_at s107_0 6 rfl rfl)) rfl
theorem f107_7 : ft 107 7 = some (6, 0, 0, .dup_x1, 1) := Fm107 (dk_90 (dk_at s107_0 7 rfl rfl)) rfl
theorem f107_8 : ft 107 8 = some (6, 0, 0, .putfield 26, 3) := Fm107 (dk_181 0 26 (dk_at s107_0 8 rfl rfl)) rfl
theorem f107_11 : ft 107 11 = some (6, 0, 0, .sipush 10000, 3) := Fm107 (dk_17 39 16 (dk_at s107_0 11 rfl rfl)) rfl
theorem f107_14 : ft 107 14 = some (6, 0, 0, .if_icmp .le 11, 3) := Fm107 (dk_164 0 11 (dk_at s107_0 14 rfl rfl)) rfl
theorem f107_17 : ft 107 17 = some (6, 0, 0, .new 29, 3) := Fm107 (dk_187 0 29 (dk_at s107_0 17 rfl rfl)) rfl
theorem f107_25 : ft 107 25 = some (6, 0, 0, .return_, 1) := Fm107 (dk_177 (dk_at s107_1 1 rfl rfl)) rfl
theorem q107 {d : Nat} {m : Mem} {a0 : Int} (hz : TZ m) : le2 (gd (tg m a0 = 6) <| nm (w32 ((vl m a0 4) + 1)) fun v1 => if 10000 < v1 then (some (.inr 201, mal (mst m a0 4 v1) 201 6)) else some (.inl none, (mst m a0 4 v1))) (cl d 107 [pR a0] m) := by
  refine q_in (n := 1) (L := [pR a0]) rfl rfl rfl ?_
  refine r_aln0 (p := 1) f107_0 rfl ?_
  refine r_dup (p := 2) f107_1 rfl rfl ?_
  refine le2_gd (fun h1 => ?_)
  refine r_gfI (f := 4) (p := 5) f107_2 rfl rfl rfl (Or.inl h1) rfl ?_
  refine r_iconst (p := 6) f107_5 rfl (pinD rfl rfl) ?_
  refine r_iadd (p := 7) f107_6 rfl ?_
  refine r_nmI (fun v1 ev1 => ?_)
  refine r_dup_x1 (p := 8) f107_7 rfl rfl rfl ?_
  refine r_pfI (f := 4) (p := 11) f107_8 rfl rfl rfl (by decide) (by decide) (Or.inl h1) rfl ?_
  refine r_sipush (p := 14) f107_11 rfl (pinD rfl rfl) ?_
  refine r_icle (t := 25) (p := 17) f107_14 (by decide) rfl rfl ?_ ?_
  · exact r_throw (e := 201) (f0 := 6) f107_17 rfl (by decide) (Nat.le_of_ble_eq_true rfl) rfl rfl
  · exact r_ret f107_25
/-! 108 PathStore$Runner.down (LPathStore$Segment;I)V -/
def w108_2 : List UInt8 := [42, 43, 21, 4, 182, 0, 60, 42, 180, 0, 15, 28, 21, 4, 182, 0, 88, 54, 4, 167, 255, 231, 177]
abbrev u108_2 : List UInt8 := w108_2 ++ []
def w108_1 : List UInt8 := [180, 0, 15, 28, 182, 0, 82, 62, 42, 180, 0, 15, 28, 182, 0, 85, 54, 4, 21, 4, 29, 162, 0, 25]
abbrev u108_1 : List UInt8 := w108_1 ++ u108_2
def w108_0 : List UInt8 := [42, 182, 0, 32, 42, 43, 28, 182, 0, 63, 42, 180, 0, 15, 28, 182, 0, 76, 8, 162, 0, 4, 177, 42]
abbrev u108_0 : List UInt8 := w108_0 ++ u108_1
theorem s108_0 : (prog_22_method_7_code).data.toList.drop 0 = u108_0 := by decide +kernel
theorem s108_1 : (prog_22_method_7_code).data.toList.drop 24 = u108_1 := dk_seg s108_0 24 rfl rfl
theorem s108_2 : (prog_22_method_7_code).data.toList.drop 48 = u108_2 := dk_seg s108_1 24 rfl rfl
theorem Fm108 {pc len : Nat} {i : Instr} (h : decode (prog_22_method_7_code) pc = .ok (i, len)) (hl : len = ilen i len) : ft 108 pc = some (6, 0, 0, i, len) := ft_mk rfl h hl
theorem f108_0 : ft 108 0 = some (6, 0, 0, .aload_n 0, 1) := Fm108 (dk_42 (dk_at s108_0 0 rfl rfl)) rfl
theorem f108_1 : ft 108 1 = some (6, 0, 0, .invokevirtual 32, 3) := Fm108 (dk_182 0 32 (dk_at s108_0 1 rfl rfl)) rfl
theorem f108_4 : ft 108 4 = some (6, 0, 0, .aload_n 0, 1) := Fm108 (dk_42 (dk_at s108_0 4 rfl rfl)) rfl
theorem f108_5 : ft 108 5 = some (6, 0, 0, .aload_n 1, 1) := Fm108 (dk_43 (dk_at s108_0 5 rfl rfl)) rfl
theorem f108_6 : ft 108 6 = some (6, 0, 0, .iload_n 2, 1) := Fm108 (dk_28 (dk_at s108_0 6 rfl rfl)) rfl
theorem f108_7 : ft 108 7 = some (6, 0, 0, .invokevirtual 63, 3) := Fm108 (dk_182 0 63 (dk_at s108_0 7 rfl rfl)) rfl
theorem f108_10 : ft 108 10 = some (6, 0, 0, .aload_n 0, 1) := Fm108 (dk_42 (dk_at s108_0 10 rfl rfl)) rfl
theorem f108_11 : ft 108 11 = some (6, 0, 0, .getfield 15, 3) := Fm108 (dk_180 0 15 (dk_at s108_0 11 rfl rfl)) rfl
theorem f108_14 : ft 108 14 = some (6, 0, 0, .iload_n 2, 1) := Fm108 (dk_28 (dk_at s108_0 14 rfl rfl)) rfl
theorem f108_15 : ft 108 15 = some (6, 0, 0, .invokevirtual 76, 3) := Fm108 (dk_182 0 76 (dk_at s108_0 15 rfl rfl)) rfl
theorem f108_18 : ft 108 18 = some (6, 0, 0, .iconst 5, 1) := Fm108 (dk_8 (dk_at s108_0 18 rfl rfl)) rfl
theorem f108_19 : ft 108 19 = some (6, 0, 0, .if_icmp .ge 4, 3) := Fm108 (dk_162 0 4 (dk_at s108_0 19 rfl rfl)) rfl
theorem f108_22 : ft 108 22 = some (6, 0, 0, .return_, 1) := Fm108 (dk_177 (dk_at s108_0 22 rfl rfl)) rfl
theorem f108_23 : ft 108 23 = some (6, 0, 0, .aload_n 0, 1) := Fm108 (dk_42 (dk_at s108_0 23 rfl rfl)) rfl
theorem f108_24 : ft 108 24 = some (6, 0, 0, .getfield 15, 3) := Fm108 (dk_180 0 15 (dk_at s108_1 0 rfl rfl)) rfl
theorem f108_27 : ft 108 27 = some (6, 0, 0, .iload_n 2, 1) := Fm108 (dk_28 (dk_at s108_1 3 rfl rfl)) rfl
theorem f108_28 : ft 108 28 = some (6, 0, 0, .invokevirtual 82, 3) := Fm108 (dk_182 0 82 (dk_at s108_1 4 rfl rfl)) rfl
theorem f108_31 : ft 108 31 = some (6, 0, 0, .istore_n 3, 1) := Fm108 (dk_62 (dk_at s108_1 7 rfl rfl)) rfl
theorem f108_32 : ft 108 32 = some (6, 0, 0, .aload_n 0, 1) := Fm108 (dk_42 (dk_at s108_1 8 rfl rfl)) rfl
theorem f108_33 : ft 108 33 = some (6, 0, 0, .getfield 15, 3) := Fm108 (dk_180 0 15 (dk_at s108_1 9 rfl rfl)) rfl
theorem f108_36 : ft 108 36 = some (6, 0, 0, .iload_n 2, 1) := Fm108 (dk_28 (dk_at s108_1 12 rfl rfl)) rfl
theorem f108_37 : ft 108 37 = some (6, 0, 0, .invokevirtual 85, 3) := Fm108 (dk_182 0 85 (dk_at s108_1 13 rfl rfl)) rfl
theorem f108_40 : ft 108 40 = some (6, 0, 0, .istore 4, 2) := Fm108 (dk_54 4 (dk_at s108_1 16 rfl rfl)) rfl
theorem f108_42 : ft 108 42 = some (6, 0, 0, .iload 4, 2) := Fm108 (dk_21 4 (dk_at s108_1 18 rfl rfl)) rfl
theorem f108_44 : ft 108 44 = some (6, 0, 0, .iload_n 3, 1) := Fm108 (dk_29 (dk_at s108_1 20 rfl rfl)) rfl
theorem f108_45 : ft 108 45 = some (6, 0, 0, .if_icmp .ge 25, 3) := Fm108 (dk_162 0 25 (dk_at s108_1 21 rfl rfl)) rfl
theorem f108_48 : ft 108 48 = some (6, 0, 0, .aload_n 0, 1) := Fm108 (dk_42 (dk_at s108_2 0 rfl rfl)) rfl
theorem f108_49 : ft 108 49 = some (6, 0, 0, .aload_n 1, 1) := Fm108 (dk_43 (dk_at s108_2 1 rfl rfl)) rfl
theorem f108_50 : ft 108 50 = some (6, 0, 0, .iload 4, 2) := Fm108 (dk_21 4 (dk_at s108_2 2 rfl rfl)) rfl
theorem f108_52 : ft 108 52 = some (6, 0, 0, .invokevirtual 60, 3) := Fm108 (dk_182 0 60 (dk_at s108_2 4 rfl rfl)) rfl
theorem f108_55 : ft 108 55 = some (6, 0, 0, .aload_n 0, 1) := Fm108 (dk_42 (dk_at s108_2 7 rfl rfl)) rfl
theorem f108_56 : ft 108 56 = some (6, 0, 0, .getfield 15, 3) := Fm108 (dk_180 0 15 (dk_at s108_2 8 rfl rfl)) rfl
theorem f108_59 : ft 108 59 = some (6, 0, 0, .iload_n 2, 1) := Fm108 (dk_28 (dk_at s108_2 11 rfl rfl)) rfl
theorem f108_60 : ft 108 60 = some (6, 0, 0, .iload 4, 2) := Fm108 (dk_21 4 (dk_at s108_2 12 rfl rfl)) rfl
theorem f108_62 : ft 108 62 = some (6, 0, 0, .invokevirtual 88, 3) := Fm108 (dk_182 0 88 (dk_at s108_2 14 rfl rfl)) rfl
theorem f108_65 : ft 108 65 = some (6, 0, 0, .istore 4, 2) := Fm108 (dk_54 4 (dk_at s108_2 17 rfl rfl)) rfl
theorem f108_67 : ft 108 67 = some (6, 0, 0, .goto (-25), 3) := Fm108 (dk_167 255 231 (dk_at s108_2 19 rfl rfl)) rfl
theorem f108_70 : ft 108 70 = some (6, 0, 0, .return_, 1) := Fm108 (dk_177 (dk_at s108_2 22 rfl rfl)) rfl
theorem q108 {d : Nat} {m : Mem} {a0 a1 a2 : Int} (hd : 0 < d) (hz : TZ m) : le2 (gd (tg m a0 = 6) <| bV (cl (d - 1) 107 [pR a0] m) fun m1 => bV (cl (d - 1) 109 [pR a0, pR a1, pI a2] m1) fun m2 => nm (vl m2 a0 0) fun v6 => gd (tg m2 v6 = 8) <| bI (cl (d - 1) 139 [pR v6, pI a2] m2) fun v3 m3 => if v3 < 5 then (some (.inl none, m3)) else nm (vl m3 a0 0) fun v7 => gd (tg m3 v7 = 8) <| bI (cl (d - 1) 137 [pR v7, pI a2] m3) fun v4 m4 => nm (vl m4 a0 0) fun v8 => gd (tg m4 v8 = 8) <| bI (cl (d - 1) 150 [pR v8, pI a2] m4) fun v5 m5 => rn d 108 42 [pR a0, pR a1, pI a2, pI v4, pI v5] [] m5) (cl d 108 [pR a0, pR a1, pI a2] m) := by
  refine q_in (n := 5) (L := [pR a0, pR a1, pI a2, pU, pU]) rfl rfl rfl ?_
  refine r_aln0 (p := 1) f108_0 rfl ?_
  refine le2_gd (fun h1 => ?_)
  refine r_invV (p := 4) f108_1 rfl rfl rfl (Or.inl h1) hd (Nat.le_of_ble_eq_true rfl) rfl rfl rfl (fun _ => rfl) (fun m1 c1 => ?_)
  have hz1 := z_k c1 hz
  refine r_aln0 (p := 5) f108_4 rfl ?_
  refine r_aln1 (p := 6) f108_5 rfl ?_
  refine r_iln2 (p := 7) f108_6 rfl ?_
  have h2 := k_t1 c1 hz h1 (by decide)
  refine r_invV (p := 10) f108_7 rfl rfl rfl (Or.inl h2) hd (Nat.le_of_ble_eq_true rfl) rfl rfl rfl (fun _ => rfl) (fun m2 c2 => ?_)
  have hz2 := z_k c2 hz1
  refine r_aln0 (p := 11) f108_10 rfl ?_
  have h3 := k_t1 c2 hz1 h2 (by decide)
  refine r_gfR (f := 0) (p := 14) f108_11 rfl rfl rfl (Or.inl h3) rfl ?_
  refine r_nmR (fun v6 ev6 => ?_)
  refine r_iln2 (p := 15) f108_14 rfl ?_
  refine le2_gd (fun h4 => ?_)
  refine r_invI (p := 18) f108_15 rfl rfl rfl (Or.inl h4) hd (Nat.le_of_ble_eq_true rfl) rfl rfl rfl (fun _ => rfl) (fun v3 m3 c3 => ?_)
  have hz3 := z_k c3 hz2
  refine r_iconst (p := 19) f108_18 rfl (pinD rfl rfl) ?_
  refine r_icge (t := 23) (p := 22) f108_19 (by decide) rfl rfl ?_ ?_
  · exact r_ret f108_22
  · refine r_aln0 (p := 24) f108_23 rfl ?_
    have h5 := k_t1 c3 hz2 h3 (by decide)
    refine r_gfR (f := 0) (p := 27) f108_24 rfl rfl rfl (Or.inl h5) rfl ?_
    refine r_nmR (fun v7 ev7 => ?_)
    refine r_iln2 (p := 28) f108_27 rfl ?_
    refine le2_gd (fun h6 => ?_)
    refine r_invI (p := 31) f108_28 rfl rfl rfl (Or.inl h6) hd (Nat.le_of_ble_eq_true rfl) rfl rfl rfl (fun _ => rfl) (fun v4 m4 c4 => ?_)
    have hz4 := z_k c4 hz3
    refine r_isn3 (p := 32) f108_31 rfl rfl ?_
    refine r_aln0 (p := 33) f108_32 rfl ?_
    have h7 := k_t1 c4 hz3 h5 (by decide)
    refine r_gfR (f := 0) (p := 36) f108_33 rfl rfl rfl (Or.inl h7) rfl ?_
    refine r_nmR (fun v8 ev8 => ?_)
    refine r_iln2 (p := 37) f108_36 rfl ?_
    refine le2_gd (fun h8 => ?_)
    refine r_invI (p := 40) f108_37 rfl rfl rfl (Or.inl h8) hd (Nat.le_of_ble_eq_true rfl) rfl rfl rfl (fun _ => rfl) (fun v5 m5 c5 => ?_)
    have hz5 := z_k c5 hz4
    refine r_isw4 (p := 42) f108_40 rfl rfl ?_
    exact le2_refl _
theorem q108_42 {d : Nat} {m : Mem} {a0 a1 a2 a3 a4 : Int} (hd : 0 < d) (hz : TZ m) : le2 (if a4 < a3 then (gd (tg m a0 = 6) <| bV (cl (d - 1) 108 [pR a0, pR a1, pI a4] m) fun m1 => nm (vl m1 a0 0) fun v3 => gd (tg m1 v3 = 8) <| bI (cl (d - 1) 151 [pR v3, pI a2, pI a4] m1) fun v2 m2 => rn d 108 42 [pR a0, pR a1, pI a2, pI a3, pI v2] [] m2) else some (.inl none, m)) (rn d 108 42 [pR a0, pR a1, pI a2, pI a3, pI a4] [] m) := by
  refine r_ilw4 (p := 44) f108_42 rfl ?_
  refine r_iln3 (p := 45) f108_44 rfl ?_
  refine r_icge (t := 70) (p := 48) f108_45 (by decide) rfl rfl ?_ ?_
  · refine r_aln0 (p := 49) f108_48 rfl ?_
    refine r_aln1 (p := 50) f108_49 rfl ?_
    refine r_ilw4 (p := 52) f108_50 rfl ?_
    refine le2_gd (fun h1 => ?_)
    refine r_invV (p := 55) f108_52 rfl rfl rfl (Or.inl h1) hd (Nat.le_of_ble_eq_true rfl) rfl rfl rfl (fun _ => rfl) (fun m1 c1 => ?_)
    have hz1 := z_k c1 hz
    refine r_aln0 (p := 56) f108_55 rfl ?_
    have h2 := k_t1 c1 hz h1 (by decide)
    refine r_gfR (f := 0) (p := 59) f108_56 rfl rfl rfl (Or.inl h2) rfl ?_
    refine r_nmR (fun v3 ev3 => ?_)
    refine r_iln2 (p := 60) f108_59 rfl ?_
    refine r_ilw4 (p := 62) f108_60 rfl ?_
    refine le2_gd (fun h3 => ?_)
    refine r_invI (p := 65) f108_62 rfl rfl rfl (Or.inl h3) hd (Nat.le_of_ble_eq_true rfl) rfl rfl rfl (fun _ => rfl) (fun v2 m2 c2 => ?_)
    have hz2 := z_k c2 hz1
    refine r_isw4 (p := 67) f108_65 rfl rfl ?_
    refine r_goto (p := 42) f108_67 (by decide) rfl ?_
    exact le2_refl _
  · exact r_ret f108_70
/-! 109 PathStore$Runner.choose (LPathStore$Segment;I)V -/
def w109_1 : List UInt8 := [132, 3, 1, 167, 255, 232, 177]
abbrev u109_1 : List UInt8 := w109_1 ++ []
def w109_0 : List UInt8 := [3, 62, 29, 43, 180, 0, 66, 162, 0, 22, 43, 180, 0, 67, 29, 50, 42, 28, 185, 0, 71, 3, 0]
abbrev u109_0 : List UInt8 := w109_0 ++ u109_1
theorem s109_0 : (prog_22_method_6_code).data.toList.drop 0 = u109_0 := by decide +kernel
theorem s109_1 : (prog_22_method_6_code).data.toList.drop 23 = u109_1 := dk_seg s109_0 23 rfl rfl
theorem Fm109 {pc len : Nat} {i : Instr} (h : decode (prog_22_method_6_code) pc = .ok (i, len)) (hl : len = ilen i len) : ft 109 pc = some (6, 0, 0, i, len) := ft_mk rfl h hl
theorem f109_0 : ft 109 0 = some (6, 0, 0, .iconst 0, 1) := Fm109 (dk_3 (dk_at s109_0 0 rfl rfl)) rfl
theorem f109_1 : ft 109 1 = some (6, 0, 0, .istore_n 3, 1) := Fm109 (dk_62 (dk_at s109_0 1 rfl rfl)) rfl
theorem f109_2 : ft 109 2 = some (6, 0, 0, .iload_n 3, 1) := Fm109 (dk_29 (dk_at s109_0 2 rfl rfl)) rfl
theorem f109_3 : ft 109 3 = some (6, 0, 0, .aload_n 1, 1) := Fm109 (dk_43 (dk_at s109_0 3 rfl rfl)) rfl
theorem f109_4 : ft 109 4 = some (6, 0, 0, .getfield 66, 3) := Fm109 (dk_180 0 66 (dk_at s109_0 4 rfl rfl)) rfl
theorem f109_7 : ft 109 7 = some (6, 0, 0, .if_icmp .ge 22, 3) := Fm109 (dk_162 0 22 (dk_at s109_0 7 rfl rfl)) rfl
theorem f109_10 : ft 109 10 = some (6, 0, 0, .aload_n 1, 1) := Fm109 (dk_43 (dk_at s109_0 10 rfl rfl)) rfl
theorem f109_11 : ft 109 11 = some (6, 0, 0, .getfield 67, 3) := Fm109 (dk_180 0 67 (dk_at s109_0 11 rfl rfl)) rfl
theorem f109_14 : ft 109 14 = some (6, 0, 0, .iload_n 3, 1) := Fm109 (dk_29 (dk_at s109_0 14 rfl rfl)) rfl
theorem f109_15 : ft 109 15 = some (6, 0, 0, .aaload, 1) := Fm109 (dk_50 (dk_at s109_0 15 rfl rfl)) rfl
theorem f109_16 : ft 109 16 = some (6, 0, 0, .aload_n 0, 1) := Fm109 (dk_42 (dk_at s109_0 16 rfl rfl)) rfl
theorem f109_17 : ft 109 17 = some (6, 0, 0, .iload_n 2, 1) := Fm109 (dk_28 (dk_at s109_0 17 rfl rfl)) rfl
theorem f109_18 : ft 109 18 = some (6, 0, 0, .invokeinterface 71 3, 5) := Fm109 (by decide +kernel) rfl
theorem f109_23 : ft 109 23 = some (6, 0, 0, .iinc 3 1, 3) := Fm109 (dk_132 3 1 (dk_at s109_1 0 rfl rfl)) rfl
theorem f109_26 : ft 109 26 = some (6, 0, 0, .goto (-24), 3) := Fm109 (dk_167 255 232 (dk_at s109_1 3 rfl rfl)) rfl
theorem f109_29 : ft 109 29 = some (6, 0, 0, .return_, 1) := Fm109 (dk_177 (dk_at s109_1 6 rfl rfl)) rfl
theorem q109 {d : Nat} {m : Mem} {a0 a1 a2 : Int} (hz : TZ m) : le2 (rn d 109 2 [pR a0, pR a1, pI a2, pI 0] [] m) (cl d 109 [pR a0, pR a1, pI a2] m) := by
  refine q_in (n := 4) (L := [pR a0, pR a1, pI a2, pU]) rfl rfl rfl ?_
  refine r_iconst (p := 1) f109_0 rfl (pinD rfl rfl) ?_
  refine r_isn3 (p := 2) f109_1 rfl rfl ?_
  exact le2_refl _
theorem q109_2 {d : Nat} {m : Mem} {a0 a1 a2 a3 : Int} (hd : 0 < d) (hz : TZ m) : le2 (gd (tg m a1 = 16) <| if a3 < (vl m a1 2) then (nm (vl m a1 1) fun v2 => gd (tg m v2 = 305111 ∨ tg m v2 = 306111) <| gd ((0 : Int) ≤ a3 ∧ a3 < ln m v2) <| nm (vl m v2 a3) fun v3 => gd (0 < tg m v3) <| bV (ci (d - 1) 301 (tg m v3) [pR v3, pR a0, pI a2] m) fun m1 => rn d 109 2 [pR a0, pR a1, pI a2, pI (w32 (a3 + 1))] [] m1) else some (.inl none, m)) (rn d 109 2 [pR a0, pR a1, pI a2, pI a3] [] m) := by
  refine r_iln3 (p := 3) f109_2 rfl ?_
  refine r_aln1 (p := 4) f109_3 rfl ?_
  refine le2_gd (fun h1 => ?_)
  refine r_gfI (f := 2) (p := 7) f109_4 rfl rfl rfl (Or.inl h1) rfl ?_
  refine r_icge (t := 29) (p := 10) f109_7 (by decide) rfl rfl ?_ ?_
  · refine r_aln1 (p := 11) f109_10 rfl ?_
    refine r_gfR (f := 1) (p := 14) f109_11 rfl rfl rfl (Or.inl h1) rfl ?_
    refine r_nmR (fun v2 ev2 => ?_)
    refine r_iln3 (p := 15) f109_14 rfl ?_
    refine le2_gd (fun h2 => ?_)
    refine le2_gd (fun h3 => ?_)
    refine r_aaload (p := 16) f109_15 rfl (dj2 (fun x => 110 < x % 1000 ∧ x % 1000 < 119) h2 (by decide) (by decide)) h3 rfl ?_
    refine r_nmR (fun v3 ev3 => ?_)
    refine r_aln0 (p := 17) f109_16 rfl ?_
    refine r_iln2 (p := 18) f109_17 rfl ?_
    refine le2_gd (fun h4 => ?_)
    refine r_infV (p := 23) f109_18 rfl rfl rfl h4 hd (Nat.le_of_ble_eq_true rfl) rfl rfl (fun _ => rfl) (fun m1 c1 => ?_)
    have hz1 := z_k c1 hz
    refine r_iinc3 (p := 26) f109_23 rfl rfl ?_
    refine r_goto (p := 2) f109_26 (by decide) rfl ?_
    exact le2_refl _
  · exact r_ret f109_29
/-! 110 PathStore$Runner.path (LPathStore$Sink;I)V -/
def w110_5 : List UInt8 := [21, 5, 182, 0, 101, 16, 39, 182, 0, 104, 43, 16, 93, 182, 0, 92, 21, 6, 62, 167, 255, 131, 177]
abbrev u110_5 : List UInt8 := w110_5 ++ []
def w110_4 : List UInt8 := [43, 21, 4, 133, 182, 0, 97, 167, 0, 26, 43, 42, 180, 0, 15, 21, 5, 5, 96, 42, 180, 0, 15]
abbrev u110_4 : List UInt8 := w110_4 ++ u110_5
def w110_3 : List UInt8 := [132, 4, 1, 167, 255, 217, 43, 16, 91, 182, 0, 92, 42, 180, 0, 15, 29, 182, 0, 76, 8, 160, 0, 13]
abbrev u110_3 : List UInt8 := w110_3 ++ u110_4
def w110_2 : List UInt8 := [180, 0, 15, 21, 6, 182, 0, 82, 54, 5, 42, 180, 0, 15, 29, 21, 6, 182, 0, 88, 54, 6]
abbrev u110_2 : List UInt8 := w110_2 ++ u110_3
def w110_1 : List UInt8 := [42, 180, 0, 15, 29, 182, 0, 85, 54, 6, 42, 180, 0, 15, 21, 6, 182, 0, 82, 28, 163, 0, 32, 42]
abbrev u110_1 : List UInt8 := w110_1 ++ u110_2
def w110_0 : List UInt8 := [43, 16, 36, 182, 0, 92, 42, 180, 0, 19, 62, 29, 28, 159, 0, 126, 3, 54, 4, 29, 6, 96, 54, 5]
abbrev u110_0 : List UInt8 := w110_0 ++ u110_1
theorem s110_0 : (prog_22_method_8_code).data.toList.drop 0 = u110_0 := by decide +kernel
theorem s110_1 : (prog_22_method_8_code).data.toList.drop 24 = u110_1 := dk_seg s110_0 24 rfl rfl
theorem s110_2 : (prog_22_method_8_code).data.toList.drop 48 = u110_2 := dk_seg s110_1 24 rfl rfl
theorem s110_3 : (prog_22_method_8_code).data.toList.drop 70 = u110_3 := dk_seg s110_2 22 rfl rfl
theorem s110_4 : (prog_22_method_8_code).data.toList.drop 94 = u110_4 := dk_seg s110_3 24 rfl rfl
theorem s110_5 : (prog_22_method_8_code).data.toList.drop 117 = u110_5 := dk_seg s110_4 23 rfl rfl
theorem Fm110 {pc len : Nat} {i : Instr} (h : decode (prog_22_method_8_code) pc = .ok (i, len)) (hl : len = ilen i len) : ft 110 pc = some (6, 0, 0, i, len) := ft_mk rfl h hl
theorem f110_0 : ft 110 0 = some (6, 0, 0, .aload_n 1, 1) := Fm110 (dk_43 (dk_at s110_0 0 rfl rfl)) rfl
theorem f110_1 : ft 110 1 = some (6, 0, 0, .bipush 36, 2) := Fm110 (dk_16 36 (dk_at s110_0 1 rfl rfl)) rfl
theorem f110_3 : ft 110 3 = some (6, 0, 0, .invokevirtual 92, 3) := Fm110 (dk_182 0 92 (dk_at s110_0 3 rfl rfl)) rfl
theorem f110_6 : ft 110 6 = some (6, 0, 0, .aload_n 0, 1) := Fm110 (dk_42 (dk_at s110_0 6 rfl rfl)) rfl
theorem f110_7 : ft 110 7 = some (6, 0, 0, .getfield 19, 3) := Fm110 (dk_180 0 19 (dk_at s110_0 7 rfl rfl)) rfl
theorem f110_10 : ft 110 10 = some (6, 0, 0, .istore_n 3, 1) := Fm110 (dk_62 (dk_at s110_0 10 rfl rfl)) rfl
theorem f110_11 : ft 110 11 = some (6, 0, 0, .iload_n 3, 1) := Fm110 (dk_29 (dk_at s110_0 11 rfl rfl)) rfl
theorem f110_12 : ft 110 12 = some (6, 0, 0, .iload_n 2, 1) := Fm110 (dk_28 (dk_at s110_0 12 rfl rfl)) rfl
theorem f110_13 : ft 110 13 = some (6, 0, 0, .if_icmp .eq 126, 3) := Fm110 (dk_159 0 126 (dk_at s110_0 13 rfl rfl)) rfl
theorem f110_16 : ft 110 16 = some (6, 0, 0, .iconst 0, 1) := Fm110 (dk_3 (dk_at s110_0 16 rfl rfl)) rfl
theorem f110_17 : ft 110 17 = some (6, 0, 0, .istore 4, 2) := Fm110 (dk_54 4 (dk_at s110_0 17 rfl rfl)) rfl
theorem f110_19 : ft 110 19 = some (6, 0, 0, .iload_n 3, 1) := Fm110 (dk_29 (dk_at s110_0 19 rfl rfl)) rfl
theorem f110_20 : ft 110 20 = some (6, 0, 0, .iconst 3, 1) := Fm110 (dk_6 (dk_at s110_0 20 rfl rfl)) rfl
theorem f110_21 : ft 110 21 = some (6, 0, 0, .iadd, 1) := Fm110 (dk_96 (dk_at s110_0 21 rfl rfl)) rfl
theorem f110_22 : ft 110 22 = some (6, 0, 0, .istore 5, 2) := Fm110 (dk_54 5 (dk_at s110_0 22 rfl rfl)) rfl
theorem f110_24 : ft 110 24 = some (6, 0, 0, .aload_n 0, 1) := Fm110 (dk_42 (dk_at s110_1 0 rfl rfl)) rfl
theorem f110_25 : ft 110 25 = some (6, 0, 0, .getfield 15, 3) := Fm110 (dk_180 0 15 (dk_at s110_1 1 rfl rfl)) rfl
theorem f110_28 : ft 110 28 = some (6, 0, 0, .iload_n 3, 1) := Fm110 (dk_29 (dk_at s110_1 4 rfl rfl)) rfl
theorem f110_29 : ft 110 29 = some (6, 0, 0, .invokevirtual 85, 3) := Fm110 (dk_182 0 85 (dk_at s110_1 5 rfl rfl)) rfl
theorem f110_32 : ft 110 32 = some (6, 0, 0, .istore 6, 2) := Fm110 (dk_54 6 (dk_at s110_1 8 rfl rfl)) rfl
theorem f110_34 : ft 110 34 = some (6, 0, 0, .aload_n 0, 1) := Fm110 (dk_42 (dk_at s110_1 10 rfl rfl)) rfl
theorem f110_35 : ft 110 35 = some (6, 0, 0, .getfield 15, 3) := Fm110 (dk_180 0 15 (dk_at s110_1 11 rfl rfl)) rfl
theorem f110_38 : ft 110 38 = some (6, 0, 0, .iload 6, 2) := Fm110 (dk_21 6 (dk_at s110_1 14 rfl rfl)) rfl
theorem f110_40 : ft 110 40 = some (6, 0, 0, .invokevirtual 82, 3) := Fm110 (dk_182 0 82 (dk_at s110_1 16 rfl rfl)) rfl
theorem f110_43 : ft 110 43 = some (6, 0, 0, .iload_n 2, 1) := Fm110 (dk_28 (dk_at s110_1 19 rfl rfl)) rfl
theorem f110_44 : ft 110 44 = some (6, 0, 0, .if_icmp .gt 32, 3) := Fm110 (dk_163 0 32 (dk_at s110_1 20 rfl rfl)) rfl
theorem f110_47 : ft 110 47 = some (6, 0, 0, .aload_n 0, 1) := Fm110 (dk_42 (dk_at s110_1 23 rfl rfl)) rfl
theorem f110_48 : ft 110 48 = some (6, 0, 0, .getfield 15, 3) := Fm110 (dk_180 0 15 (dk_at s110_2 0 rfl rfl)) rfl
theorem f110_51 : ft 110 51 = some (6, 0, 0, .iload 6, 2) := Fm110 (dk_21 6 (dk_at s110_2 3 rfl rfl)) rfl
theorem f110_53 : ft 110 53 = some (6, 0, 0, .invokevirtual 82, 3) := Fm110 (dk_182 0 82 (dk_at s110_2 5 rfl rfl)) rfl
theorem f110_56 : ft 110 56 = some (6, 0, 0, .istore 5, 2) := Fm110 (dk_54 5 (dk_at s110_2 8 rfl rfl)) rfl
theorem f110_58 : ft 110 58 = some (6, 0, 0, .aload_n 0, 1) := Fm110 (dk_42 (dk_at s110_2 10 rfl rfl)) rfl
theorem f110_59 : ft 110 59 = some (6, 0, 0, .getfield 15, 3) := Fm110 (dk_180 0 15 (dk_at s110_2 11 rfl rfl)) rfl
theorem f110_62 : ft 110 62 = some (6, 0, 0, .iload_n 3, 1) := Fm110 (dk_29 (dk_at s110_2 14 rfl rfl)) rfl
theorem f110_63 : ft 110 63 = some (6, 0, 0, .iload 6, 2) := Fm110 (dk_21 6 (dk_at s110_2 15 rfl rfl)) rfl
theorem f110_65 : ft 110 65 = some (6, 0, 0, .invokevirtual 88, 3) := Fm110 (dk_182 0 88 (dk_at s110_2 17 rfl rfl)) rfl
theorem f110_68 : ft 110 68 = some (6, 0, 0, .istore 6, 2) := Fm110 (dk_54 6 (dk_at s110_2 20 rfl rfl)) rfl
theorem f110_70 : ft 110 70 = some (6, 0, 0, .iinc 4 1, 3) := Fm110 (dk_132 4 1 (dk_at s110_3 0 rfl rfl)) rfl
theorem f110_73 : ft 110 73 = some (6, 0, 0, .goto (-39), 3) := Fm110 (dk_167 255 217 (dk_at s110_3 3 rfl rfl)) rfl
theorem f110_76 : ft 110 76 = some (6, 0, 0, .aload_n 1, 1) := Fm110 (dk_43 (dk_at s110_3 6 rfl rfl)) rfl
theorem f110_77 : ft 110 77 = some (6, 0, 0, .bipush 91, 2) := Fm110 (dk_16 91 (dk_at s110_3 7 rfl rfl)) rfl
theorem f110_79 : ft 110 79 = some (6, 0, 0, .invokevirtual 92, 3) := Fm110 (dk_182 0 92 (dk_at s110_3 9 rfl rfl)) rfl
theorem f110_82 : ft 110 82 = some (6, 0, 0, .aload_n 0, 1) := Fm110 (dk_42 (dk_at s110_3 12 rfl rfl)) rfl
theorem f110_83 : ft 110 83 = some (6, 0, 0, .getfield 15, 3) := Fm110 (dk_180 0 15 (dk_at s110_3 13 rfl rfl)) rfl
theorem f110_86 : ft 110 86 = some (6, 0, 0, .iload_n 3, 1) := Fm110 (dk_29 (dk_at s110_3 16 rfl rfl)) rfl
theorem f110_87 : ft 110 87 = some (6, 0, 0, .invokevirtual 76, 3) := Fm110 (dk_182 0 76 (dk_at s110_3 17 rfl rfl)) rfl
theorem f110_90 : ft 110 90 = some (6, 0, 0, .iconst 5, 1) := Fm110 (dk_8 (dk_at s110_3 20 rfl rfl)) rfl
theorem f110_91 : ft 110 91 = some (6, 0, 0, .if_icmp .ne 13, 3) := Fm110 (dk_160 0 13 (dk_at s110_3 21 rfl rfl)) rfl
theorem f110_94 : ft 110 94 = some (6, 0, 0, .aload_n 1, 1) := Fm110 (dk_43 (dk_at s110_4 0 rfl rfl)) rfl
theorem f110_95 : ft 110 95 = some (6, 0, 0, .iload 4, 2) := Fm110 (dk_21 4 (dk_at s110_4 1 rfl rfl)) rfl
theorem f110_97 : ft 110 97 = some (6, 0, 0, .i2l, 1) := Fm110 (dk_133 (dk_at s110_4 3 rfl rfl)) rfl
theorem f110_98 : ft 110 98 = some (6, 0, 0, .invokevirtual 97, 3) := Fm110 (dk_182 0 97 (dk_at s110_4 4 rfl rfl)) rfl
theorem f110_101 : ft 110 101 = some (6, 0, 0, .goto 26, 3) := Fm110 (dk_167 0 26 (dk_at s110_4 7 rfl rfl)) rfl
theorem f110_104 : ft 110 104 = some (6, 0, 0, .aload_n 1, 1) := Fm110 (dk_43 (dk_at s110_4 10 rfl rfl)) rfl
theorem f110_105 : ft 110 105 = some (6, 0, 0, .aload_n 0, 1) := Fm110 (dk_42 (dk_at s110_4 11 rfl rfl)) rfl
theorem f110_106 : ft 110 106 = some (6, 0, 0, .getfield 15, 3) := Fm110 (dk_180 0 15 (dk_at s110_4 12 rfl rfl)) rfl
theorem f110_109 : ft 110 109 = some (6, 0, 0, .iload 5, 2) := Fm110 (dk_21 5 (dk_at s110_4 15 rfl rfl)) rfl
theorem f110_111 : ft 110 111 = some (6, 0, 0, .iconst 2, 1) := Fm110 (dk_5 (dk_at s110_4 17 rfl rfl)) rfl
theorem f110_112 : ft 110 112 = some (6, 0, 0, .iadd, 1) := Fm110 (dk_96 (dk_at s110_4 18 rfl rfl)) rfl
theorem f110_113 : ft 110 113 = some (6, 0, 0, .aload_n 0, 1) := Fm110 (dk_42 (dk_at s110_4 19 rfl rfl)) rfl
theorem f110_114 : ft 110 114 = some (6, 0, 0, .getfield 15, 3) := Fm110 (dk_180 0 15 (dk_at s110_4 20 rfl rfl)) rfl
theorem f110_117 : ft 110 117 = some (6, 0, 0, .iload 5, 2) := Fm110 (dk_21 5 (dk_at s110_5 0 rfl rfl)) rfl
theorem f110_119 : ft 110 119 = some (6, 0, 0, .invokevirtual 101, 3) := Fm110 (dk_182 0 101 (dk_at s110_5 2 rfl rfl)) rfl
theorem f110_122 : ft 110 122 = some (6, 0, 0, .bipush 39, 2) := Fm110 (dk_16 39 (dk_at s110_5 5 rfl rfl)) rfl
theorem f110_124 : ft 110 124 = some (6, 0, 0, .invokevirtual 104, 3) := Fm110 (dk_182 0 104 (dk_at s110_5 7 rfl rfl)) rfl
theorem f110_127 : ft 110 127 = some (6, 0, 0, .aload_n 1, 1) := Fm110 (dk_43 (dk_at s110_5 10 rfl rfl)) rfl
theorem f110_128 : ft 110 128 = some (6, 0, 0, .bipush 93, 2) := Fm110 (dk_16 93 (dk_at s110_5 11 rfl rfl)) rfl
theorem f110_130 : ft 110 130 = some (6, 0, 0, .invokevirtual 92, 3) := Fm110 (dk_182 0 92 (dk_at s110_5 13 rfl rfl)) rfl
theorem f110_133 : ft 110 133 = some (6, 0, 0, .iload 6, 2) := Fm110 (dk_21 6 (dk_at s110_5 16 rfl rfl)) rfl
theorem f110_135 : ft 110 135 = some (6, 0, 0, .istore_n 3, 1) := Fm110 (dk_62 (dk_at s110_5 18 rfl rfl)) rfl
theorem f110_136 : ft 110 136 = some (6, 0, 0, .goto (-125), 3) := Fm110 (dk_167 255 131 (dk_at s110_5 19 rfl rfl)) rfl
theorem f110_139 : ft 110 139 = some (6, 0, 0, .return_, 1) := Fm110 (dk_177 (dk_at s110_5 22 rfl rfl)) rfl
theorem q110 {d : Nat} {m : Mem} {a0 a1 a2 : Int} (hd : 0 < d) (hz : TZ m) : le2 (gd (tg m a1 = 2) <| bV (cl (d - 1) 54 [pR a1, pI 36] m) fun m1 => gd (tg m1 a0 = 6) <| rn d 110 11 [pR a0, pR a1, pI a2, pI (vl m1 a0 1), pU, pU, pU] [] m1) (cl d 110 [pR a0, pR a1, pI a2] m) := by
  refine q_in (n := 7) (L := [pR a0, pR a1, pI a2, pU, pU, pU, pU]) rfl rfl rfl ?_
  refine r_aln1 (p := 1) f110_0 rfl ?_
  refine r_bipush (p := 3) f110_1 rfl (pinD rfl rfl) ?_
  refine le2_gd (fun h1 => ?_)
  refine r_invV (p := 6) f110_3 rfl rfl rfl (Or.inl h1) hd (Nat.le_of_ble_eq_true rfl) rfl rfl rfl (fun _ => rfl) (fun m1 c1 => ?_)
  have hz1 := z_k c1 hz
  refine r_aln0 (p := 7) f110_6 rfl ?_
  refine le2_gd (fun h2 => ?_)
  refine r_gfI (f := 1) (p := 10) f110_7 rfl rfl rfl (Or.inl h2) rfl ?_
  refine r_isn3 (p := 11) f110_10 rfl rfl ?_
  exact le2_refl _
theorem q110_11 {d : Nat} {m : Mem} {a0 a1 a2 a3 : Int} {z4 z5 z6 : PV} (hd : 0 < d) (hz : TZ m) (hcz4 : cat z4 = 1) (hcz5 : cat z5 = 1) (hcz6 : cat z6 = 1) : le2 (if a3 = a2 then (some (.inl none, m)) else gd (tg m a0 = 6) <| nm (vl m a0 0) fun v2 => gd (tg m v2 = 8) <| bI (cl (d - 1) 150 [pR v2, pI a3] m) fun v1 m1 => rn d 110 34 [pR a0, pR a1, pI a2, pI a3, pI 0, pI (w32 (a3 + 3)), pI v1] [] m1) (rn d 110 11 [pR a0, pR a1, pI a2, pI a3, z4, z5, z6] [] m) := by
  refine r_iln3 (p := 12) f110_11 rfl ?_
  refine r_iln2 (p := 13) f110_12 rfl ?_
  refine r_iceq (t := 139) (p := 16) f110_13 (by decide) rfl rfl ?_ ?_
  · exact r_ret f110_139
  · refine r_iconst (p := 17) f110_16 rfl (pinD rfl rfl) ?_
    refine r_isw4 (p := 19) f110_17 rfl rfl ?_
    refine r_iln3 (p := 20) f110_19 rfl ?_
    refine r_iconst (p := 21) f110_20 rfl (pinD rfl rfl) ?_
    refine r_iadd (p := 22) f110_21 rfl ?_
    refine r_isw5 (p := 24) f110_22 rfl rfl ?_
    refine r_aln0 (p := 25) f110_24 rfl ?_
    refine le2_gd (fun h1 => ?_)
    refine r_gfR (f := 0) (p := 28) f110_25 rfl rfl rfl (Or.inl h1) rfl ?_
    refine r_nmR (fun v2 ev2 => ?_)
    refine r_iln3 (p := 29) f110_28 rfl ?_
    refine le2_gd (fun h2 => ?_)
    refine r_invI (p := 32) f110_29 rfl rfl rfl (Or.inl h2) hd (Nat.le_of_ble_eq_true rfl) rfl rfl rfl (fun _ => rfl) (fun v1 m1 c1 => ?_)
    have hz1 := z_k c1 hz
    refine r_isw6 (p := 34) f110_32 rfl rfl ?_
    exact le2_refl _
theorem q110_34 {d : Nat} {m : Mem} {a0 a1 a2 a3 a4 a5 a6 : Int} (hd : 0 < d) (hz : TZ m) : le2 (gd (tg m a0 = 6) <| nm (vl m a0 0) fun v11 => gd (tg m v11 = 8) <| bI (cl (d - 1) 137 [pR v11, pI a6] m) fun v1 m1 => if a2 < v1 then (gd (tg m1 a1 = 2) <| bV (cl (d - 1) 54 [pR a1, pI 91] m1) fun m2 => nm (vl m2 a0 0) fun v12 => gd (tg m2 v12 = 8) <| bI (cl (d - 1) 139 [pR v12, pI a3] m2) fun v3 m3 => if v3 = 5 then (bV (cl (d - 1) 55 [pR a1, pL a4] m3) fun m7 => bV (cl (d - 1) 54 [pR a1, pI 93] m7) fun m8 => rn d 110 11 [pR a0, pR a1, pI a2, pI a6, pI a4, pI a5, pI a6] [] m8) else nm (vl m3 a0 0) fun v13 => gd (tg m3 v13 = 8) <| bI (cl (d - 1) 134 [pR v13, pI a5] m3) fun v4 m4 => bV (cl (d - 1) 56 [pR a1, pR v13, pI (w32 (a5 + 2)), pI v4, pI 39] m4) fun m5 => bV (cl (d - 1) 54 [pR a1, pI 93] m5) fun m6 => rn d 110 11 [pR a0, pR a1, pI a2, pI a6, pI a4, pI a5, pI a6] [] m6) else nm (vl m1 a0 0) fun v14 => gd (tg m1 v14 = 8) <| bI (cl (d - 1) 137 [pR v14, pI a6] m1) fun v9 m9 => nm (vl m9 a0 0) fun v15 => gd (tg m9 v15 = 8) <| bI (cl (d - 1) 151 [pR v15, pI a3, pI a6] m9) fun v10 m10 => rn d 110 34 [pR a0, pR a1, pI a2, pI a3, pI (w32 (a4 + 1)), pI v9, pI v10] [] m10) (rn d 110 34 [pR a0, pR a1, pI a2, pI a3, pI a4, pI a5, pI a6] [] m) := by
  refine r_aln0 (p := 35) f110_34 rfl ?_
  refine le2_gd (fun h1 => ?_)
  refine r_gfR (f := 0) (p := 38) f110_35 rfl rfl rfl (Or.inl h1) rfl ?_
  refine r_nmR (fun v11 ev11 => ?_)
  refine r_ilw6 (p := 40) f110_38 rfl ?_
  refine le2_gd (fun h2 => ?_)
  refine r_invI (p := 43) f110_40 rfl rfl rfl (Or.inl h2) hd (Nat.le_of_ble_eq_true rfl) rfl rfl rfl (fun _ => rfl) (fun v1 m1 c1 => ?_)
  have hz1 := z_k c1 hz
  refine r_iln2 (p := 44) f110_43 rfl ?_
  refine r_icgt (t := 76) (p := 47) f110_44 (by decide) rfl rfl ?_ ?_
  · refine r_aln1 (p := 77) f110_76 rfl ?_
    refine r_bipush (p := 79) f110_77 rfl (pinD rfl rfl) ?_
    refine le2_gd (fun h3 => ?_)
    refine r_invV (p := 82) f110_79 rfl rfl rfl (Or.inl h3) hd (Nat.le_of_ble_eq_true rfl) rfl rfl rfl (fun _ => rfl) (fun m2 c2 => ?_)
    have hz2 := z_k c2 hz1
    refine r_aln0 (p := 83) f110_82 rfl ?_
    have h4 := k_t1 c1 hz h1 (by decide)
    have h5 := k_t1 c2 hz1 h4 (by decide)
    refine r_gfR (f := 0) (p := 86) f110_83 rfl rfl rfl (Or.inl h5) rfl ?_
    refine r_nmR (fun v12 ev12 => ?_)
    refine r_iln3 (p := 87) f110_86 rfl ?_
    refine le2_gd (fun h6 => ?_)
    refine r_invI (p := 90) f110_87 rfl rfl rfl (Or.inl h6) hd (Nat.le_of_ble_eq_true rfl) rfl rfl rfl (fun _ => rfl) (fun v3 m3 c3 => ?_)
    have hz3 := z_k c3 hz2
    refine r_iconst (p := 91) f110_90 rfl (pinD rfl rfl) ?_
    refine r_icne (t := 104) (p := 94) f110_91 (by decide) rfl rfl ?_ ?_
    · refine r_aln1 (p := 95) f110_94 rfl ?_
      refine r_ilw4 (p := 97) f110_95 rfl ?_
      refine r_i2l (p := 98) f110_97 rfl ?_
      have h13 := k_t1 c2 hz1 h3 (by decide)
      have h14 := k_t1 c3 hz2 h13 (by decide)
      refine r_invV (p := 101) f110_98 rfl rfl rfl (Or.inl h14) hd (Nat.le_of_ble_eq_true rfl) rfl rfl rfl (fun _ => rfl) (fun m7 c7 => ?_)
      have hz7 := z_k c7 hz3
      refine r_goto (p := 127) f110_101 (by decide) rfl ?_
      refine r_aln1 (p := 128) f110_127 rfl ?_
      refine r_bipush (p := 130) f110_128 rfl (pinD rfl rfl) ?_
      have h15 := k_t1 c7 hz3 h14 (by decide)
      refine r_invV (p := 133) f110_130 rfl rfl rfl (Or.inl h15) hd (Nat.le_of_ble_eq_true rfl) rfl rfl rfl (fun _ => rfl) (fun m8 c8 => ?_)
      have hz8 := z_k c8 hz7
      refine r_ilw6 (p := 135) f110_133 rfl ?_
      refine r_isn3 (p := 136) f110_135 rfl rfl ?_
      refine r_goto (p := 11) f110_136 (by decide) rfl ?_
      exact le2_refl _
    · refine r_aln1 (p := 105) f110_104 rfl ?_
      refine r_aln0 (p := 106) f110_105 rfl ?_
      have h7 := k_t1 c3 hz2 h5 (by decide)
      refine r_gfR (f := 0) (p := 109) f110_106 rfl rfl rfl (Or.inl h7) rfl ?_
      refine r_nmR (fun v13 ev13 => ?_)
      refine r_ilw5 (p := 111) f110_109 rfl ?_
      refine r_iconst (p := 112) f110_111 rfl (pinD rfl rfl) ?_
      refine r_iadd (p := 113) f110_112 rfl ?_
      refine r_aln0 (p := 114) f110_113 rfl ?_
      refine r_gfR (f := 0) (p := 117) f110_114 rfl rfl rfl (Or.inl h7) ev13.symm ?_
      refine r_ilw5 (p := 119) f110_117 rfl ?_
      refine le2_gd (fun h8 => ?_)
      refine r_invI (p := 122) f110_119 rfl rfl rfl (Or.inl h8) hd (Nat.le_of_ble_eq_true rfl) rfl rfl rfl (fun _ => rfl) (fun v4 m4 c4 => ?_)
      have hz4 := z_k c4 hz3
      refine r_bipush (p := 124) f110_122 rfl (pinD rfl rfl) ?_
      have h9 := k_t1 c2 hz1 h3 (by decide)
      have h10 := k_t1 c3 hz2 h9 (by decide)
      have h11 := k_t1 c4 hz3 h10 (by decide)
      refine r_invV (p := 127) f110_124 rfl rfl rfl (Or.inl h11) hd (Nat.le_of_ble_eq_true rfl) rfl rfl rfl (fun _ => rfl) (fun m5 c5 => ?_)
      have hz5 := z_k c5 hz4
      refine r_aln1 (p := 128) f110_127 rfl ?_
      refine r_bipush (p := 130) f110_128 rfl (pinD rfl rfl) ?_
      have h12 := k_t1 c5 hz4 h11 (by decide)
      refine r_invV (p := 133) f110_130 rfl rfl rfl (Or.inl h12) hd (Nat.le_of_ble_eq_true rfl) rfl rfl rfl (fun _ => rfl) (fun m6 c6 => ?_)
      have hz6 := z_k c6 hz5
      refine r_ilw6 (p := 135) f110_133 rfl ?_
      refine r_isn3 (p := 136) f110_135 rfl rfl ?_
      refine r_goto (p := 11) f110_136 (by decide) rfl ?_
      exact le2_refl _
  · refine r_aln0 (p := 48) f110_47 rfl ?_
    have h16 := k_t1 c1 hz h1 (by decide)
    refine r_gfR (f := 0) (p := 51) f110_48 rfl rfl rfl (Or.inl h16) rfl ?_
    refine r_nmR (fun v14 ev14 => ?_)
    refine r_ilw6 (p := 53) f110_51 rfl ?_
    refine le2_gd (fun h17 => ?_)
    refine r_invI (p := 56) f110_53 rfl rfl rfl (Or.inl h17) hd (Nat.le_of_ble_eq_true rfl) rfl rfl rfl (fun _ => rfl) (fun v9 m9 c9 => ?_)
    have hz9 := z_k c9 hz1
    refine r_isw5 (p := 58) f110_56 rfl rfl ?_
    refine r_aln0 (p := 59) f110_58 rfl ?_
    have h18 := k_t1 c9 hz1 h16 (by decide)
    refine r_gfR (f := 0) (p := 62) f110_59 rfl rfl rfl (Or.inl h18) rfl ?_
    refine r_nmR (fun v15 ev15 => ?_)
    refine r_iln3 (p := 63) f110_62 rfl ?_
    refine r_ilw6 (p := 65) f110_63 rfl ?_
    refine le2_gd (fun h19 => ?_)
    refine r_invI (p := 68) f110_65 rfl rfl rfl (Or.inl h19) hd (Nat.le_of_ble_eq_true rfl) rfl rfl rfl (fun _ => rfl) (fun v10 m10 c10 => ?_)
    have hz10 := z_k c10 hz9
    refine r_isw6 (p := 70) f110_68 rfl rfl ?_
    refine r_iinc4 (p := 73) f110_70 rfl rfl ?_
    refine r_goto (p := 34) f110_73 (by decide) rfl ?_
    exact le2_refl _
/-! 302 PathStore$Query.<init> (Z)V -/
def w302_0 : List UInt8 := [42, 183, 0, 1, 42, 4, 181, 0, 7, 42, 5, 189, 0, 13, 181, 0, 15, 42, 27, 181, 0, 19, 177]
abbrev u302_0 : List UInt8 := w302_0 ++ []
theorem s302_0 : (prog_18_method_1_code).data.toList.drop 0 = u302_0 := by decide +kernel
theorem Fm302 {pc len : Nat} {i : Instr} (h : decode (prog_18_method_1_code) pc = .ok (i, len)) (hl : len = ilen i len) : ft 302 pc = some (15, 0, 1, i, len) := ft_mk rfl h hl
theorem f302_0 : ft 302 0 = some (15, 0, 1, .aload_n 0, 1) := Fm302 (dk_42 (dk_at s302_0 0 rfl rfl)) rfl
theorem f302_1 : ft 302 1 = some (15, 0, 1, .invokespecial 1, 3) := Fm302 (dk_183 0 1 (dk_at s302_0 1 rfl rfl)) rfl
theorem f302_4 : ft 302 4 = some (15, 0, 1, .aload_n 0, 1) := Fm302 (dk_42 (dk_at s302_0 4 rfl rfl)) rfl
theorem f302_5 : ft 302 5 = some (15, 0, 1, .iconst 1, 1) := Fm302 (dk_4 (dk_at s302_0 5 rfl rfl)) rfl
theorem f302_6 : ft 302 6 = some (15, 0, 1, .putfield 7, 3) := Fm302 (dk_181 0 7 (dk_at s302_0 6 rfl rfl)) rfl
theorem f302_9 : ft 302 9 = some (15, 0, 1, .aload_n 0, 1) := Fm302 (dk_42 (dk_at s302_0 9 rfl rfl)) rfl
theorem f302_10 : ft 302 10 = some (15, 0, 1, .iconst 2, 1) := Fm302 (dk_5 (dk_at s302_0 10 rfl rfl)) rfl
theorem f302_11 : ft 302 11 = some (15, 0, 1, .anewarray 13, 3) := Fm302 (dk_189 0 13 (dk_at s302_0 11 rfl rfl)) rfl
theorem f302_14 : ft 302 14 = some (15, 0, 1, .putfield 15, 3) := Fm302 (dk_181 0 15 (dk_at s302_0 14 rfl rfl)) rfl
theorem f302_17 : ft 302 17 = some (15, 0, 1, .aload_n 0, 1) := Fm302 (dk_42 (dk_at s302_0 17 rfl rfl)) rfl
theorem f302_18 : ft 302 18 = some (15, 0, 1, .iload_n 1, 1) := Fm302 (dk_27 (dk_at s302_0 18 rfl rfl)) rfl
theorem f302_19 : ft 302 19 = some (15, 0, 1, .putfield 19, 3) := Fm302 (dk_181 0 19 (dk_at s302_0 19 rfl rfl)) rfl
theorem f302_22 : ft 302 22 = some (15, 0, 1, .return_, 1) := Fm302 (dk_177 (dk_at s302_0 22 rfl rfl)) rfl
theorem q302 {d : Nat} {m : Mem} {a0 a1 : Int} (hz : TZ m) : le2 (gd (tg m a0 = 15) <| nw (nx (mst m a0 1 1)) (mal (mst m a0 1 1) 303113 2) fun o1 m1 => gd (a1 = 0 ∨ a1 = 1) <| some (.inl none, (mst (mst m1 a0 2 o1) a0 0 a1))) (cl d 302 [pR a0, pI a1] m) := by
  refine q_in (n := 2) (L := [pR a0, pI a1]) rfl rfl rfl ?_
  refine r_aln0 (p := 1) f302_0 rfl ?_
  refine le2_gd (fun h1 => ?_)
  refine r_objinit (p := 4) f302_1 rfl rfl (dj1 (fun x => 0 < x ∧ x < 100) h1 (by decide)) (Nat.le_of_ble_eq_true rfl) ?_
  refine r_aln0 (p := 5) f302_4 rfl ?_
  refine r_iconst (p := 6) f302_5 rfl (pinD rfl rfl) ?_
  refine r_pfZ (f := 1) (p := 9) f302_6 rfl rfl rfl (by decide) (by decide) (Or.inl h1) rfl (by decide) ?_
  refine r_aln0 (p := 10) f302_9 rfl ?_
  refine r_iconst (p := 11) f302_10 rfl (pinD rfl rfl) ?_
  refine r_anewa (t1 := 303113) (p := 14) f302_11 rfl rfl (pinE rfl rfl) rfl rfl (fun o1 m1 h2 k1 => ?_)
  have hz1 := z_k k1 hz
  have h3 := k_t1 k1 hz h1 (by decide)
  refine r_pfR (f := 2) (p := 17) f302_14 rfl rfl rfl (by decide) (by decide) (Or.inl h3) rfl ?_
  refine r_aln0 (p := 18) f302_17 rfl ?_
  refine r_iln1 (p := 19) f302_18 rfl ?_
  refine le2_gd (fun h4 => ?_)
  refine r_pfZ (f := 0) (p := 22) f302_19 rfl rfl rfl (by decide) (by decide) (Or.inl h3) rfl h4 ?_
  exact r_ret f302_22
/-! 303 PathStore$Query.add (LPathStore$Segment;)V -/
def w303_2 : List UInt8 := [44, 181, 0, 15, 42, 180, 0, 15, 42, 89, 180, 0, 22, 90, 4, 96, 181, 0, 22, 43, 83, 177]
abbrev u303_2 : List UInt8 := w303_2 ++ []
def w303_1 : List UInt8 := [29, 42, 180, 0, 22, 162, 0, 18, 44, 29, 42, 180, 0, 15, 29, 50, 83, 132, 3, 1, 167, 255, 236, 42]
abbrev u303_1 : List UInt8 := w303_1 ++ u303_2
def w303_0 : List UInt8 := [42, 180, 0, 22, 42, 180, 0, 15, 190, 160, 0, 43, 5, 42, 180, 0, 22, 104, 189, 0, 13, 77, 3, 62]
abbrev u303_0 : List UInt8 := w303_0 ++ u303_1
theorem s303_0 : (prog_18_method_2_code).data.toList.drop 0 = u303_0 := by decide +kernel
theorem s303_1 : (prog_18_method_2_code).data.toList.drop 24 = u303_1 := dk_seg s303_0 24 rfl rfl
theorem s303_2 : (prog_18_method_2_code).data.toList.drop 48 = u303_2 := dk_seg s303_1 24 rfl rfl
theorem Fm303 {pc len : Nat} {i : Instr} (h : decode (prog_18_method_2_code) pc = .ok (i, len)) (hl : len = ilen i len) : ft 303 pc = some (15, 0, 0, i, len) := ft_mk rfl h hl
theorem f303_0 : ft 303 0 = some (15, 0, 0, .aload_n 0, 1) := Fm303 (dk_42 (dk_at s303_0 0 rfl rfl)) rfl
theorem f303_1 : ft 303 1 = some (15, 0, 0, .getfield 22, 3) := Fm303 (dk_180 0 22 (dk_at s303_0 1 rfl rfl)) rfl
theorem f303_4 : ft 303 4 = some (15, 0, 0, .aload_n 0, 1) := Fm303 (dk_42 (dk_at s303_0 4 rfl rfl)) rfl
theorem f303_5 : ft 303 5 = some (15, 0, 0, .getfield 15, 3) := Fm303 (dk_180 0 15 (dk_at s303_0 5 rfl rfl)) rfl
theorem f303_8 : ft 303 8 = some (15, 0, 0, .arraylength, 1) := Fm303 (dk_190 (dk_at s303_0 8 rfl rfl)) rfl
theorem f303_9 : ft 303 9 = some (15, 0, 0, .if_icmp .ne 43, 3) := Fm303 (dk_160 0 43 (dk_at s303_0 9 rfl rfl)) rfl
theorem f303_12 : ft 303 12 = some (15, 0, 0, .iconst 2, 1) := Fm303 (dk_5 (dk_at s303_0 12 rfl rfl)) rfl
theorem f303_13 : ft 303 13 = some (15, 0, 0, .aload_n 0, 1) := Fm303 (dk_42 (dk_at s303_0 13 rfl rfl)) rfl
theorem f303_14 : ft 303 14 = some (15, 0, 0, .getfield 22, 3) := Fm303 (dk_180 0 22 (dk_at s303_0 14 rfl rfl)) rfl
theorem f303_17 : ft 303 17 = some (15, 0, 0, .imul, 1) := Fm303 (dk_104 (dk_at s303_0 17 rfl rfl)) rfl
theorem f303_18 : ft 303 18 = some (15, 0, 0, .anewarray 13, 3) := Fm303 (dk_189 0 13 (dk_at s303_0 18 rfl rfl)) rfl
theorem f303_21 : ft 303 21 = some (15, 0, 0, .astore_n 2, 1) := Fm303 (dk_77 (dk_at s303_0 21 rfl rfl)) rfl
theorem f303_22 : ft 303 22 = some (15, 0, 0, .iconst 0, 1) := Fm303 (dk_3 (dk_at s303_0 22 rfl rfl)) rfl
theorem f303_23 : ft 303 23 = some (15, 0, 0, .istore_n 3, 1) := Fm303 (dk_62 (dk_at s303_0 23 rfl rfl)) rfl
theorem f303_24 : ft 303 24 = some (15, 0, 0, .iload_n 3, 1) := Fm303 (dk_29 (dk_at s303_1 0 rfl rfl)) rfl
theorem f303_25 : ft 303 25 = some (15, 0, 0, .aload_n 0, 1) := Fm303 (dk_42 (dk_at s303_1 1 rfl rfl)) rfl
theorem f303_26 : ft 303 26 = some (15, 0, 0, .getfield 22, 3) := Fm303 (dk_180 0 22 (dk_at s303_1 2 rfl rfl)) rfl
theorem f303_29 : ft 303 29 = some (15, 0, 0, .if_icmp .ge 18, 3) := Fm303 (dk_162 0 18 (dk_at s303_1 5 rfl rfl)) rfl
theorem f303_32 : ft 303 32 = some (15, 0, 0, .aload_n 2, 1) := Fm303 (dk_44 (dk_at s303_1 8 rfl rfl)) rfl
theorem f303_33 : ft 303 33 = some (15, 0, 0, .iload_n 3, 1) := Fm303 (dk_29 (dk_at s303_1 9 rfl rfl)) rfl
theorem f303_34 : ft 303 34 = some (15, 0, 0, .aload_n 0, 1) := Fm303 (dk_42 (dk_at s303_1 10 rfl rfl)) rfl
theorem f303_35 : ft 303 35 = some (15, 0, 0, .getfield 15, 3) := Fm303 (dk_180 0 15 (dk_at s303_1 11 rfl rfl)) rfl
theorem f303_38 : ft 303 38 = some (15, 0, 0, .iload_n 3, 1) := Fm303 (dk_29 (dk_at s303_1 14 rfl rfl)) rfl
theorem f303_39 : ft 303 39 = some (15, 0, 0, .aaload, 1) := Fm303 (dk_50 (dk_at s303_1 15 rfl rfl)) rfl
theorem f303_40 : ft 303 40 = some (15, 0, 0, .aastore, 1) := Fm303 (dk_83 (dk_at s303_1 16 rfl rfl)) rfl
theorem f303_41 : ft 303 41 = some (15, 0, 0, .iinc 3 1, 3) := Fm303 (dk_132 3 1 (dk_at s303_1 17 rfl rfl)) rfl
theorem f303_44 : ft 303 44 = some (15, 0, 0, .goto (-20), 3) := Fm303 (dk_167 255 236 (dk_at s303_1 20 rfl rfl)) rfl
theorem f303_47 : ft 303 47 = some (15, 0, 0, .aload_n 0, 1) := Fm303 (dk_42 (dk_at s303_1 23 rfl rfl)) rfl
theorem f303_48 : ft 303 48 = some (15, 0, 0, .aload_n 2, 1) := Fm303 (dk_44 (dk_at s303_2 0 rfl rfl)) rfl
theorem f303_49 : ft 303 49 = some (15, 0, 0, .putfield 15, 3) := Fm303 (dk_181 0 15 (dk_at s303_2 1 rfl rfl)) rfl
theorem f303_52 : ft 303 52 = some (15, 0, 0, .aload_n 0, 1) := Fm303 (dk_42 (dk_at s303_2 4 rfl rfl)) rfl
theorem f303_53 : ft 303 53 = some (15, 0, 0, .getfield 15, 3) := Fm303 (dk_180 0 15 (dk_at s303_2 5 rfl rfl)) rfl
theorem f303_56 : ft 303 56 = some (15, 0, 0, .aload_n 0, 1) := Fm303 (dk_42 (dk_at s303_2 8 rfl rfl)) rfl
theorem f303_57 : ft 303 57 = some (15, 0, 0, .dup, 1) := Fm303 (dk_89 (dk_at s303_2 9 rfl rfl)) rfl
theorem f303_58 : ft 303 58 = some (15, 0, 0, .getfield 22, 3) := Fm303 (dk_180 0 22 (dk_at s303_2 10 rfl rfl)) rfl
theorem f303_61 : ft 303 61 = some (15, 0, 0, .dup_x1, 1) := Fm303 (dk_90 (dk_at s303_2 13 rfl rfl)) rfl
theorem f303_62 : ft 303 62 = some (15, 0, 0, .iconst 1, 1) := Fm303 (dk_4 (dk_at s303_2 14 rfl rfl)) rfl
theorem f303_63 : ft 303 63 = some (15, 0, 0, .iadd, 1) := Fm303 (dk_96 (dk_at s303_2 15 rfl rfl)) rfl
theorem f303_64 : ft 303 64 = some (15, 0, 0, .putfield 22, 3) := Fm303 (dk_181 0 22 (dk_at s303_2 16 rfl rfl)) rfl
theorem f303_67 : ft 303 67 = some (15, 0, 0, .aload_n 1, 1) := Fm303 (dk_43 (dk_at s303_2 19 rfl rfl)) rfl
theorem f303_68 : ft 303 68 = some (15, 0, 0, .aastore, 1) := Fm303 (dk_83 (dk_at s303_2 20 rfl rfl)) rfl
theorem f303_69 : ft 303 69 = some (15, 0, 0, .return_, 1) := Fm303 (dk_177 (dk_at s303_2 21 rfl rfl)) rfl
theorem q303 {d : Nat} {m : Mem} {a0 a1 : Int} (hz : TZ m) : le2 (gd (tg m a0 = 15) <| nm (vl m a0 3) fun v2 => nm (vl m a0 2) fun v3 => gd (tg m v3 = 303113 ∨ tg m v3 = 304113) <| if v2 = (ln m v3) then (nm (w32 (2 * v2)) fun v4 => gd ((0 : Int) ≤ v4 ∧ v4 ≤ 2000000) <| nw (nx m) (mal m 304113 v4) fun o1 m1 => rn d 303 24 [pR a0, pR a1, pR o1, pI 0] [] m1) else rn d 303 52 [pR a0, pR a1, pU, pU] [] m) (cl d 303 [pR a0, pR a1] m) := by
  refine q_in (n := 4) (L := [pR a0, pR a1, pU, pU]) rfl rfl rfl ?_
  refine r_aln0 (p := 1) f303_0 rfl ?_
  refine le2_gd (fun h1 => ?_)
  refine r_gfI (f := 3) (p := 4) f303_1 rfl rfl rfl (Or.inl h1) rfl ?_
  refine r_nmI (fun v2 ev2 => ?_)
  refine r_aln0 (p := 5) f303_4 rfl ?_
  refine r_gfR (f := 2) (p := 8) f303_5 rfl rfl rfl (Or.inl h1) rfl ?_
  refine r_nmR (fun v3 ev3 => ?_)
  refine le2_gd (fun h2 => ?_)
  refine r_alen (p := 9) f303_8 rfl (dj2 (fun x => 100 < x % 1000 ∧ x % 1000 < 119) h2 (by decide) (by decide)) ?_
  refine r_icne (t := 52) (p := 12) f303_9 (by decide) rfl rfl ?_ ?_
  · refine r_iconst (p := 13) f303_12 rfl (pinD rfl rfl) ?_
    refine r_aln0 (p := 14) f303_13 rfl ?_
    refine r_gfI (f := 3) (p := 17) f303_14 rfl rfl rfl (Or.inl h1) ev2.symm ?_
    refine r_imul (p := 18) f303_17 rfl ?_
    refine r_nmI (fun v4 ev4 => ?_)
    refine le2_gd (fun h3 => ?_)
    refine r_anewa (t1 := 304113) (p := 21) f303_18 rfl rfl h3 rfl rfl (fun o1 m1 h4 k1 => ?_)
    have hz1 := z_k k1 hz
    refine r_asn2 (p := 22) f303_21 rfl rfl ?_
    refine r_iconst (p := 23) f303_22 rfl (pinD rfl rfl) ?_
    refine r_isn3 (p := 24) f303_23 rfl rfl ?_
    exact le2_refl _
  · exact le2_refl _
theorem q303_24 {d : Nat} {m : Mem} {a0 a1 a2 a3 : Int} (hz : TZ m) : le2 (gd (tg m a0 = 15) <| if a3 < (vl m a0 3) then (nm (vl m a0 2) fun v1 => gd (tg m v1 = 303113 ∨ tg m v1 = 304113) <| gd ((0 : Int) ≤ a3 ∧ a3 < ln m v1) <| nm (vl m v1 a3) fun v2 => gd (tg m a2 = 304113) <| gd ((0 : Int) ≤ a3 ∧ a3 < ln m a2) <| gd (aOk (tg m a2 % 1000) (tg m v2) = true) <| rn d 303 24 [pR a0, pR a1, pR a2, pI (w32 (a3 + 1))] [] (mst m a2 a3 v2)) else rn d 303 52 [pR a0, pR a1, pR a2, pI a3] [] (mst m a0 2 a2)) (rn d 303 24 [pR a0, pR a1, pR a2, pI a3] [] m) := by
  refine r_iln3 (p := 25) f303_24 rfl ?_
  refine r_aln0 (p := 26) f303_25 rfl ?_
  refine le2_gd (fun h1 => ?_)
  refine r_gfI (f := 3) (p := 29) f303_26 rfl rfl rfl (Or.inl h1) rfl ?_
  refine r_icge (t := 47) (p := 32) f303_29 (by decide) rfl rfl ?_ ?_
  · refine r_aln2 (p := 33) f303_32 rfl ?_
    refine r_iln3 (p := 34) f303_33 rfl ?_
    refine r_aln0 (p := 35) f303_34 rfl ?_
    refine r_gfR (f := 2) (p := 38) f303_35 rfl rfl rfl (Or.inl h1) rfl ?_
    refine r_nmR (fun v1 ev1 => ?_)
    refine r_iln3 (p := 39) f303_38 rfl ?_
    refine le2_gd (fun h2 => ?_)
    refine le2_gd (fun h3 => ?_)
    refine r_aaload (p := 40) f303_39 rfl (dj2 (fun x => 110 < x % 1000 ∧ x % 1000 < 119) h2 (by decide) (by decide)) h3 rfl ?_
    refine r_nmR (fun v2 ev2 => ?_)
    refine le2_gd (fun h4 => ?_)
    refine le2_gd (fun h5 => ?_)
    refine le2_gd (fun h6 => ?_)
    refine r_aastore (p := 41) f303_40 rfl (dj1 (fun x => 1000 ≤ x ∧ (110 < x % 1000 ∧ x % 1000 < 119) ∧ Nat.testBit (eM 303) (bix x 0) = true) h4 (by decide)) h5 h6 ?_
    refine r_iinc3 (p := 44) f303_41 rfl rfl ?_
    refine r_goto (p := 24) f303_44 (by decide) rfl ?_
    exact le2_refl _
  · refine r_aln0 (p := 48) f303_47 rfl ?_
    refine r_aln2 (p := 49) f303_48 rfl ?_
    refine r_pfR (f := 2) (p := 52) f303_49 rfl rfl rfl (by decide) (by decide) (Or.inl h1) rfl ?_
    exact le2_refl _
theorem q303_52 {d : Nat} {m : Mem} {a0 a1 : Int} {z2 z3 : PV} (hz : TZ m) (hcz2 : cat z2 = 1) (hcz3 : cat z3 = 1) : le2 (gd (tg m a0 = 15) <| nm (vl m a0 2) fun v1 => nm (vl m a0 3) fun v2 => gd (tg m v1 = 303113 ∨ tg m v1 = 304113) <| gd ((0 : Int) ≤ v2 ∧ v2 < ln m v1) <| gd (aOk (tg m v1 % 1000) (tg m a1) = true) <| some (.inl none, (mst (mst m a0 3 (w32 (v2 + 1))) v1 v2 a1))) (rn d 303 52 [pR a0, pR a1, z2, z3] [] m) := by
  refine r_aln0 (p := 53) f303_52 rfl ?_
  refine le2_gd (fun h1 => ?_)
  refine r_gfR (f := 2) (p := 56) f303_53 rfl rfl rfl (Or.inl h1) rfl ?_
  refine r_nmR (fun v1 ev1 => ?_)
  refine r_aln0 (p := 57) f303_56 rfl ?_
  refine r_dup (p := 58) f303_57 rfl rfl ?_
  refine r_gfI (f := 3) (p := 61) f303_58 rfl rfl rfl (Or.inl h1) rfl ?_
  refine r_nmI (fun v2 ev2 => ?_)
  refine r_dup_x1 (p := 62) f303_61 rfl rfl rfl ?_
  refine r_iconst (p := 63) f303_62 rfl (pinD rfl rfl) ?_
  refine r_iadd (p := 64) f303_63 rfl ?_
  refine r_pfI (f := 3) (p := 67) f303_64 rfl rfl rfl (by decide) (by decide) (Or.inl h1) rfl ?_
  refine r_aln1 (p := 68) f303_67 rfl ?_
  refine le2_gd (fun h2 => ?_)
  refine le2_gd (fun h3 => ?_)
  refine le2_gd (fun h4 => ?_)
  refine r_aastore (p := 69) f303_68 rfl (dj2 (fun x => 1000 ≤ x ∧ (110 < x % 1000 ∧ x % 1000 < 119) ∧ Nat.testBit (eM 303) (bix x 0) = true) h2 (by decide) (by decide)) h3 h4 ?_
  exact r_ret f303_69
/-! 304 PathStore$Segment.<init> (Z)V -/
def w304_0 : List UInt8 := [42, 183, 0, 1, 42, 4, 189, 0, 7, 181, 0, 9, 42, 27, 181, 0, 15, 177]
abbrev u304_0 : List UInt8 := w304_0 ++ []
theorem s304_0 : (prog_23_method_1_code).data.toList.drop 0 = u304_0 := by decide +kernel
theorem Fm304 {pc len : Nat} {i : Instr} (h : decode (prog_23_method_1_code) pc = .ok (i, len)) (hl : len = ilen i len) : ft 304 pc = some (16, 0, 1, i, len) := ft_mk rfl h hl
theorem f304_0 : ft 304 0 = some (16, 0, 1, .aload_n 0, 1) := Fm304 (dk_42 (dk_at s304_0 0 rfl rfl)) rfl
theorem f304_1 : ft 304 1 = some (16, 0, 1, .invokespecial 1, 3) := Fm304 (dk_183 0 1 (dk_at s304_0 1 rfl rfl)) rfl
theorem f304_4 : ft 304 4 = some (16, 0, 1, .aload_n 0, 1) := Fm304 (dk_42 (dk_at s304_0 4 rfl rfl)) rfl
theorem f304_5 : ft 304 5 = some (16, 0, 1, .iconst 1, 1) := Fm304 (dk_4 (dk_at s304_0 5 rfl rfl)) rfl
theorem f304_6 : ft 304 6 = some (16, 0, 1, .anewarray 7, 3) := Fm304 (dk_189 0 7 (dk_at s304_0 6 rfl rfl)) rfl
theorem f304_9 : ft 304 9 = some (16, 0, 1, .putfield 9, 3) := Fm304 (dk_181 0 9 (dk_at s304_0 9 rfl rfl)) rfl
theorem f304_12 : ft 304 12 = some (16, 0, 1, .aload_n 0, 1) := Fm304 (dk_42 (dk_at s304_0 12 rfl rfl)) rfl
theorem f304_13 : ft 304 13 = some (16, 0, 1, .iload_n 1, 1) := Fm304 (dk_27 (dk_at s304_0 13 rfl rfl)) rfl
theorem f304_14 : ft 304 14 = some (16, 0, 1, .putfield 15, 3) := Fm304 (dk_181 0 15 (dk_at s304_0 14 rfl rfl)) rfl
theorem f304_17 : ft 304 17 = some (16, 0, 1, .return_, 1) := Fm304 (dk_177 (dk_at s304_0 17 rfl rfl)) rfl
theorem q304 {d : Nat} {m : Mem} {a0 a1 : Int} (hz : TZ m) : le2 (gd (tg m a0 = 16) <| nw (nx m) (mal m 305111 1) fun o1 m1 => gd (a1 = 0 ∨ a1 = 1) <| some (.inl none, (mst (mst m1 a0 1 o1) a0 0 a1))) (cl d 304 [pR a0, pI a1] m) := by
  refine q_in (n := 2) (L := [pR a0, pI a1]) rfl rfl rfl ?_
  refine r_aln0 (p := 1) f304_0 rfl ?_
  refine le2_gd (fun h1 => ?_)
  refine r_objinit (p := 4) f304_1 rfl rfl (dj1 (fun x => 0 < x ∧ x < 100) h1 (by decide)) (Nat.le_of_ble_eq_true rfl) ?_
  refine r_aln0 (p := 5) f304_4 rfl ?_
  refine r_iconst (p := 6) f304_5 rfl (pinD rfl rfl) ?_
  refine r_anewa (t1 := 305111) (p := 9) f304_6 rfl rfl (pinE rfl rfl) rfl rfl (fun o1 m1 h2 k1 => ?_)
  have hz1 := z_k k1 hz
  have h3 := k_t1 k1 hz h1 (by decide)
  refine r_pfR (f := 1) (p := 12) f304_9 rfl rfl rfl (by decide) (by decide) (Or.inl h3) rfl ?_
  refine r_aln0 (p := 13) f304_12 rfl ?_
  refine r_iln1 (p := 14) f304_13 rfl ?_
  refine le2_gd (fun h4 => ?_)
  refine r_pfZ (f := 0) (p := 17) f304_14 rfl rfl rfl (by decide) (by decide) (Or.inl h3) rfl h4 ?_
  exact r_ret f304_17
/-! 305 PathStore$Segment.add (LPathStore$Selector;)V -/
def w305_2 : List UInt8 := [44, 181, 0, 9, 42, 180, 0, 9, 42, 89, 180, 0, 19, 90, 4, 96, 181, 0, 19, 43, 83, 177]
abbrev u305_2 : List UInt8 := w305_2 ++ []
def w305_1 : List UInt8 := [29, 42, 180, 0, 19, 162, 0, 18, 44, 29, 42, 180, 0, 9, 29, 50, 83, 132, 3, 1, 167, 255, 236, 42]
abbrev u305_1 : List UInt8 := w305_1 ++ u305_2
def w305_0 : List UInt8 := [42, 180, 0, 19, 42, 180, 0, 9, 190, 160, 0, 43, 5, 42, 180, 0, 19, 104, 189, 0, 7, 77, 3, 62]
abbrev u305_0 : List UInt8 := w305_0 ++ u305_1
theorem s305_0 : (prog_23_method_2_code).data.toList.drop 0 = u305_0 := by decide +kernel
theorem s305_1 : (prog_23_method_2_code).data.toList.drop 24 = u305_1 := dk_seg s305_0 24 rfl rfl
theorem s305_2 : (prog_23_method_2_code).data.toList.drop 48 = u305_2 := dk_seg s305_1 24 rfl rfl
theorem Fm305 {pc len : Nat} {i : Instr} (h : decode (prog_23_method_2_code) pc = .ok (i, len)) (hl : len = ilen i len) : ft 305 pc = some (16, 0, 0, i, len) := ft_mk rfl h hl
theorem f305_0 : ft 305 0 = some (16, 0, 0, .aload_n 0, 1) := Fm305 (dk_42 (dk_at s305_0 0 rfl rfl)) rfl
theorem f305_1 : ft 305 1 = some (16, 0, 0, .getfield 19, 3) := Fm305 (dk_180 0 19 (dk_at s305_0 1 rfl rfl)) rfl
theorem f305_4 : ft 305 4 = some (16, 0, 0, .aload_n 0, 1) := Fm305 (dk_42 (dk_at s305_0 4 rfl rfl)) rfl
theorem f305_5 : ft 305 5 = some (16, 0, 0, .getfield 9, 3) := Fm305 (dk_180 0 9 (dk_at s305_0 5 rfl rfl)) rfl
theorem f305_8 : ft 305 8 = some (16, 0, 0, .arraylength, 1) := Fm305 (dk_190 (dk_at s305_0 8 rfl rfl)) rfl
theorem f305_9 : ft 305 9 = some (16, 0, 0, .if_icmp .ne 43, 3) := Fm305 (dk_160 0 43 (dk_at s305_0 9 rfl rfl)) rfl
theorem f305_12 : ft 305 12 = some (16, 0, 0, .iconst 2, 1) := Fm305 (dk_5 (dk_at s305_0 12 rfl rfl)) rfl
theorem f305_13 : ft 305 13 = some (16, 0, 0, .aload_n 0, 1) := Fm305 (dk_42 (dk_at s305_0 13 rfl rfl)) rfl
theorem f305_14 : ft 305 14 = some (16, 0, 0, .getfield 19, 3) := Fm305 (dk_180 0 19 (dk_at s305_0 14 rfl rfl)) rfl
theorem f305_17 : ft 305 17 = some (16, 0, 0, .imul, 1) := Fm305 (dk_104 (dk_at s305_0 17 rfl rfl)) rfl
theorem f305_18 : ft 305 18 = some (16, 0, 0, .anewarray 7, 3) := Fm305 (dk_189 0 7 (dk_at s305_0 18 rfl rfl)) rfl
theorem f305_21 : ft 305 21 = some (16, 0, 0, .astore_n 2, 1) := Fm305 (dk_77 (dk_at s305_0 21 rfl rfl)) rfl
theorem f305_22 : ft 305 22 = some (16, 0, 0, .iconst 0, 1) := Fm305 (dk_3 (dk_at s305_0 22 rfl rfl)) rfl
theorem f305_23 : ft 305 23 = some (16, 0, 0, .istore_n 3, 1) := Fm305 (dk_62 (dk_at s305_0 23 rfl rfl)) rfl
theorem f305_24 : ft 305 24 = some (16, 0, 0, .iload_n 3, 1) := Fm305 (dk_29 (dk_at s305_1 0 rfl rfl)) rfl
theorem f305_25 : ft 305 25 = some (16, 0, 0, .aload_n 0, 1) := Fm305 (dk_42 (dk_at s305_1 1 rfl rfl)) rfl
theorem f305_26 : ft 305 26 = some (16, 0, 0, .getfield 19, 3) := Fm305 (dk_180 0 19 (dk_at s305_1 2 rfl rfl)) rfl
theorem f305_29 : ft 305 29 = some (16, 0, 0, .if_icmp .ge 18, 3) := Fm305 (dk_162 0 18 (dk_at s305_1 5 rfl rfl)) rfl
theorem f305_32 : ft 305 32 = some (16, 0, 0, .aload_n 2, 1) := Fm305 (dk_44 (dk_at s305_1 8 rfl rfl)) rfl
theorem f305_33 : ft 305 33 = some (16, 0, 0, .iload_n 3, 1) := Fm305 (dk_29 (dk_at s305_1 9 rfl rfl)) rfl
theorem f305_34 : ft 305 34 = some (16, 0, 0, .aload_n 0, 1) := Fm305 (dk_42 (dk_at s305_1 10 rfl rfl)) rfl
theorem f305_35 : ft 305 35 = some (16, 0, 0, .getfield 9, 3) := Fm305 (dk_180 0 9 (dk_at s305_1 11 rfl rfl)) rfl
theorem f305_38 : ft 305 38 = some (16, 0, 0, .iload_n 3, 1) := Fm305 (dk_29 (dk_at s305_1 14 rfl rfl)) rfl
theorem f305_39 : ft 305 39 = some (16, 0, 0, .aaload, 1) := Fm305 (dk_50 (dk_at s305_1 15 rfl rfl)) rfl
theorem f305_40 : ft 305 40 = some (16, 0, 0, .aastore, 1) := Fm305 (dk_83 (dk_at s305_1 16 rfl rfl)) rfl
theorem f305_41 : ft 305 41 = some (16, 0, 0, .iinc 3 1, 3) := Fm305 (dk_132 3 1 (dk_at s305_1 17 rfl rfl)) rfl
theorem f305_44 : ft 305 44 = some (16, 0, 0, .goto (-20), 3) := Fm305 (dk_167 255 236 (dk_at s305_1 20 rfl rfl)) rfl
theorem f305_47 : ft 305 47 = some (16, 0, 0, .aload_n 0, 1) := Fm305 (dk_42 (dk_at s305_1 23 rfl rfl)) rfl
theorem f305_48 : ft 305 48 = some (16, 0, 0, .aload_n 2, 1) := Fm305 (dk_44 (dk_at s305_2 0 rfl rfl)) rfl
theorem f305_49 : ft 305 49 = some (16, 0, 0, .putfield 9, 3) := Fm305 (dk_181 0 9 (dk_at s305_2 1 rfl rfl)) rfl
theorem f305_52 : ft 305 52 = some (16, 0, 0, .aload_n 0, 1) := Fm305 (dk_42 (dk_at s305_2 4 rfl rfl)) rfl
theorem f305_53 : ft 305 53 = some (16, 0, 0, .getfield 9, 3) := Fm305 (dk_180 0 9 (dk_at s305_2 5 rfl rfl)) rfl
theorem f305_56 : ft 305 56 = some (16, 0, 0, .aload_n 0, 1) := Fm305 (dk_42 (dk_at s305_2 8 rfl rfl)) rfl
theorem f305_57 : ft 305 57 = some (16, 0, 0, .dup, 1) := Fm305 (dk_89 (dk_at s305_2 9 rfl rfl)) rfl
theorem f305_58 : ft 305 58 = some (16, 0, 0, .getfield 19, 3) := Fm305 (dk_180 0 19 (dk_at s305_2 10 rfl rfl)) rfl
theorem f305_61 : ft 305 61 = some (16, 0, 0, .dup_x1, 1) := Fm305 (dk_90 (dk_at s305_2 13 rfl rfl)) rfl
theorem f305_62 : ft 305 62 = some (16, 0, 0, .iconst 1, 1) := Fm305 (dk_4 (dk_at s305_2 14 rfl rfl)) rfl
theorem f305_63 : ft 305 63 = some (16, 0, 0, .iadd, 1) := Fm305 (dk_96 (dk_at s305_2 15 rfl rfl)) rfl
theorem f305_64 : ft 305 64 = some (16, 0, 0, .putfield 19, 3) := Fm305 (dk_181 0 19 (dk_at s305_2 16 rfl rfl)) rfl
theorem f305_67 : ft 305 67 = some (16, 0, 0, .aload_n 1, 1) := Fm305 (dk_43 (dk_at s305_2 19 rfl rfl)) rfl
theorem f305_68 : ft 305 68 = some (16, 0, 0, .aastore, 1) := Fm305 (dk_83 (dk_at s305_2 20 rfl rfl)) rfl
theorem f305_69 : ft 305 69 = some (16, 0, 0, .return_, 1) := Fm305 (dk_177 (dk_at s305_2 21 rfl rfl)) rfl
theorem q305 {d : Nat} {m : Mem} {a0 a1 : Int} (hz : TZ m) : le2 (gd (tg m a0 = 16) <| nm (vl m a0 2) fun v2 => nm (vl m a0 1) fun v3 => gd (tg m v3 = 305111 ∨ tg m v3 = 306111) <| if v2 = (ln m v3) then (nm (w32 (2 * v2)) fun v4 => gd ((0 : Int) ≤ v4 ∧ v4 ≤ 2000000) <| nw (nx m) (mal m 306111 v4) fun o1 m1 => rn d 305 24 [pR a0, pR a1, pR o1, pI 0] [] m1) else rn d 305 52 [pR a0, pR a1, pU, pU] [] m) (cl d 305 [pR a0, pR a1] m) := by
  refine q_in (n := 4) (L := [pR a0, pR a1, pU, pU]) rfl rfl rfl ?_
  refine r_aln0 (p := 1) f305_0 rfl ?_
  refine le2_gd (fun h1 => ?_)
  refine r_gfI (f := 2) (p := 4) f305_1 rfl rfl rfl (Or.inl h1) rfl ?_
  refine r_nmI (fun v2 ev2 => ?_)
  refine r_aln0 (p := 5) f305_4 rfl ?_
  refine r_gfR (f := 1) (p := 8) f305_5 rfl rfl rfl (Or.inl h1) rfl ?_
  refine r_nmR (fun v3 ev3 => ?_)
  refine le2_gd (fun h2 => ?_)
  refine r_alen (p := 9) f305_8 rfl (dj2 (fun x => 100 < x % 1000 ∧ x % 1000 < 119) h2 (by decide) (by decide)) ?_
  refine r_icne (t := 52) (p := 12) f305_9 (by decide) rfl rfl ?_ ?_
  · refine r_iconst (p := 13) f305_12 rfl (pinD rfl rfl) ?_
    refine r_aln0 (p := 14) f305_13 rfl ?_
    refine r_gfI (f := 2) (p := 17) f305_14 rfl rfl rfl (Or.inl h1) ev2.symm ?_
    refine r_imul (p := 18) f305_17 rfl ?_
    refine r_nmI (fun v4 ev4 => ?_)
    refine le2_gd (fun h3 => ?_)
    refine r_anewa (t1 := 306111) (p := 21) f305_18 rfl rfl h3 rfl rfl (fun o1 m1 h4 k1 => ?_)
    have hz1 := z_k k1 hz
    refine r_asn2 (p := 22) f305_21 rfl rfl ?_
    refine r_iconst (p := 23) f305_22 rfl (pinD rfl rfl) ?_
    refine r_isn3 (p := 24) f305_23 rfl rfl ?_
    exact le2_refl _
  · exact le2_refl _
theorem q305_24 {d : Nat} {m : Mem} {a0 a1 a2 a3 : Int} (hz : TZ m) : le2 (gd (tg m a0 = 16) <| if a3 < (vl m a0 2) then (nm (vl m a0 1) fun v1 => gd (tg m v1 = 305111 ∨ tg m v1 = 306111) <| gd ((0 : Int) ≤ a3 ∧ a3 < ln m v1) <| nm (vl m v1 a3) fun v2 => gd (tg m a2 = 306111) <| gd ((0 : Int) ≤ a3 ∧ a3 < ln m a2) <| gd (aOk (tg m a2 % 1000) (tg m v2) = true) <| rn d 305 24 [pR a0, pR a1, pR a2, pI (w32 (a3 + 1))] [] (mst m a2 a3 v2)) else rn d 305 52 [pR a0, pR a1, pR a2, pI a3] [] (mst m a0 1 a2)) (rn d 305 24 [pR a0, pR a1, pR a2, pI a3] [] m) := by
  refine r_iln3 (p := 25) f305_24 rfl ?_
  refine r_aln0 (p := 26) f305_25 rfl ?_
  refine le2_gd (fun h1 => ?_)
  refine r_gfI (f := 2) (p := 29) f305_26 rfl rfl rfl (Or.inl h1) rfl ?_
  refine r_icge (t := 47) (p := 32) f305_29 (by decide) rfl rfl ?_ ?_
  · refine r_aln2 (p := 33) f305_32 rfl ?_
    refine r_iln3 (p := 34) f305_33 rfl ?_
    refine r_aln0 (p := 35) f305_34 rfl ?_
    refine r_gfR (f := 1) (p := 38) f305_35 rfl rfl rfl (Or.inl h1) rfl ?_
    refine r_nmR (fun v1 ev1 => ?_)
    refine r_iln3 (p := 39) f305_38 rfl ?_
    refine le2_gd (fun h2 => ?_)
    refine le2_gd (fun h3 => ?_)
    refine r_aaload (p := 40) f305_39 rfl (dj2 (fun x => 110 < x % 1000 ∧ x % 1000 < 119) h2 (by decide) (by decide)) h3 rfl ?_
    refine r_nmR (fun v2 ev2 => ?_)
    refine le2_gd (fun h4 => ?_)
    refine le2_gd (fun h5 => ?_)
    refine le2_gd (fun h6 => ?_)
    refine r_aastore (p := 41) f305_40 rfl (dj1 (fun x => 1000 ≤ x ∧ (110 < x % 1000 ∧ x % 1000 < 119) ∧ Nat.testBit (eM 305) (bix x 0) = true) h4 (by decide)) h5 h6 ?_
    refine r_iinc3 (p := 44) f305_41 rfl rfl ?_
    refine r_goto (p := 24) f305_44 (by decide) rfl ?_
    exact le2_refl _
  · refine r_aln0 (p := 48) f305_47 rfl ?_
    refine r_aln2 (p := 49) f305_48 rfl ?_
    refine r_pfR (f := 1) (p := 52) f305_49 rfl rfl rfl (by decide) (by decide) (Or.inl h1) rfl ?_
    exact le2_refl _
theorem q305_52 {d : Nat} {m : Mem} {a0 a1 : Int} {z2 z3 : PV} (hz : TZ m) (hcz2 : cat z2 = 1) (hcz3 : cat z3 = 1) : le2 (gd (tg m a0 = 16) <| nm (vl m a0 1) fun v1 => nm (vl m a0 2) fun v2 => gd (tg m v1 = 305111 ∨ tg m v1 = 306111) <| gd ((0 : Int) ≤ v2 ∧ v2 < ln m v1) <| gd (aOk (tg m v1 % 1000) (tg m a1) = true) <| some (.inl none, (mst (mst m a0 2 (w32 (v2 + 1))) v1 v2 a1))) (rn d 305 52 [pR a0, pR a1, z2, z3] [] m) := by
  refine r_aln0 (p := 53) f305_52 rfl ?_
  refine le2_gd (fun h1 => ?_)
  refine r_gfR (f := 1) (p := 56) f305_53 rfl rfl rfl (Or.inl h1) rfl ?_
  refine r_nmR (fun v1 ev1 => ?_)
  refine r_aln0 (p := 57) f305_56 rfl ?_
  refine r_dup (p := 58) f305_57 rfl rfl ?_
  refine r_gfI (f := 2) (p := 61) f305_58 rfl rfl rfl (Or.inl h1) rfl ?_
  refine r_nmI (fun v2 ev2 => ?_)
  refine r_dup_x1 (p := 62) f305_61 rfl rfl rfl ?_
  refine r_iconst (p := 63) f305_62 rfl (pinD rfl rfl) ?_
  refine r_iadd (p := 64) f305_63 rfl ?_
  refine r_pfI (f := 2) (p := 67) f305_64 rfl rfl rfl (by decide) (by decide) (Or.inl h1) rfl ?_
  refine r_aln1 (p := 68) f305_67 rfl ?_
  refine le2_gd (fun h2 => ?_)
  refine le2_gd (fun h3 => ?_)
  refine le2_gd (fun h4 => ?_)
  refine r_aastore (p := 69) f305_68 rfl (dj2 (fun x => 1000 ≤ x ∧ (110 < x % 1000 ∧ x % 1000 < 119) ∧ Nat.testBit (eM 305) (bix x 0) = true) h2 (by decide) (by decide)) h3 h4 ?_
  exact r_ret f305_69
/-! 306 PathStore$Name.<init> (LPathStore$Row;I)V -/
def w306_0 : List UInt8 := [42, 183, 0, 3, 42, 43, 181, 0, 9, 42, 28, 181, 0, 15, 177]
abbrev u306_0 : List UInt8 := w306_0 ++ []
theorem s306_0 : (prog_13_method_1_code).data.toList.drop 0 = u306_0 := by decide +kernel
theorem Fm306 {pc len : Nat} {i : Instr} (h : decode (prog_13_method_1_code) pc = .ok (i, len)) (hl : len = ilen i len) : ft 306 pc = some (17, 0, 1, i, len) := ft_mk rfl h hl
theorem f306_0 : ft 306 0 = some (17, 0, 1, .aload_n 0, 1) := Fm306 (dk_42 (dk_at s306_0 0 rfl rfl)) rfl
theorem f306_1 : ft 306 1 = some (17, 0, 1, .invokespecial 3, 3) := Fm306 (dk_183 0 3 (dk_at s306_0 1 rfl rfl)) rfl
theorem f306_4 : ft 306 4 = some (17, 0, 1, .aload_n 0, 1) := Fm306 (dk_42 (dk_at s306_0 4 rfl rfl)) rfl
theorem f306_5 : ft 306 5 = some (17, 0, 1, .aload_n 1, 1) := Fm306 (dk_43 (dk_at s306_0 5 rfl rfl)) rfl
theorem f306_6 : ft 306 6 = some (17, 0, 1, .putfield 9, 3) := Fm306 (dk_181 0 9 (dk_at s306_0 6 rfl rfl)) rfl
theorem f306_9 : ft 306 9 = some (17, 0, 1, .aload_n 0, 1) := Fm306 (dk_42 (dk_at s306_0 9 rfl rfl)) rfl
theorem f306_10 : ft 306 10 = some (17, 0, 1, .iload_n 2, 1) := Fm306 (dk_28 (dk_at s306_0 10 rfl rfl)) rfl
theorem f306_11 : ft 306 11 = some (17, 0, 1, .putfield 15, 3) := Fm306 (dk_181 0 15 (dk_at s306_0 11 rfl rfl)) rfl
theorem f306_14 : ft 306 14 = some (17, 0, 1, .return_, 1) := Fm306 (dk_177 (dk_at s306_0 14 rfl rfl)) rfl
theorem q306 {d : Nat} {m : Mem} {a0 a1 a2 : Int} (hz : TZ m) : le2 (gd (tg m a0 = 17) <| some (.inl none, (mst (mst m a0 0 a1) a0 1 a2))) (cl d 306 [pR a0, pR a1, pI a2] m) := by
  refine q_in (n := 3) (L := [pR a0, pR a1, pI a2]) rfl rfl rfl ?_
  refine r_aln0 (p := 1) f306_0 rfl ?_
  refine le2_gd (fun h1 => ?_)
  refine r_objinit (p := 4) f306_1 rfl rfl (dj1 (fun x => 0 < x ∧ x < 100) h1 (by decide)) (Nat.le_of_ble_eq_true rfl) ?_
  refine r_aln0 (p := 5) f306_4 rfl ?_
  refine r_aln1 (p := 6) f306_5 rfl ?_
  refine r_pfR (f := 0) (p := 9) f306_6 rfl rfl rfl (by decide) (by decide) (Or.inl h1) rfl ?_
  refine r_aln0 (p := 10) f306_9 rfl ?_
  refine r_iln2 (p := 11) f306_10 rfl ?_
  refine r_pfI (f := 1) (p := 14) f306_11 rfl rfl rfl (by decide) (by decide) (Or.inl h1) rfl ?_
  exact r_ret f306_14
/-! 307 PathStore$Name.choose (LPathStore$Runner;I)V -/
def w307_1 : List UInt8 := [180, 0, 15, 182, 0, 30, 62, 29, 155, 0, 15, 43, 43, 180, 0, 19, 29, 182, 0, 34, 182, 0, 37, 177]
abbrev u307_1 : List UInt8 := w307_1 ++ []
def w307_0 : List UInt8 := [43, 180, 0, 19, 28, 182, 0, 24, 16, 6, 159, 0, 4, 177, 43, 180, 0, 19, 28, 42, 180, 0, 9, 42]
abbrev u307_0 : List UInt8 := w307_0 ++ u307_1
theorem s307_0 : (prog_13_method_2_code).data.toList.drop 0 = u307_0 := by decide +kernel
theorem s307_1 : (prog_13_method_2_code).data.toList.drop 24 = u307_1 := dk_seg s307_0 24 rfl rfl
theorem Fm307 {pc len : Nat} {i : Instr} (h : decode (prog_13_method_2_code) pc = .ok (i, len)) (hl : len = ilen i len) : ft 307 pc = some (17, 0, 0, i, len) := ft_mk rfl h hl
theorem f307_0 : ft 307 0 = some (17, 0, 0, .aload_n 1, 1) := Fm307 (dk_43 (dk_at s307_0 0 rfl rfl)) rfl
theorem f307_1 : ft 307 1 = some (17, 0, 0, .getfield 19, 3) := Fm307 (dk_180 0 19 (dk_at s307_0 1 rfl rfl)) rfl
theorem f307_4 : ft 307 4 = some (17, 0, 0, .iload_n 2, 1) := Fm307 (dk_28 (dk_at s307_0 4 rfl rfl)) rfl
theorem f307_5 : ft 307 5 = some (17, 0, 0, .invokevirtual 24, 3) := Fm307 (dk_182 0 24 (dk_at s307_0 5 rfl rfl)) rfl
theorem f307_8 : ft 307 8 = some (17, 0, 0, .bipush 6, 2) := Fm307 (dk_16 6 (dk_at s307_0 8 rfl rfl)) rfl
theorem f307_10 : ft 307 10 = some (17, 0, 0, .if_icmp .eq 4, 3) := Fm307 (dk_159 0 4 (dk_at s307_0 10 rfl rfl)) rfl
theorem f307_13 : ft 307 13 = some (17, 0, 0, .return_, 1) := Fm307 (dk_177 (dk_at s307_0 13 rfl rfl)) rfl
theorem f307_14 : ft 307 14 = some (17, 0, 0, .aload_n 1, 1) := Fm307 (dk_43 (dk_at s307_0 14 rfl rfl)) rfl
theorem f307_15 : ft 307 15 = some (17, 0, 0, .getfield 19, 3) := Fm307 (dk_180 0 19 (dk_at s307_0 15 rfl rfl)) rfl
theorem f307_18 : ft 307 18 = some (17, 0, 0, .iload_n 2, 1) := Fm307 (dk_28 (dk_at s307_0 18 rfl rfl)) rfl
theorem f307_19 : ft 307 19 = some (17, 0, 0, .aload_n 0, 1) := Fm307 (dk_42 (dk_at s307_0 19 rfl rfl)) rfl
theorem f307_20 : ft 307 20 = some (17, 0, 0, .getfield 9, 3) := Fm307 (dk_180 0 9 (dk_at s307_0 20 rfl rfl)) rfl
theorem f307_23 : ft 307 23 = some (17, 0, 0, .aload_n 0, 1) := Fm307 (dk_42 (dk_at s307_0 23 rfl rfl)) rfl
theorem f307_24 : ft 307 24 = some (17, 0, 0, .getfield 15, 3) := Fm307 (dk_180 0 15 (dk_at s307_1 0 rfl rfl)) rfl
theorem f307_27 : ft 307 27 = some (17, 0, 0, .invokevirtual 30, 3) := Fm307 (dk_182 0 30 (dk_at s307_1 3 rfl rfl)) rfl
theorem f307_30 : ft 307 30 = some (17, 0, 0, .istore_n 3, 1) := Fm307 (dk_62 (dk_at s307_1 6 rfl rfl)) rfl
theorem f307_31 : ft 307 31 = some (17, 0, 0, .iload_n 3, 1) := Fm307 (dk_29 (dk_at s307_1 7 rfl rfl)) rfl
theorem f307_32 : ft 307 32 = some (17, 0, 0, .ifCond .lt 15, 3) := Fm307 (dk_155 0 15 (dk_at s307_1 8 rfl rfl)) rfl
theorem f307_35 : ft 307 35 = some (17, 0, 0, .aload_n 1, 1) := Fm307 (dk_43 (dk_at s307_1 11 rfl rfl)) rfl
theorem f307_36 : ft 307 36 = some (17, 0, 0, .aload_n 1, 1) := Fm307 (dk_43 (dk_at s307_1 12 rfl rfl)) rfl
theorem f307_37 : ft 307 37 = some (17, 0, 0, .getfield 19, 3) := Fm307 (dk_180 0 19 (dk_at s307_1 13 rfl rfl)) rfl
theorem f307_40 : ft 307 40 = some (17, 0, 0, .iload_n 3, 1) := Fm307 (dk_29 (dk_at s307_1 16 rfl rfl)) rfl
theorem f307_41 : ft 307 41 = some (17, 0, 0, .invokevirtual 34, 3) := Fm307 (dk_182 0 34 (dk_at s307_1 17 rfl rfl)) rfl
theorem f307_44 : ft 307 44 = some (17, 0, 0, .invokevirtual 37, 3) := Fm307 (dk_182 0 37 (dk_at s307_1 20 rfl rfl)) rfl
theorem f307_47 : ft 307 47 = some (17, 0, 0, .return_, 1) := Fm307 (dk_177 (dk_at s307_1 23 rfl rfl)) rfl
theorem q307 {d : Nat} {m : Mem} {a0 a1 a2 : Int} (hd : 0 < d) (hz : TZ m) : le2 (gd (tg m a1 = 6) <| nm (vl m a1 0) fun v5 => gd (tg m v5 = 8) <| bI (cl (d - 1) 139 [pR v5, pI a2] m) fun v1 m1 => if v1 = 6 then (nm (vl m1 a1 0) fun v6 => gd (tg m1 a0 = 17) <| gd (tg m1 v6 = 8) <| bI (cl (d - 1) 144 [pR v6, pI a2, pR (vl m1 a0 0), pI (vl m1 a0 1)] m1) fun v2 m2 => if v2 < 0 then (some (.inl none, m2)) else nm (vl m2 a1 0) fun v7 => gd (tg m2 v7 = 8) <| bI (cl (d - 1) 136 [pR v7, pI v2] m2) fun v3 m3 => bV (cl (d - 1) 106 [pR a1, pI v3] m3) fun m4 => some (.inl none, m4)) else some (.inl none, m1)) (cl d 307 [pR a0, pR a1, pI a2] m) := by
  refine q_in (n := 4) (L := [pR a0, pR a1, pI a2, pU]) rfl rfl rfl ?_
  refine r_aln1 (p := 1) f307_0 rfl ?_
  refine le2_gd (fun h1 => ?_)
  refine r_gfR (f := 0) (p := 4) f307_1 rfl rfl rfl (Or.inl h1) rfl ?_
  refine r_nmR (fun v5 ev5 => ?_)
  refine r_iln2 (p := 5) f307_4 rfl ?_
  refine le2_gd (fun h2 => ?_)
  refine r_invI (p := 8) f307_5 rfl rfl rfl (Or.inl h2) hd (Nat.le_of_ble_eq_true rfl) rfl rfl rfl (fun _ => rfl) (fun v1 m1 c1 => ?_)
  have hz1 := z_k c1 hz
  refine r_bipush (p := 10) f307_8 rfl (pinD rfl rfl) ?_
  refine r_iceq (t := 14) (p := 13) f307_10 (by decide) rfl rfl ?_ ?_
  · refine r_aln1 (p := 15) f307_14 rfl ?_
    have h3 := k_t1 c1 hz h1 (by decide)
    refine r_gfR (f := 0) (p := 18) f307_15 rfl rfl rfl (Or.inl h3) rfl ?_
    refine r_nmR (fun v6 ev6 => ?_)
    refine r_iln2 (p := 19) f307_18 rfl ?_
    refine r_aln0 (p := 20) f307_19 rfl ?_
    refine le2_gd (fun h4 => ?_)
    refine r_gfR (f := 0) (p := 23) f307_20 rfl rfl rfl (Or.inl h4) rfl ?_
    refine r_aln0 (p := 24) f307_23 rfl ?_
    refine r_gfI (f := 1) (p := 27) f307_24 rfl rfl rfl (Or.inl h4) rfl ?_
    refine le2_gd (fun h5 => ?_)
    refine r_invI (p := 30) f307_27 rfl rfl rfl (Or.inl h5) hd (Nat.le_of_ble_eq_true rfl) rfl rfl rfl (fun _ => rfl) (fun v2 m2 c2 => ?_)
    have hz2 := z_k c2 hz1
    refine r_isn3 (p := 31) f307_30 rfl rfl ?_
    refine r_iln3 (p := 32) f307_31 rfl ?_
    refine r_iflt (t := 47) (p := 35) f307_32 (by decide) rfl rfl ?_ ?_
    · exact r_ret f307_47
    · refine r_aln1 (p := 36) f307_35 rfl ?_
      refine r_aln1 (p := 37) f307_36 rfl ?_
      have h6 := k_t1 c2 hz1 h3 (by decide)
      refine r_gfR (f := 0) (p := 40) f307_37 rfl rfl rfl (Or.inl h6) rfl ?_
      refine r_nmR (fun v7 ev7 => ?_)
      refine r_iln3 (p := 41) f307_40 rfl ?_
      refine le2_gd (fun h7 => ?_)
      refine r_invI (p := 44) f307_41 rfl rfl rfl (Or.inl h7) hd (Nat.le_of_ble_eq_true rfl) rfl rfl rfl (fun _ => rfl) (fun v3 m3 c3 => ?_)
      have hz3 := z_k c3 hz2
      have h8 := k_t1 c3 hz2 h6 (by decide)
      refine r_invV (p := 47) f307_44 rfl rfl rfl (Or.inl h8) hd (Nat.le_of_ble_eq_true rfl) rfl rfl rfl (fun _ => rfl) (fun m4 c4 => ?_)
      have hz4 := z_k c4 hz3
      exact r_ret f307_47
  · exact r_ret f307_13
/-! 308 PathStore$Index.<init> (J)V -/
def w308_0 : List UInt8 := [42, 183, 0, 3, 42, 31, 181, 0, 9, 177]
abbrev u308_0 : List UInt8 := w308_0 ++ []
theorem s308_0 : (prog_9_method_1_code).data.toList.drop 0 = u308_0 := by decide +kernel
theorem Fm308 {pc len : Nat} {i : Instr} (h : decode (prog_9_method_1_code) pc = .ok (i, len)) (hl : len = ilen i len) : ft 308 pc = some (18, 0, 1, i, len) := ft_mk rfl h hl
theorem f308_0 : ft 308 0 = some (18, 0, 1, .aload_n 0, 1) := Fm308 (dk_42 (dk_at s308_0 0 rfl rfl)) rfl
theorem f308_1 : ft 308 1 = some (18, 0, 1, .invokespecial 3, 3) := Fm308 (dk_183 0 3 (dk_at s308_0 1 rfl rfl)) rfl
theorem f308_4 : ft 308 4 = some (18, 0, 1, .aload_n 0, 1) := Fm308 (dk_42 (dk_at s308_0 4 rfl rfl)) rfl
theorem f308_5 : ft 308 5 = some (18, 0, 1, .lload_n 1, 1) := Fm308 (dk_31 (dk_at s308_0 5 rfl rfl)) rfl
theorem f308_6 : ft 308 6 = some (18, 0, 1, .putfield 9, 3) := Fm308 (dk_181 0 9 (dk_at s308_0 6 rfl rfl)) rfl
theorem f308_9 : ft 308 9 = some (18, 0, 1, .return_, 1) := Fm308 (dk_177 (dk_at s308_0 9 rfl rfl)) rfl
theorem q308 {d : Nat} {m : Mem} {a0 a1 : Int} (hz : TZ m) : le2 (gd (tg m a0 = 18) <| some (.inl none, (mst m a0 0 a1))) (cl d 308 [pR a0, pL a1] m) := by
  refine q_in (n := 3) (L := [pR a0, pL a1, pU]) rfl rfl rfl ?_
  refine r_aln0 (p := 1) f308_0 rfl ?_
  refine le2_gd (fun h1 => ?_)
  refine r_objinit (p := 4) f308_1 rfl rfl (dj1 (fun x => 0 < x ∧ x < 100) h1 (by decide)) (Nat.le_of_ble_eq_true rfl) ?_
  refine r_aln0 (p := 5) f308_4 rfl ?_
  refine r_lln1 (p := 6) f308_5 rfl ?_
  refine r_pfJ (f := 0) (p := 9) f308_6 rfl rfl rfl (by decide) (by decide) (Or.inl h1) rfl ?_
  exact r_ret f308_9
/-! 309 PathStore$Index.choose (LPathStore$Runner;I)V -/
def w309_2 : List UInt8 := [182, 0, 30, 62, 29, 155, 0, 8, 43, 29, 182, 0, 34, 177]
abbrev u309_2 : List UInt8 := w309_2 ++ []
def w309_1 : List UInt8 := [156, 0, 20, 42, 180, 0, 9, 43, 180, 0, 15, 28, 182, 0, 27, 133, 97, 167, 0, 7, 42, 180, 0, 9]
abbrev u309_1 : List UInt8 := w309_1 ++ u309_2
def w309_0 : List UInt8 := [43, 180, 0, 15, 28, 182, 0, 21, 8, 159, 0, 4, 177, 43, 180, 0, 15, 28, 42, 180, 0, 9, 9, 148]
abbrev u309_0 : List UInt8 := w309_0 ++ u309_1
theorem s309_0 : (prog_9_method_2_code).data.toList.drop 0 = u309_0 := by decide +kernel
theorem s309_1 : (prog_9_method_2_code).data.toList.drop 24 = u309_1 := dk_seg s309_0 24 rfl rfl
theorem s309_2 : (prog_9_method_2_code).data.toList.drop 48 = u309_2 := dk_seg s309_1 24 rfl rfl
theorem Fm309 {pc len : Nat} {i : Instr} (h : decode (prog_9_method_2_code) pc = .ok (i, len)) (hl : len = ilen i len) : ft 309 pc = some (18, 0, 0, i, len) := ft_mk rfl h hl
theorem f309_0 : ft 309 0 = some (18, 0, 0, .aload_n 1, 1) := Fm309 (dk_43 (dk_at s309_0 0 rfl rfl)) rfl
theorem f309_1 : ft 309 1 = some (18, 0, 0, .getfield 15, 3) := Fm309 (dk_180 0 15 (dk_at s309_0 1 rfl rfl)) rfl
theorem f309_4 : ft 309 4 = some (18, 0, 0, .iload_n 2, 1) := Fm309 (dk_28 (dk_at s309_0 4 rfl rfl)) rfl
theorem f309_5 : ft 309 5 = some (18, 0, 0, .invokevirtual 21, 3) := Fm309 (dk_182 0 21 (dk_at s309_0 5 rfl rfl)) rfl
theorem f309_8 : ft 309 8 = some (18, 0, 0, .iconst 5, 1) := Fm309 (dk_8 (dk_at s309_0 8 rfl rfl)) rfl
theorem f309_9 : ft 309 9 = some (18, 0, 0, .if_icmp .eq 4, 3) := Fm309 (dk_159 0 4 (dk_at s309_0 9 rfl rfl)) rfl
theorem f309_12 : ft 309 12 = some (18, 0, 0, .return_, 1) := Fm309 (dk_177 (dk_at s309_0 12 rfl rfl)) rfl
theorem f309_13 : ft 309 13 = some (18, 0, 0, .aload_n 1, 1) := Fm309 (dk_43 (dk_at s309_0 13 rfl rfl)) rfl
theorem f309_14 : ft 309 14 = some (18, 0, 0, .getfield 15, 3) := Fm309 (dk_180 0 15 (dk_at s309_0 14 rfl rfl)) rfl
theorem f309_17 : ft 309 17 = some (18, 0, 0, .iload_n 2, 1) := Fm309 (dk_28 (dk_at s309_0 17 rfl rfl)) rfl
theorem f309_18 : ft 309 18 = some (18, 0, 0, .aload_n 0, 1) := Fm309 (dk_42 (dk_at s309_0 18 rfl rfl)) rfl
theorem f309_19 : ft 309 19 = some (18, 0, 0, .getfield 9, 3) := Fm309 (dk_180 0 9 (dk_at s309_0 19 rfl rfl)) rfl
theorem f309_22 : ft 309 22 = some (18, 0, 0, .lconst 0, 1) := Fm309 (dk_9 (dk_at s309_0 22 rfl rfl)) rfl
theorem f309_23 : ft 309 23 = some (18, 0, 0, .lcmp, 1) := Fm309 (dk_148 (dk_at s309_0 23 rfl rfl)) rfl
theorem f309_24 : ft 309 24 = some (18, 0, 0, .ifCond .ge 20, 3) := Fm309 (dk_156 0 20 (dk_at s309_1 0 rfl rfl)) rfl
theorem f309_27 : ft 309 27 = some (18, 0, 0, .aload_n 0, 1) := Fm309 (dk_42 (dk_at s309_1 3 rfl rfl)) rfl
theorem f309_28 : ft 309 28 = some (18, 0, 0, .getfield 9, 3) := Fm309 (dk_180 0 9 (dk_at s309_1 4 rfl rfl)) rfl
theorem f309_31 : ft 309 31 = some (18, 0, 0, .aload_n 1, 1) := Fm309 (dk_43 (dk_at s309_1 7 rfl rfl)) rfl
theorem f309_32 : ft 309 32 = some (18, 0, 0, .getfield 15, 3) := Fm309 (dk_180 0 15 (dk_at s309_1 8 rfl rfl)) rfl
theorem f309_35 : ft 309 35 = some (18, 0, 0, .iload_n 2, 1) := Fm309 (dk_28 (dk_at s309_1 11 rfl rfl)) rfl
theorem f309_36 : ft 309 36 = some (18, 0, 0, .invokevirtual 27, 3) := Fm309 (dk_182 0 27 (dk_at s309_1 12 rfl rfl)) rfl
theorem f309_39 : ft 309 39 = some (18, 0, 0, .i2l, 1) := Fm309 (dk_133 (dk_at s309_1 15 rfl rfl)) rfl
theorem f309_40 : ft 309 40 = some (18, 0, 0, .ladd, 1) := Fm309 (dk_97 (dk_at s309_1 16 rfl rfl)) rfl
theorem f309_41 : ft 309 41 = some (18, 0, 0, .goto 7, 3) := Fm309 (dk_167 0 7 (dk_at s309_1 17 rfl rfl)) rfl
theorem f309_44 : ft 309 44 = some (18, 0, 0, .aload_n 0, 1) := Fm309 (dk_42 (dk_at s309_1 20 rfl rfl)) rfl
theorem f309_45 : ft 309 45 = some (18, 0, 0, .getfield 9, 3) := Fm309 (dk_180 0 9 (dk_at s309_1 21 rfl rfl)) rfl
theorem f309_48 : ft 309 48 = some (18, 0, 0, .invokevirtual 30, 3) := Fm309 (dk_182 0 30 (dk_at s309_2 0 rfl rfl)) rfl
theorem f309_51 : ft 309 51 = some (18, 0, 0, .istore_n 3, 1) := Fm309 (dk_62 (dk_at s309_2 3 rfl rfl)) rfl
theorem f309_52 : ft 309 52 = some (18, 0, 0, .iload_n 3, 1) := Fm309 (dk_29 (dk_at s309_2 4 rfl rfl)) rfl
theorem f309_53 : ft 309 53 = some (18, 0, 0, .ifCond .lt 8, 3) := Fm309 (dk_155 0 8 (dk_at s309_2 5 rfl rfl)) rfl
theorem f309_56 : ft 309 56 = some (18, 0, 0, .aload_n 1, 1) := Fm309 (dk_43 (dk_at s309_2 8 rfl rfl)) rfl
theorem f309_57 : ft 309 57 = some (18, 0, 0, .iload_n 3, 1) := Fm309 (dk_29 (dk_at s309_2 9 rfl rfl)) rfl
theorem f309_58 : ft 309 58 = some (18, 0, 0, .invokevirtual 34, 3) := Fm309 (dk_182 0 34 (dk_at s309_2 10 rfl rfl)) rfl
theorem f309_61 : ft 309 61 = some (18, 0, 0, .return_, 1) := Fm309 (dk_177 (dk_at s309_2 13 rfl rfl)) rfl
theorem q309 {d : Nat} {m : Mem} {a0 a1 a2 : Int} (hd : 0 < d) (hz : TZ m) : le2 (gd (tg m a1 = 6) <| nm (vl m a1 0) fun v3 => gd (tg m v3 = 8) <| bI (cl (d - 1) 139 [pR v3, pI a2] m) fun v1 m1 => if v1 = 5 then (nm (vl m1 a1 0) fun v4 => gd (tg m1 a0 = 18) <| nm (vl m1 a0 0) fun v5 => if v5 < 0 then (gd (tg m1 v4 = 8) <| bI (cl (d - 1) 145 [pR v4, pI a2] m1) fun v2 m2 => rn d 309 48 [pR a0, pR a1, pI a2, pU] [pL (w64 (v5 + v2)), pI a2, pR v4] m2) else rn d 309 48 [pR a0, pR a1, pI a2, pU] [pL v5, pI a2, pR v4] m1) else some (.inl none, m1)) (cl d 309 [pR a0, pR a1, pI a2] m) := by
  refine q_in (n := 4) (L := [pR a0, pR a1, pI a2, pU]) rfl rfl rfl ?_
  refine r_aln1 (p := 1) f309_0 rfl ?_
  refine le2_gd (fun h1 => ?_)
  refine r_gfR (f := 0) (p := 4) f309_1 rfl rfl rfl (Or.inl h1) rfl ?_
  refine r_nmR (fun v3 ev3 => ?_)
  refine r_iln2 (p := 5) f309_4 rfl ?_
  refine le2_gd (fun h2 => ?_)
  refine r_invI (p := 8) f309_5 rfl rfl rfl (Or.inl h2) hd (Nat.le_of_ble_eq_true rfl) rfl rfl rfl (fun _ => rfl) (fun v1 m1 c1 => ?_)
  have hz1 := z_k c1 hz
  refine r_iconst (p := 9) f309_8 rfl (pinD rfl rfl) ?_
  refine r_iceq (t := 13) (p := 12) f309_9 (by decide) rfl rfl ?_ ?_
  · refine r_aln1 (p := 14) f309_13 rfl ?_
    have h3 := k_t1 c1 hz h1 (by decide)
    refine r_gfR (f := 0) (p := 17) f309_14 rfl rfl rfl (Or.inl h3) rfl ?_
    refine r_nmR (fun v4 ev4 => ?_)
    refine r_iln2 (p := 18) f309_17 rfl ?_
    refine r_aln0 (p := 19) f309_18 rfl ?_
    refine le2_gd (fun h4 => ?_)
    refine r_gfJ (f := 0) (p := 22) f309_19 rfl rfl rfl (Or.inl h4) rfl ?_
    refine r_nmJ (fun v5 ev5 => ?_)
    refine r_lconst0 (p := 23) f309_22 rfl ?_
    refine r_lcge (p1 := 24) (t := 44) (p := 27) f309_23 rfl f309_24 (by decide) rfl rfl ?_ ?_
    · refine r_aln0 (p := 28) f309_27 rfl ?_
      refine r_gfJ (f := 0) (p := 31) f309_28 rfl rfl rfl (Or.inl h4) ev5.symm ?_
      refine r_aln1 (p := 32) f309_31 rfl ?_
      refine r_gfR (f := 0) (p := 35) f309_32 rfl rfl rfl (Or.inl h3) ev4.symm ?_
      refine r_iln2 (p := 36) f309_35 rfl ?_
      refine le2_gd (fun h5 => ?_)
      refine r_invI (p := 39) f309_36 rfl rfl rfl (Or.inl h5) hd (Nat.le_of_ble_eq_true rfl) rfl rfl rfl (fun _ => rfl) (fun v2 m2 c2 => ?_)
      have hz2 := z_k c2 hz1
      refine r_i2l (p := 40) f309_39 rfl ?_
      refine r_ladd (p := 41) f309_40 rfl ?_
      refine r_goto (p := 48) f309_41 (by decide) rfl ?_
      exact le2_refl _
    · refine r_aln0 (p := 45) f309_44 rfl ?_
      refine r_gfJ (f := 0) (p := 48) f309_45 rfl rfl rfl (Or.inl h4) ev5.symm ?_
      exact le2_refl _
  · exact r_ret f309_12
theorem q309_48 {d : Nat} {m : Mem} {a0 a1 a2 s2 s1 s0 : Int} (hd : 0 < d) (hz : TZ m) : le2 (gd (tg m s0 = 8) <| bI (cl (d - 1) 146 [pR s0, pI s1, pL s2] m) fun v1 m1 => if v1 < 0 then (some (.inl none, m1)) else gd (tg m1 a1 = 6) <| bV (cl (d - 1) 106 [pR a1, pI v1] m1) fun m2 => some (.inl none, m2)) (rn d 309 48 [pR a0, pR a1, pI a2, pU] [pL s2, pI s1, pR s0] m) := by
  refine le2_gd (fun h1 => ?_)
  refine r_invI (p := 51) f309_48 rfl rfl rfl (Or.inl h1) hd (Nat.le_of_ble_eq_true rfl) rfl rfl rfl (fun _ => rfl) (fun v1 m1 c1 => ?_)
  have hz1 := z_k c1 hz
  refine r_isn3 (p := 52) f309_51 rfl rfl ?_
  refine r_iln3 (p := 53) f309_52 rfl ?_
  refine r_iflt (t := 61) (p := 56) f309_53 (by decide) rfl rfl ?_ ?_
  · exact r_ret f309_61
  · refine r_aln1 (p := 57) f309_56 rfl ?_
    refine r_iln3 (p := 58) f309_57 rfl ?_
    refine le2_gd (fun h2 => ?_)
    refine r_invV (p := 61) f309_58 rfl rfl rfl (Or.inl h2) hd (Nat.le_of_ble_eq_true rfl) rfl rfl rfl (fun _ => rfl) (fun m2 c2 => ?_)
    have hz2 := z_k c2 hz1
    exact r_ret f309_61
/-! 310 PathStore$All.<init> ()V -/
theorem Fm310 {pc len : Nat} {i : Instr} (h : decode (prog_2_method_1_code) pc = .ok (i, len)) (hl : len = ilen i len) : ft 310 pc = some (19, 0, 1, i, len) := ft_mk rfl h hl
theorem f310_0 : ft 310 0 = some (19, 0, 1, .aload_n 0, 1) := Fm310 (by decide +kernel) rfl
theorem f310_1 : ft 310 1 = some (19, 0, 1, .invokespecial 3, 3) := Fm310 (by decide +kernel) rfl
theorem f310_4 : ft 310 4 = some (19, 0, 1, .return_, 1) := Fm310 (by decide +kernel) rfl
theorem q310 {d : Nat} {m : Mem} {a0 : Int} (hz : TZ m) : le2 (gd (tg m a0 = 19) <| some (.inl none, m)) (cl d 310 [pR a0] m) := by
  refine q_in (n := 1) (L := [pR a0]) rfl rfl rfl ?_
  refine r_aln0 (p := 1) f310_0 rfl ?_
  refine le2_gd (fun h1 => ?_)
  refine r_objinit (p := 4) f310_1 rfl rfl (dj1 (fun x => 0 < x ∧ x < 100) h1 (by decide)) (Nat.le_of_ble_eq_true rfl) ?_
  exact r_ret f310_4
/-! 311 PathStore$All.choose (LPathStore$Runner;I)V -/
def w311_2 : List UInt8 := [180, 0, 9, 28, 21, 4, 182, 0, 31, 54, 4, 167, 255, 232, 177]
abbrev u311_2 : List UInt8 := w311_2 ++ []
def w311_1 : List UInt8 := [180, 0, 9, 28, 182, 0, 24, 54, 4, 21, 4, 29, 162, 0, 24, 43, 21, 4, 182, 0, 27, 43]
abbrev u311_1 : List UInt8 := w311_1 ++ u311_2
def w311_0 : List UInt8 := [43, 180, 0, 9, 28, 182, 0, 15, 8, 162, 0, 4, 177, 43, 180, 0, 9, 28, 182, 0, 21, 62, 43]
abbrev u311_0 : List UInt8 := w311_0 ++ u311_1
theorem s311_0 : (prog_2_method_2_code).data.toList.drop 0 = u311_0 := by decide +kernel
theorem s311_1 : (prog_2_method_2_code).data.toList.drop 23 = u311_1 := dk_seg s311_0 23 rfl rfl
theorem s311_2 : (prog_2_method_2_code).data.toList.drop 45 = u311_2 := dk_seg s311_1 22 rfl rfl
theorem Fm311 {pc len : Nat} {i : Instr} (h : decode (prog_2_method_2_code) pc = .ok (i, len)) (hl : len = ilen i len) : ft 311 pc = some (19, 0, 0, i, len) := ft_mk rfl h hl
theorem f311_0 : ft 311 0 = some (19, 0, 0, .aload_n 1, 1) := Fm311 (dk_43 (dk_at s311_0 0 rfl rfl)) rfl
theorem f311_1 : ft 311 1 = some (19, 0, 0, .getfield 9, 3) := Fm311 (dk_180 0 9 (dk_at s311_0 1 rfl rfl)) rfl
theorem f311_4 : ft 311 4 = some (19, 0, 0, .iload_n 2, 1) := Fm311 (dk_28 (dk_at s311_0 4 rfl rfl)) rfl
theorem f311_5 : ft 311 5 = some (19, 0, 0, .invokevirtual 15, 3) := Fm311 (dk_182 0 15 (dk_at s311_0 5 rfl rfl)) rfl
theorem f311_8 : ft 311 8 = some (19, 0, 0, .iconst 5, 1) := Fm311 (dk_8 (dk_at s311_0 8 rfl rfl)) rfl
theorem f311_9 : ft 311 9 = some (19, 0, 0, .if_icmp .ge 4, 3) := Fm311 (dk_162 0 4 (dk_at s311_0 9 rfl rfl)) rfl
theorem f311_12 : ft 311 12 = some (19, 0, 0, .return_, 1) := Fm311 (dk_177 (dk_at s311_0 12 rfl rfl)) rfl
theorem f311_13 : ft 311 13 = some (19, 0, 0, .aload_n 1, 1) := Fm311 (dk_43 (dk_at s311_0 13 rfl rfl)) rfl
theorem f311_14 : ft 311 14 = some (19, 0, 0, .getfield 9, 3) := Fm311 (dk_180 0 9 (dk_at s311_0 14 rfl rfl)) rfl
theorem f311_17 : ft 311 17 = some (19, 0, 0, .iload_n 2, 1) := Fm311 (dk_28 (dk_at s311_0 17 rfl rfl)) rfl
theorem f311_18 : ft 311 18 = some (19, 0, 0, .invokevirtual 21, 3) := Fm311 (dk_182 0 21 (dk_at s311_0 18 rfl rfl)) rfl
theorem f311_21 : ft 311 21 = some (19, 0, 0, .istore_n 3, 1) := Fm311 (dk_62 (dk_at s311_0 21 rfl rfl)) rfl
theorem f311_22 : ft 311 22 = some (19, 0, 0, .aload_n 1, 1) := Fm311 (dk_43 (dk_at s311_0 22 rfl rfl)) rfl
theorem f311_23 : ft 311 23 = some (19, 0, 0, .getfield 9, 3) := Fm311 (dk_180 0 9 (dk_at s311_1 0 rfl rfl)) rfl
theorem f311_26 : ft 311 26 = some (19, 0, 0, .iload_n 2, 1) := Fm311 (dk_28 (dk_at s311_1 3 rfl rfl)) rfl
theorem f311_27 : ft 311 27 = some (19, 0, 0, .invokevirtual 24, 3) := Fm311 (dk_182 0 24 (dk_at s311_1 4 rfl rfl)) rfl
theorem f311_30 : ft 311 30 = some (19, 0, 0, .istore 4, 2) := Fm311 (dk_54 4 (dk_at s311_1 7 rfl rfl)) rfl
theorem f311_32 : ft 311 32 = some (19, 0, 0, .iload 4, 2) := Fm311 (dk_21 4 (dk_at s311_1 9 rfl rfl)) rfl
theorem f311_34 : ft 311 34 = some (19, 0, 0, .iload_n 3, 1) := Fm311 (dk_29 (dk_at s311_1 11 rfl rfl)) rfl
theorem f311_35 : ft 311 35 = some (19, 0, 0, .if_icmp .ge 24, 3) := Fm311 (dk_162 0 24 (dk_at s311_1 12 rfl rfl)) rfl
theorem f311_38 : ft 311 38 = some (19, 0, 0, .aload_n 1, 1) := Fm311 (dk_43 (dk_at s311_1 15 rfl rfl)) rfl
theorem f311_39 : ft 311 39 = some (19, 0, 0, .iload 4, 2) := Fm311 (dk_21 4 (dk_at s311_1 16 rfl rfl)) rfl
theorem f311_41 : ft 311 41 = some (19, 0, 0, .invokevirtual 27, 3) := Fm311 (dk_182 0 27 (dk_at s311_1 18 rfl rfl)) rfl
theorem f311_44 : ft 311 44 = some (19, 0, 0, .aload_n 1, 1) := Fm311 (dk_43 (dk_at s311_1 21 rfl rfl)) rfl
theorem f311_45 : ft 311 45 = some (19, 0, 0, .getfield 9, 3) := Fm311 (dk_180 0 9 (dk_at s311_2 0 rfl rfl)) rfl
theorem f311_48 : ft 311 48 = some (19, 0, 0, .iload_n 2, 1) := Fm311 (dk_28 (dk_at s311_2 3 rfl rfl)) rfl
theorem f311_49 : ft 311 49 = some (19, 0, 0, .iload 4, 2) := Fm311 (dk_21 4 (dk_at s311_2 4 rfl rfl)) rfl
theorem f311_51 : ft 311 51 = some (19, 0, 0, .invokevirtual 31, 3) := Fm311 (dk_182 0 31 (dk_at s311_2 6 rfl rfl)) rfl
theorem f311_54 : ft 311 54 = some (19, 0, 0, .istore 4, 2) := Fm311 (dk_54 4 (dk_at s311_2 9 rfl rfl)) rfl
theorem f311_56 : ft 311 56 = some (19, 0, 0, .goto (-24), 3) := Fm311 (dk_167 255 232 (dk_at s311_2 11 rfl rfl)) rfl
theorem f311_59 : ft 311 59 = some (19, 0, 0, .return_, 1) := Fm311 (dk_177 (dk_at s311_2 14 rfl rfl)) rfl
theorem q311 {d : Nat} {m : Mem} {a0 a1 a2 : Int} (hd : 0 < d) (hz : TZ m) : le2 (gd (tg m a1 = 6) <| nm (vl m a1 0) fun v4 => gd (tg m v4 = 8) <| bI (cl (d - 1) 139 [pR v4, pI a2] m) fun v1 m1 => if v1 < 5 then (some (.inl none, m1)) else nm (vl m1 a1 0) fun v5 => gd (tg m1 v5 = 8) <| bI (cl (d - 1) 137 [pR v5, pI a2] m1) fun v2 m2 => nm (vl m2 a1 0) fun v6 => gd (tg m2 v6 = 8) <| bI (cl (d - 1) 150 [pR v6, pI a2] m2) fun v3 m3 => rn d 311 32 [pR a0, pR a1, pI a2, pI v2, pI v3] [] m3) (cl d 311 [pR a0, pR a1, pI a2] m) := by
  refine q_in (n := 5) (L := [pR a0, pR a1, pI a2, pU, pU]) rfl rfl rfl ?_
  refine r_aln1 (p := 1) f311_0 rfl ?_
  refine le2_gd (fun h1 => ?_)
  refine r_gfR (f := 0) (p := 4) f311_1 rfl rfl rfl (Or.inl h1) rfl ?_
  refine r_nmR (fun v4 ev4 => ?_)
  refine r_iln2 (p := 5) f311_4 rfl ?_
  refine le2_gd (fun h2 => ?_)
  refine r_invI (p := 8) f311_5 rfl rfl rfl (Or.inl h2) hd (Nat.le_of_ble_eq_true rfl) rfl rfl rfl (fun _ => rfl) (fun v1 m1 c1 => ?_)
  have hz1 := z_k c1 hz
  refine r_iconst (p := 9) f311_8 rfl (pinD rfl rfl) ?_
  refine r_icge (t := 13) (p := 12) f311_9 (by decide) rfl rfl ?_ ?_
  · exact r_ret f311_12
  · refine r_aln1 (p := 14) f311_13 rfl ?_
    have h3 := k_t1 c1 hz h1 (by decide)
    refine r_gfR (f := 0) (p := 17) f311_14 rfl rfl rfl (Or.inl h3) rfl ?_
    refine r_nmR (fun v5 ev5 => ?_)
    refine r_iln2 (p := 18) f311_17 rfl ?_
    refine le2_gd (fun h4 => ?_)
    refine r_invI (p := 21) f311_18 rfl rfl rfl (Or.inl h4) hd (Nat.le_of_ble_eq_true rfl) rfl rfl rfl (fun _ => rfl) (fun v2 m2 c2 => ?_)
    have hz2 := z_k c2 hz1
    refine r_isn3 (p := 22) f311_21 rfl rfl ?_
    refine r_aln1 (p := 23) f311_22 rfl ?_
    have h5 := k_t1 c2 hz1 h3 (by decide)
    refine r_gfR (f := 0) (p := 26) f311_23 rfl rfl rfl (Or.inl h5) rfl ?_
    refine r_nmR (fun v6 ev6 => ?_)
    refine r_iln2 (p := 27) f311_26 rfl ?_
    refine le2_gd (fun h6 => ?_)
    refine r_invI (p := 30) f311_27 rfl rfl rfl (Or.inl h6) hd (Nat.le_of_ble_eq_true rfl) rfl rfl rfl (fun _ => rfl) (fun v3 m3 c3 => ?_)
    have hz3 := z_k c3 hz2
    refine r_isw4 (p := 32) f311_30 rfl rfl ?_
    exact le2_refl _
theorem q311_32 {d : Nat} {m : Mem} {a0 a1 a2 a3 a4 : Int} (hd : 0 < d) (hz : TZ m) : le2 (if a4 < a3 then (gd (tg m a1 = 6) <| bV (cl (d - 1) 106 [pR a1, pI a4] m) fun m1 => nm (vl m1 a1 0) fun v3 => gd (tg m1 v3 = 8) <| bI (cl (d - 1) 151 [pR v3, pI a2, pI a4] m1) fun v2 m2 => rn d 311 32 [pR a0, pR a1, pI a2, pI a3, pI v2] [] m2) else some (.inl none, m)) (rn d 311 32 [pR a0, pR a1, pI a2, pI a3, pI a4] [] m) := by
  refine r_ilw4 (p := 34) f311_32 rfl ?_
  refine r_iln3 (p := 35) f311_34 rfl ?_
  refine r_icge (t := 59) (p := 38) f311_35 (by decide) rfl rfl ?_ ?_
  · refine r_aln1 (p := 39) f311_38 rfl ?_
    refine r_ilw4 (p := 41) f311_39 rfl ?_
    refine le2_gd (fun h1 => ?_)
    refine r_invV (p := 44) f311_41 rfl rfl rfl (Or.inl h1) hd (Nat.le_of_ble_eq_true rfl) rfl rfl rfl (fun _ => rfl) (fun m1 c1 => ?_)
    have hz1 := z_k c1 hz
    refine r_aln1 (p := 45) f311_44 rfl ?_
    have h2 := k_t1 c1 hz h1 (by decide)
    refine r_gfR (f := 0) (p := 48) f311_45 rfl rfl rfl (Or.inl h2) rfl ?_
    refine r_nmR (fun v3 ev3 => ?_)
    refine r_iln2 (p := 49) f311_48 rfl ?_
    refine r_ilw4 (p := 51) f311_49 rfl ?_
    refine le2_gd (fun h3 => ?_)
    refine r_invI (p := 54) f311_51 rfl rfl rfl (Or.inl h3) hd (Nat.le_of_ble_eq_true rfl) rfl rfl rfl (fun _ => rfl) (fun v2 m2 c2 => ?_)
    have hz2 := z_k c2 hz1
    refine r_isw4 (p := 56) f311_54 rfl rfl ?_
    refine r_goto (p := 32) f311_56 (by decide) rfl ?_
    exact le2_refl _
  · exact r_ret f311_59
/-! 312 PathStore$Filter.<init> (LPathStore$Test;)V -/
def w312_0 : List UInt8 := [42, 183, 0, 3, 42, 43, 181, 0, 9, 177]
abbrev u312_0 : List UInt8 := w312_0 ++ []
theorem s312_0 : (prog_8_method_1_code).data.toList.drop 0 = u312_0 := by decide +kernel
theorem Fm312 {pc len : Nat} {i : Instr} (h : decode (prog_8_method_1_code) pc = .ok (i, len)) (hl : len = ilen i len) : ft 312 pc = some (20, 0, 1, i, len) := ft_mk rfl h hl
theorem f312_0 : ft 312 0 = some (20, 0, 1, .aload_n 0, 1) := Fm312 (dk_42 (dk_at s312_0 0 rfl rfl)) rfl
theorem f312_1 : ft 312 1 = some (20, 0, 1, .invokespecial 3, 3) := Fm312 (dk_183 0 3 (dk_at s312_0 1 rfl rfl)) rfl
theorem f312_4 : ft 312 4 = some (20, 0, 1, .aload_n 0, 1) := Fm312 (dk_42 (dk_at s312_0 4 rfl rfl)) rfl
theorem f312_5 : ft 312 5 = some (20, 0, 1, .aload_n 1, 1) := Fm312 (dk_43 (dk_at s312_0 5 rfl rfl)) rfl
theorem f312_6 : ft 312 6 = some (20, 0, 1, .putfield 9, 3) := Fm312 (dk_181 0 9 (dk_at s312_0 6 rfl rfl)) rfl
theorem f312_9 : ft 312 9 = some (20, 0, 1, .return_, 1) := Fm312 (dk_177 (dk_at s312_0 9 rfl rfl)) rfl
theorem q312 {d : Nat} {m : Mem} {a0 a1 : Int} (hz : TZ m) : le2 (gd (tg m a0 = 20) <| some (.inl none, (mst m a0 0 a1))) (cl d 312 [pR a0, pR a1] m) := by
  refine q_in (n := 2) (L := [pR a0, pR a1]) rfl rfl rfl ?_
  refine r_aln0 (p := 1) f312_0 rfl ?_
  refine le2_gd (fun h1 => ?_)
  refine r_objinit (p := 4) f312_1 rfl rfl (dj1 (fun x => 0 < x ∧ x < 100) h1 (by decide)) (Nat.le_of_ble_eq_true rfl) ?_
  refine r_aln0 (p := 5) f312_4 rfl ?_
  refine r_aln1 (p := 6) f312_5 rfl ?_
  refine r_pfR (f := 0) (p := 9) f312_6 rfl rfl rfl (by decide) (by decide) (Or.inl h1) rfl ?_
  exact r_ret f312_9
/-! 313 PathStore$Filter.choose (LPathStore$Runner;I)V -/
def w313_3 : List UInt8 := [182, 0, 46, 54, 4, 167, 255, 213, 177]
abbrev u313_3 : List UInt8 := w313_3 ++ []
def w313_2 : List UInt8 := [21, 4, 185, 0, 36, 3, 0, 153, 0, 9, 43, 21, 4, 182, 0, 42, 43, 180, 0, 15, 28, 21, 4]
abbrev u313_2 : List UInt8 := w313_2 ++ u313_3
def w313_1 : List UInt8 := [180, 0, 15, 28, 182, 0, 30, 54, 4, 21, 4, 29, 162, 0, 43, 43, 182, 0, 33, 42, 180, 0, 9, 43]
abbrev u313_1 : List UInt8 := w313_1 ++ u313_2
def w313_0 : List UInt8 := [43, 180, 0, 15, 28, 182, 0, 21, 8, 162, 0, 4, 177, 43, 180, 0, 15, 28, 182, 0, 27, 62, 43]
abbrev u313_0 : List UInt8 := w313_0 ++ u313_1
theorem s313_0 : (prog_8_method_2_code).data.toList.drop 0 = u313_0 := by decide +kernel
theorem s313_1 : (prog_8_method_2_code).data.toList.drop 23 = u313_1 := dk_seg s313_0 23 rfl rfl
theorem s313_2 : (prog_8_method_2_code).data.toList.drop 47 = u313_2 := dk_seg s313_1 24 rfl rfl
theorem s313_3 : (prog_8_method_2_code).data.toList.drop 70 = u313_3 := dk_seg s313_2 23 rfl rfl
theorem Fm313 {pc len : Nat} {i : Instr} (h : decode (prog_8_method_2_code) pc = .ok (i, len)) (hl : len = ilen i len) : ft 313 pc = some (20, 0, 0, i, len) := ft_mk rfl h hl
theorem f313_0 : ft 313 0 = some (20, 0, 0, .aload_n 1, 1) := Fm313 (dk_43 (dk_at s313_0 0 rfl rfl)) rfl
theorem f313_1 : ft 313 1 = some (20, 0, 0, .getfield 15, 3) := Fm313 (dk_180 0 15 (dk_at s313_0 1 rfl rfl)) rfl
theorem f313_4 : ft 313 4 = some (20, 0, 0, .iload_n 2, 1) := Fm313 (dk_28 (dk_at s313_0 4 rfl rfl)) rfl
theorem f313_5 : ft 313 5 = some (20, 0, 0, .invokevirtual 21, 3) := Fm313 (dk_182 0 21 (dk_at s313_0 5 rfl rfl)) rfl
theorem f313_8 : ft 313 8 = some (20, 0, 0, .iconst 5, 1) := Fm313 (dk_8 (dk_at s313_0 8 rfl rfl)) rfl
theorem f313_9 : ft 313 9 = some (20, 0, 0, .if_icmp .ge 4, 3) := Fm313 (dk_162 0 4 (dk_at s313_0 9 rfl rfl)) rfl
theorem f313_12 : ft 313 12 = some (20, 0, 0, .return_, 1) := Fm313 (dk_177 (dk_at s313_0 12 rfl rfl)) rfl
theorem f313_13 : ft 313 13 = some (20, 0, 0, .aload_n 1, 1) := Fm313 (dk_43 (dk_at s313_0 13 rfl rfl)) rfl
theorem f313_14 : ft 313 14 = some (20, 0, 0, .getfield 15, 3) := Fm313 (dk_180 0 15 (dk_at s313_0 14 rfl rfl)) rfl
theorem f313_17 : ft 313 17 = some (20, 0, 0, .iload_n 2, 1) := Fm313 (dk_28 (dk_at s313_0 17 rfl rfl)) rfl
theorem f313_18 : ft 313 18 = some (20, 0, 0, .invokevirtual 27, 3) := Fm313 (dk_182 0 27 (dk_at s313_0 18 rfl rfl)) rfl
theorem f313_21 : ft 313 21 = some (20, 0, 0, .istore_n 3, 1) := Fm313 (dk_62 (dk_at s313_0 21 rfl rfl)) rfl
theorem f313_22 : ft 313 22 = some (20, 0, 0, .aload_n 1, 1) := Fm313 (dk_43 (dk_at s313_0 22 rfl rfl)) rfl
theorem f313_23 : ft 313 23 = some (20, 0, 0, .getfield 15, 3) := Fm313 (dk_180 0 15 (dk_at s313_1 0 rfl rfl)) rfl
theorem f313_26 : ft 313 26 = some (20, 0, 0, .iload_n 2, 1) := Fm313 (dk_28 (dk_at s313_1 3 rfl rfl)) rfl
theorem f313_27 : ft 313 27 = some (20, 0, 0, .invokevirtual 30, 3) := Fm313 (dk_182 0 30 (dk_at s313_1 4 rfl rfl)) rfl
theorem f313_30 : ft 313 30 = some (20, 0, 0, .istore 4, 2) := Fm313 (dk_54 4 (dk_at s313_1 7 rfl rfl)) rfl
theorem f313_32 : ft 313 32 = some (20, 0, 0, .iload 4, 2) := Fm313 (dk_21 4 (dk_at s313_1 9 rfl rfl)) rfl
theorem f313_34 : ft 313 34 = some (20, 0, 0, .iload_n 3, 1) := Fm313 (dk_29 (dk_at s313_1 11 rfl rfl)) rfl
theorem f313_35 : ft 313 35 = some (20, 0, 0, .if_icmp .ge 43, 3) := Fm313 (dk_162 0 43 (dk_at s313_1 12 rfl rfl)) rfl
theorem f313_38 : ft 313 38 = some (20, 0, 0, .aload_n 1, 1) := Fm313 (dk_43 (dk_at s313_1 15 rfl rfl)) rfl
theorem f313_39 : ft 313 39 = some (20, 0, 0, .invokevirtual 33, 3) := Fm313 (dk_182 0 33 (dk_at s313_1 16 rfl rfl)) rfl
theorem f313_42 : ft 313 42 = some (20, 0, 0, .aload_n 0, 1) := Fm313 (dk_42 (dk_at s313_1 19 rfl rfl)) rfl
theorem f313_43 : ft 313 43 = some (20, 0, 0, .getfield 9, 3) := Fm313 (dk_180 0 9 (dk_at s313_1 20 rfl rfl)) rfl
theorem f313_46 : ft 313 46 = some (20, 0, 0, .aload_n 1, 1) := Fm313 (dk_43 (dk_at s313_1 23 rfl rfl)) rfl
theorem f313_47 : ft 313 47 = some (20, 0, 0, .iload 4, 2) := Fm313 (dk_21 4 (dk_at s313_2 0 rfl rfl)) rfl
theorem f313_49 : ft 313 49 = some (20, 0, 0, .invokeinterface 36 3, 5) := Fm313 (by decide +kernel) rfl
theorem f313_54 : ft 313 54 = some (20, 0, 0, .ifCond .eq 9, 3) := Fm313 (dk_153 0 9 (dk_at s313_2 7 rfl rfl)) rfl
theorem f313_57 : ft 313 57 = some (20, 0, 0, .aload_n 1, 1) := Fm313 (dk_43 (dk_at s313_2 10 rfl rfl)) rfl
theorem f313_58 : ft 313 58 = some (20, 0, 0, .iload 4, 2) := Fm313 (dk_21 4 (dk_at s313_2 11 rfl rfl)) rfl
theorem f313_60 : ft 313 60 = some (20, 0, 0, .invokevirtual 42, 3) := Fm313 (dk_182 0 42 (dk_at s313_2 13 rfl rfl)) rfl
theorem f313_63 : ft 313 63 = some (20, 0, 0, .aload_n 1, 1) := Fm313 (dk_43 (dk_at s313_2 16 rfl rfl)) rfl
theorem f313_64 : ft 313 64 = some (20, 0, 0, .getfield 15, 3) := Fm313 (dk_180 0 15 (dk_at s313_2 17 rfl rfl)) rfl
theorem f313_67 : ft 313 67 = some (20, 0, 0, .iload_n 2, 1) := Fm313 (dk_28 (dk_at s313_2 20 rfl rfl)) rfl
theorem f313_68 : ft 313 68 = some (20, 0, 0, .iload 4, 2) := Fm313 (dk_21 4 (dk_at s313_2 21 rfl rfl)) rfl
theorem f313_70 : ft 313 70 = some (20, 0, 0, .invokevirtual 46, 3) := Fm313 (dk_182 0 46 (dk_at s313_3 0 rfl rfl)) rfl
theorem f313_73 : ft 313 73 = some (20, 0, 0, .istore 4, 2) := Fm313 (dk_54 4 (dk_at s313_3 3 rfl rfl)) rfl
theorem f313_75 : ft 313 75 = some (20, 0, 0, .goto (-43), 3) := Fm313 (dk_167 255 213 (dk_at s313_3 5 rfl rfl)) rfl
theorem f313_78 : ft 313 78 = some (20, 0, 0, .return_, 1) := Fm313 (dk_177 (dk_at s313_3 8 rfl rfl)) rfl
theorem q313 {d : Nat} {m : Mem} {a0 a1 a2 : Int} (hd : 0 < d) (hz : TZ m) : le2 (gd (tg m a1 = 6) <| nm (vl m a1 0) fun v4 => gd (tg m v4 = 8) <| bI (cl (d - 1) 139 [pR v4, pI a2] m) fun v1 m1 => if v1 < 5 then (some (.inl none, m1)) else nm (vl m1 a1 0) fun v5 => gd (tg m1 v5 = 8) <| bI (cl (d - 1) 137 [pR v5, pI a2] m1) fun v2 m2 => nm (vl m2 a1 0) fun v6 => gd (tg m2 v6 = 8) <| bI (cl (d - 1) 150 [pR v6, pI a2] m2) fun v3 m3 => rn d 313 32 [pR a0, pR a1, pI a2, pI v2, pI v3] [] m3) (cl d 313 [pR a0, pR a1, pI a2] m) := by
  refine q_in (n := 5) (L := [pR a0, pR a1, pI a2, pU, pU]) rfl rfl rfl ?_
  refine r_aln1 (p := 1) f313_0 rfl ?_
  refine le2_gd (fun h1 => ?_)
  refine r_gfR (f := 0) (p := 4) f313_1 rfl rfl rfl (Or.inl h1) rfl ?_
  refine r_nmR (fun v4 ev4 => ?_)
  refine r_iln2 (p := 5) f313_4 rfl ?_
  refine le2_gd (fun h2 => ?_)
  refine r_invI (p := 8) f313_5 rfl rfl rfl (Or.inl h2) hd (Nat.le_of_ble_eq_true rfl) rfl rfl rfl (fun _ => rfl) (fun v1 m1 c1 => ?_)
  have hz1 := z_k c1 hz
  refine r_iconst (p := 9) f313_8 rfl (pinD rfl rfl) ?_
  refine r_icge (t := 13) (p := 12) f313_9 (by decide) rfl rfl ?_ ?_
  · exact r_ret f313_12
  · refine r_aln1 (p := 14) f313_13 rfl ?_
    have h3 := k_t1 c1 hz h1 (by decide)
    refine r_gfR (f := 0) (p := 17) f313_14 rfl rfl rfl (Or.inl h3) rfl ?_
    refine r_nmR (fun v5 ev5 => ?_)
    refine r_iln2 (p := 18) f313_17 rfl ?_
    refine le2_gd (fun h4 => ?_)
    refine r_invI (p := 21) f313_18 rfl rfl rfl (Or.inl h4) hd (Nat.le_of_ble_eq_true rfl) rfl rfl rfl (fun _ => rfl) (fun v2 m2 c2 => ?_)
    have hz2 := z_k c2 hz1
    refine r_isn3 (p := 22) f313_21 rfl rfl ?_
    refine r_aln1 (p := 23) f313_22 rfl ?_
    have h5 := k_t1 c2 hz1 h3 (by decide)
    refine r_gfR (f := 0) (p := 26) f313_23 rfl rfl rfl (Or.inl h5) rfl ?_
    refine r_nmR (fun v6 ev6 => ?_)
    refine r_iln2 (p := 27) f313_26 rfl ?_
    refine le2_gd (fun h6 => ?_)
    refine r_invI (p := 30) f313_27 rfl rfl rfl (Or.inl h6) hd (Nat.le_of_ble_eq_true rfl) rfl rfl rfl (fun _ => rfl) (fun v3 m3 c3 => ?_)
    have hz3 := z_k c3 hz2
    refine r_isw4 (p := 32) f313_30 rfl rfl ?_
    exact le2_refl _
theorem q313_32 {d : Nat} {m : Mem} {a0 a1 a2 a3 a4 : Int} (hd : 0 < d) (hz : TZ m) : le2 (if a4 < a3 then (gd (tg m a1 = 6) <| bV (cl (d - 1) 107 [pR a1] m) fun m1 => gd (tg m1 a0 = 20) <| nm (vl m1 a0 0) fun v6 => gd (0 < tg m1 v6) <| bI (ci (d - 1) 302 (tg m1 v6) [pR v6, pR a1, pI a4] m1) fun v2 m2 => if v2 = 0 then (nm (vl m2 a1 0) fun v7 => gd (tg m2 v7 = 8) <| bI (cl (d - 1) 151 [pR v7, pI a2, pI a4] m2) fun v3 m3 => rn d 313 32 [pR a0, pR a1, pI a2, pI a3, pI v3] [] m3) else bV (cl (d - 1) 106 [pR a1, pI a4] m2) fun m4 => nm (vl m4 a1 0) fun v8 => gd (tg m4 v8 = 8) <| bI (cl (d - 1) 151 [pR v8, pI a2, pI a4] m4) fun v5 m5 => rn d 313 32 [pR a0, pR a1, pI a2, pI a3, pI v5] [] m5) else some (.inl none, m)) (rn d 313 32 [pR a0, pR a1, pI a2, pI a3, pI a4] [] m) := by
  refine r_ilw4 (p := 34) f313_32 rfl ?_
  refine r_iln3 (p := 35) f313_34 rfl ?_
  refine r_icge (t := 78) (p := 38) f313_35 (by decide) rfl rfl ?_ ?_
  · refine r_aln1 (p := 39) f313_38 rfl ?_
    refine le2_gd (fun h1 => ?_)
    refine r_invV (p := 42) f313_39 rfl rfl rfl (Or.inl h1) hd (Nat.le_of_ble_eq_true rfl) rfl rfl rfl (fun _ => rfl) (fun m1 c1 => ?_)
    have hz1 := z_k c1 hz
    refine r_aln0 (p := 43) f313_42 rfl ?_
    refine le2_gd (fun h2 => ?_)
    refine r_gfR (f := 0) (p := 46) f313_43 rfl rfl rfl (Or.inl h2) rfl ?_
    refine r_nmR (fun v6 ev6 => ?_)
    refine r_aln1 (p := 47) f313_46 rfl ?_
    refine r_ilw4 (p := 49) f313_47 rfl ?_
    refine le2_gd (fun h3 => ?_)
    refine r_infI (p := 54) f313_49 rfl rfl rfl h3 hd (Nat.le_of_ble_eq_true rfl) rfl rfl (fun _ => rfl) (fun v2 m2 c2 => ?_)
    have hz2 := z_k c2 hz1
    refine r_ifeq (t := 63) (p := 57) f313_54 (by decide) rfl rfl ?_ ?_
    · refine r_aln1 (p := 64) f313_63 rfl ?_
      have h4 := k_t1 c1 hz h1 (by decide)
      have h5 := k_t1 c2 hz1 h4 (by decide)
      refine r_gfR (f := 0) (p := 67) f313_64 rfl rfl rfl (Or.inl h5) rfl ?_
      refine r_nmR (fun v7 ev7 => ?_)
      refine r_iln2 (p := 68) f313_67 rfl ?_
      refine r_ilw4 (p := 70) f313_68 rfl ?_
      refine le2_gd (fun h6 => ?_)
      refine r_invI (p := 73) f313_70 rfl rfl rfl (Or.inl h6) hd (Nat.le_of_ble_eq_true rfl) rfl rfl rfl (fun _ => rfl) (fun v3 m3 c3 => ?_)
      have hz3 := z_k c3 hz2
      refine r_isw4 (p := 75) f313_73 rfl rfl ?_
      refine r_goto (p := 32) f313_75 (by decide) rfl ?_
      exact le2_refl _
    · refine r_aln1 (p := 58) f313_57 rfl ?_
      refine r_ilw4 (p := 60) f313_58 rfl ?_
      have h7 := k_t1 c1 hz h1 (by decide)
      have h8 := k_t1 c2 hz1 h7 (by decide)
      refine r_invV (p := 63) f313_60 rfl rfl rfl (Or.inl h8) hd (Nat.le_of_ble_eq_true rfl) rfl rfl rfl (fun _ => rfl) (fun m4 c4 => ?_)
      have hz4 := z_k c4 hz2
      refine r_aln1 (p := 64) f313_63 rfl ?_
      have h9 := k_t1 c4 hz2 h8 (by decide)
      refine r_gfR (f := 0) (p := 67) f313_64 rfl rfl rfl (Or.inl h9) rfl ?_
      refine r_nmR (fun v8 ev8 => ?_)
      refine r_iln2 (p := 68) f313_67 rfl ?_
      refine r_ilw4 (p := 70) f313_68 rfl ?_
      refine le2_gd (fun h10 => ?_)
      refine r_invI (p := 73) f313_70 rfl rfl rfl (Or.inl h10) hd (Nat.le_of_ble_eq_true rfl) rfl rfl rfl (fun _ => rfl) (fun v5 m5 c5 => ?_)
      have hz5 := z_k c5 hz4
      refine r_isw4 (p := 75) f313_73 rfl rfl ?_
      refine r_goto (p := 32) f313_75 (by decide) rfl ?_
      exact le2_refl _
  · exact r_ret f313_78
/-! 314 PathStore$Not.<init> (LPathStore$Test;)V -/
def w314_0 : List UInt8 := [42, 183, 0, 1, 42, 43, 181, 0, 7, 177]
abbrev u314_0 : List UInt8 := w314_0 ++ []
theorem s314_0 : (prog_15_method_1_code).data.toList.drop 0 = u314_0 := by decide +kernel
theorem Fm314 {pc len : Nat} {i : Instr} (h : decode (prog_15_method_1_code) pc = .ok (i, len)) (hl : len = ilen i len) : ft 314 pc = some (21, 0, 1, i, len) := ft_mk rfl h hl
theorem f314_0 : ft 314 0 = some (21, 0, 1, .aload_n 0, 1) := Fm314 (dk_42 (dk_at s314_0 0 rfl rfl)) rfl
theorem f314_1 : ft 314 1 = some (21, 0, 1, .invokespecial 1, 3) := Fm314 (dk_183 0 1 (dk_at s314_0 1 rfl rfl)) rfl
theorem f314_4 : ft 314 4 = some (21, 0, 1, .aload_n 0, 1) := Fm314 (dk_42 (dk_at s314_0 4 rfl rfl)) rfl
theorem f314_5 : ft 314 5 = some (21, 0, 1, .aload_n 1, 1) := Fm314 (dk_43 (dk_at s314_0 5 rfl rfl)) rfl
theorem f314_6 : ft 314 6 = some (21, 0, 1, .putfield 7, 3) := Fm314 (dk_181 0 7 (dk_at s314_0 6 rfl rfl)) rfl
theorem f314_9 : ft 314 9 = some (21, 0, 1, .return_, 1) := Fm314 (dk_177 (dk_at s314_0 9 rfl rfl)) rfl
theorem q314 {d : Nat} {m : Mem} {a0 a1 : Int} (hz : TZ m) : le2 (gd (tg m a0 = 21) <| some (.inl none, (mst m a0 0 a1))) (cl d 314 [pR a0, pR a1] m) := by
  refine q_in (n := 2) (L := [pR a0, pR a1]) rfl rfl rfl ?_
  refine r_aln0 (p := 1) f314_0 rfl ?_
  refine le2_gd (fun h1 => ?_)
  refine r_objinit (p := 4) f314_1 rfl rfl (dj1 (fun x => 0 < x ∧ x < 100) h1 (by decide)) (Nat.le_of_ble_eq_true rfl) ?_
  refine r_aln0 (p := 5) f314_4 rfl ?_
  refine r_aln1 (p := 6) f314_5 rfl ?_
  refine r_pfR (f := 0) (p := 9) f314_6 rfl rfl rfl (by decide) (by decide) (Or.inl h1) rfl ?_
  exact r_ret f314_9
/-! 315 PathStore$Not.holds (LPathStore$Runner;I)Z -/
def w315_0 : List UInt8 := [42, 180, 0, 7, 43, 28, 185, 0, 13, 3, 0, 154, 0, 7, 4, 167, 0, 4, 3, 172]
abbrev u315_0 : List UInt8 := w315_0 ++ []
theorem s315_0 : (prog_15_method_2_code).data.toList.drop 0 = u315_0 := by decide +kernel
theorem Fm315 {pc len : Nat} {i : Instr} (h : decode (prog_15_method_2_code) pc = .ok (i, len)) (hl : len = ilen i len) : ft 315 pc = some (21, 4, 0, i, len) := ft_mk rfl h hl
theorem f315_0 : ft 315 0 = some (21, 4, 0, .aload_n 0, 1) := Fm315 (dk_42 (dk_at s315_0 0 rfl rfl)) rfl
theorem f315_1 : ft 315 1 = some (21, 4, 0, .getfield 7, 3) := Fm315 (dk_180 0 7 (dk_at s315_0 1 rfl rfl)) rfl
theorem f315_4 : ft 315 4 = some (21, 4, 0, .aload_n 1, 1) := Fm315 (dk_43 (dk_at s315_0 4 rfl rfl)) rfl
theorem f315_5 : ft 315 5 = some (21, 4, 0, .iload_n 2, 1) := Fm315 (dk_28 (dk_at s315_0 5 rfl rfl)) rfl
theorem f315_6 : ft 315 6 = some (21, 4, 0, .invokeinterface 13 3, 5) := Fm315 (by decide +kernel) rfl
theorem f315_11 : ft 315 11 = some (21, 4, 0, .ifCond .ne 7, 3) := Fm315 (dk_154 0 7 (dk_at s315_0 11 rfl rfl)) rfl
theorem f315_14 : ft 315 14 = some (21, 4, 0, .iconst 1, 1) := Fm315 (dk_4 (dk_at s315_0 14 rfl rfl)) rfl
theorem f315_15 : ft 315 15 = some (21, 4, 0, .goto 4, 3) := Fm315 (dk_167 0 4 (dk_at s315_0 15 rfl rfl)) rfl
theorem f315_18 : ft 315 18 = some (21, 4, 0, .iconst 0, 1) := Fm315 (dk_3 (dk_at s315_0 18 rfl rfl)) rfl
theorem f315_19 : ft 315 19 = some (21, 4, 0, .ireturn, 1) := Fm315 (dk_172 (dk_at s315_0 19 rfl rfl)) rfl
theorem q315 {d : Nat} {m : Mem} {a0 a1 a2 : Int} (hd : 0 < d) (hz : TZ m) : le2 (gd (tg m a0 = 21) <| nm (vl m a0 0) fun v2 => gd (0 < tg m v2) <| bI (ci (d - 1) 302 (tg m v2) [pR v2, pR a1, pI a2] m) fun v1 m1 => if v1 = 0 then (some (.inl (some (pI 1)), m1)) else some (.inl (some (pI 0)), m1)) (cl d 315 [pR a0, pR a1, pI a2] m) := by
  refine q_in (n := 3) (L := [pR a0, pR a1, pI a2]) rfl rfl rfl ?_
  refine r_aln0 (p := 1) f315_0 rfl ?_
  refine le2_gd (fun h1 => ?_)
  refine r_gfR (f := 0) (p := 4) f315_1 rfl rfl rfl (Or.inl h1) rfl ?_
  refine r_nmR (fun v2 ev2 => ?_)
  refine r_aln1 (p := 5) f315_4 rfl ?_
  refine r_iln2 (p := 6) f315_5 rfl ?_
  refine le2_gd (fun h2 => ?_)
  refine r_infI (p := 11) f315_6 rfl rfl rfl h2 hd (Nat.le_of_ble_eq_true rfl) rfl rfl (fun _ => rfl) (fun v1 m1 c1 => ?_)
  have hz1 := z_k c1 hz
  refine r_ifne (t := 18) (p := 14) f315_11 (by decide) rfl rfl ?_ ?_
  · refine r_iconst (p := 15) f315_14 rfl (pinD rfl rfl) ?_
    refine r_goto (p := 19) f315_15 (by decide) rfl ?_
    exact r_iret4 f315_19 (by decide)
  · refine r_iconst (p := 19) f315_18 rfl (pinD rfl rfl) ?_
    exact r_iret4 f315_19 (by decide)
/-! 316 PathStore$Exists.<init> (LPathStore$Query;)V -/
def w316_0 : List UInt8 := [42, 183, 0, 1, 42, 43, 181, 0, 7, 177]
abbrev u316_0 : List UInt8 := w316_0 ++ []
theorem s316_0 : (prog_7_method_1_code).data.toList.drop 0 = u316_0 := by decide +kernel
theorem Fm316 {pc len : Nat} {i : Instr} (h : decode (prog_7_method_1_code) pc = .ok (i, len)) (hl : len = ilen i len) : ft 316 pc = some (22, 0, 1, i, len) := ft_mk rfl h hl
theorem f316_0 : ft 316 0 = some (22, 0, 1, .aload_n 0, 1) := Fm316 (dk_42 (dk_at s316_0 0 rfl rfl)) rfl
theorem f316_1 : ft 316 1 = some (22, 0, 1, .invokespecial 1, 3) := Fm316 (dk_183 0 1 (dk_at s316_0 1 rfl rfl)) rfl
theorem f316_4 : ft 316 4 = some (22, 0, 1, .aload_n 0, 1) := Fm316 (dk_42 (dk_at s316_0 4 rfl rfl)) rfl
theorem f316_5 : ft 316 5 = some (22, 0, 1, .aload_n 1, 1) := Fm316 (dk_43 (dk_at s316_0 5 rfl rfl)) rfl
theorem f316_6 : ft 316 6 = some (22, 0, 1, .putfield 7, 3) := Fm316 (dk_181 0 7 (dk_at s316_0 6 rfl rfl)) rfl
theorem f316_9 : ft 316 9 = some (22, 0, 1, .return_, 1) := Fm316 (dk_177 (dk_at s316_0 9 rfl rfl)) rfl
theorem q316 {d : Nat} {m : Mem} {a0 a1 : Int} (hz : TZ m) : le2 (gd (tg m a0 = 22) <| some (.inl none, (mst m a0 0 a1))) (cl d 316 [pR a0, pR a1] m) := by
  refine q_in (n := 2) (L := [pR a0, pR a1]) rfl rfl rfl ?_
  refine r_aln0 (p := 1) f316_0 rfl ?_
  refine le2_gd (fun h1 => ?_)
  refine r_objinit (p := 4) f316_1 rfl rfl (dj1 (fun x => 0 < x ∧ x < 100) h1 (by decide)) (Nat.le_of_ble_eq_true rfl) ?_
  refine r_aln0 (p := 5) f316_4 rfl ?_
  refine r_aln1 (p := 6) f316_5 rfl ?_
  refine r_pfR (f := 0) (p := 9) f316_6 rfl rfl rfl (by decide) (by decide) (Or.inl h1) rfl ?_
  exact r_ret f316_9
/-! 317 PathStore$Exists.holds (LPathStore$Runner;I)Z -/
def w317_1 : List UInt8 := [158, 0, 7, 4, 167, 0, 4, 3, 172]
abbrev u317_1 : List UInt8 := w317_1 ++ []
def w317_0 : List UInt8 := [43, 180, 0, 13, 62, 43, 42, 180, 0, 7, 28, 182, 0, 19, 54, 4, 43, 29, 181, 0, 13, 21, 4]
abbrev u317_0 : List UInt8 := w317_0 ++ u317_1
theorem s317_0 : (prog_7_method_2_code).data.toList.drop 0 = u317_0 := by decide +kernel
theorem s317_1 : (prog_7_method_2_code).data.toList.drop 23 = u317_1 := dk_seg s317_0 23 rfl rfl
theorem Fm317 {pc len : Nat} {i : Instr} (h : decode (prog_7_method_2_code) pc = .ok (i, len)) (hl : len = ilen i len) : ft 317 pc = some (22, 4, 0, i, len) := ft_mk rfl h hl
theorem f317_0 : ft 317 0 = some (22, 4, 0, .aload_n 1, 1) := Fm317 (dk_43 (dk_at s317_0 0 rfl rfl)) rfl
theorem f317_1 : ft 317 1 = some (22, 4, 0, .getfield 13, 3) := Fm317 (dk_180 0 13 (dk_at s317_0 1 rfl rfl)) rfl
theorem f317_4 : ft 317 4 = some (22, 4, 0, .istore_n 3, 1) := Fm317 (dk_62 (dk_at s317_0 4 rfl rfl)) rfl
theorem f317_5 : ft 317 5 = some (22, 4, 0, .aload_n 1, 1) := Fm317 (dk_43 (dk_at s317_0 5 rfl rfl)) rfl
theorem f317_6 : ft 317 6 = some (22, 4, 0, .aload_n 0, 1) := Fm317 (dk_42 (dk_at s317_0 6 rfl rfl)) rfl
theorem f317_7 : ft 317 7 = some (22, 4, 0, .getfield 7, 3) := Fm317 (dk_180 0 7 (dk_at s317_0 7 rfl rfl)) rfl
theorem f317_10 : ft 317 10 = some (22, 4, 0, .iload_n 2, 1) := Fm317 (dk_28 (dk_at s317_0 10 rfl rfl)) rfl
theorem f317_11 : ft 317 11 = some (22, 4, 0, .invokevirtual 19, 3) := Fm317 (dk_182 0 19 (dk_at s317_0 11 rfl rfl)) rfl
theorem f317_14 : ft 317 14 = some (22, 4, 0, .istore 4, 2) := Fm317 (dk_54 4 (dk_at s317_0 14 rfl rfl)) rfl
theorem f317_16 : ft 317 16 = some (22, 4, 0, .aload_n 1, 1) := Fm317 (dk_43 (dk_at s317_0 16 rfl rfl)) rfl
theorem f317_17 : ft 317 17 = some (22, 4, 0, .iload_n 3, 1) := Fm317 (dk_29 (dk_at s317_0 17 rfl rfl)) rfl
theorem f317_18 : ft 317 18 = some (22, 4, 0, .putfield 13, 3) := Fm317 (dk_181 0 13 (dk_at s317_0 18 rfl rfl)) rfl
theorem f317_21 : ft 317 21 = some (22, 4, 0, .iload 4, 2) := Fm317 (dk_21 4 (dk_at s317_0 21 rfl rfl)) rfl
theorem f317_23 : ft 317 23 = some (22, 4, 0, .ifCond .le 7, 3) := Fm317 (dk_158 0 7 (dk_at s317_1 0 rfl rfl)) rfl
theorem f317_26 : ft 317 26 = some (22, 4, 0, .iconst 1, 1) := Fm317 (dk_4 (dk_at s317_1 3 rfl rfl)) rfl
theorem f317_27 : ft 317 27 = some (22, 4, 0, .goto 4, 3) := Fm317 (dk_167 0 4 (dk_at s317_1 4 rfl rfl)) rfl
theorem f317_30 : ft 317 30 = some (22, 4, 0, .iconst 0, 1) := Fm317 (dk_3 (dk_at s317_1 7 rfl rfl)) rfl
theorem f317_31 : ft 317 31 = some (22, 4, 0, .ireturn, 1) := Fm317 (dk_172 (dk_at s317_1 8 rfl rfl)) rfl
theorem q317 {d : Nat} {m : Mem} {a0 a1 a2 : Int} (hd : 0 < d) (hz : TZ m) : le2 (gd (tg m a1 = 6) <| gd (tg m a0 = 22) <| bI (cl (d - 1) 105 [pR a1, pR (vl m a0 0), pI a2] m) fun v1 m1 => if 0 < v1 then (some (.inl (some (pI 1)), (mst m1 a1 3 (vl m a1 3)))) else some (.inl (some (pI 0)), (mst m1 a1 3 (vl m a1 3)))) (cl d 317 [pR a0, pR a1, pI a2] m) := by
  refine q_in (n := 5) (L := [pR a0, pR a1, pI a2, pU, pU]) rfl rfl rfl ?_
  refine r_aln1 (p := 1) f317_0 rfl ?_
  refine le2_gd (fun h1 => ?_)
  refine r_gfI (f := 3) (p := 4) f317_1 rfl rfl rfl (Or.inl h1) rfl ?_
  refine r_isn3 (p := 5) f317_4 rfl rfl ?_
  refine r_aln1 (p := 6) f317_5 rfl ?_
  refine r_aln0 (p := 7) f317_6 rfl ?_
  refine le2_gd (fun h2 => ?_)
  refine r_gfR (f := 0) (p := 10) f317_7 rfl rfl rfl (Or.inl h2) rfl ?_
  refine r_iln2 (p := 11) f317_10 rfl ?_
  refine r_invI (p := 14) f317_11 rfl rfl rfl (Or.inl h1) hd (Nat.le_of_ble_eq_true rfl) rfl rfl rfl (fun _ => rfl) (fun v1 m1 c1 => ?_)
  have hz1 := z_k c1 hz
  refine r_isw4 (p := 16) f317_14 rfl rfl ?_
  refine r_aln1 (p := 17) f317_16 rfl ?_
  refine r_iln3 (p := 18) f317_17 rfl ?_
  have h3 := k_t1 c1 hz h1 (by decide)
  refine r_pfI (f := 3) (p := 21) f317_18 rfl rfl rfl (by decide) (by decide) (Or.inl h3) rfl ?_
  refine r_ilw4 (p := 23) f317_21 rfl ?_
  refine r_ifle (t := 30) (p := 26) f317_23 (by decide) rfl rfl ?_ ?_
  · refine r_iconst (p := 27) f317_26 rfl (pinD rfl rfl) ?_
    refine r_goto (p := 31) f317_27 (by decide) rfl ?_
    exact r_iret4 f317_31 (by decide)
  · refine r_iconst (p := 31) f317_30 rfl (pinD rfl rfl) ?_
    exact r_iret4 f317_31 (by decide)
/-! 318 PathStore$Nodes.<init> (LPathStore$Query;Z)V -/
def w318_0 : List UInt8 := [42, 183, 0, 1, 42, 43, 181, 0, 7, 42, 28, 181, 0, 13, 177]
abbrev u318_0 : List UInt8 := w318_0 ++ []
theorem s318_0 : (prog_14_method_1_code).data.toList.drop 0 = u318_0 := by decide +kernel
theorem Fm318 {pc len : Nat} {i : Instr} (h : decode (prog_14_method_1_code) pc = .ok (i, len)) (hl : len = ilen i len) : ft 318 pc = some (23, 0, 1, i, len) := ft_mk rfl h hl
theorem f318_0 : ft 318 0 = some (23, 0, 1, .aload_n 0, 1) := Fm318 (dk_42 (dk_at s318_0 0 rfl rfl)) rfl
theorem f318_1 : ft 318 1 = some (23, 0, 1, .invokespecial 1, 3) := Fm318 (dk_183 0 1 (dk_at s318_0 1 rfl rfl)) rfl
theorem f318_4 : ft 318 4 = some (23, 0, 1, .aload_n 0, 1) := Fm318 (dk_42 (dk_at s318_0 4 rfl rfl)) rfl
theorem f318_5 : ft 318 5 = some (23, 0, 1, .aload_n 1, 1) := Fm318 (dk_43 (dk_at s318_0 5 rfl rfl)) rfl
theorem f318_6 : ft 318 6 = some (23, 0, 1, .putfield 7, 3) := Fm318 (dk_181 0 7 (dk_at s318_0 6 rfl rfl)) rfl
theorem f318_9 : ft 318 9 = some (23, 0, 1, .aload_n 0, 1) := Fm318 (dk_42 (dk_at s318_0 9 rfl rfl)) rfl
theorem f318_10 : ft 318 10 = some (23, 0, 1, .iload_n 2, 1) := Fm318 (dk_28 (dk_at s318_0 10 rfl rfl)) rfl
theorem f318_11 : ft 318 11 = some (23, 0, 1, .putfield 13, 3) := Fm318 (dk_181 0 13 (dk_at s318_0 11 rfl rfl)) rfl
theorem f318_14 : ft 318 14 = some (23, 0, 1, .return_, 1) := Fm318 (dk_177 (dk_at s318_0 14 rfl rfl)) rfl
theorem q318 {d : Nat} {m : Mem} {a0 a1 a2 : Int} (hz : TZ m) : le2 (gd (tg m a0 = 23) <| gd (a2 = 0 ∨ a2 = 1) <| some (.inl none, (mst (mst m a0 0 a1) a0 1 a2))) (cl d 318 [pR a0, pR a1, pI a2] m) := by
  refine q_in (n := 3) (L := [pR a0, pR a1, pI a2]) rfl rfl rfl ?_
  refine r_aln0 (p := 1) f318_0 rfl ?_
  refine le2_gd (fun h1 => ?_)
  refine r_objinit (p := 4) f318_1 rfl rfl (dj1 (fun x => 0 < x ∧ x < 100) h1 (by decide)) (Nat.le_of_ble_eq_true rfl) ?_
  refine r_aln0 (p := 5) f318_4 rfl ?_
  refine r_aln1 (p := 6) f318_5 rfl ?_
  refine r_pfR (f := 0) (p := 9) f318_6 rfl rfl rfl (by decide) (by decide) (Or.inl h1) rfl ?_
  refine r_aln0 (p := 10) f318_9 rfl ?_
  refine r_iln2 (p := 11) f318_10 rfl ?_
  refine le2_gd (fun h2 => ?_)
  refine r_pfZ (f := 1) (p := 14) f318_11 rfl rfl rfl (by decide) (by decide) (Or.inl h1) rfl h2 ?_
  exact r_ret f318_14
/-! 319 PathStore$Nodes.work (LPathStore$Runner;ILPathStore$Result;)V -/
def w319_3 : List UInt8 := [181, 0, 17, 177]
abbrev u319_3 : List UInt8 := w319_3 ++ []
def w319_2 : List UInt8 := [180, 0, 37, 43, 180, 0, 17, 4, 100, 46, 182, 0, 41, 167, 0, 7, 45, 182, 0, 45, 43, 21, 4]
abbrev u319_2 : List UInt8 := w319_2 ++ u319_3
def w319_1 : List UInt8 := [45, 21, 5, 133, 182, 0, 27, 167, 0, 35, 21, 5, 4, 160, 0, 25, 45, 43, 180, 0, 33, 43]
abbrev u319_1 : List UInt8 := w319_1 ++ u319_2
def w319_0 : List UInt8 := [43, 180, 0, 17, 54, 4, 43, 42, 180, 0, 7, 28, 182, 0, 23, 54, 5, 42, 180, 0, 13, 153, 0, 13]
abbrev u319_0 : List UInt8 := w319_0 ++ u319_1
theorem s319_0 : (prog_14_method_2_code).data.toList.drop 0 = u319_0 := by decide +kernel
theorem s319_1 : (prog_14_method_2_code).data.toList.drop 24 = u319_1 := dk_seg s319_0 24 rfl rfl
theorem s319_2 : (prog_14_method_2_code).data.toList.drop 46 = u319_2 := dk_seg s319_1 22 rfl rfl
theorem s319_3 : (prog_14_method_2_code).data.toList.drop 69 = u319_3 := dk_seg s319_2 23 rfl rfl
theorem Fm319 {pc len : Nat} {i : Instr} (h : decode (prog_14_method_2_code) pc = .ok (i, len)) (hl : len = ilen i len) : ft 319 pc = some (23, 0, 0, i, len) := ft_mk rfl h hl
theorem f319_0 : ft 319 0 = some (23, 0, 0, .aload_n 1, 1) := Fm319 (dk_43 (dk_at s319_0 0 rfl rfl)) rfl
theorem f319_1 : ft 319 1 = some (23, 0, 0, .getfield 17, 3) := Fm319 (dk_180 0 17 (dk_at s319_0 1 rfl rfl)) rfl
theorem f319_4 : ft 319 4 = some (23, 0, 0, .istore 4, 2) := Fm319 (dk_54 4 (dk_at s319_0 4 rfl rfl)) rfl
theorem f319_6 : ft 319 6 = some (23, 0, 0, .aload_n 1, 1) := Fm319 (dk_43 (dk_at s319_0 6 rfl rfl)) rfl
theorem f319_7 : ft 319 7 = some (23, 0, 0, .aload_n 0, 1) := Fm319 (dk_42 (dk_at s319_0 7 rfl rfl)) rfl
theorem f319_8 : ft 319 8 = some (23, 0, 0, .getfield 7, 3) := Fm319 (dk_180 0 7 (dk_at s319_0 8 rfl rfl)) rfl
theorem f319_11 : ft 319 11 = some (23, 0, 0, .iload_n 2, 1) := Fm319 (dk_28 (dk_at s319_0 11 rfl rfl)) rfl
theorem f319_12 : ft 319 12 = some (23, 0, 0, .invokevirtual 23, 3) := Fm319 (dk_182 0 23 (dk_at s319_0 12 rfl rfl)) rfl
theorem f319_15 : ft 319 15 = some (23, 0, 0, .istore 5, 2) := Fm319 (dk_54 5 (dk_at s319_0 15 rfl rfl)) rfl
theorem f319_17 : ft 319 17 = some (23, 0, 0, .aload_n 0, 1) := Fm319 (dk_42 (dk_at s319_0 17 rfl rfl)) rfl
theorem f319_18 : ft 319 18 = some (23, 0, 0, .getfield 13, 3) := Fm319 (dk_180 0 13 (dk_at s319_0 18 rfl rfl)) rfl
theorem f319_21 : ft 319 21 = some (23, 0, 0, .ifCond .eq 13, 3) := Fm319 (dk_153 0 13 (dk_at s319_0 21 rfl rfl)) rfl
theorem f319_24 : ft 319 24 = some (23, 0, 0, .aload_n 3, 1) := Fm319 (dk_45 (dk_at s319_1 0 rfl rfl)) rfl
theorem f319_25 : ft 319 25 = some (23, 0, 0, .iload 5, 2) := Fm319 (dk_21 5 (dk_at s319_1 1 rfl rfl)) rfl
theorem f319_27 : ft 319 27 = some (23, 0, 0, .i2l, 1) := Fm319 (dk_133 (dk_at s319_1 3 rfl rfl)) rfl
theorem f319_28 : ft 319 28 = some (23, 0, 0, .invokevirtual 27, 3) := Fm319 (dk_182 0 27 (dk_at s319_1 4 rfl rfl)) rfl
theorem f319_31 : ft 319 31 = some (23, 0, 0, .goto 35, 3) := Fm319 (dk_167 0 35 (dk_at s319_1 7 rfl rfl)) rfl
theorem f319_34 : ft 319 34 = some (23, 0, 0, .iload 5, 2) := Fm319 (dk_21 5 (dk_at s319_1 10 rfl rfl)) rfl
theorem f319_36 : ft 319 36 = some (23, 0, 0, .iconst 1, 1) := Fm319 (dk_4 (dk_at s319_1 12 rfl rfl)) rfl
theorem f319_37 : ft 319 37 = some (23, 0, 0, .if_icmp .ne 25, 3) := Fm319 (dk_160 0 25 (dk_at s319_1 13 rfl rfl)) rfl
theorem f319_40 : ft 319 40 = some (23, 0, 0, .aload_n 3, 1) := Fm319 (dk_45 (dk_at s319_1 16 rfl rfl)) rfl
theorem f319_41 : ft 319 41 = some (23, 0, 0, .aload_n 1, 1) := Fm319 (dk_43 (dk_at s319_1 17 rfl rfl)) rfl
theorem f319_42 : ft 319 42 = some (23, 0, 0, .getfield 33, 3) := Fm319 (dk_180 0 33 (dk_at s319_1 18 rfl rfl)) rfl
theorem f319_45 : ft 319 45 = some (23, 0, 0, .aload_n 1, 1) := Fm319 (dk_43 (dk_at s319_1 21 rfl rfl)) rfl
theorem f319_46 : ft 319 46 = some (23, 0, 0, .getfield 37, 3) := Fm319 (dk_180 0 37 (dk_at s319_2 0 rfl rfl)) rfl
theorem f319_49 : ft 319 49 = some (23, 0, 0, .aload_n 1, 1) := Fm319 (dk_43 (dk_at s319_2 3 rfl rfl)) rfl
theorem f319_50 : ft 319 50 = some (23, 0, 0, .getfield 17, 3) := Fm319 (dk_180 0 17 (dk_at s319_2 4 rfl rfl)) rfl
theorem f319_53 : ft 319 53 = some (23, 0, 0, .iconst 1, 1) := Fm319 (dk_4 (dk_at s319_2 7 rfl rfl)) rfl
theorem f319_54 : ft 319 54 = some (23, 0, 0, .isub, 1) := Fm319 (dk_100 (dk_at s319_2 8 rfl rfl)) rfl
theorem f319_55 : ft 319 55 = some (23, 0, 0, .iaload, 1) := Fm319 (dk_46 (dk_at s319_2 9 rfl rfl)) rfl
theorem f319_56 : ft 319 56 = some (23, 0, 0, .invokevirtual 41, 3) := Fm319 (dk_182 0 41 (dk_at s319_2 10 rfl rfl)) rfl
theorem f319_59 : ft 319 59 = some (23, 0, 0, .goto 7, 3) := Fm319 (dk_167 0 7 (dk_at s319_2 13 rfl rfl)) rfl
theorem f319_62 : ft 319 62 = some (23, 0, 0, .aload_n 3, 1) := Fm319 (dk_45 (dk_at s319_2 16 rfl rfl)) rfl
theorem f319_63 : ft 319 63 = some (23, 0, 0, .invokevirtual 45, 3) := Fm319 (dk_182 0 45 (dk_at s319_2 17 rfl rfl)) rfl
theorem f319_66 : ft 319 66 = some (23, 0, 0, .aload_n 1, 1) := Fm319 (dk_43 (dk_at s319_2 20 rfl rfl)) rfl
theorem f319_67 : ft 319 67 = some (23, 0, 0, .iload 4, 2) := Fm319 (dk_21 4 (dk_at s319_2 21 rfl rfl)) rfl
theorem f319_69 : ft 319 69 = some (23, 0, 0, .putfield 17, 3) := Fm319 (dk_181 0 17 (dk_at s319_3 0 rfl rfl)) rfl
theorem f319_72 : ft 319 72 = some (23, 0, 0, .return_, 1) := Fm319 (dk_177 (dk_at s319_3 3 rfl rfl)) rfl
theorem q319 {d : Nat} {m : Mem} {a0 a1 a2 a3 : Int} (hd : 0 < d) (hz : TZ m) : le2 (gd (tg m a1 = 6) <| nm (vl m a1 3) fun v5 => gd (tg m a0 = 23) <| bI (cl (d - 1) 105 [pR a1, pR (vl m a0 0), pI a2] m) fun v1 m1 => if (vl m1 a0 1) = 0 then (if v1 = 1 then (nm (vl m1 a1 2) fun v6 => nm (w32 ((vl m1 a1 3) - 1)) fun v7 => gd (tg m1 v6 = 104101 ∨ tg m1 v6 = 107101) <| gd ((0 : Int) ≤ v7 ∧ v7 < ln m1 v6) <| gd (tg m1 a3 = 27) <| bV (cl (d - 1) 327 [pR a3, pR (vl m1 a1 0), pI (vl m1 v6 v7)] m1) fun m3 => some (.inl none, (mst m3 a1 3 v5))) else gd (tg m1 a3 = 27) <| bV (cl (d - 1) 329 [pR a3] m1) fun m2 => some (.inl none, (mst m2 a1 3 v5))) else gd (tg m1 a3 = 27) <| bV (cl (d - 1) 328 [pR a3, pL v1] m1) fun m4 => some (.inl none, (mst m4 a1 3 v5))) (cl d 319 [pR a0, pR a1, pI a2, pR a3] m) := by
  refine q_in (n := 6) (L := [pR a0, pR a1, pI a2, pR a3, pU, pU]) rfl rfl rfl ?_
  refine r_aln1 (p := 1) f319_0 rfl ?_
  refine le2_gd (fun h1 => ?_)
  refine r_gfI (f := 3) (p := 4) f319_1 rfl rfl rfl (Or.inl h1) rfl ?_
  refine r_nmI (fun v5 ev5 => ?_)
  refine r_isw4 (p := 6) f319_4 rfl rfl ?_
  refine r_aln1 (p := 7) f319_6 rfl ?_
  refine r_aln0 (p := 8) f319_7 rfl ?_
  refine le2_gd (fun h2 => ?_)
  refine r_gfR (f := 0) (p := 11) f319_8 rfl rfl rfl (Or.inl h2) rfl ?_
  refine r_iln2 (p := 12) f319_11 rfl ?_
  refine r_invI (p := 15) f319_12 rfl rfl rfl (Or.inl h1) hd (Nat.le_of_ble_eq_true rfl) rfl rfl rfl (fun _ => rfl) (fun v1 m1 c1 => ?_)
  have hz1 := z_k c1 hz
  refine r_isw5 (p := 17) f319_15 rfl rfl ?_
  refine r_aln0 (p := 18) f319_17 rfl ?_
  have h3 := k_t1 c1 hz h2 (by decide)
  refine r_gfIZ (f := 1) (p := 21) f319_18 rfl rfl rfl (Or.inl h3) rfl ?_
  refine r_ifeq (t := 34) (p := 24) f319_21 (by decide) rfl rfl ?_ ?_
  · refine r_ilw5 (p := 36) f319_34 rfl ?_
    refine r_iconst (p := 37) f319_36 rfl (pinD rfl rfl) ?_
    refine r_icne (t := 62) (p := 40) f319_37 (by decide) rfl rfl ?_ ?_
    · refine r_aln3 (p := 41) f319_40 rfl ?_
      refine r_aln1 (p := 42) f319_41 rfl ?_
      have h7 := k_t1 c1 hz h1 (by decide)
      refine r_gfR (f := 0) (p := 45) f319_42 rfl rfl rfl (Or.inl h7) rfl ?_
      refine r_aln1 (p := 46) f319_45 rfl ?_
      refine r_gfR (f := 2) (p := 49) f319_46 rfl rfl rfl (Or.inl h7) rfl ?_
      refine r_nmR (fun v6 ev6 => ?_)
      refine r_aln1 (p := 50) f319_49 rfl ?_
      refine r_gfI (f := 3) (p := 53) f319_50 rfl rfl rfl (Or.inl h7) rfl ?_
      refine r_iconst (p := 54) f319_53 rfl (pinD rfl rfl) ?_
      refine r_isub (p := 55) f319_54 rfl ?_
      refine r_nmI (fun v7 ev7 => ?_)
      refine le2_gd (fun h8 => ?_)
      refine le2_gd (fun h9 => ?_)
      refine r_iaload (p := 56) f319_55 rfl (dj2 (fun x => x % 1000 = 101) h8 (by decide) (by decide)) h9 rfl ?_
      refine le2_gd (fun h10 => ?_)
      refine r_invV (p := 59) f319_56 rfl rfl rfl (Or.inl h10) hd (Nat.le_of_ble_eq_true rfl) rfl rfl rfl (fun _ => rfl) (fun m3 c3 => ?_)
      have hz3 := z_k c3 hz1
      refine r_goto (p := 66) f319_59 (by decide) rfl ?_
      refine r_aln1 (p := 67) f319_66 rfl ?_
      refine r_ilw4 (p := 69) f319_67 rfl ?_
      have h11 := k_t1 c3 hz1 h7 (by decide)
      refine r_pfI (f := 3) (p := 72) f319_69 rfl rfl rfl (by decide) (by decide) (Or.inl h11) rfl ?_
      exact r_ret f319_72
    · refine r_aln3 (p := 63) f319_62 rfl ?_
      refine le2_gd (fun h4 => ?_)
      refine r_invV (p := 66) f319_63 rfl rfl rfl (Or.inl h4) hd (Nat.le_of_ble_eq_true rfl) rfl rfl rfl (fun _ => rfl) (fun m2 c2 => ?_)
      have hz2 := z_k c2 hz1
      refine r_aln1 (p := 67) f319_66 rfl ?_
      refine r_ilw4 (p := 69) f319_67 rfl ?_
      have h5 := k_t1 c1 hz h1 (by decide)
      have h6 := k_t1 c2 hz1 h5 (by decide)
      refine r_pfI (f := 3) (p := 72) f319_69 rfl rfl rfl (by decide) (by decide) (Or.inl h6) rfl ?_
      exact r_ret f319_72
  · refine r_aln3 (p := 25) f319_24 rfl ?_
    refine r_ilw5 (p := 27) f319_25 rfl ?_
    refine r_i2l (p := 28) f319_27 rfl ?_
    refine le2_gd (fun h12 => ?_)
    refine r_invV (p := 31) f319_28 rfl rfl rfl (Or.inl h12) hd (Nat.le_of_ble_eq_true rfl) rfl rfl rfl (fun _ => rfl) (fun m4 c4 => ?_)
    have hz4 := z_k c4 hz1
    refine r_goto (p := 66) f319_31 (by decide) rfl ?_
    refine r_aln1 (p := 67) f319_66 rfl ?_
    refine r_ilw4 (p := 69) f319_67 rfl ?_
    have h13 := k_t1 c1 hz h1 (by decide)
    have h14 := k_t1 c4 hz1 h13 (by decide)
    refine r_pfI (f := 3) (p := 72) f319_69 rfl rfl rfl (by decide) (by decide) (Or.inl h14) rfl ?_
    exact r_ret f319_72
/-! 320 PathStore$Literal.<init> (LPathStore$Row;I)V -/
def w320_0 : List UInt8 := [42, 183, 0, 1, 42, 43, 181, 0, 7, 42, 28, 181, 0, 13, 177]
abbrev u320_0 : List UInt8 := w320_0 ++ []
theorem s320_0 : (prog_11_method_1_code).data.toList.drop 0 = u320_0 := by decide +kernel
theorem Fm320 {pc len : Nat} {i : Instr} (h : decode (prog_11_method_1_code) pc = .ok (i, len)) (hl : len = ilen i len) : ft 320 pc = some (24, 0, 1, i, len) := ft_mk rfl h hl
theorem f320_0 : ft 320 0 = some (24, 0, 1, .aload_n 0, 1) := Fm320 (dk_42 (dk_at s320_0 0 rfl rfl)) rfl
theorem f320_1 : ft 320 1 = some (24, 0, 1, .invokespecial 1, 3) := Fm320 (dk_183 0 1 (dk_at s320_0 1 rfl rfl)) rfl
theorem f320_4 : ft 320 4 = some (24, 0, 1, .aload_n 0, 1) := Fm320 (dk_42 (dk_at s320_0 4 rfl rfl)) rfl
theorem f320_5 : ft 320 5 = some (24, 0, 1, .aload_n 1, 1) := Fm320 (dk_43 (dk_at s320_0 5 rfl rfl)) rfl
theorem f320_6 : ft 320 6 = some (24, 0, 1, .putfield 7, 3) := Fm320 (dk_181 0 7 (dk_at s320_0 6 rfl rfl)) rfl
theorem f320_9 : ft 320 9 = some (24, 0, 1, .aload_n 0, 1) := Fm320 (dk_42 (dk_at s320_0 9 rfl rfl)) rfl
theorem f320_10 : ft 320 10 = some (24, 0, 1, .iload_n 2, 1) := Fm320 (dk_28 (dk_at s320_0 10 rfl rfl)) rfl
theorem f320_11 : ft 320 11 = some (24, 0, 1, .putfield 13, 3) := Fm320 (dk_181 0 13 (dk_at s320_0 11 rfl rfl)) rfl
theorem f320_14 : ft 320 14 = some (24, 0, 1, .return_, 1) := Fm320 (dk_177 (dk_at s320_0 14 rfl rfl)) rfl
theorem q320 {d : Nat} {m : Mem} {a0 a1 a2 : Int} (hz : TZ m) : le2 (gd (tg m a0 = 24) <| some (.inl none, (mst (mst m a0 0 a1) a0 1 a2))) (cl d 320 [pR a0, pR a1, pI a2] m) := by
  refine q_in (n := 3) (L := [pR a0, pR a1, pI a2]) rfl rfl rfl ?_
  refine r_aln0 (p := 1) f320_0 rfl ?_
  refine le2_gd (fun h1 => ?_)
  refine r_objinit (p := 4) f320_1 rfl rfl (dj1 (fun x => 0 < x ∧ x < 100) h1 (by decide)) (Nat.le_of_ble_eq_true rfl) ?_
  refine r_aln0 (p := 5) f320_4 rfl ?_
  refine r_aln1 (p := 6) f320_5 rfl ?_
  refine r_pfR (f := 0) (p := 9) f320_6 rfl rfl rfl (by decide) (by decide) (Or.inl h1) rfl ?_
  refine r_aln0 (p := 10) f320_9 rfl ?_
  refine r_iln2 (p := 11) f320_10 rfl ?_
  refine r_pfI (f := 1) (p := 14) f320_11 rfl rfl rfl (by decide) (by decide) (Or.inl h1) rfl ?_
  exact r_ret f320_14
/-! 321 PathStore$Literal.work (LPathStore$Runner;ILPathStore$Result;)V -/
def w321_0 : List UInt8 := [45, 42, 180, 0, 7, 42, 180, 0, 13, 182, 0, 17, 177]
abbrev u321_0 : List UInt8 := w321_0 ++ []
theorem s321_0 : (prog_11_method_2_code).data.toList.drop 0 = u321_0 := by decide +kernel
theorem Fm321 {pc len : Nat} {i : Instr} (h : decode (prog_11_method_2_code) pc = .ok (i, len)) (hl : len = ilen i len) : ft 321 pc = some (24, 0, 0, i, len) := ft_mk rfl h hl
theorem f321_0 : ft 321 0 = some (24, 0, 0, .aload_n 3, 1) := Fm321 (dk_45 (dk_at s321_0 0 rfl rfl)) rfl
theorem f321_1 : ft 321 1 = some (24, 0, 0, .aload_n 0, 1) := Fm321 (dk_42 (dk_at s321_0 1 rfl rfl)) rfl
theorem f321_2 : ft 321 2 = some (24, 0, 0, .getfield 7, 3) := Fm321 (dk_180 0 7 (dk_at s321_0 2 rfl rfl)) rfl
theorem f321_5 : ft 321 5 = some (24, 0, 0, .aload_n 0, 1) := Fm321 (dk_42 (dk_at s321_0 5 rfl rfl)) rfl
theorem f321_6 : ft 321 6 = some (24, 0, 0, .getfield 13, 3) := Fm321 (dk_180 0 13 (dk_at s321_0 6 rfl rfl)) rfl
theorem f321_9 : ft 321 9 = some (24, 0, 0, .invokevirtual 17, 3) := Fm321 (dk_182 0 17 (dk_at s321_0 9 rfl rfl)) rfl
theorem f321_12 : ft 321 12 = some (24, 0, 0, .return_, 1) := Fm321 (dk_177 (dk_at s321_0 12 rfl rfl)) rfl
theorem q321 {d : Nat} {m : Mem} {a0 a1 a2 a3 : Int} (hd : 0 < d) (hz : TZ m) : le2 (gd (tg m a0 = 24) <| gd (tg m a3 = 27) <| bV (cl (d - 1) 327 [pR a3, pR (vl m a0 0), pI (vl m a0 1)] m) fun m1 => some (.inl none, m1)) (cl d 321 [pR a0, pR a1, pI a2, pR a3] m) := by
  refine q_in (n := 4) (L := [pR a0, pR a1, pI a2, pR a3]) rfl rfl rfl ?_
  refine r_aln3 (p := 1) f321_0 rfl ?_
  refine r_aln0 (p := 2) f321_1 rfl ?_
  refine le2_gd (fun h1 => ?_)
  refine r_gfR (f := 0) (p := 5) f321_2 rfl rfl rfl (Or.inl h1) rfl ?_
  refine r_aln0 (p := 6) f321_5 rfl ?_
  refine r_gfI (f := 1) (p := 9) f321_6 rfl rfl rfl (Or.inl h1) rfl ?_
  refine le2_gd (fun h2 => ?_)
  refine r_invV (p := 12) f321_9 rfl rfl rfl (Or.inl h2) hd (Nat.le_of_ble_eq_true rfl) rfl rfl rfl (fun _ => rfl) (fun m1 c1 => ?_)
  have hz1 := z_k c1 hz
  exact r_ret f321_12
/-! 322 PathStore$Length.<init> (LPathStore$Operand;)V -/
def w322_0 : List UInt8 := [42, 183, 0, 1, 42, 43, 181, 0, 7, 177]
abbrev u322_0 : List UInt8 := w322_0 ++ []
theorem s322_0 : (prog_10_method_1_code).data.toList.drop 0 = u322_0 := by decide +kernel
theorem Fm322 {pc len : Nat} {i : Instr} (h : decode (prog_10_method_1_code) pc = .ok (i, len)) (hl : len = ilen i len) : ft 322 pc = some (25, 0, 1, i, len) := ft_mk rfl h hl
theorem f322_0 : ft 322 0 = some (25, 0, 1, .aload_n 0, 1) := Fm322 (dk_42 (dk_at s322_0 0 rfl rfl)) rfl
theorem f322_1 : ft 322 1 = some (25, 0, 1, .invokespecial 1, 3) := Fm322 (dk_183 0 1 (dk_at s322_0 1 rfl rfl)) rfl
theorem f322_4 : ft 322 4 = some (25, 0, 1, .aload_n 0, 1) := Fm322 (dk_42 (dk_at s322_0 4 rfl rfl)) rfl
theorem f322_5 : ft 322 5 = some (25, 0, 1, .aload_n 1, 1) := Fm322 (dk_43 (dk_at s322_0 5 rfl rfl)) rfl
theorem f322_6 : ft 322 6 = some (25, 0, 1, .putfield 7, 3) := Fm322 (dk_181 0 7 (dk_at s322_0 6 rfl rfl)) rfl
theorem f322_9 : ft 322 9 = some (25, 0, 1, .return_, 1) := Fm322 (dk_177 (dk_at s322_0 9 rfl rfl)) rfl
theorem q322 {d : Nat} {m : Mem} {a0 a1 : Int} (hz : TZ m) : le2 (gd (tg m a0 = 25) <| some (.inl none, (mst m a0 0 a1))) (cl d 322 [pR a0, pR a1] m) := by
  refine q_in (n := 2) (L := [pR a0, pR a1]) rfl rfl rfl ?_
  refine r_aln0 (p := 1) f322_0 rfl ?_
  refine le2_gd (fun h1 => ?_)
  refine r_objinit (p := 4) f322_1 rfl rfl (dj1 (fun x => 0 < x ∧ x < 100) h1 (by decide)) (Nat.le_of_ble_eq_true rfl) ?_
  refine r_aln0 (p := 5) f322_4 rfl ?_
  refine r_aln1 (p := 6) f322_5 rfl ?_
  refine r_pfR (f := 0) (p := 9) f322_6 rfl rfl rfl (by decide) (by decide) (Or.inl h1) rfl ?_
  exact r_ret f322_9
/-! 323 PathStore$Length.work (LPathStore$Runner;ILPathStore$Result;)V -/
def w323_0 : List UInt8 := [42, 180, 0, 7, 43, 28, 45, 185, 0, 13, 4, 0, 45, 182, 0, 19, 177]
abbrev u323_0 : List UInt8 := w323_0 ++ []
theorem s323_0 : (prog_10_method_2_code).data.toList.drop 0 = u323_0 := by decide +kernel
theorem Fm323 {pc len : Nat} {i : Instr} (h : decode (prog_10_method_2_code) pc = .ok (i, len)) (hl : len = ilen i len) : ft 323 pc = some (25, 0, 0, i, len) := ft_mk rfl h hl
theorem f323_0 : ft 323 0 = some (25, 0, 0, .aload_n 0, 1) := Fm323 (dk_42 (dk_at s323_0 0 rfl rfl)) rfl
theorem f323_1 : ft 323 1 = some (25, 0, 0, .getfield 7, 3) := Fm323 (dk_180 0 7 (dk_at s323_0 1 rfl rfl)) rfl
theorem f323_4 : ft 323 4 = some (25, 0, 0, .aload_n 1, 1) := Fm323 (dk_43 (dk_at s323_0 4 rfl rfl)) rfl
theorem f323_5 : ft 323 5 = some (25, 0, 0, .iload_n 2, 1) := Fm323 (dk_28 (dk_at s323_0 5 rfl rfl)) rfl
theorem f323_6 : ft 323 6 = some (25, 0, 0, .aload_n 3, 1) := Fm323 (dk_45 (dk_at s323_0 6 rfl rfl)) rfl
theorem f323_7 : ft 323 7 = some (25, 0, 0, .invokeinterface 13 4, 5) := Fm323 (by decide +kernel) rfl
theorem f323_12 : ft 323 12 = some (25, 0, 0, .aload_n 3, 1) := Fm323 (dk_45 (dk_at s323_0 12 rfl rfl)) rfl
theorem f323_13 : ft 323 13 = some (25, 0, 0, .invokevirtual 19, 3) := Fm323 (dk_182 0 19 (dk_at s323_0 13 rfl rfl)) rfl
theorem f323_16 : ft 323 16 = some (25, 0, 0, .return_, 1) := Fm323 (dk_177 (dk_at s323_0 16 rfl rfl)) rfl
theorem q323 {d : Nat} {m : Mem} {a0 a1 a2 a3 : Int} (hd : 0 < d) (hz : TZ m) : le2 (gd (tg m a0 = 25) <| nm (vl m a0 0) fun v3 => gd (0 < tg m v3) <| bV (ci (d - 1) 303 (tg m v3) [pR v3, pR a1, pI a2, pR a3] m) fun m1 => gd (tg m1 a3 = 27) <| bV (cl (d - 1) 330 [pR a3] m1) fun m2 => some (.inl none, m2)) (cl d 323 [pR a0, pR a1, pI a2, pR a3] m) := by
  refine q_in (n := 4) (L := [pR a0, pR a1, pI a2, pR a3]) rfl rfl rfl ?_
  refine r_aln0 (p := 1) f323_0 rfl ?_
  refine le2_gd (fun h1 => ?_)
  refine r_gfR (f := 0) (p := 4) f323_1 rfl rfl rfl (Or.inl h1) rfl ?_
  refine r_nmR (fun v3 ev3 => ?_)
  refine r_aln1 (p := 5) f323_4 rfl ?_
  refine r_iln2 (p := 6) f323_5 rfl ?_
  refine r_aln3 (p := 7) f323_6 rfl ?_
  refine le2_gd (fun h2 => ?_)
  refine r_infV (p := 12) f323_7 rfl rfl rfl h2 hd (Nat.le_of_ble_eq_true rfl) rfl rfl (fun _ => rfl) (fun m1 c1 => ?_)
  have hz1 := z_k c1 hz
  refine r_aln3 (p := 13) f323_12 rfl ?_
  refine le2_gd (fun h3 => ?_)
  refine r_invV (p := 16) f323_13 rfl rfl rfl (Or.inl h3) hd (Nat.le_of_ble_eq_true rfl) rfl rfl rfl (fun _ => rfl) (fun m2 c2 => ?_)
  have hz2 := z_k c2 hz1
  exact r_ret f323_16
/-! 324 PathStore$Compare.<init> (ILPathStore$Operand;LPathStore$Operand;)V -/
def w324_1 : List UInt8 := [181, 0, 16, 42, 27, 181, 0, 19, 42, 44, 181, 0, 23, 42, 45, 181, 0, 27, 177]
abbrev u324_1 : List UInt8 := w324_1 ++ []
def w324_0 : List UInt8 := [42, 183, 0, 1, 42, 187, 0, 7, 89, 183, 0, 9, 181, 0, 10, 42, 187, 0, 7, 89, 183, 0, 9]
abbrev u324_0 : List UInt8 := w324_0 ++ u324_1
theorem s324_0 : (prog_3_method_1_code).data.toList.drop 0 = u324_0 := by decide +kernel
theorem s324_1 : (prog_3_method_1_code).data.toList.drop 23 = u324_1 := dk_seg s324_0 23 rfl rfl
theorem Fm324 {pc len : Nat} {i : Instr} (h : decode (prog_3_method_1_code) pc = .ok (i, len)) (hl : len = ilen i len) : ft 324 pc = some (26, 0, 1, i, len) := ft_mk rfl h hl
theorem f324_0 : ft 324 0 = some (26, 0, 1, .aload_n 0, 1) := Fm324 (dk_42 (dk_at s324_0 0 rfl rfl)) rfl
theorem f324_1 : ft 324 1 = some (26, 0, 1, .invokespecial 1, 3) := Fm324 (dk_183 0 1 (dk_at s324_0 1 rfl rfl)) rfl
theorem f324_4 : ft 324 4 = some (26, 0, 1, .aload_n 0, 1) := Fm324 (dk_42 (dk_at s324_0 4 rfl rfl)) rfl
theorem f324_5 : ft 324 5 = some (26, 0, 1, .new 7, 3) := Fm324 (dk_187 0 7 (dk_at s324_0 5 rfl rfl)) rfl
theorem f324_8 : ft 324 8 = some (26, 0, 1, .dup, 1) := Fm324 (dk_89 (dk_at s324_0 8 rfl rfl)) rfl
theorem f324_9 : ft 324 9 = some (26, 0, 1, .invokespecial 9, 3) := Fm324 (dk_183 0 9 (dk_at s324_0 9 rfl rfl)) rfl
theorem f324_12 : ft 324 12 = some (26, 0, 1, .putfield 10, 3) := Fm324 (dk_181 0 10 (dk_at s324_0 12 rfl rfl)) rfl
theorem f324_15 : ft 324 15 = some (26, 0, 1, .aload_n 0, 1) := Fm324 (dk_42 (dk_at s324_0 15 rfl rfl)) rfl
theorem f324_16 : ft 324 16 = some (26, 0, 1, .new 7, 3) := Fm324 (dk_187 0 7 (dk_at s324_0 16 rfl rfl)) rfl
theorem f324_19 : ft 324 19 = some (26, 0, 1, .dup, 1) := Fm324 (dk_89 (dk_at s324_0 19 rfl rfl)) rfl
theorem f324_20 : ft 324 20 = some (26, 0, 1, .invokespecial 9, 3) := Fm324 (dk_183 0 9 (dk_at s324_0 20 rfl rfl)) rfl
theorem f324_23 : ft 324 23 = some (26, 0, 1, .putfield 16, 3) := Fm324 (dk_181 0 16 (dk_at s324_1 0 rfl rfl)) rfl
theorem f324_26 : ft 324 26 = some (26, 0, 1, .aload_n 0, 1) := Fm324 (dk_42 (dk_at s324_1 3 rfl rfl)) rfl
theorem f324_27 : ft 324 27 = some (26, 0, 1, .iload_n 1, 1) := Fm324 (dk_27 (dk_at s324_1 4 rfl rfl)) rfl
theorem f324_28 : ft 324 28 = some (26, 0, 1, .putfield 19, 3) := Fm324 (dk_181 0 19 (dk_at s324_1 5 rfl rfl)) rfl
theorem f324_31 : ft 324 31 = some (26, 0, 1, .aload_n 0, 1) := Fm324 (dk_42 (dk_at s324_1 8 rfl rfl)) rfl
theorem f324_32 : ft 324 32 = some (26, 0, 1, .aload_n 2, 1) := Fm324 (dk_44 (dk_at s324_1 9 rfl rfl)) rfl
theorem f324_33 : ft 324 33 = some (26, 0, 1, .putfield 23, 3) := Fm324 (dk_181 0 23 (dk_at s324_1 10 rfl rfl)) rfl
theorem f324_36 : ft 324 36 = some (26, 0, 1, .aload_n 0, 1) := Fm324 (dk_42 (dk_at s324_1 13 rfl rfl)) rfl
theorem f324_37 : ft 324 37 = some (26, 0, 1, .aload_n 3, 1) := Fm324 (dk_45 (dk_at s324_1 14 rfl rfl)) rfl
theorem f324_38 : ft 324 38 = some (26, 0, 1, .putfield 27, 3) := Fm324 (dk_181 0 27 (dk_at s324_1 15 rfl rfl)) rfl
theorem f324_41 : ft 324 41 = some (26, 0, 1, .return_, 1) := Fm324 (dk_177 (dk_at s324_1 18 rfl rfl)) rfl
theorem q324 {d : Nat} {m : Mem} {a0 a1 a2 a3 : Int} (hd : 0 < d) (hz : TZ m) : le2 (gd (tg m a0 = 26) <| nw (nx m) (mal m 27 4) fun o1 m1 => bV (cl (d - 1) 326 [pR o1] m1) fun m2 => nw (nx (mst m2 a0 3 o1)) (mal (mst m2 a0 3 o1) 27 4) fun o3 m3 => bV (cl (d - 1) 326 [pR o3] m3) fun m4 => some (.inl none, (mst (mst (mst (mst m4 a0 4 o3) a0 0 a1) a0 1 a2) a0 2 a3))) (cl d 324 [pR a0, pI a1, pR a2, pR a3] m) := by
  refine q_in (n := 4) (L := [pR a0, pI a1, pR a2, pR a3]) rfl rfl rfl ?_
  refine r_aln0 (p := 1) f324_0 rfl ?_
  refine le2_gd (fun h1 => ?_)
  refine r_objinit (p := 4) f324_1 rfl rfl (dj1 (fun x => 0 < x ∧ x < 100) h1 (by decide)) (Nat.le_of_ble_eq_true rfl) ?_
  refine r_aln0 (p := 5) f324_4 rfl ?_
  refine r_new (t1 := 27) (f1 := 4) (p := 8) f324_5 rfl rfl rfl rfl rfl (fun o1 m1 h2 k1 => ?_)
  have hz1 := z_k k1 hz
  refine r_dup (p := 9) f324_8 rfl rfl ?_
  refine r_ispV (p := 12) f324_9 rfl rfl rfl (Or.inl h2) hd (Nat.le_of_ble_eq_true rfl) rfl rfl rfl (fun _ => rfl) (fun m2 c2 => ?_)
  have hz2 := z_k c2 hz1
  have h3 := k_t1 k1 hz h1 (by decide)
  have h4 := k_t1 c2 hz1 h3 (by decide)
  refine r_pfR (f := 3) (p := 15) f324_12 rfl rfl rfl (by decide) (by decide) (Or.inl h4) rfl ?_
  refine r_aln0 (p := 16) f324_15 rfl ?_
  refine r_new (t1 := 27) (f1 := 4) (p := 19) f324_16 rfl rfl rfl rfl rfl (fun o3 m3 h5 k3 => ?_)
  have hz3 := z_k k3 hz2
  refine r_dup (p := 20) f324_19 rfl rfl ?_
  refine r_ispV (p := 23) f324_20 rfl rfl rfl (Or.inl h5) hd (Nat.le_of_ble_eq_true rfl) rfl rfl rfl (fun _ => rfl) (fun m4 c4 => ?_)
  have hz4 := z_k c4 hz3
  have h6 := k_t1 k3 hz2 h4 (by decide)
  have h7 := k_t1 c4 hz3 h6 (by decide)
  refine r_pfR (f := 4) (p := 26) f324_23 rfl rfl rfl (by decide) (by decide) (Or.inl h7) rfl ?_
  refine r_aln0 (p := 27) f324_26 rfl ?_
  refine r_iln1 (p := 28) f324_27 rfl ?_
  refine r_pfI (f := 0) (p := 31) f324_28 rfl rfl rfl (by decide) (by decide) (Or.inl h7) rfl ?_
  refine r_aln0 (p := 32) f324_31 rfl ?_
  refine r_aln2 (p := 33) f324_32 rfl ?_
  refine r_pfR (f := 1) (p := 36) f324_33 rfl rfl rfl (by decide) (by decide) (Or.inl h7) rfl ?_
  refine r_aln0 (p := 37) f324_36 rfl ?_
  refine r_aln3 (p := 38) f324_37 rfl ?_
  refine r_pfR (f := 2) (p := 41) f324_38 rfl rfl rfl (by decide) (by decide) (Or.inl h7) rfl ?_
  exact r_ret f324_41
/-! 325 PathStore$Compare.holds (LPathStore$Runner;I)Z -/
def w325_8 : List UInt8 := [153, 0, 7, 4, 167, 0, 4, 3, 172]
abbrev u325_8 : List UInt8 := w325_8 ++ []
def w325_7 : List UInt8 := [180, 0, 16, 42, 180, 0, 10, 182, 0, 40, 154, 0, 17, 42, 180, 0, 10, 42, 180, 0, 16, 182, 0, 36]
abbrev u325_7 : List UInt8 := w325_7 ++ u325_8
def w325_6 : List UInt8 := [153, 0, 7, 4, 167, 0, 4, 3, 172, 42, 180, 0, 16, 42, 180, 0, 10, 182, 0, 40, 172, 42]
abbrev u325_6 : List UInt8 := w325_6 ++ u325_7
def w325_5 : List UInt8 := [180, 0, 10, 42, 180, 0, 16, 182, 0, 40, 154, 0, 17, 42, 180, 0, 10, 42, 180, 0, 16, 182, 0, 36]
abbrev u325_5 : List UInt8 := w325_5 ++ u325_6
def w325_4 : List UInt8 := [154, 0, 7, 4, 167, 0, 4, 3, 172, 42, 180, 0, 10, 42, 180, 0, 16, 182, 0, 40, 172, 42]
abbrev u325_4 : List UInt8 := w325_4 ++ u325_5
def w325_3 : List UInt8 := [42, 180, 0, 10, 42, 180, 0, 16, 182, 0, 36, 172, 42, 180, 0, 10, 42, 180, 0, 16, 182, 0, 36]
abbrev u325_3 : List UInt8 := w325_3 ++ u325_4
def w325_2 : List UInt8 := [170, 0, 0, 0, 0, 124, 0, 0, 0, 0, 0, 0, 0, 4, 0, 0, 0, 34, 0, 0, 0, 46, 0, 0, 0, 66, 0, 0, 0, 78, 0, 0, 0, 112]
abbrev u325_2 : List UInt8 := w325_2 ++ u325_3
def w325_1 : List UInt8 := [180, 0, 16, 185, 0, 30, 4, 0, 42, 180, 0, 19]
abbrev u325_1 : List UInt8 := w325_1 ++ u325_2
def w325_0 : List UInt8 := [42, 180, 0, 23, 43, 28, 42, 180, 0, 10, 185, 0, 30, 4, 0, 42, 180, 0, 27, 43, 28, 42]
abbrev u325_0 : List UInt8 := w325_0 ++ u325_1
theorem s325_0 : (prog_3_method_2_code).data.toList.drop 0 = u325_0 := by decide +kernel
theorem s325_1 : (prog_3_method_2_code).data.toList.drop 22 = u325_1 := dk_seg s325_0 22 rfl rfl
theorem s325_2 : (prog_3_method_2_code).data.toList.drop 34 = u325_2 := dk_seg s325_1 12 rfl rfl
theorem s325_3 : (prog_3_method_2_code).data.toList.drop 68 = u325_3 := dk_seg s325_2 34 rfl rfl
theorem s325_4 : (prog_3_method_2_code).data.toList.drop 91 = u325_4 := dk_seg s325_3 23 rfl rfl
theorem s325_5 : (prog_3_method_2_code).data.toList.drop 113 = u325_5 := dk_seg s325_4 22 rfl rfl
theorem s325_6 : (prog_3_method_2_code).data.toList.drop 137 = u325_6 := dk_seg s325_5 24 rfl rfl
theorem s325_7 : (prog_3_method_2_code).data.toList.drop 159 = u325_7 := dk_seg s325_6 22 rfl rfl
theorem s325_8 : (prog_3_method_2_code).data.toList.drop 183 = u325_8 := dk_seg s325_7 24 rfl rfl
theorem Fm325 {pc len : Nat} {i : Instr} (h : decode (prog_3_method_2_code) pc = .ok (i, len)) (hl : len = ilen i len) : ft 325 pc = some (26, 4, 0, i, len) := ft_mk rfl h hl
theorem f325_0 : ft 325 0 = some (26, 4, 0, .aload_n 0, 1) := Fm325 (dk_42 (dk_at s325_0 0 rfl rfl)) rfl
theorem f325_1 : ft 325 1 = some (26, 4, 0, .getfield 23, 3) := Fm325 (dk_180 0 23 (dk_at s325_0 1 rfl rfl)) rfl
theorem f325_4 : ft 325 4 = some (26, 4, 0, .aload_n 1, 1) := Fm325 (dk_43 (dk_at s325_0 4 rfl rfl)) rfl
theorem f325_5 : ft 325 5 = some (26, 4, 0, .iload_n 2, 1) := Fm325 (dk_28 (dk_at s325_0 5 rfl rfl)) rfl
theorem f325_6 : ft 325 6 = some (26, 4, 0, .aload_n 0, 1) := Fm325 (dk_42 (dk_at s325_0 6 rfl rfl)) rfl
theorem f325_7 : ft 325 7 = some (26, 4, 0, .getfield 10, 3) := Fm325 (dk_180 0 10 (dk_at s325_0 7 rfl rfl)) rfl
theorem f325_10 : ft 325 10 = some (26, 4, 0, .invokeinterface 30 4, 5) := Fm325 (by decide +kernel) rfl
theorem f325_15 : ft 325 15 = some (26, 4, 0, .aload_n 0, 1) := Fm325 (dk_42 (dk_at s325_0 15 rfl rfl)) rfl
theorem f325_16 : ft 325 16 = some (26, 4, 0, .getfield 27, 3) := Fm325 (dk_180 0 27 (dk_at s325_0 16 rfl rfl)) rfl
theorem f325_19 : ft 325 19 = some (26, 4, 0, .aload_n 1, 1) := Fm325 (dk_43 (dk_at s325_0 19 rfl rfl)) rfl
theorem f325_20 : ft 325 20 = some (26, 4, 0, .iload_n 2, 1) := Fm325 (dk_28 (dk_at s325_0 20 rfl rfl)) rfl
theorem f325_21 : ft 325 21 = some (26, 4, 0, .aload_n 0, 1) := Fm325 (dk_42 (dk_at s325_0 21 rfl rfl)) rfl
theorem f325_22 : ft 325 22 = some (26, 4, 0, .getfield 16, 3) := Fm325 (dk_180 0 16 (dk_at s325_1 0 rfl rfl)) rfl
theorem f325_25 : ft 325 25 = some (26, 4, 0, .invokeinterface 30 4, 5) := Fm325 (by decide +kernel) rfl
theorem f325_30 : ft 325 30 = some (26, 4, 0, .aload_n 0, 1) := Fm325 (dk_42 (dk_at s325_1 8 rfl rfl)) rfl
theorem f325_31 : ft 325 31 = some (26, 4, 0, .getfield 19, 3) := Fm325 (dk_180 0 19 (dk_at s325_1 9 rfl rfl)) rfl
theorem f325_34 : ft 325 34 = some (26, 4, 0, .tableswitch 124 0 4 #[34, 46, 66, 78, 112], 34) := Fm325 (by decide +kernel) rfl
theorem f325_68 : ft 325 68 = some (26, 4, 0, .aload_n 0, 1) := Fm325 (dk_42 (dk_at s325_3 0 rfl rfl)) rfl
theorem f325_69 : ft 325 69 = some (26, 4, 0, .getfield 10, 3) := Fm325 (dk_180 0 10 (dk_at s325_3 1 rfl rfl)) rfl
theorem f325_72 : ft 325 72 = some (26, 4, 0, .aload_n 0, 1) := Fm325 (dk_42 (dk_at s325_3 4 rfl rfl)) rfl
theorem f325_73 : ft 325 73 = some (26, 4, 0, .getfield 16, 3) := Fm325 (dk_180 0 16 (dk_at s325_3 5 rfl rfl)) rfl
theorem f325_76 : ft 325 76 = some (26, 4, 0, .invokevirtual 36, 3) := Fm325 (dk_182 0 36 (dk_at s325_3 8 rfl rfl)) rfl
theorem f325_79 : ft 325 79 = some (26, 4, 0, .ireturn, 1) := Fm325 (dk_172 (dk_at s325_3 11 rfl rfl)) rfl
theorem f325_80 : ft 325 80 = some (26, 4, 0, .aload_n 0, 1) := Fm325 (dk_42 (dk_at s325_3 12 rfl rfl)) rfl
theorem f325_81 : ft 325 81 = some (26, 4, 0, .getfield 10, 3) := Fm325 (dk_180 0 10 (dk_at s325_3 13 rfl rfl)) rfl
theorem f325_84 : ft 325 84 = some (26, 4, 0, .aload_n 0, 1) := Fm325 (dk_42 (dk_at s325_3 16 rfl rfl)) rfl
theorem f325_85 : ft 325 85 = some (26, 4, 0, .getfield 16, 3) := Fm325 (dk_180 0 16 (dk_at s325_3 17 rfl rfl)) rfl
theorem f325_88 : ft 325 88 = some (26, 4, 0, .invokevirtual 36, 3) := Fm325 (dk_182 0 36 (dk_at s325_3 20 rfl rfl)) rfl
theorem f325_91 : ft 325 91 = some (26, 4, 0, .ifCond .ne 7, 3) := Fm325 (dk_154 0 7 (dk_at s325_4 0 rfl rfl)) rfl
theorem f325_94 : ft 325 94 = some (26, 4, 0, .iconst 1, 1) := Fm325 (dk_4 (dk_at s325_4 3 rfl rfl)) rfl
theorem f325_95 : ft 325 95 = some (26, 4, 0, .goto 4, 3) := Fm325 (dk_167 0 4 (dk_at s325_4 4 rfl rfl)) rfl
theorem f325_98 : ft 325 98 = some (26, 4, 0, .iconst 0, 1) := Fm325 (dk_3 (dk_at s325_4 7 rfl rfl)) rfl
theorem f325_99 : ft 325 99 = some (26, 4, 0, .ireturn, 1) := Fm325 (dk_172 (dk_at s325_4 8 rfl rfl)) rfl
theorem f325_100 : ft 325 100 = some (26, 4, 0, .aload_n 0, 1) := Fm325 (dk_42 (dk_at s325_4 9 rfl rfl)) rfl
theorem f325_101 : ft 325 101 = some (26, 4, 0, .getfield 10, 3) := Fm325 (dk_180 0 10 (dk_at s325_4 10 rfl rfl)) rfl
theorem f325_104 : ft 325 104 = some (26, 4, 0, .aload_n 0, 1) := Fm325 (dk_42 (dk_at s325_4 13 rfl rfl)) rfl
theorem f325_105 : ft 325 105 = some (26, 4, 0, .getfield 16, 3) := Fm325 (dk_180 0 16 (dk_at s325_4 14 rfl rfl)) rfl
theorem f325_108 : ft 325 108 = some (26, 4, 0, .invokevirtual 40, 3) := Fm325 (dk_182 0 40 (dk_at s325_4 17 rfl rfl)) rfl
theorem f325_111 : ft 325 111 = some (26, 4, 0, .ireturn, 1) := Fm325 (dk_172 (dk_at s325_4 20 rfl rfl)) rfl
theorem f325_112 : ft 325 112 = some (26, 4, 0, .aload_n 0, 1) := Fm325 (dk_42 (dk_at s325_4 21 rfl rfl)) rfl
theorem f325_113 : ft 325 113 = some (26, 4, 0, .getfield 10, 3) := Fm325 (dk_180 0 10 (dk_at s325_5 0 rfl rfl)) rfl
theorem f325_116 : ft 325 116 = some (26, 4, 0, .aload_n 0, 1) := Fm325 (dk_42 (dk_at s325_5 3 rfl rfl)) rfl
theorem f325_117 : ft 325 117 = some (26, 4, 0, .getfield 16, 3) := Fm325 (dk_180 0 16 (dk_at s325_5 4 rfl rfl)) rfl
theorem f325_120 : ft 325 120 = some (26, 4, 0, .invokevirtual 40, 3) := Fm325 (dk_182 0 40 (dk_at s325_5 7 rfl rfl)) rfl
theorem f325_123 : ft 325 123 = some (26, 4, 0, .ifCond .ne 17, 3) := Fm325 (dk_154 0 17 (dk_at s325_5 10 rfl rfl)) rfl
theorem f325_126 : ft 325 126 = some (26, 4, 0, .aload_n 0, 1) := Fm325 (dk_42 (dk_at s325_5 13 rfl rfl)) rfl
theorem f325_127 : ft 325 127 = some (26, 4, 0, .getfield 10, 3) := Fm325 (dk_180 0 10 (dk_at s325_5 14 rfl rfl)) rfl
theorem f325_130 : ft 325 130 = some (26, 4, 0, .aload_n 0, 1) := Fm325 (dk_42 (dk_at s325_5 17 rfl rfl)) rfl
theorem f325_131 : ft 325 131 = some (26, 4, 0, .getfield 16, 3) := Fm325 (dk_180 0 16 (dk_at s325_5 18 rfl rfl)) rfl
theorem f325_134 : ft 325 134 = some (26, 4, 0, .invokevirtual 36, 3) := Fm325 (dk_182 0 36 (dk_at s325_5 21 rfl rfl)) rfl
theorem f325_137 : ft 325 137 = some (26, 4, 0, .ifCond .eq 7, 3) := Fm325 (dk_153 0 7 (dk_at s325_6 0 rfl rfl)) rfl
theorem f325_140 : ft 325 140 = some (26, 4, 0, .iconst 1, 1) := Fm325 (dk_4 (dk_at s325_6 3 rfl rfl)) rfl
theorem f325_141 : ft 325 141 = some (26, 4, 0, .goto 4, 3) := Fm325 (dk_167 0 4 (dk_at s325_6 4 rfl rfl)) rfl
theorem f325_144 : ft 325 144 = some (26, 4, 0, .iconst 0, 1) := Fm325 (dk_3 (dk_at s325_6 7 rfl rfl)) rfl
theorem f325_145 : ft 325 145 = some (26, 4, 0, .ireturn, 1) := Fm325 (dk_172 (dk_at s325_6 8 rfl rfl)) rfl
theorem f325_146 : ft 325 146 = some (26, 4, 0, .aload_n 0, 1) := Fm325 (dk_42 (dk_at s325_6 9 rfl rfl)) rfl
theorem f325_147 : ft 325 147 = some (26, 4, 0, .getfield 16, 3) := Fm325 (dk_180 0 16 (dk_at s325_6 10 rfl rfl)) rfl
theorem f325_150 : ft 325 150 = some (26, 4, 0, .aload_n 0, 1) := Fm325 (dk_42 (dk_at s325_6 13 rfl rfl)) rfl
theorem f325_151 : ft 325 151 = some (26, 4, 0, .getfield 10, 3) := Fm325 (dk_180 0 10 (dk_at s325_6 14 rfl rfl)) rfl
theorem f325_154 : ft 325 154 = some (26, 4, 0, .invokevirtual 40, 3) := Fm325 (dk_182 0 40 (dk_at s325_6 17 rfl rfl)) rfl
theorem f325_157 : ft 325 157 = some (26, 4, 0, .ireturn, 1) := Fm325 (dk_172 (dk_at s325_6 20 rfl rfl)) rfl
theorem f325_158 : ft 325 158 = some (26, 4, 0, .aload_n 0, 1) := Fm325 (dk_42 (dk_at s325_6 21 rfl rfl)) rfl
theorem f325_159 : ft 325 159 = some (26, 4, 0, .getfield 16, 3) := Fm325 (dk_180 0 16 (dk_at s325_7 0 rfl rfl)) rfl
theorem f325_162 : ft 325 162 = some (26, 4, 0, .aload_n 0, 1) := Fm325 (dk_42 (dk_at s325_7 3 rfl rfl)) rfl
theorem f325_163 : ft 325 163 = some (26, 4, 0, .getfield 10, 3) := Fm325 (dk_180 0 10 (dk_at s325_7 4 rfl rfl)) rfl
theorem f325_166 : ft 325 166 = some (26, 4, 0, .invokevirtual 40, 3) := Fm325 (dk_182 0 40 (dk_at s325_7 7 rfl rfl)) rfl
theorem f325_169 : ft 325 169 = some (26, 4, 0, .ifCond .ne 17, 3) := Fm325 (dk_154 0 17 (dk_at s325_7 10 rfl rfl)) rfl
theorem f325_172 : ft 325 172 = some (26, 4, 0, .aload_n 0, 1) := Fm325 (dk_42 (dk_at s325_7 13 rfl rfl)) rfl
theorem f325_173 : ft 325 173 = some (26, 4, 0, .getfield 10, 3) := Fm325 (dk_180 0 10 (dk_at s325_7 14 rfl rfl)) rfl
theorem f325_176 : ft 325 176 = some (26, 4, 0, .aload_n 0, 1) := Fm325 (dk_42 (dk_at s325_7 17 rfl rfl)) rfl
theorem f325_177 : ft 325 177 = some (26, 4, 0, .getfield 16, 3) := Fm325 (dk_180 0 16 (dk_at s325_7 18 rfl rfl)) rfl
theorem f325_180 : ft 325 180 = some (26, 4, 0, .invokevirtual 36, 3) := Fm325 (dk_182 0 36 (dk_at s325_7 21 rfl rfl)) rfl
theorem f325_183 : ft 325 183 = some (26, 4, 0, .ifCond .eq 7, 3) := Fm325 (dk_153 0 7 (dk_at s325_8 0 rfl rfl)) rfl
theorem f325_186 : ft 325 186 = some (26, 4, 0, .iconst 1, 1) := Fm325 (dk_4 (dk_at s325_8 3 rfl rfl)) rfl
theorem f325_187 : ft 325 187 = some (26, 4, 0, .goto 4, 3) := Fm325 (dk_167 0 4 (dk_at s325_8 4 rfl rfl)) rfl
theorem f325_190 : ft 325 190 = some (26, 4, 0, .iconst 0, 1) := Fm325 (dk_3 (dk_at s325_8 7 rfl rfl)) rfl
theorem f325_191 : ft 325 191 = some (26, 4, 0, .ireturn, 1) := Fm325 (dk_172 (dk_at s325_8 8 rfl rfl)) rfl
theorem q325 {d : Nat} {m : Mem} {a0 a1 a2 : Int} (hd : 0 < d) (hz : TZ m) : le2 (gd (tg m a0 = 26) <| nm (vl m a0 1) fun v11 => gd (0 < tg m v11) <| bV (ci (d - 1) 303 (tg m v11) [pR v11, pR a1, pI a2, pR (vl m a0 3)] m) fun m1 => nm (vl m1 a0 2) fun v12 => gd (0 < tg m1 v12) <| bV (ci (d - 1) 303 (tg m1 v12) [pR v12, pR a1, pI a2, pR (vl m1 a0 4)] m1) fun m2 => nm (vl m2 a0 0) fun v13 => if v13 = 0 then (nm (vl m2 a0 3) fun v14 => gd (tg m2 v14 = 27) <| bI (cl (d - 1) 332 [pR v14, pR (vl m2 a0 4)] m2) fun v10 m10 => gd (v10 = 0 ∨ v10 = 1) <| some (.inl (some (pI v10)), m10)) else if v13 = 1 then (nm (vl m2 a0 3) fun v15 => gd (tg m2 v15 = 27) <| bI (cl (d - 1) 332 [pR v15, pR (vl m2 a0 4)] m2) fun v9 m9 => if v9 = 0 then (some (.inl (some (pI 1)), m9)) else some (.inl (some (pI 0)), m9)) else if v13 = 2 then (nm (vl m2 a0 3) fun v16 => gd (tg m2 v16 = 27) <| bI (cl (d - 1) 335 [pR v16, pR (vl m2 a0 4)] m2) fun v8 m8 => gd (v8 = 0 ∨ v8 = 1) <| some (.inl (some (pI v8)), m8)) else if v13 = 3 then (nm (vl m2 a0 3) fun v17 => gd (tg m2 v17 = 27) <| bI (cl (d - 1) 335 [pR v17, pR (vl m2 a0 4)] m2) fun v6 m6 => if v6 = 0 then (nm (vl m6 a0 3) fun v18 => gd (tg m6 v18 = 27) <| bI (cl (d - 1) 332 [pR v18, pR (vl m6 a0 4)] m6) fun v7 m7 => if v7 = 0 then (some (.inl (some (pI 0)), m7)) else some (.inl (some (pI 1)), m7)) else some (.inl (some (pI 1)), m6)) else if v13 = 4 then (nm (vl m2 a0 4) fun v19 => gd (tg m2 v19 = 27) <| bI (cl (d - 1) 335 [pR v19, pR (vl m2 a0 3)] m2) fun v5 m5 => gd (v5 = 0 ∨ v5 = 1) <| some (.inl (some (pI v5)), m5)) else nm (vl m2 a0 4) fun v20 => gd (tg m2 v20 = 27) <| bI (cl (d - 1) 335 [pR v20, pR (vl m2 a0 3)] m2) fun v3 m3 => if v3 = 0 then (nm (vl m3 a0 3) fun v21 => gd (tg m3 v21 = 27) <| bI (cl (d - 1) 332 [pR v21, pR (vl m3 a0 4)] m3) fun v4 m4 => if v4 = 0 then (some (.inl (some (pI 0)), m4)) else some (.inl (some (pI 1)), m4)) else some (.inl (some (pI 1)), m3)) (cl d 325 [pR a0, pR a1, pI a2] m) := by
  refine q_in (n := 3) (L := [pR a0, pR a1, pI a2]) rfl rfl rfl ?_
  refine r_aln0 (p := 1) f325_0 rfl ?_
  refine le2_gd (fun h1 => ?_)
  refine r_gfR (f := 1) (p := 4) f325_1 rfl rfl rfl (Or.inl h1) rfl ?_
  refine r_nmR (fun v11 ev11 => ?_)
  refine r_aln1 (p := 5) f325_4 rfl ?_
  refine r_iln2 (p := 6) f325_5 rfl ?_
  refine r_aln0 (p := 7) f325_6 rfl ?_
  refine r_gfR (f := 3) (p := 10) f325_7 rfl rfl rfl (Or.inl h1) rfl ?_
  refine le2_gd (fun h2 => ?_)
  refine r_infV (p := 15) f325_10 rfl rfl rfl h2 hd (Nat.le_of_ble_eq_true rfl) rfl rfl (fun _ => rfl) (fun m1 c1 => ?_)
  have hz1 := z_k c1 hz
  refine r_aln0 (p := 16) f325_15 rfl ?_
  have h3 := k_t1 c1 hz h1 (by decide)
  refine r_gfR (f := 2) (p := 19) f325_16 rfl rfl rfl (Or.inl h3) rfl ?_
  refine r_nmR (fun v12 ev12 => ?_)
  refine r_aln1 (p := 20) f325_19 rfl ?_
  refine r_iln2 (p := 21) f325_20 rfl ?_
  refine r_aln0 (p := 22) f325_21 rfl ?_
  refine r_gfR (f := 4) (p := 25) f325_22 rfl rfl rfl (Or.inl h3) rfl ?_
  refine le2_gd (fun h4 => ?_)
  refine r_infV (p := 30) f325_25 rfl rfl rfl h4 hd (Nat.le_of_ble_eq_true rfl) rfl rfl (fun _ => rfl) (fun m2 c2 => ?_)
  have hz2 := z_k c2 hz1
  refine r_aln0 (p := 31) f325_30 rfl ?_
  have h5 := k_t1 c2 hz1 h3 (by decide)
  refine r_gfI (f := 0) (p := 34) f325_31 rfl rfl rfl (Or.inl h5) rfl ?_
  refine r_nmI (fun v13 ev13 => ?_)
  refine le2_ite (fun h21 => ?_) (fun h21 => ?_)
  · refine r_tsI (off := 34) (t := 68) f325_34 h21 rfl rfl (by decide) rfl ?_
    refine r_aln0 (p := 69) f325_68 rfl ?_
    refine r_gfR (f := 3) (p := 72) f325_69 rfl rfl rfl (Or.inl h5) rfl ?_
    refine r_nmR (fun v14 ev14 => ?_)
    refine r_aln0 (p := 73) f325_72 rfl ?_
    refine r_gfR (f := 4) (p := 76) f325_73 rfl rfl rfl (Or.inl h5) rfl ?_
    refine le2_gd (fun h22 => ?_)
    refine r_invI (p := 79) f325_76 rfl rfl rfl (Or.inl h22) hd (Nat.le_of_ble_eq_true rfl) rfl rfl rfl (fun _ => rfl) (fun v10 m10 c10 => ?_)
    have hz10 := z_k c10 hz2
    refine le2_gd (fun h23 => ?_)
    exact r_iret4 f325_79 h23
  · refine le2_ite (fun h19 => ?_) (fun h19 => ?_)
    · refine r_tsI (off := 46) (t := 80) f325_34 h19 rfl rfl (by decide) rfl ?_
      refine r_aln0 (p := 81) f325_80 rfl ?_
      refine r_gfR (f := 3) (p := 84) f325_81 rfl rfl rfl (Or.inl h5) rfl ?_
      refine r_nmR (fun v15 ev15 => ?_)
      refine r_aln0 (p := 85) f325_84 rfl ?_
      refine r_gfR (f := 4) (p := 88) f325_85 rfl rfl rfl (Or.inl h5) rfl ?_
      refine le2_gd (fun h20 => ?_)
      refine r_invI (p := 91) f325_88 rfl rfl rfl (Or.inl h20) hd (Nat.le_of_ble_eq_true rfl) rfl rfl rfl (fun _ => rfl) (fun v9 m9 c9 => ?_)
      have hz9 := z_k c9 hz2
      refine r_ifne (t := 98) (p := 94) f325_91 (by decide) rfl rfl ?_ ?_
      · refine r_iconst (p := 95) f325_94 rfl (pinD rfl rfl) ?_
        refine r_goto (p := 99) f325_95 (by decide) rfl ?_
        exact r_iret4 f325_99 (by decide)
      · refine r_iconst (p := 99) f325_98 rfl (pinD rfl rfl) ?_
        exact r_iret4 f325_99 (by decide)
    · refine le2_ite (fun h16 => ?_) (fun h16 => ?_)
      · refine r_tsI (off := 66) (t := 100) f325_34 h16 rfl rfl (by decide) rfl ?_
        refine r_aln0 (p := 101) f325_100 rfl ?_
        refine r_gfR (f := 3) (p := 104) f325_101 rfl rfl rfl (Or.inl h5) rfl ?_
        refine r_nmR (fun v16 ev16 => ?_)
        refine r_aln0 (p := 105) f325_104 rfl ?_
        refine r_gfR (f := 4) (p := 108) f325_105 rfl rfl rfl (Or.inl h5) rfl ?_
        refine le2_gd (fun h17 => ?_)
        refine r_invI (p := 111) f325_108 rfl rfl rfl (Or.inl h17) hd (Nat.le_of_ble_eq_true rfl) rfl rfl rfl (fun _ => rfl) (fun v8 m8 c8 => ?_)
        have hz8 := z_k c8 hz2
        refine le2_gd (fun h18 => ?_)
        exact r_iret4 f325_111 h18
      · refine le2_ite (fun h12 => ?_) (fun h12 => ?_)
        · refine r_tsI (off := 78) (t := 112) f325_34 h12 rfl rfl (by decide) rfl ?_
          refine r_aln0 (p := 113) f325_112 rfl ?_
          refine r_gfR (f := 3) (p := 116) f325_113 rfl rfl rfl (Or.inl h5) rfl ?_
          refine r_nmR (fun v17 ev17 => ?_)
          refine r_aln0 (p := 117) f325_116 rfl ?_
          refine r_gfR (f := 4) (p := 120) f325_117 rfl rfl rfl (Or.inl h5) rfl ?_
          refine le2_gd (fun h13 => ?_)
          refine r_invI (p := 123) f325_120 rfl rfl rfl (Or.inl h13) hd (Nat.le_of_ble_eq_true rfl) rfl rfl rfl (fun _ => rfl) (fun v6 m6 c6 => ?_)
          have hz6 := z_k c6 hz2
          refine r_ifne (t := 140) (p := 126) f325_123 (by decide) rfl rfl ?_ ?_
          · refine r_aln0 (p := 127) f325_126 rfl ?_
            have h14 := k_t1 c6 hz2 h5 (by decide)
            refine r_gfR (f := 3) (p := 130) f325_127 rfl rfl rfl (Or.inl h14) rfl ?_
            refine r_nmR (fun v18 ev18 => ?_)
            refine r_aln0 (p := 131) f325_130 rfl ?_
            refine r_gfR (f := 4) (p := 134) f325_131 rfl rfl rfl (Or.inl h14) rfl ?_
            refine le2_gd (fun h15 => ?_)
            refine r_invI (p := 137) f325_134 rfl rfl rfl (Or.inl h15) hd (Nat.le_of_ble_eq_true rfl) rfl rfl rfl (fun _ => rfl) (fun v7 m7 c7 => ?_)
            have hz7 := z_k c7 hz6
            refine r_ifeq (t := 144) (p := 140) f325_137 (by decide) rfl rfl ?_ ?_
            · refine r_iconst (p := 145) f325_144 rfl (pinD rfl rfl) ?_
              exact r_iret4 f325_145 (by decide)
            · refine r_iconst (p := 141) f325_140 rfl (pinD rfl rfl) ?_
              refine r_goto (p := 145) f325_141 (by decide) rfl ?_
              exact r_iret4 f325_145 (by decide)
          · refine r_iconst (p := 141) f325_140 rfl (pinD rfl rfl) ?_
            refine r_goto (p := 145) f325_141 (by decide) rfl ?_
            exact r_iret4 f325_145 (by decide)
        · refine le2_ite (fun h9 => ?_) (fun h9 => ?_)
          · refine r_tsI (off := 112) (t := 146) f325_34 h9 rfl rfl (by decide) rfl ?_
            refine r_aln0 (p := 147) f325_146 rfl ?_
            refine r_gfR (f := 4) (p := 150) f325_147 rfl rfl rfl (Or.inl h5) rfl ?_
            refine r_nmR (fun v19 ev19 => ?_)
            refine r_aln0 (p := 151) f325_150 rfl ?_
            refine r_gfR (f := 3) (p := 154) f325_151 rfl rfl rfl (Or.inl h5) rfl ?_
            refine le2_gd (fun h10 => ?_)
            refine r_invI (p := 157) f325_154 rfl rfl rfl (Or.inl h10) hd (Nat.le_of_ble_eq_true rfl) rfl rfl rfl (fun _ => rfl) (fun v5 m5 c5 => ?_)
            have hz5 := z_k c5 hz2
            refine le2_gd (fun h11 => ?_)
            exact r_iret4 f325_157 h11
          · refine r_tsO (t := 158) f325_34 (by omega) (by decide) rfl ?_
            refine r_aln0 (p := 159) f325_158 rfl ?_
            refine r_gfR (f := 4) (p := 162) f325_159 rfl rfl rfl (Or.inl h5) rfl ?_
            refine r_nmR (fun v20 ev20 => ?_)
            refine r_aln0 (p := 163) f325_162 rfl ?_
            refine r_gfR (f := 3) (p := 166) f325_163 rfl rfl rfl (Or.inl h5) rfl ?_
            refine le2_gd (fun h6 => ?_)
            refine r_invI (p := 169) f325_166 rfl rfl rfl (Or.inl h6) hd (Nat.le_of_ble_eq_true rfl) rfl rfl rfl (fun _ => rfl) (fun v3 m3 c3 => ?_)
            have hz3 := z_k c3 hz2
            refine r_ifne (t := 186) (p := 172) f325_169 (by decide) rfl rfl ?_ ?_
            · refine r_aln0 (p := 173) f325_172 rfl ?_
              have h7 := k_t1 c3 hz2 h5 (by decide)
              refine r_gfR (f := 3) (p := 176) f325_173 rfl rfl rfl (Or.inl h7) rfl ?_
              refine r_nmR (fun v21 ev21 => ?_)
              refine r_aln0 (p := 177) f325_176 rfl ?_
              refine r_gfR (f := 4) (p := 180) f325_177 rfl rfl rfl (Or.inl h7) rfl ?_
              refine le2_gd (fun h8 => ?_)
              refine r_invI (p := 183) f325_180 rfl rfl rfl (Or.inl h8) hd (Nat.le_of_ble_eq_true rfl) rfl rfl rfl (fun _ => rfl) (fun v4 m4 c4 => ?_)
              have hz4 := z_k c4 hz3
              refine r_ifeq (t := 190) (p := 186) f325_183 (by decide) rfl rfl ?_ ?_
              · refine r_iconst (p := 191) f325_190 rfl (pinD rfl rfl) ?_
                exact r_iret4 f325_191 (by decide)
              · refine r_iconst (p := 187) f325_186 rfl (pinD rfl rfl) ?_
                refine r_goto (p := 191) f325_187 (by decide) rfl ?_
                exact r_iret4 f325_191 (by decide)
            · refine r_iconst (p := 187) f325_186 rfl (pinD rfl rfl) ?_
              refine r_goto (p := 191) f325_187 (by decide) rfl ?_
              exact r_iret4 f325_191 (by decide)
/-! 326 PathStore$Result.<init> ()V -/
theorem Fm326 {pc len : Nat} {i : Instr} (h : decode (prog_20_method_1_code) pc = .ok (i, len)) (hl : len = ilen i len) : ft 326 pc = some (27, 0, 1, i, len) := ft_mk rfl h hl
theorem f326_0 : ft 326 0 = some (27, 0, 1, .aload_n 0, 1) := Fm326 (by decide +kernel) rfl
theorem f326_1 : ft 326 1 = some (27, 0, 1, .invokespecial 3, 3) := Fm326 (by decide +kernel) rfl
theorem f326_4 : ft 326 4 = some (27, 0, 1, .return_, 1) := Fm326 (by decide +kernel) rfl
theorem q326 {d : Nat} {m : Mem} {a0 : Int} (hz : TZ m) : le2 (gd (tg m a0 = 27) <| some (.inl none, m)) (cl d 326 [pR a0] m) := by
  refine q_in (n := 1) (L := [pR a0]) rfl rfl rfl ?_
  refine r_aln0 (p := 1) f326_0 rfl ?_
  refine le2_gd (fun h1 => ?_)
  refine r_objinit (p := 4) f326_1 rfl rfl (dj1 (fun x => 0 < x ∧ x < 100) h1 (by decide)) (Nat.le_of_ble_eq_true rfl) ?_
  exact r_ret f326_4
/-! 327 PathStore$Result.value (LPathStore$Row;I)V -/
def w327_0 : List UInt8 := [42, 4, 181, 0, 11, 42, 43, 181, 0, 15, 42, 28, 181, 0, 19, 177]
abbrev u327_0 : List UInt8 := w327_0 ++ []
theorem s327_0 : (prog_20_method_3_code).data.toList.drop 0 = u327_0 := by decide +kernel
theorem Fm327 {pc len : Nat} {i : Instr} (h : decode (prog_20_method_3_code) pc = .ok (i, len)) (hl : len = ilen i len) : ft 327 pc = some (27, 0, 0, i, len) := ft_mk rfl h hl
theorem f327_0 : ft 327 0 = some (27, 0, 0, .aload_n 0, 1) := Fm327 (dk_42 (dk_at s327_0 0 rfl rfl)) rfl
theorem f327_1 : ft 327 1 = some (27, 0, 0, .iconst 1, 1) := Fm327 (dk_4 (dk_at s327_0 1 rfl rfl)) rfl
theorem f327_2 : ft 327 2 = some (27, 0, 0, .putfield 11, 3) := Fm327 (dk_181 0 11 (dk_at s327_0 2 rfl rfl)) rfl
theorem f327_5 : ft 327 5 = some (27, 0, 0, .aload_n 0, 1) := Fm327 (dk_42 (dk_at s327_0 5 rfl rfl)) rfl
theorem f327_6 : ft 327 6 = some (27, 0, 0, .aload_n 1, 1) := Fm327 (dk_43 (dk_at s327_0 6 rfl rfl)) rfl
theorem f327_7 : ft 327 7 = some (27, 0, 0, .putfield 15, 3) := Fm327 (dk_181 0 15 (dk_at s327_0 7 rfl rfl)) rfl
theorem f327_10 : ft 327 10 = some (27, 0, 0, .aload_n 0, 1) := Fm327 (dk_42 (dk_at s327_0 10 rfl rfl)) rfl
theorem f327_11 : ft 327 11 = some (27, 0, 0, .iload_n 2, 1) := Fm327 (dk_28 (dk_at s327_0 11 rfl rfl)) rfl
theorem f327_12 : ft 327 12 = some (27, 0, 0, .putfield 19, 3) := Fm327 (dk_181 0 19 (dk_at s327_0 12 rfl rfl)) rfl
theorem f327_15 : ft 327 15 = some (27, 0, 0, .return_, 1) := Fm327 (dk_177 (dk_at s327_0 15 rfl rfl)) rfl
theorem q327 {d : Nat} {m : Mem} {a0 a1 a2 : Int} (hz : TZ m) : le2 (gd (tg m a0 = 27) <| some (.inl none, (mst (mst (mst m a0 0 1) a0 1 a1) a0 2 a2))) (cl d 327 [pR a0, pR a1, pI a2] m) := by
  refine q_in (n := 3) (L := [pR a0, pR a1, pI a2]) rfl rfl rfl ?_
  refine r_aln0 (p := 1) f327_0 rfl ?_
  refine r_iconst (p := 2) f327_1 rfl (pinD rfl rfl) ?_
  refine le2_gd (fun h1 => ?_)
  refine r_pfI (f := 0) (p := 5) f327_2 rfl rfl rfl (by decide) (by decide) (Or.inl h1) rfl ?_
  refine r_aln0 (p := 6) f327_5 rfl ?_
  refine r_aln1 (p := 7) f327_6 rfl ?_
  refine r_pfR (f := 1) (p := 10) f327_7 rfl rfl rfl (by decide) (by decide) (Or.inl h1) rfl ?_
  refine r_aln0 (p := 11) f327_10 rfl ?_
  refine r_iln2 (p := 12) f327_11 rfl ?_
  refine r_pfI (f := 2) (p := 15) f327_12 rfl rfl rfl (by decide) (by decide) (Or.inl h1) rfl ?_
  exact r_ret f327_15
/-! 328 PathStore$Result.counted (J)V -/
def w328_0 : List UInt8 := [42, 5, 181, 0, 11, 42, 31, 181, 0, 22, 177]
abbrev u328_0 : List UInt8 := w328_0 ++ []
theorem s328_0 : (prog_20_method_4_code).data.toList.drop 0 = u328_0 := by decide +kernel
theorem Fm328 {pc len : Nat} {i : Instr} (h : decode (prog_20_method_4_code) pc = .ok (i, len)) (hl : len = ilen i len) : ft 328 pc = some (27, 0, 0, i, len) := ft_mk rfl h hl
theorem f328_0 : ft 328 0 = some (27, 0, 0, .aload_n 0, 1) := Fm328 (dk_42 (dk_at s328_0 0 rfl rfl)) rfl
theorem f328_1 : ft 328 1 = some (27, 0, 0, .iconst 2, 1) := Fm328 (dk_5 (dk_at s328_0 1 rfl rfl)) rfl
theorem f328_2 : ft 328 2 = some (27, 0, 0, .putfield 11, 3) := Fm328 (dk_181 0 11 (dk_at s328_0 2 rfl rfl)) rfl
theorem f328_5 : ft 328 5 = some (27, 0, 0, .aload_n 0, 1) := Fm328 (dk_42 (dk_at s328_0 5 rfl rfl)) rfl
theorem f328_6 : ft 328 6 = some (27, 0, 0, .lload_n 1, 1) := Fm328 (dk_31 (dk_at s328_0 6 rfl rfl)) rfl
theorem f328_7 : ft 328 7 = some (27, 0, 0, .putfield 22, 3) := Fm328 (dk_181 0 22 (dk_at s328_0 7 rfl rfl)) rfl
theorem f328_10 : ft 328 10 = some (27, 0, 0, .return_, 1) := Fm328 (dk_177 (dk_at s328_0 10 rfl rfl)) rfl
theorem q328 {d : Nat} {m : Mem} {a0 a1 : Int} (hz : TZ m) : le2 (gd (tg m a0 = 27) <| some (.inl none, (mst (mst m a0 0 2) a0 3 a1))) (cl d 328 [pR a0, pL a1] m) := by
  refine q_in (n := 3) (L := [pR a0, pL a1, pU]) rfl rfl rfl ?_
  refine r_aln0 (p := 1) f328_0 rfl ?_
  refine r_iconst (p := 2) f328_1 rfl (pinD rfl rfl) ?_
  refine le2_gd (fun h1 => ?_)
  refine r_pfI (f := 0) (p := 5) f328_2 rfl rfl rfl (by decide) (by decide) (Or.inl h1) rfl ?_
  refine r_aln0 (p := 6) f328_5 rfl ?_
  refine r_lln1 (p := 7) f328_6 rfl ?_
  refine r_pfJ (f := 3) (p := 10) f328_7 rfl rfl rfl (by decide) (by decide) (Or.inl h1) rfl ?_
  exact r_ret f328_10
/-! 329 PathStore$Result.nothing ()V -/
def w329_0 : List UInt8 := [42, 3, 181, 0, 11, 177]
abbrev u329_0 : List UInt8 := w329_0 ++ []
theorem s329_0 : (prog_20_method_2_code).data.toList.drop 0 = u329_0 := by decide +kernel
theorem Fm329 {pc len : Nat} {i : Instr} (h : decode (prog_20_method_2_code) pc = .ok (i, len)) (hl : len = ilen i len) : ft 329 pc = some (27, 0, 0, i, len) := ft_mk rfl h hl
theorem f329_0 : ft 329 0 = some (27, 0, 0, .aload_n 0, 1) := Fm329 (dk_42 (dk_at s329_0 0 rfl rfl)) rfl
theorem f329_1 : ft 329 1 = some (27, 0, 0, .iconst 0, 1) := Fm329 (dk_3 (dk_at s329_0 1 rfl rfl)) rfl
theorem f329_2 : ft 329 2 = some (27, 0, 0, .putfield 11, 3) := Fm329 (dk_181 0 11 (dk_at s329_0 2 rfl rfl)) rfl
theorem f329_5 : ft 329 5 = some (27, 0, 0, .return_, 1) := Fm329 (dk_177 (dk_at s329_0 5 rfl rfl)) rfl
theorem q329 {d : Nat} {m : Mem} {a0 : Int} (hz : TZ m) : le2 (gd (tg m a0 = 27) <| some (.inl none, (mst m a0 0 0))) (cl d 329 [pR a0] m) := by
  refine q_in (n := 1) (L := [pR a0]) rfl rfl rfl ?_
  refine r_aln0 (p := 1) f329_0 rfl ?_
  refine r_iconst (p := 2) f329_1 rfl (pinD rfl rfl) ?_
  refine le2_gd (fun h1 => ?_)
  refine r_pfI (f := 0) (p := 5) f329_2 rfl rfl rfl (by decide) (by decide) (Or.inl h1) rfl ?_
  exact r_ret f329_5
/-! 330 PathStore$Result.measure ()V -/
def w330_4 : List UInt8 := [42, 180, 0, 15, 21, 4, 184, 0, 55, 96, 54, 4, 167, 255, 232, 42, 31, 182, 0, 74, 177]
abbrev u330_4 : List UInt8 := w330_4 ++ []
def w330_3 : List UInt8 := [182, 0, 48, 62, 42, 180, 0, 19, 6, 96, 54, 4, 21, 4, 29, 162, 0, 24, 31, 10, 97, 64, 21, 4]
abbrev u330_3 : List UInt8 := w330_3 ++ u330_4
def w330_2 : List UInt8 := [42, 180, 0, 19, 182, 0, 71, 133, 182, 0, 74, 177, 9, 64, 42, 180, 0, 15, 42, 180, 0, 19]
abbrev u330_2 : List UInt8 := w330_2 ++ u330_3
def w330_1 : List UInt8 := [182, 0, 68, 177, 42, 180, 0, 15, 42, 180, 0, 19, 182, 0, 26, 7, 164, 0, 20, 42, 42, 180, 0, 15]
abbrev u330_1 : List UInt8 := w330_1 ++ u330_2
def w330_0 : List UInt8 := [42, 180, 0, 11, 4, 160, 0, 18, 42, 180, 0, 15, 42, 180, 0, 19, 182, 0, 26, 7, 162, 0, 8, 42]
abbrev u330_0 : List UInt8 := w330_0 ++ u330_1
theorem s330_0 : (prog_20_method_11_code).data.toList.drop 0 = u330_0 := by decide +kernel
theorem s330_1 : (prog_20_method_11_code).data.toList.drop 24 = u330_1 := dk_seg s330_0 24 rfl rfl
theorem s330_2 : (prog_20_method_11_code).data.toList.drop 48 = u330_2 := dk_seg s330_1 24 rfl rfl
theorem s330_3 : (prog_20_method_11_code).data.toList.drop 70 = u330_3 := dk_seg s330_2 22 rfl rfl
theorem s330_4 : (prog_20_method_11_code).data.toList.drop 94 = u330_4 := dk_seg s330_3 24 rfl rfl
theorem Fm330 {pc len : Nat} {i : Instr} (h : decode (prog_20_method_11_code) pc = .ok (i, len)) (hl : len = ilen i len) : ft 330 pc = some (27, 0, 0, i, len) := ft_mk rfl h hl
theorem f330_0 : ft 330 0 = some (27, 0, 0, .aload_n 0, 1) := Fm330 (dk_42 (dk_at s330_0 0 rfl rfl)) rfl
theorem f330_1 : ft 330 1 = some (27, 0, 0, .getfield 11, 3) := Fm330 (dk_180 0 11 (dk_at s330_0 1 rfl rfl)) rfl
theorem f330_4 : ft 330 4 = some (27, 0, 0, .iconst 1, 1) := Fm330 (dk_4 (dk_at s330_0 4 rfl rfl)) rfl
theorem f330_5 : ft 330 5 = some (27, 0, 0, .if_icmp .ne 18, 3) := Fm330 (dk_160 0 18 (dk_at s330_0 5 rfl rfl)) rfl
theorem f330_8 : ft 330 8 = some (27, 0, 0, .aload_n 0, 1) := Fm330 (dk_42 (dk_at s330_0 8 rfl rfl)) rfl
theorem f330_9 : ft 330 9 = some (27, 0, 0, .getfield 15, 3) := Fm330 (dk_180 0 15 (dk_at s330_0 9 rfl rfl)) rfl
theorem f330_12 : ft 330 12 = some (27, 0, 0, .aload_n 0, 1) := Fm330 (dk_42 (dk_at s330_0 12 rfl rfl)) rfl
theorem f330_13 : ft 330 13 = some (27, 0, 0, .getfield 19, 3) := Fm330 (dk_180 0 19 (dk_at s330_0 13 rfl rfl)) rfl
theorem f330_16 : ft 330 16 = some (27, 0, 0, .invokevirtual 26, 3) := Fm330 (dk_182 0 26 (dk_at s330_0 16 rfl rfl)) rfl
theorem f330_19 : ft 330 19 = some (27, 0, 0, .iconst 4, 1) := Fm330 (dk_7 (dk_at s330_0 19 rfl rfl)) rfl
theorem f330_20 : ft 330 20 = some (27, 0, 0, .if_icmp .ge 8, 3) := Fm330 (dk_162 0 8 (dk_at s330_0 20 rfl rfl)) rfl
theorem f330_23 : ft 330 23 = some (27, 0, 0, .aload_n 0, 1) := Fm330 (dk_42 (dk_at s330_0 23 rfl rfl)) rfl
theorem f330_24 : ft 330 24 = some (27, 0, 0, .invokevirtual 68, 3) := Fm330 (dk_182 0 68 (dk_at s330_1 0 rfl rfl)) rfl
theorem f330_27 : ft 330 27 = some (27, 0, 0, .return_, 1) := Fm330 (dk_177 (dk_at s330_1 3 rfl rfl)) rfl
theorem f330_28 : ft 330 28 = some (27, 0, 0, .aload_n 0, 1) := Fm330 (dk_42 (dk_at s330_1 4 rfl rfl)) rfl
theorem f330_29 : ft 330 29 = some (27, 0, 0, .getfield 15, 3) := Fm330 (dk_180 0 15 (dk_at s330_1 5 rfl rfl)) rfl
theorem f330_32 : ft 330 32 = some (27, 0, 0, .aload_n 0, 1) := Fm330 (dk_42 (dk_at s330_1 8 rfl rfl)) rfl
theorem f330_33 : ft 330 33 = some (27, 0, 0, .getfield 19, 3) := Fm330 (dk_180 0 19 (dk_at s330_1 9 rfl rfl)) rfl
theorem f330_36 : ft 330 36 = some (27, 0, 0, .invokevirtual 26, 3) := Fm330 (dk_182 0 26 (dk_at s330_1 12 rfl rfl)) rfl
theorem f330_39 : ft 330 39 = some (27, 0, 0, .iconst 4, 1) := Fm330 (dk_7 (dk_at s330_1 15 rfl rfl)) rfl
theorem f330_40 : ft 330 40 = some (27, 0, 0, .if_icmp .le 20, 3) := Fm330 (dk_164 0 20 (dk_at s330_1 16 rfl rfl)) rfl
theorem f330_43 : ft 330 43 = some (27, 0, 0, .aload_n 0, 1) := Fm330 (dk_42 (dk_at s330_1 19 rfl rfl)) rfl
theorem f330_44 : ft 330 44 = some (27, 0, 0, .aload_n 0, 1) := Fm330 (dk_42 (dk_at s330_1 20 rfl rfl)) rfl
theorem f330_45 : ft 330 45 = some (27, 0, 0, .getfield 15, 3) := Fm330 (dk_180 0 15 (dk_at s330_1 21 rfl rfl)) rfl
theorem f330_48 : ft 330 48 = some (27, 0, 0, .aload_n 0, 1) := Fm330 (dk_42 (dk_at s330_2 0 rfl rfl)) rfl
theorem f330_49 : ft 330 49 = some (27, 0, 0, .getfield 19, 3) := Fm330 (dk_180 0 19 (dk_at s330_2 1 rfl rfl)) rfl
theorem f330_52 : ft 330 52 = some (27, 0, 0, .invokevirtual 71, 3) := Fm330 (dk_182 0 71 (dk_at s330_2 4 rfl rfl)) rfl
theorem f330_55 : ft 330 55 = some (27, 0, 0, .i2l, 1) := Fm330 (dk_133 (dk_at s330_2 7 rfl rfl)) rfl
theorem f330_56 : ft 330 56 = some (27, 0, 0, .invokevirtual 74, 3) := Fm330 (dk_182 0 74 (dk_at s330_2 8 rfl rfl)) rfl
theorem f330_59 : ft 330 59 = some (27, 0, 0, .return_, 1) := Fm330 (dk_177 (dk_at s330_2 11 rfl rfl)) rfl
theorem f330_60 : ft 330 60 = some (27, 0, 0, .lconst 0, 1) := Fm330 (dk_9 (dk_at s330_2 12 rfl rfl)) rfl
theorem f330_61 : ft 330 61 = some (27, 0, 0, .lstore_n 1, 1) := Fm330 (dk_64 (dk_at s330_2 13 rfl rfl)) rfl
theorem f330_62 : ft 330 62 = some (27, 0, 0, .aload_n 0, 1) := Fm330 (dk_42 (dk_at s330_2 14 rfl rfl)) rfl
theorem f330_63 : ft 330 63 = some (27, 0, 0, .getfield 15, 3) := Fm330 (dk_180 0 15 (dk_at s330_2 15 rfl rfl)) rfl
theorem f330_66 : ft 330 66 = some (27, 0, 0, .aload_n 0, 1) := Fm330 (dk_42 (dk_at s330_2 18 rfl rfl)) rfl
theorem f330_67 : ft 330 67 = some (27, 0, 0, .getfield 19, 3) := Fm330 (dk_180 0 19 (dk_at s330_2 19 rfl rfl)) rfl
theorem f330_70 : ft 330 70 = some (27, 0, 0, .invokevirtual 48, 3) := Fm330 (dk_182 0 48 (dk_at s330_3 0 rfl rfl)) rfl
theorem f330_73 : ft 330 73 = some (27, 0, 0, .istore_n 3, 1) := Fm330 (dk_62 (dk_at s330_3 3 rfl rfl)) rfl
theorem f330_74 : ft 330 74 = some (27, 0, 0, .aload_n 0, 1) := Fm330 (dk_42 (dk_at s330_3 4 rfl rfl)) rfl
theorem f330_75 : ft 330 75 = some (27, 0, 0, .getfield 19, 3) := Fm330 (dk_180 0 19 (dk_at s330_3 5 rfl rfl)) rfl
theorem f330_78 : ft 330 78 = some (27, 0, 0, .iconst 3, 1) := Fm330 (dk_6 (dk_at s330_3 8 rfl rfl)) rfl
theorem f330_79 : ft 330 79 = some (27, 0, 0, .iadd, 1) := Fm330 (dk_96 (dk_at s330_3 9 rfl rfl)) rfl
theorem f330_80 : ft 330 80 = some (27, 0, 0, .istore 4, 2) := Fm330 (dk_54 4 (dk_at s330_3 10 rfl rfl)) rfl
theorem f330_82 : ft 330 82 = some (27, 0, 0, .iload 4, 2) := Fm330 (dk_21 4 (dk_at s330_3 12 rfl rfl)) rfl
theorem f330_84 : ft 330 84 = some (27, 0, 0, .iload_n 3, 1) := Fm330 (dk_29 (dk_at s330_3 14 rfl rfl)) rfl
theorem f330_85 : ft 330 85 = some (27, 0, 0, .if_icmp .ge 24, 3) := Fm330 (dk_162 0 24 (dk_at s330_3 15 rfl rfl)) rfl
theorem f330_88 : ft 330 88 = some (27, 0, 0, .lload_n 1, 1) := Fm330 (dk_31 (dk_at s330_3 18 rfl rfl)) rfl
theorem f330_89 : ft 330 89 = some (27, 0, 0, .lconst 1, 1) := Fm330 (dk_10 (dk_at s330_3 19 rfl rfl)) rfl
theorem f330_90 : ft 330 90 = some (27, 0, 0, .ladd, 1) := Fm330 (dk_97 (dk_at s330_3 20 rfl rfl)) rfl
theorem f330_91 : ft 330 91 = some (27, 0, 0, .lstore_n 1, 1) := Fm330 (dk_64 (dk_at s330_3 21 rfl rfl)) rfl
theorem f330_92 : ft 330 92 = some (27, 0, 0, .iload 4, 2) := Fm330 (dk_21 4 (dk_at s330_3 22 rfl rfl)) rfl
theorem f330_94 : ft 330 94 = some (27, 0, 0, .aload_n 0, 1) := Fm330 (dk_42 (dk_at s330_4 0 rfl rfl)) rfl
theorem f330_95 : ft 330 95 = some (27, 0, 0, .getfield 15, 3) := Fm330 (dk_180 0 15 (dk_at s330_4 1 rfl rfl)) rfl
theorem f330_98 : ft 330 98 = some (27, 0, 0, .iload 4, 2) := Fm330 (dk_21 4 (dk_at s330_4 4 rfl rfl)) rfl
theorem f330_100 : ft 330 100 = some (27, 0, 0, .invokestatic 55, 3) := Fm330 (dk_184 0 55 (dk_at s330_4 6 rfl rfl)) rfl
theorem f330_103 : ft 330 103 = some (27, 0, 0, .iadd, 1) := Fm330 (dk_96 (dk_at s330_4 9 rfl rfl)) rfl
theorem f330_104 : ft 330 104 = some (27, 0, 0, .istore 4, 2) := Fm330 (dk_54 4 (dk_at s330_4 10 rfl rfl)) rfl
theorem f330_106 : ft 330 106 = some (27, 0, 0, .goto (-24), 3) := Fm330 (dk_167 255 232 (dk_at s330_4 12 rfl rfl)) rfl
theorem f330_109 : ft 330 109 = some (27, 0, 0, .aload_n 0, 1) := Fm330 (dk_42 (dk_at s330_4 15 rfl rfl)) rfl
theorem f330_110 : ft 330 110 = some (27, 0, 0, .lload_n 1, 1) := Fm330 (dk_31 (dk_at s330_4 16 rfl rfl)) rfl
theorem f330_111 : ft 330 111 = some (27, 0, 0, .invokevirtual 74, 3) := Fm330 (dk_182 0 74 (dk_at s330_4 17 rfl rfl)) rfl
theorem f330_114 : ft 330 114 = some (27, 0, 0, .return_, 1) := Fm330 (dk_177 (dk_at s330_4 20 rfl rfl)) rfl
theorem q330 {d : Nat} {m : Mem} {a0 : Int} (hd : 0 < d) (hz : TZ m) : le2 (gd (tg m a0 = 27) <| if (vl m a0 0) = 1 then (nm (vl m a0 1) fun v8 => gd (tg m v8 = 8) <| bI (cl (d - 1) 139 [pR v8, pI (vl m a0 2)] m) fun v2 m2 => if v2 < 4 then (bV (cl (d - 1) 329 [pR a0] m2) fun m7 => some (.inl none, m7)) else nm (vl m2 a0 1) fun v9 => gd (tg m2 v9 = 8) <| bI (cl (d - 1) 139 [pR v9, pI (vl m2 a0 2)] m2) fun v3 m3 => if 4 < v3 then (nm (vl m3 a0 1) fun v10 => gd (tg m3 v10 = 8) <| bI (cl (d - 1) 145 [pR v10, pI (vl m3 a0 2)] m3) fun v5 m5 => bV (cl (d - 1) 328 [pR a0, pL v5] m5) fun m6 => some (.inl none, m6)) else nm (vl m3 a0 1) fun v11 => gd (tg m3 v11 = 8) <| bI (cl (d - 1) 137 [pR v11, pI (vl m3 a0 2)] m3) fun v4 m4 => rn d 330 82 [pR a0, pL 0, pU, pI v4, pI (w32 ((vl m4 a0 2) + 3))] [] m4) else bV (cl (d - 1) 329 [pR a0] m) fun m1 => some (.inl none, m1)) (cl d 330 [pR a0] m) := by
  refine q_in (n := 5) (L := [pR a0, pU, pU, pU, pU]) rfl rfl rfl ?_
  refine r_aln0 (p := 1) f330_0 rfl ?_
  refine le2_gd (fun h1 => ?_)
  refine r_gfI (f := 0) (p := 4) f330_1 rfl rfl rfl (Or.inl h1) rfl ?_
  refine r_iconst (p := 5) f330_4 rfl (pinD rfl rfl) ?_
  refine r_icne (t := 23) (p := 8) f330_5 (by decide) rfl rfl ?_ ?_
  · refine r_aln0 (p := 9) f330_8 rfl ?_
    refine r_gfR (f := 1) (p := 12) f330_9 rfl rfl rfl (Or.inl h1) rfl ?_
    refine r_nmR (fun v8 ev8 => ?_)
    refine r_aln0 (p := 13) f330_12 rfl ?_
    refine r_gfI (f := 2) (p := 16) f330_13 rfl rfl rfl (Or.inl h1) rfl ?_
    refine le2_gd (fun h2 => ?_)
    refine r_invI (p := 19) f330_16 rfl rfl rfl (Or.inl h2) hd (Nat.le_of_ble_eq_true rfl) rfl rfl rfl (fun _ => rfl) (fun v2 m2 c2 => ?_)
    have hz2 := z_k c2 hz
    refine r_iconst (p := 20) f330_19 rfl (pinD rfl rfl) ?_
    refine r_icge (t := 28) (p := 23) f330_20 (by decide) rfl rfl ?_ ?_
    · refine r_aln0 (p := 24) f330_23 rfl ?_
      have h11 := k_t1 c2 hz h1 (by decide)
      refine r_invV (p := 27) f330_24 rfl rfl rfl (Or.inl h11) hd (Nat.le_of_ble_eq_true rfl) rfl rfl rfl (fun _ => rfl) (fun m7 c7 => ?_)
      have hz7 := z_k c7 hz2
      exact r_ret f330_27
    · refine r_aln0 (p := 29) f330_28 rfl ?_
      have h3 := k_t1 c2 hz h1 (by decide)
      refine r_gfR (f := 1) (p := 32) f330_29 rfl rfl rfl (Or.inl h3) rfl ?_
      refine r_nmR (fun v9 ev9 => ?_)
      refine r_aln0 (p := 33) f330_32 rfl ?_
      refine r_gfI (f := 2) (p := 36) f330_33 rfl rfl rfl (Or.inl h3) rfl ?_
      refine le2_gd (fun h4 => ?_)
      refine r_invI (p := 39) f330_36 rfl rfl rfl (Or.inl h4) hd (Nat.le_of_ble_eq_true rfl) rfl rfl rfl (fun _ => rfl) (fun v3 m3 c3 => ?_)
      have hz3 := z_k c3 hz2
      refine r_iconst (p := 40) f330_39 rfl (pinD rfl rfl) ?_
      refine r_icle (t := 60) (p := 43) f330_40 (by decide) rfl rfl ?_ ?_
      · refine r_aln0 (p := 44) f330_43 rfl ?_
        refine r_aln0 (p := 45) f330_44 rfl ?_
        have h8 := k_t1 c3 hz2 h3 (by decide)
        refine r_gfR (f := 1) (p := 48) f330_45 rfl rfl rfl (Or.inl h8) rfl ?_
        refine r_nmR (fun v10 ev10 => ?_)
        refine r_aln0 (p := 49) f330_48 rfl ?_
        refine r_gfI (f := 2) (p := 52) f330_49 rfl rfl rfl (Or.inl h8) rfl ?_
        refine le2_gd (fun h9 => ?_)
        refine r_invI (p := 55) f330_52 rfl rfl rfl (Or.inl h9) hd (Nat.le_of_ble_eq_true rfl) rfl rfl rfl (fun _ => rfl) (fun v5 m5 c5 => ?_)
        have hz5 := z_k c5 hz3
        refine r_i2l (p := 56) f330_55 rfl ?_
        have h10 := k_t1 c5 hz3 h8 (by decide)
        refine r_invV (p := 59) f330_56 rfl rfl rfl (Or.inl h10) hd (Nat.le_of_ble_eq_true rfl) rfl rfl rfl (fun _ => rfl) (fun m6 c6 => ?_)
        have hz6 := z_k c6 hz5
        exact r_ret f330_59
      · refine r_lconst0 (p := 61) f330_60 rfl ?_
        refine r_lsn1 (p := 62) f330_61 rfl rfl ?_
        refine r_aln0 (p := 63) f330_62 rfl ?_
        have h5 := k_t1 c3 hz2 h3 (by decide)
        refine r_gfR (f := 1) (p := 66) f330_63 rfl rfl rfl (Or.inl h5) rfl ?_
        refine r_nmR (fun v11 ev11 => ?_)
        refine r_aln0 (p := 67) f330_66 rfl ?_
        refine r_gfI (f := 2) (p := 70) f330_67 rfl rfl rfl (Or.inl h5) rfl ?_
        refine le2_gd (fun h6 => ?_)
        refine r_invI (p := 73) f330_70 rfl rfl rfl (Or.inl h6) hd (Nat.le_of_ble_eq_true rfl) rfl rfl rfl (fun _ => rfl) (fun v4 m4 c4 => ?_)
        have hz4 := z_k c4 hz3
        refine r_isn3 (p := 74) f330_73 rfl rfl ?_
        refine r_aln0 (p := 75) f330_74 rfl ?_
        have h7 := k_t1 c4 hz3 h5 (by decide)
        refine r_gfI (f := 2) (p := 78) f330_75 rfl rfl rfl (Or.inl h7) rfl ?_
        refine r_iconst (p := 79) f330_78 rfl (pinD rfl rfl) ?_
        refine r_iadd (p := 80) f330_79 rfl ?_
        refine r_isw4 (p := 82) f330_80 rfl rfl ?_
        exact le2_refl _
  · refine r_aln0 (p := 24) f330_23 rfl ?_
    refine r_invV (p := 27) f330_24 rfl rfl rfl (Or.inl h1) hd (Nat.le_of_ble_eq_true rfl) rfl rfl rfl (fun _ => rfl) (fun m1 c1 => ?_)
    have hz1 := z_k c1 hz
    exact r_ret f330_27
theorem q330_82 {d : Nat} {m : Mem} {a0 a1 a3 a4 : Int} (hd : 0 < d) (hz : TZ m) : le2 (if a4 < a3 then (gd (tg m a0 = 27) <| bI (cl (d - 1) 331 [pR (vl m a0 1), pI a4] m) fun v2 m2 => rn d 330 82 [pR a0, pL (w64 (a1 + 1)), pU, pI a3, pI (w32 (a4 + v2))] [] m2) else gd (tg m a0 = 27) <| bV (cl (d - 1) 328 [pR a0, pL a1] m) fun m1 => some (.inl none, m1)) (rn d 330 82 [pR a0, pL a1, pU, pI a3, pI a4] [] m) := by
  refine r_ilw4 (p := 84) f330_82 rfl ?_
  refine r_iln3 (p := 85) f330_84 rfl ?_
  refine r_icge (t := 109) (p := 88) f330_85 (by decide) rfl rfl ?_ ?_
  · refine r_lln1 (p := 89) f330_88 rfl ?_
    refine r_lconst1 (p := 90) f330_89 rfl ?_
    refine r_ladd (p := 91) f330_90 rfl ?_
    refine r_lsn1 (p := 92) f330_91 rfl rfl ?_
    refine r_ilw4 (p := 94) f330_92 rfl ?_
    refine r_aln0 (p := 95) f330_94 rfl ?_
    refine le2_gd (fun h2 => ?_)
    refine r_gfR (f := 1) (p := 98) f330_95 rfl rfl rfl (Or.inl h2) rfl ?_
    refine r_ilw4 (p := 100) f330_98 rfl ?_
    refine r_istI (p := 103) f330_100 rfl rfl rfl hd (Nat.le_of_ble_eq_true rfl) rfl rfl rfl (fun _ => rfl) (fun v2 m2 c2 => ?_)
    have hz2 := z_k c2 hz
    refine r_iadd (p := 104) f330_103 rfl ?_
    refine r_isw4 (p := 106) f330_104 rfl rfl ?_
    refine r_goto (p := 82) f330_106 (by decide) rfl ?_
    exact le2_refl _
  · refine r_aln0 (p := 110) f330_109 rfl ?_
    refine r_lln1 (p := 111) f330_110 rfl ?_
    refine le2_gd (fun h1 => ?_)
    refine r_invV (p := 114) f330_111 rfl rfl rfl (Or.inl h1) hd (Nat.le_of_ble_eq_true rfl) rfl rfl rfl (fun _ => rfl) (fun m1 c1 => ?_)
    have hz1 := z_k c1 hz
    exact r_ret f330_114
/-! 331 PathStore$Result.length (LPathStore$Row;I)I -/
def w331_1 : List UInt8 := [167, 0, 5, 16, 6, 172]
abbrev u331_1 : List UInt8 := w331_1 ++ []
def w331_0 : List UInt8 := [42, 27, 182, 0, 58, 61, 28, 18, 61, 161, 0, 9, 28, 18, 62, 164, 0, 11, 42, 27, 182, 0, 65]
abbrev u331_0 : List UInt8 := w331_0 ++ u331_1
theorem s331_0 : (prog_20_method_10_code).data.toList.drop 0 = u331_0 := by decide +kernel
theorem s331_1 : (prog_20_method_10_code).data.toList.drop 23 = u331_1 := dk_seg s331_0 23 rfl rfl
theorem Fm331 {pc len : Nat} {i : Instr} (h : decode (prog_20_method_10_code) pc = .ok (i, len)) (hl : len = ilen i len) : ft 331 pc = some (27, 1, 0, i, len) := ft_mk rfl h hl
theorem f331_0 : ft 331 0 = some (27, 1, 0, .aload_n 0, 1) := Fm331 (dk_42 (dk_at s331_0 0 rfl rfl)) rfl
theorem f331_1 : ft 331 1 = some (27, 1, 0, .iload_n 1, 1) := Fm331 (dk_27 (dk_at s331_0 1 rfl rfl)) rfl
theorem f331_2 : ft 331 2 = some (27, 1, 0, .invokevirtual 58, 3) := Fm331 (dk_182 0 58 (dk_at s331_0 2 rfl rfl)) rfl
theorem f331_5 : ft 331 5 = some (27, 1, 0, .istore_n 2, 1) := Fm331 (dk_61 (dk_at s331_0 5 rfl rfl)) rfl
theorem f331_6 : ft 331 6 = some (27, 1, 0, .iload_n 2, 1) := Fm331 (dk_28 (dk_at s331_0 6 rfl rfl)) rfl
theorem f331_7 : ft 331 7 = some (27, 1, 0, .ldc 61, 2) := Fm331 (dk_18 61 (dk_at s331_0 7 rfl rfl)) rfl
theorem f331_9 : ft 331 9 = some (27, 1, 0, .if_icmp .lt 9, 3) := Fm331 (dk_161 0 9 (dk_at s331_0 9 rfl rfl)) rfl
theorem f331_12 : ft 331 12 = some (27, 1, 0, .iload_n 2, 1) := Fm331 (dk_28 (dk_at s331_0 12 rfl rfl)) rfl
theorem f331_13 : ft 331 13 = some (27, 1, 0, .ldc 62, 2) := Fm331 (dk_18 62 (dk_at s331_0 13 rfl rfl)) rfl
theorem f331_15 : ft 331 15 = some (27, 1, 0, .if_icmp .le 11, 3) := Fm331 (dk_164 0 11 (dk_at s331_0 15 rfl rfl)) rfl
theorem f331_18 : ft 331 18 = some (27, 1, 0, .aload_n 0, 1) := Fm331 (dk_42 (dk_at s331_0 18 rfl rfl)) rfl
theorem f331_19 : ft 331 19 = some (27, 1, 0, .iload_n 1, 1) := Fm331 (dk_27 (dk_at s331_0 19 rfl rfl)) rfl
theorem f331_20 : ft 331 20 = some (27, 1, 0, .invokevirtual 65, 3) := Fm331 (dk_182 0 65 (dk_at s331_0 20 rfl rfl)) rfl
theorem f331_23 : ft 331 23 = some (27, 1, 0, .goto 5, 3) := Fm331 (dk_167 0 5 (dk_at s331_1 0 rfl rfl)) rfl
theorem f331_26 : ft 331 26 = some (27, 1, 0, .bipush 6, 2) := Fm331 (dk_16 6 (dk_at s331_1 3 rfl rfl)) rfl
theorem f331_28 : ft 331 28 = some (27, 1, 0, .ireturn, 1) := Fm331 (dk_172 (dk_at s331_1 5 rfl rfl)) rfl
theorem q331 {d : Nat} {m : Mem} {a0 a1 : Int} (hd : 0 < d) (hz : TZ m) : le2 (gd (tg m a0 = 8) <| bI (cl (d - 1) 141 [pR a0, pI a1] m) fun v1 m1 => if v1 < 55296 then (bI (cl (d - 1) 142 [pR a0, pI a1] m1) fun v2 m2 => some (.inl (some (pI v2)), m2)) else if 56319 < v1 then (bI (cl (d - 1) 142 [pR a0, pI a1] m1) fun v3 m3 => some (.inl (some (pI v3)), m3)) else some (.inl (some (pI 6)), m1)) (cl d 331 [pR a0, pI a1] m) := by
  refine q_in (n := 3) (L := [pR a0, pI a1, pU]) rfl rfl rfl ?_
  refine r_aln0 (p := 1) f331_0 rfl ?_
  refine r_iln1 (p := 2) f331_1 rfl ?_
  refine le2_gd (fun h1 => ?_)
  refine r_invI (p := 5) f331_2 rfl rfl rfl (Or.inl h1) hd (Nat.le_of_ble_eq_true rfl) rfl rfl rfl (fun _ => rfl) (fun v1 m1 c1 => ?_)
  have hz1 := z_k c1 hz
  refine r_isn2 (p := 6) f331_5 rfl rfl ?_
  refine r_iln2 (p := 7) f331_6 rfl ?_
  refine r_ldcI (p := 9) f331_7 rfl rfl (pinD rfl rfl) ?_
  refine r_iclt (t := 18) (p := 12) f331_9 (by decide) rfl rfl ?_ ?_
  · refine r_aln0 (p := 19) f331_18 rfl ?_
    refine r_iln1 (p := 20) f331_19 rfl ?_
    have h2 := k_t1 c1 hz h1 (by decide)
    refine r_invI (p := 23) f331_20 rfl rfl rfl (Or.inl h2) hd (Nat.le_of_ble_eq_true rfl) rfl rfl rfl (fun _ => rfl) (fun v2 m2 c2 => ?_)
    have hz2 := z_k c2 hz1
    refine r_goto (p := 28) f331_23 (by decide) rfl ?_
    exact r_iret1 f331_28
  · refine r_iln2 (p := 13) f331_12 rfl ?_
    refine r_ldcI (p := 15) f331_13 rfl rfl (pinD rfl rfl) ?_
    refine r_icle (t := 26) (p := 18) f331_15 (by decide) rfl rfl ?_ ?_
    · refine r_aln0 (p := 19) f331_18 rfl ?_
      refine r_iln1 (p := 20) f331_19 rfl ?_
      have h3 := k_t1 c1 hz h1 (by decide)
      refine r_invI (p := 23) f331_20 rfl rfl rfl (Or.inl h3) hd (Nat.le_of_ble_eq_true rfl) rfl rfl rfl (fun _ => rfl) (fun v3 m3 c3 => ?_)
      have hz3 := z_k c3 hz1
      refine r_goto (p := 28) f331_23 (by decide) rfl ?_
      exact r_iret1 f331_28
    · refine r_bipush (p := 28) f331_26 rfl (pinD rfl rfl) ?_
      exact r_iret1 f331_28
/-! 332 PathStore$Result.same (LPathStore$Result;)Z -/
def w332_4 : List UInt8 := [180, 0, 19, 182, 0, 44, 172]
abbrev u332_4 : List UInt8 := w332_4 ++ []
def w332_3 : List UInt8 := [154, 0, 7, 4, 167, 0, 4, 3, 172, 42, 180, 0, 15, 42, 180, 0, 19, 43, 180, 0, 15, 43]
abbrev u332_3 : List UInt8 := w332_3 ++ u332_4
def w332_2 : List UInt8 := [182, 0, 36, 153, 0, 26, 43, 182, 0, 36, 153, 0, 19, 42, 182, 0, 40, 43, 182, 0, 40, 148]
abbrev u332_2 : List UInt8 := w332_2 ++ u332_3
def w332_1 : List UInt8 := [160, 0, 7, 4, 167, 0, 4, 3, 172, 42, 182, 0, 36, 154, 0, 10, 43, 182, 0, 36, 153, 0, 35, 42]
abbrev u332_1 : List UInt8 := w332_1 ++ u332_2
def w332_0 : List UInt8 := [42, 180, 0, 11, 153, 0, 10, 43, 180, 0, 11, 154, 0, 20, 42, 180, 0, 11, 43, 180, 0, 11]
abbrev u332_0 : List UInt8 := w332_0 ++ u332_1
theorem s332_0 : (prog_20_method_7_code).data.toList.drop 0 = u332_0 := by decide +kernel
theorem s332_1 : (prog_20_method_7_code).data.toList.drop 22 = u332_1 := dk_seg s332_0 22 rfl rfl
theorem s332_2 : (prog_20_method_7_code).data.toList.drop 46 = u332_2 := dk_seg s332_1 24 rfl rfl
theorem s332_3 : (prog_20_method_7_code).data.toList.drop 68 = u332_3 := dk_seg s332_2 22 rfl rfl
theorem s332_4 : (prog_20_method_7_code).data.toList.drop 90 = u332_4 := dk_seg s332_3 22 rfl rfl
theorem Fm332 {pc len : Nat} {i : Instr} (h : decode (prog_20_method_7_code) pc = .ok (i, len)) (hl : len = ilen i len) : ft 332 pc = some (27, 4, 0, i, len) := ft_mk rfl h hl
theorem f332_0 : ft 332 0 = some (27, 4, 0, .aload_n 0, 1) := Fm332 (dk_42 (dk_at s332_0 0 rfl rfl)) rfl
theorem f332_1 : ft 332 1 = some (27, 4, 0, .getfield 11, 3) := Fm332 (dk_180 0 11 (dk_at s332_0 1 rfl rfl)) rfl
theorem f332_4 : ft 332 4 = some (27, 4, 0, .ifCond .eq 10, 3) := Fm332 (dk_153 0 10 (dk_at s332_0 4 rfl rfl)) rfl
theorem f332_7 : ft 332 7 = some (27, 4, 0, .aload_n 1, 1) := Fm332 (dk_43 (dk_at s332_0 7 rfl rfl)) rfl
theorem f332_8 : ft 332 8 = some (27, 4, 0, .getfield 11, 3) := Fm332 (dk_180 0 11 (dk_at s332_0 8 rfl rfl)) rfl
theorem f332_11 : ft 332 11 = some (27, 4, 0, .ifCond .ne 20, 3) := Fm332 (dk_154 0 20 (dk_at s332_0 11 rfl rfl)) rfl
theorem f332_14 : ft 332 14 = some (27, 4, 0, .aload_n 0, 1) := Fm332 (dk_42 (dk_at s332_0 14 rfl rfl)) rfl
theorem f332_15 : ft 332 15 = some (27, 4, 0, .getfield 11, 3) := Fm332 (dk_180 0 11 (dk_at s332_0 15 rfl rfl)) rfl
theorem f332_18 : ft 332 18 = some (27, 4, 0, .aload_n 1, 1) := Fm332 (dk_43 (dk_at s332_0 18 rfl rfl)) rfl
theorem f332_19 : ft 332 19 = some (27, 4, 0, .getfield 11, 3) := Fm332 (dk_180 0 11 (dk_at s332_0 19 rfl rfl)) rfl
theorem f332_22 : ft 332 22 = some (27, 4, 0, .if_icmp .ne 7, 3) := Fm332 (dk_160 0 7 (dk_at s332_1 0 rfl rfl)) rfl
theorem f332_25 : ft 332 25 = some (27, 4, 0, .iconst 1, 1) := Fm332 (dk_4 (dk_at s332_1 3 rfl rfl)) rfl
theorem f332_26 : ft 332 26 = some (27, 4, 0, .goto 4, 3) := Fm332 (dk_167 0 4 (dk_at s332_1 4 rfl rfl)) rfl
theorem f332_29 : ft 332 29 = some (27, 4, 0, .iconst 0, 1) := Fm332 (dk_3 (dk_at s332_1 7 rfl rfl)) rfl
theorem f332_30 : ft 332 30 = some (27, 4, 0, .ireturn, 1) := Fm332 (dk_172 (dk_at s332_1 8 rfl rfl)) rfl
theorem f332_31 : ft 332 31 = some (27, 4, 0, .aload_n 0, 1) := Fm332 (dk_42 (dk_at s332_1 9 rfl rfl)) rfl
theorem f332_32 : ft 332 32 = some (27, 4, 0, .invokevirtual 36, 3) := Fm332 (dk_182 0 36 (dk_at s332_1 10 rfl rfl)) rfl
theorem f332_35 : ft 332 35 = some (27, 4, 0, .ifCond .ne 10, 3) := Fm332 (dk_154 0 10 (dk_at s332_1 13 rfl rfl)) rfl
theorem f332_38 : ft 332 38 = some (27, 4, 0, .aload_n 1, 1) := Fm332 (dk_43 (dk_at s332_1 16 rfl rfl)) rfl
theorem f332_39 : ft 332 39 = some (27, 4, 0, .invokevirtual 36, 3) := Fm332 (dk_182 0 36 (dk_at s332_1 17 rfl rfl)) rfl
theorem f332_42 : ft 332 42 = some (27, 4, 0, .ifCond .eq 35, 3) := Fm332 (dk_153 0 35 (dk_at s332_1 20 rfl rfl)) rfl
theorem f332_45 : ft 332 45 = some (27, 4, 0, .aload_n 0, 1) := Fm332 (dk_42 (dk_at s332_1 23 rfl rfl)) rfl
theorem f332_46 : ft 332 46 = some (27, 4, 0, .invokevirtual 36, 3) := Fm332 (dk_182 0 36 (dk_at s332_2 0 rfl rfl)) rfl
theorem f332_49 : ft 332 49 = some (27, 4, 0, .ifCond .eq 26, 3) := Fm332 (dk_153 0 26 (dk_at s332_2 3 rfl rfl)) rfl
theorem f332_52 : ft 332 52 = some (27, 4, 0, .aload_n 1, 1) := Fm332 (dk_43 (dk_at s332_2 6 rfl rfl)) rfl
theorem f332_53 : ft 332 53 = some (27, 4, 0, .invokevirtual 36, 3) := Fm332 (dk_182 0 36 (dk_at s332_2 7 rfl rfl)) rfl
theorem f332_56 : ft 332 56 = some (27, 4, 0, .ifCond .eq 19, 3) := Fm332 (dk_153 0 19 (dk_at s332_2 10 rfl rfl)) rfl
theorem f332_59 : ft 332 59 = some (27, 4, 0, .aload_n 0, 1) := Fm332 (dk_42 (dk_at s332_2 13 rfl rfl)) rfl
theorem f332_60 : ft 332 60 = some (27, 4, 0, .invokevirtual 40, 3) := Fm332 (dk_182 0 40 (dk_at s332_2 14 rfl rfl)) rfl
theorem f332_63 : ft 332 63 = some (27, 4, 0, .aload_n 1, 1) := Fm332 (dk_43 (dk_at s332_2 17 rfl rfl)) rfl
theorem f332_64 : ft 332 64 = some (27, 4, 0, .invokevirtual 40, 3) := Fm332 (dk_182 0 40 (dk_at s332_2 18 rfl rfl)) rfl
theorem f332_67 : ft 332 67 = some (27, 4, 0, .lcmp, 1) := Fm332 (dk_148 (dk_at s332_2 21 rfl rfl)) rfl
theorem f332_68 : ft 332 68 = some (27, 4, 0, .ifCond .ne 7, 3) := Fm332 (dk_154 0 7 (dk_at s332_3 0 rfl rfl)) rfl
theorem f332_71 : ft 332 71 = some (27, 4, 0, .iconst 1, 1) := Fm332 (dk_4 (dk_at s332_3 3 rfl rfl)) rfl
theorem f332_72 : ft 332 72 = some (27, 4, 0, .goto 4, 3) := Fm332 (dk_167 0 4 (dk_at s332_3 4 rfl rfl)) rfl
theorem f332_75 : ft 332 75 = some (27, 4, 0, .iconst 0, 1) := Fm332 (dk_3 (dk_at s332_3 7 rfl rfl)) rfl
theorem f332_76 : ft 332 76 = some (27, 4, 0, .ireturn, 1) := Fm332 (dk_172 (dk_at s332_3 8 rfl rfl)) rfl
theorem f332_77 : ft 332 77 = some (27, 4, 0, .aload_n 0, 1) := Fm332 (dk_42 (dk_at s332_3 9 rfl rfl)) rfl
theorem f332_78 : ft 332 78 = some (27, 4, 0, .getfield 15, 3) := Fm332 (dk_180 0 15 (dk_at s332_3 10 rfl rfl)) rfl
theorem f332_81 : ft 332 81 = some (27, 4, 0, .aload_n 0, 1) := Fm332 (dk_42 (dk_at s332_3 13 rfl rfl)) rfl
theorem f332_82 : ft 332 82 = some (27, 4, 0, .getfield 19, 3) := Fm332 (dk_180 0 19 (dk_at s332_3 14 rfl rfl)) rfl
theorem f332_85 : ft 332 85 = some (27, 4, 0, .aload_n 1, 1) := Fm332 (dk_43 (dk_at s332_3 17 rfl rfl)) rfl
theorem f332_86 : ft 332 86 = some (27, 4, 0, .getfield 15, 3) := Fm332 (dk_180 0 15 (dk_at s332_3 18 rfl rfl)) rfl
theorem f332_89 : ft 332 89 = some (27, 4, 0, .aload_n 1, 1) := Fm332 (dk_43 (dk_at s332_3 21 rfl rfl)) rfl
theorem f332_90 : ft 332 90 = some (27, 4, 0, .getfield 19, 3) := Fm332 (dk_180 0 19 (dk_at s332_4 0 rfl rfl)) rfl
theorem f332_93 : ft 332 93 = some (27, 4, 0, .invokevirtual 44, 3) := Fm332 (dk_182 0 44 (dk_at s332_4 3 rfl rfl)) rfl
theorem f332_96 : ft 332 96 = some (27, 4, 0, .ireturn, 1) := Fm332 (dk_172 (dk_at s332_4 6 rfl rfl)) rfl
theorem q332 {d : Nat} {m : Mem} {a0 a1 : Int} (hd : 0 < d) (hz : TZ m) : le2 (gd (tg m a0 = 27) <| nm (vl m a0 0) fun v4 => if v4 = 0 then (gd (tg m a1 = 27) <| if v4 = (vl m a1 0) then (some (.inl (some (pI 1)), m)) else some (.inl (some (pI 0)), m)) else gd (tg m a1 = 27) <| nm (vl m a1 0) fun v5 => if v5 = 0 then (if v4 = v5 then (some (.inl (some (pI 1)), m)) else some (.inl (some (pI 0)), m)) else bI (cl (d - 1) 333 [pR a0] m) fun v1 m1 => if v1 = 0 then (bI (cl (d - 1) 333 [pR a1] m1) fun v2 m2 => if v2 = 0 then (nm (vl m2 a0 1) fun v6 => gd (tg m2 v6 = 8) <| bI (cl (d - 1) 147 [pR v6, pI (vl m2 a0 2), pR (vl m2 a1 1), pI (vl m2 a1 2)] m2) fun v3 m3 => gd (v3 = 0 ∨ v3 = 1) <| some (.inl (some (pI v3)), m3)) else rn d 332 45 [pR a0, pR a1] [] m2) else rn d 332 45 [pR a0, pR a1] [] m1) (cl d 332 [pR a0, pR a1] m) := by
  refine q_in (n := 2) (L := [pR a0, pR a1]) rfl rfl rfl ?_
  refine r_aln0 (p := 1) f332_0 rfl ?_
  refine le2_gd (fun h1 => ?_)
  refine r_gfI (f := 0) (p := 4) f332_1 rfl rfl rfl (Or.inl h1) rfl ?_
  refine r_nmI (fun v4 ev4 => ?_)
  refine r_ifeq (t := 14) (p := 7) f332_4 (by decide) rfl rfl ?_ ?_
  · refine r_aln0 (p := 15) f332_14 rfl ?_
    refine r_gfI (f := 0) (p := 18) f332_15 rfl rfl rfl (Or.inl h1) ev4.symm ?_
    refine r_aln1 (p := 19) f332_18 rfl ?_
    refine le2_gd (fun h2 => ?_)
    refine r_gfI (f := 0) (p := 22) f332_19 rfl rfl rfl (Or.inl h2) rfl ?_
    refine r_icne (t := 29) (p := 25) f332_22 (by decide) rfl rfl ?_ ?_
    · refine r_iconst (p := 26) f332_25 rfl (pinD rfl rfl) ?_
      refine r_goto (p := 30) f332_26 (by decide) rfl ?_
      exact r_iret4 f332_30 (by decide)
    · refine r_iconst (p := 30) f332_29 rfl (pinD rfl rfl) ?_
      exact r_iret4 f332_30 (by decide)
  · refine r_aln1 (p := 8) f332_7 rfl ?_
    refine le2_gd (fun h3 => ?_)
    refine r_gfI (f := 0) (p := 11) f332_8 rfl rfl rfl (Or.inl h3) rfl ?_
    refine r_nmI (fun v5 ev5 => ?_)
    refine r_ifne (t := 31) (p := 14) f332_11 (by decide) rfl rfl ?_ ?_
    · refine r_aln0 (p := 15) f332_14 rfl ?_
      refine r_gfI (f := 0) (p := 18) f332_15 rfl rfl rfl (Or.inl h1) ev4.symm ?_
      refine r_aln1 (p := 19) f332_18 rfl ?_
      refine r_gfI (f := 0) (p := 22) f332_19 rfl rfl rfl (Or.inl h3) ev5.symm ?_
      refine r_icne (t := 29) (p := 25) f332_22 (by decide) rfl rfl ?_ ?_
      · refine r_iconst (p := 26) f332_25 rfl (pinD rfl rfl) ?_
        refine r_goto (p := 30) f332_26 (by decide) rfl ?_
        exact r_iret4 f332_30 (by decide)
      · refine r_iconst (p := 30) f332_29 rfl (pinD rfl rfl) ?_
        exact r_iret4 f332_30 (by decide)
    · refine r_aln0 (p := 32) f332_31 rfl ?_
      refine r_invI (p := 35) f332_32 rfl rfl rfl (Or.inl h1) hd (Nat.le_of_ble_eq_true rfl) rfl rfl rfl (fun _ => rfl) (fun v1 m1 c1 => ?_)
      have hz1 := z_k c1 hz
      refine r_ifne (t := 45) (p := 38) f332_35 (by decide) rfl rfl ?_ ?_
      · refine r_aln1 (p := 39) f332_38 rfl ?_
        have h4 := k_t1 c1 hz h3 (by decide)
        refine r_invI (p := 42) f332_39 rfl rfl rfl (Or.inl h4) hd (Nat.le_of_ble_eq_true rfl) rfl rfl rfl (fun _ => rfl) (fun v2 m2 c2 => ?_)
        have hz2 := z_k c2 hz1
        refine r_ifeq (t := 77) (p := 45) f332_42 (by decide) rfl rfl ?_ ?_
        · refine r_aln0 (p := 78) f332_77 rfl ?_
          have h5 := k_t1 c1 hz h1 (by decide)
          have h6 := k_t1 c2 hz1 h5 (by decide)
          refine r_gfR (f := 1) (p := 81) f332_78 rfl rfl rfl (Or.inl h6) rfl ?_
          refine r_nmR (fun v6 ev6 => ?_)
          refine r_aln0 (p := 82) f332_81 rfl ?_
          refine r_gfI (f := 2) (p := 85) f332_82 rfl rfl rfl (Or.inl h6) rfl ?_
          refine r_aln1 (p := 86) f332_85 rfl ?_
          have h7 := k_t1 c2 hz1 h4 (by decide)
          refine r_gfR (f := 1) (p := 89) f332_86 rfl rfl rfl (Or.inl h7) rfl ?_
          refine r_aln1 (p := 90) f332_89 rfl ?_
          refine r_gfI (f := 2) (p := 93) f332_90 rfl rfl rfl (Or.inl h7) rfl ?_
          refine le2_gd (fun h8 => ?_)
          refine r_invI (p := 96) f332_93 rfl rfl rfl (Or.inl h8) hd (Nat.le_of_ble_eq_true rfl) rfl rfl rfl (fun _ => rfl) (fun v3 m3 c3 => ?_)
          have hz3 := z_k c3 hz2
          refine le2_gd (fun h9 => ?_)
          exact r_iret4 f332_96 h9
        · exact le2_refl _
      · exact le2_refl _
theorem q332_45 {d : Nat} {m : Mem} {a0 a1 : Int} (hd : 0 < d) (hz : TZ m) : le2 (gd (tg m a0 = 27) <| bI (cl (d - 1) 333 [pR a0] m) fun v1 m1 => if v1 = 0 then (some (.inl (some (pI 0)), m1)) else gd (tg m1 a1 = 27) <| bI (cl (d - 1) 333 [pR a1] m1) fun v2 m2 => if v2 = 0 then (some (.inl (some (pI 0)), m2)) else bL (cl (d - 1) 334 [pR a0] m2) fun v3 m3 => bL (cl (d - 1) 334 [pR a1] m3) fun v4 m4 => if v3 = v4 then (some (.inl (some (pI 1)), m4)) else some (.inl (some (pI 0)), m4)) (rn d 332 45 [pR a0, pR a1] [] m) := by
  refine r_aln0 (p := 46) f332_45 rfl ?_
  refine le2_gd (fun h1 => ?_)
  refine r_invI (p := 49) f332_46 rfl rfl rfl (Or.inl h1) hd (Nat.le_of_ble_eq_true rfl) rfl rfl rfl (fun _ => rfl) (fun v1 m1 c1 => ?_)
  have hz1 := z_k c1 hz
  refine r_ifeq (t := 75) (p := 52) f332_49 (by decide) rfl rfl ?_ ?_
  · refine r_iconst (p := 76) f332_75 rfl (pinD rfl rfl) ?_
    exact r_iret4 f332_76 (by decide)
  · refine r_aln1 (p := 53) f332_52 rfl ?_
    refine le2_gd (fun h2 => ?_)
    refine r_invI (p := 56) f332_53 rfl rfl rfl (Or.inl h2) hd (Nat.le_of_ble_eq_true rfl) rfl rfl rfl (fun _ => rfl) (fun v2 m2 c2 => ?_)
    have hz2 := z_k c2 hz1
    refine r_ifeq (t := 75) (p := 59) f332_56 (by decide) rfl rfl ?_ ?_
    · refine r_iconst (p := 76) f332_75 rfl (pinD rfl rfl) ?_
      exact r_iret4 f332_76 (by decide)
    · refine r_aln0 (p := 60) f332_59 rfl ?_
      have h3 := k_t1 c1 hz h1 (by decide)
      have h4 := k_t1 c2 hz1 h3 (by decide)
      refine r_invL (p := 63) f332_60 rfl rfl rfl (Or.inl h4) hd (Nat.le_of_ble_eq_true rfl) rfl rfl rfl (fun _ => rfl) (fun v3 m3 c3 => ?_)
      have hz3 := z_k c3 hz2
      refine r_aln1 (p := 64) f332_63 rfl ?_
      have h5 := k_t1 c2 hz1 h2 (by decide)
      have h6 := k_t1 c3 hz2 h5 (by decide)
      refine r_invL (p := 67) f332_64 rfl rfl rfl (Or.inl h6) hd (Nat.le_of_ble_eq_true rfl) rfl rfl rfl (fun _ => rfl) (fun v4 m4 c4 => ?_)
      have hz4 := z_k c4 hz3
      refine r_lcne (p1 := 68) (t := 75) (p := 71) f332_67 rfl f332_68 (by decide) rfl rfl ?_ ?_
      · refine r_iconst (p := 72) f332_71 rfl (pinD rfl rfl) ?_
        refine r_goto (p := 76) f332_72 (by decide) rfl ?_
        exact r_iret4 f332_76 (by decide)
      · refine r_iconst (p := 76) f332_75 rfl (pinD rfl rfl) ?_
        exact r_iret4 f332_76 (by decide)
/-! 333 PathStore$Result.isNumber ()Z -/
def w333_1 : List UInt8 := [182, 0, 26, 6, 160, 0, 7, 4, 167, 0, 4, 3, 172]
abbrev u333_1 : List UInt8 := w333_1 ++ []
def w333_0 : List UInt8 := [42, 180, 0, 11, 5, 159, 0, 26, 42, 180, 0, 11, 4, 160, 0, 22, 42, 180, 0, 15, 42, 180, 0, 19]
abbrev u333_0 : List UInt8 := w333_0 ++ u333_1
theorem s333_0 : (prog_20_method_5_code).data.toList.drop 0 = u333_0 := by decide +kernel
theorem s333_1 : (prog_20_method_5_code).data.toList.drop 24 = u333_1 := dk_seg s333_0 24 rfl rfl
theorem Fm333 {pc len : Nat} {i : Instr} (h : decode (prog_20_method_5_code) pc = .ok (i, len)) (hl : len = ilen i len) : ft 333 pc = some (27, 4, 0, i, len) := ft_mk rfl h hl
theorem f333_0 : ft 333 0 = some (27, 4, 0, .aload_n 0, 1) := Fm333 (dk_42 (dk_at s333_0 0 rfl rfl)) rfl
theorem f333_1 : ft 333 1 = some (27, 4, 0, .getfield 11, 3) := Fm333 (dk_180 0 11 (dk_at s333_0 1 rfl rfl)) rfl
theorem f333_4 : ft 333 4 = some (27, 4, 0, .iconst 2, 1) := Fm333 (dk_5 (dk_at s333_0 4 rfl rfl)) rfl
theorem f333_5 : ft 333 5 = some (27, 4, 0, .if_icmp .eq 26, 3) := Fm333 (dk_159 0 26 (dk_at s333_0 5 rfl rfl)) rfl
theorem f333_8 : ft 333 8 = some (27, 4, 0, .aload_n 0, 1) := Fm333 (dk_42 (dk_at s333_0 8 rfl rfl)) rfl
theorem f333_9 : ft 333 9 = some (27, 4, 0, .getfield 11, 3) := Fm333 (dk_180 0 11 (dk_at s333_0 9 rfl rfl)) rfl
theorem f333_12 : ft 333 12 = some (27, 4, 0, .iconst 1, 1) := Fm333 (dk_4 (dk_at s333_0 12 rfl rfl)) rfl
theorem f333_13 : ft 333 13 = some (27, 4, 0, .if_icmp .ne 22, 3) := Fm333 (dk_160 0 22 (dk_at s333_0 13 rfl rfl)) rfl
theorem f333_16 : ft 333 16 = some (27, 4, 0, .aload_n 0, 1) := Fm333 (dk_42 (dk_at s333_0 16 rfl rfl)) rfl
theorem f333_17 : ft 333 17 = some (27, 4, 0, .getfield 15, 3) := Fm333 (dk_180 0 15 (dk_at s333_0 17 rfl rfl)) rfl
theorem f333_20 : ft 333 20 = some (27, 4, 0, .aload_n 0, 1) := Fm333 (dk_42 (dk_at s333_0 20 rfl rfl)) rfl
theorem f333_21 : ft 333 21 = some (27, 4, 0, .getfield 19, 3) := Fm333 (dk_180 0 19 (dk_at s333_0 21 rfl rfl)) rfl
theorem f333_24 : ft 333 24 = some (27, 4, 0, .invokevirtual 26, 3) := Fm333 (dk_182 0 26 (dk_at s333_1 0 rfl rfl)) rfl
theorem f333_27 : ft 333 27 = some (27, 4, 0, .iconst 3, 1) := Fm333 (dk_6 (dk_at s333_1 3 rfl rfl)) rfl
theorem f333_28 : ft 333 28 = some (27, 4, 0, .if_icmp .ne 7, 3) := Fm333 (dk_160 0 7 (dk_at s333_1 4 rfl rfl)) rfl
theorem f333_31 : ft 333 31 = some (27, 4, 0, .iconst 1, 1) := Fm333 (dk_4 (dk_at s333_1 7 rfl rfl)) rfl
theorem f333_32 : ft 333 32 = some (27, 4, 0, .goto 4, 3) := Fm333 (dk_167 0 4 (dk_at s333_1 8 rfl rfl)) rfl
theorem f333_35 : ft 333 35 = some (27, 4, 0, .iconst 0, 1) := Fm333 (dk_3 (dk_at s333_1 11 rfl rfl)) rfl
theorem f333_36 : ft 333 36 = some (27, 4, 0, .ireturn, 1) := Fm333 (dk_172 (dk_at s333_1 12 rfl rfl)) rfl
theorem q333 {d : Nat} {m : Mem} {a0 : Int} (hd : 0 < d) (hz : TZ m) : le2 (gd (tg m a0 = 27) <| nm (vl m a0 0) fun v2 => if v2 = 2 then (some (.inl (some (pI 1)), m)) else if v2 = 1 then (nm (vl m a0 1) fun v3 => gd (tg m v3 = 8) <| bI (cl (d - 1) 139 [pR v3, pI (vl m a0 2)] m) fun v1 m1 => if v1 = 3 then (some (.inl (some (pI 1)), m1)) else some (.inl (some (pI 0)), m1)) else some (.inl (some (pI 0)), m)) (cl d 333 [pR a0] m) := by
  refine q_in (n := 1) (L := [pR a0]) rfl rfl rfl ?_
  refine r_aln0 (p := 1) f333_0 rfl ?_
  refine le2_gd (fun h1 => ?_)
  refine r_gfI (f := 0) (p := 4) f333_1 rfl rfl rfl (Or.inl h1) rfl ?_
  refine r_nmI (fun v2 ev2 => ?_)
  refine r_iconst (p := 5) f333_4 rfl (pinD rfl rfl) ?_
  refine r_iceq (t := 31) (p := 8) f333_5 (by decide) rfl rfl ?_ ?_
  · refine r_iconst (p := 32) f333_31 rfl (pinD rfl rfl) ?_
    refine r_goto (p := 36) f333_32 (by decide) rfl ?_
    exact r_iret4 f333_36 (by decide)
  · refine r_aln0 (p := 9) f333_8 rfl ?_
    refine r_gfI (f := 0) (p := 12) f333_9 rfl rfl rfl (Or.inl h1) ev2.symm ?_
    refine r_iconst (p := 13) f333_12 rfl (pinD rfl rfl) ?_
    refine r_icne (t := 35) (p := 16) f333_13 (by decide) rfl rfl ?_ ?_
    · refine r_aln0 (p := 17) f333_16 rfl ?_
      refine r_gfR (f := 1) (p := 20) f333_17 rfl rfl rfl (Or.inl h1) rfl ?_
      refine r_nmR (fun v3 ev3 => ?_)
      refine r_aln0 (p := 21) f333_20 rfl ?_
      refine r_gfI (f := 2) (p := 24) f333_21 rfl rfl rfl (Or.inl h1) rfl ?_
      refine le2_gd (fun h2 => ?_)
      refine r_invI (p := 27) f333_24 rfl rfl rfl (Or.inl h2) hd (Nat.le_of_ble_eq_true rfl) rfl rfl rfl (fun _ => rfl) (fun v1 m1 c1 => ?_)
      have hz1 := z_k c1 hz
      refine r_iconst (p := 28) f333_27 rfl (pinD rfl rfl) ?_
      refine r_icne (t := 35) (p := 31) f333_28 (by decide) rfl rfl ?_ ?_
      · refine r_iconst (p := 32) f333_31 rfl (pinD rfl rfl) ?_
        refine r_goto (p := 36) f333_32 (by decide) rfl ?_
        exact r_iret4 f333_36 (by decide)
      · refine r_iconst (p := 36) f333_35 rfl (pinD rfl rfl) ?_
        exact r_iret4 f333_36 (by decide)
    · refine r_iconst (p := 36) f333_35 rfl (pinD rfl rfl) ?_
      exact r_iret4 f333_36 (by decide)
/-! 334 PathStore$Result.asNumber ()J -/
def w334_1 : List UInt8 := [96, 182, 0, 32, 173]
abbrev u334_1 : List UInt8 := w334_1 ++ []
def w334_0 : List UInt8 := [42, 180, 0, 11, 5, 160, 0, 10, 42, 180, 0, 22, 167, 0, 16, 42, 180, 0, 15, 42, 180, 0, 19, 4]
abbrev u334_0 : List UInt8 := w334_0 ++ u334_1
theorem s334_0 : (prog_20_method_6_code).data.toList.drop 0 = u334_0 := by decide +kernel
theorem s334_1 : (prog_20_method_6_code).data.toList.drop 24 = u334_1 := dk_seg s334_0 24 rfl rfl
theorem Fm334 {pc len : Nat} {i : Instr} (h : decode (prog_20_method_6_code) pc = .ok (i, len)) (hl : len = ilen i len) : ft 334 pc = some (27, 2, 0, i, len) := ft_mk rfl h hl
theorem f334_0 : ft 334 0 = some (27, 2, 0, .aload_n 0, 1) := Fm334 (dk_42 (dk_at s334_0 0 rfl rfl)) rfl
theorem f334_1 : ft 334 1 = some (27, 2, 0, .getfield 11, 3) := Fm334 (dk_180 0 11 (dk_at s334_0 1 rfl rfl)) rfl
theorem f334_4 : ft 334 4 = some (27, 2, 0, .iconst 2, 1) := Fm334 (dk_5 (dk_at s334_0 4 rfl rfl)) rfl
theorem f334_5 : ft 334 5 = some (27, 2, 0, .if_icmp .ne 10, 3) := Fm334 (dk_160 0 10 (dk_at s334_0 5 rfl rfl)) rfl
theorem f334_8 : ft 334 8 = some (27, 2, 0, .aload_n 0, 1) := Fm334 (dk_42 (dk_at s334_0 8 rfl rfl)) rfl
theorem f334_9 : ft 334 9 = some (27, 2, 0, .getfield 22, 3) := Fm334 (dk_180 0 22 (dk_at s334_0 9 rfl rfl)) rfl
theorem f334_12 : ft 334 12 = some (27, 2, 0, .goto 16, 3) := Fm334 (dk_167 0 16 (dk_at s334_0 12 rfl rfl)) rfl
theorem f334_15 : ft 334 15 = some (27, 2, 0, .aload_n 0, 1) := Fm334 (dk_42 (dk_at s334_0 15 rfl rfl)) rfl
theorem f334_16 : ft 334 16 = some (27, 2, 0, .getfield 15, 3) := Fm334 (dk_180 0 15 (dk_at s334_0 16 rfl rfl)) rfl
theorem f334_19 : ft 334 19 = some (27, 2, 0, .aload_n 0, 1) := Fm334 (dk_42 (dk_at s334_0 19 rfl rfl)) rfl
theorem f334_20 : ft 334 20 = some (27, 2, 0, .getfield 19, 3) := Fm334 (dk_180 0 19 (dk_at s334_0 20 rfl rfl)) rfl
theorem f334_23 : ft 334 23 = some (27, 2, 0, .iconst 1, 1) := Fm334 (dk_4 (dk_at s334_0 23 rfl rfl)) rfl
theorem f334_24 : ft 334 24 = some (27, 2, 0, .iadd, 1) := Fm334 (dk_96 (dk_at s334_1 0 rfl rfl)) rfl
theorem f334_25 : ft 334 25 = some (27, 2, 0, .invokevirtual 32, 3) := Fm334 (dk_182 0 32 (dk_at s334_1 1 rfl rfl)) rfl
theorem f334_28 : ft 334 28 = some (27, 2, 0, .lreturn, 1) := Fm334 (dk_173 (dk_at s334_1 4 rfl rfl)) rfl
theorem q334 {d : Nat} {m : Mem} {a0 : Int} (hd : 0 < d) (hz : TZ m) : le2 (gd (tg m a0 = 27) <| if (vl m a0 0) = 2 then (some (.inl (some (pL (vl m a0 3))), m)) else nm (vl m a0 1) fun v2 => gd (tg m v2 = 8) <| bL (cl (d - 1) 140 [pR v2, pI (w32 ((vl m a0 2) + 1))] m) fun v1 m1 => some (.inl (some (pL v1)), m1)) (cl d 334 [pR a0] m) := by
  refine q_in (n := 1) (L := [pR a0]) rfl rfl rfl ?_
  refine r_aln0 (p := 1) f334_0 rfl ?_
  refine le2_gd (fun h1 => ?_)
  refine r_gfI (f := 0) (p := 4) f334_1 rfl rfl rfl (Or.inl h1) rfl ?_
  refine r_iconst (p := 5) f334_4 rfl (pinD rfl rfl) ?_
  refine r_icne (t := 15) (p := 8) f334_5 (by decide) rfl rfl ?_ ?_
  · refine r_aln0 (p := 9) f334_8 rfl ?_
    refine r_gfJ (f := 3) (p := 12) f334_9 rfl rfl rfl (Or.inl h1) rfl ?_
    refine r_goto (p := 28) f334_12 (by decide) rfl ?_
    exact r_lret f334_28
  · refine r_aln0 (p := 16) f334_15 rfl ?_
    refine r_gfR (f := 1) (p := 19) f334_16 rfl rfl rfl (Or.inl h1) rfl ?_
    refine r_nmR (fun v2 ev2 => ?_)
    refine r_aln0 (p := 20) f334_19 rfl ?_
    refine r_gfI (f := 2) (p := 23) f334_20 rfl rfl rfl (Or.inl h1) rfl ?_
    refine r_iconst (p := 24) f334_23 rfl (pinD rfl rfl) ?_
    refine r_iadd (p := 25) f334_24 rfl ?_
    refine le2_gd (fun h2 => ?_)
    refine r_invL (p := 28) f334_25 rfl rfl rfl (Or.inl h2) hd (Nat.le_of_ble_eq_true rfl) rfl rfl rfl (fun _ => rfl) (fun v1 m1 c1 => ?_)
    have hz1 := z_k c1 hz
    exact r_lret f334_28
/-! 335 PathStore$Result.less (LPathStore$Result;)Z -/
def w335_9 : List UInt8 := [4, 167, 0, 4, 3, 172]
abbrev u335_9 : List UInt8 := w335_9 ++ []
def w335_8 : List UInt8 := [180, 0, 15, 29, 184, 0, 55, 96, 62, 167, 255, 182, 28, 21, 4, 160, 0, 13, 29, 21, 5, 162, 0, 7]
abbrev u335_8 : List UInt8 := w335_8 ++ u335_9
def w335_7 : List UInt8 := [21, 7, 162, 0, 7, 4, 167, 0, 4, 3, 172, 28, 42, 180, 0, 15, 28, 184, 0, 55, 96, 61, 29, 43]
abbrev u335_7 : List UInt8 := w335_7 ++ u335_8
def w335_6 : List UInt8 := [184, 0, 51, 54, 6, 43, 180, 0, 15, 29, 184, 0, 51, 54, 7, 21, 6, 21, 7, 159, 0, 16, 21, 6]
abbrev u335_6 : List UInt8 := w335_6 ++ u335_7
def w335_5 : List UInt8 := [182, 0, 48, 54, 5, 28, 21, 4, 162, 0, 74, 29, 21, 5, 162, 0, 68, 42, 180, 0, 15, 28]
abbrev u335_5 : List UInt8 := w335_5 ++ u335_6
def w335_4 : List UInt8 := [96, 62, 42, 180, 0, 15, 42, 180, 0, 19, 182, 0, 48, 54, 4, 43, 180, 0, 15, 43, 180, 0, 19]
abbrev u335_4 : List UInt8 := w335_4 ++ u335_5
def w335_3 : List UInt8 := [180, 0, 19, 182, 0, 26, 7, 159, 0, 5, 3, 172, 42, 180, 0, 19, 6, 96, 61, 43, 180, 0, 19, 6]
abbrev u335_3 : List UInt8 := w335_3 ++ u335_4
def w335_2 : List UInt8 := [160, 0, 33, 42, 180, 0, 15, 42, 180, 0, 19, 182, 0, 26, 7, 160, 0, 18, 43, 180, 0, 15, 43]
abbrev u335_2 : List UInt8 := w335_2 ++ u335_3
def w335_1 : List UInt8 := [156, 0, 7, 4, 167, 0, 4, 3, 172, 42, 180, 0, 11, 4, 160, 0, 41, 43, 180, 0, 11, 4]
abbrev u335_1 : List UInt8 := w335_1 ++ u335_2
def w335_0 : List UInt8 := [42, 182, 0, 36, 153, 0, 28, 43, 182, 0, 36, 153, 0, 21, 42, 182, 0, 40, 43, 182, 0, 40, 148]
abbrev u335_0 : List UInt8 := w335_0 ++ u335_1
theorem s335_0 : (prog_20_method_8_code).data.toList.drop 0 = u335_0 := by decide +kernel
theorem s335_1 : (prog_20_method_8_code).data.toList.drop 23 = u335_1 := dk_seg s335_0 23 rfl rfl
theorem s335_2 : (prog_20_method_8_code).data.toList.drop 45 = u335_2 := dk_seg s335_1 22 rfl rfl
theorem s335_3 : (prog_20_method_8_code).data.toList.drop 68 = u335_3 := dk_seg s335_2 23 rfl rfl
theorem s335_4 : (prog_20_method_8_code).data.toList.drop 92 = u335_4 := dk_seg s335_3 24 rfl rfl
theorem s335_5 : (prog_20_method_8_code).data.toList.drop 115 = u335_5 := dk_seg s335_4 23 rfl rfl
theorem s335_6 : (prog_20_method_8_code).data.toList.drop 137 = u335_6 := dk_seg s335_5 22 rfl rfl
theorem s335_7 : (prog_20_method_8_code).data.toList.drop 161 = u335_7 := dk_seg s335_6 24 rfl rfl
theorem s335_8 : (prog_20_method_8_code).data.toList.drop 185 = u335_8 := dk_seg s335_7 24 rfl rfl
theorem s335_9 : (prog_20_method_8_code).data.toList.drop 209 = u335_9 := dk_seg s335_8 24 rfl rfl
theorem Fm335 {pc len : Nat} {i : Instr} (h : decode (prog_20_method_8_code) pc = .ok (i, len)) (hl : len = ilen i len) : ft 335 pc = some (27, 4, 0, i, len) := ft_mk rfl h hl
theorem f335_0 : ft 335 0 = some (27, 4, 0, .aload_n 0, 1) := Fm335 (dk_42 (dk_at s335_0 0 rfl rfl)) rfl
theorem f335_1 : ft 335 1 = some (27, 4, 0, .invokevirtual 36, 3) := Fm335 (dk_182 0 36 (dk_at s335_0 1 rfl rfl)) rfl
theorem f335_4 : ft 335 4 = some (27, 4, 0, .ifCond .eq 28, 3) := Fm335 (dk_153 0 28 (dk_at s335_0 4 rfl rfl)) rfl
theorem f335_7 : ft 335 7 = some (27, 4, 0, .aload_n 1, 1) := Fm335 (dk_43 (dk_at s335_0 7 rfl rfl)) rfl
theorem f335_8 : ft 335 8 = some (27, 4, 0, .invokevirtual 36, 3) := Fm335 (dk_182 0 36 (dk_at s335_0 8 rfl rfl)) rfl
theorem f335_11 : ft 335 11 = some (27, 4, 0, .ifCond .eq 21, 3) := Fm335 (dk_153 0 21 (dk_at s335_0 11 rfl rfl)) rfl
theorem f335_14 : ft 335 14 = some (27, 4, 0, .aload_n 0, 1) := Fm335 (dk_42 (dk_at s335_0 14 rfl rfl)) rfl
theorem f335_15 : ft 335 15 = some (27, 4, 0, .invokevirtual 40, 3) := Fm335 (dk_182 0 40 (dk_at s335_0 15 rfl rfl)) rfl
theorem f335_18 : ft 335 18 = some (27, 4, 0, .aload_n 1, 1) := Fm335 (dk_43 (dk_at s335_0 18 rfl rfl)) rfl
theorem f335_19 : ft 335 19 = some (27, 4, 0, .invokevirtual 40, 3) := Fm335 (dk_182 0 40 (dk_at s335_0 19 rfl rfl)) rfl
theorem f335_22 : ft 335 22 = some (27, 4, 0, .lcmp, 1) := Fm335 (dk_148 (dk_at s335_0 22 rfl rfl)) rfl
theorem f335_23 : ft 335 23 = some (27, 4, 0, .ifCond .ge 7, 3) := Fm335 (dk_156 0 7 (dk_at s335_1 0 rfl rfl)) rfl
theorem f335_26 : ft 335 26 = some (27, 4, 0, .iconst 1, 1) := Fm335 (dk_4 (dk_at s335_1 3 rfl rfl)) rfl
theorem f335_27 : ft 335 27 = some (27, 4, 0, .goto 4, 3) := Fm335 (dk_167 0 4 (dk_at s335_1 4 rfl rfl)) rfl
theorem f335_30 : ft 335 30 = some (27, 4, 0, .iconst 0, 1) := Fm335 (dk_3 (dk_at s335_1 7 rfl rfl)) rfl
theorem f335_31 : ft 335 31 = some (27, 4, 0, .ireturn, 1) := Fm335 (dk_172 (dk_at s335_1 8 rfl rfl)) rfl
theorem f335_32 : ft 335 32 = some (27, 4, 0, .aload_n 0, 1) := Fm335 (dk_42 (dk_at s335_1 9 rfl rfl)) rfl
theorem f335_33 : ft 335 33 = some (27, 4, 0, .getfield 11, 3) := Fm335 (dk_180 0 11 (dk_at s335_1 10 rfl rfl)) rfl
theorem f335_36 : ft 335 36 = some (27, 4, 0, .iconst 1, 1) := Fm335 (dk_4 (dk_at s335_1 13 rfl rfl)) rfl
theorem f335_37 : ft 335 37 = some (27, 4, 0, .if_icmp .ne 41, 3) := Fm335 (dk_160 0 41 (dk_at s335_1 14 rfl rfl)) rfl
theorem f335_40 : ft 335 40 = some (27, 4, 0, .aload_n 1, 1) := Fm335 (dk_43 (dk_at s335_1 17 rfl rfl)) rfl
theorem f335_41 : ft 335 41 = some (27, 4, 0, .getfield 11, 3) := Fm335 (dk_180 0 11 (dk_at s335_1 18 rfl rfl)) rfl
theorem f335_44 : ft 335 44 = some (27, 4, 0, .iconst 1, 1) := Fm335 (dk_4 (dk_at s335_1 21 rfl rfl)) rfl
theorem f335_45 : ft 335 45 = some (27, 4, 0, .if_icmp .ne 33, 3) := Fm335 (dk_160 0 33 (dk_at s335_2 0 rfl rfl)) rfl
theorem f335_48 : ft 335 48 = some (27, 4, 0, .aload_n 0, 1) := Fm335 (dk_42 (dk_at s335_2 3 rfl rfl)) rfl
theorem f335_49 : ft 335 49 = some (27, 4, 0, .getfield 15, 3) := Fm335 (dk_180 0 15 (dk_at s335_2 4 rfl rfl)) rfl
theorem f335_52 : ft 335 52 = some (27, 4, 0, .aload_n 0, 1) := Fm335 (dk_42 (dk_at s335_2 7 rfl rfl)) rfl
theorem f335_53 : ft 335 53 = some (27, 4, 0, .getfield 19, 3) := Fm335 (dk_180 0 19 (dk_at s335_2 8 rfl rfl)) rfl
theorem f335_56 : ft 335 56 = some (27, 4, 0, .invokevirtual 26, 3) := Fm335 (dk_182 0 26 (dk_at s335_2 11 rfl rfl)) rfl
theorem f335_59 : ft 335 59 = some (27, 4, 0, .iconst 4, 1) := Fm335 (dk_7 (dk_at s335_2 14 rfl rfl)) rfl
theorem f335_60 : ft 335 60 = some (27, 4, 0, .if_icmp .ne 18, 3) := Fm335 (dk_160 0 18 (dk_at s335_2 15 rfl rfl)) rfl
theorem f335_63 : ft 335 63 = some (27, 4, 0, .aload_n 1, 1) := Fm335 (dk_43 (dk_at s335_2 18 rfl rfl)) rfl
theorem f335_64 : ft 335 64 = some (27, 4, 0, .getfield 15, 3) := Fm335 (dk_180 0 15 (dk_at s335_2 19 rfl rfl)) rfl
theorem f335_67 : ft 335 67 = some (27, 4, 0, .aload_n 1, 1) := Fm335 (dk_43 (dk_at s335_2 22 rfl rfl)) rfl
theorem f335_68 : ft 335 68 = some (27, 4, 0, .getfield 19, 3) := Fm335 (dk_180 0 19 (dk_at s335_3 0 rfl rfl)) rfl
theorem f335_71 : ft 335 71 = some (27, 4, 0, .invokevirtual 26, 3) := Fm335 (dk_182 0 26 (dk_at s335_3 3 rfl rfl)) rfl
theorem f335_74 : ft 335 74 = some (27, 4, 0, .iconst 4, 1) := Fm335 (dk_7 (dk_at s335_3 6 rfl rfl)) rfl
theorem f335_75 : ft 335 75 = some (27, 4, 0, .if_icmp .eq 5, 3) := Fm335 (dk_159 0 5 (dk_at s335_3 7 rfl rfl)) rfl
theorem f335_78 : ft 335 78 = some (27, 4, 0, .iconst 0, 1) := Fm335 (dk_3 (dk_at s335_3 10 rfl rfl)) rfl
theorem f335_79 : ft 335 79 = some (27, 4, 0, .ireturn, 1) := Fm335 (dk_172 (dk_at s335_3 11 rfl rfl)) rfl
theorem f335_80 : ft 335 80 = some (27, 4, 0, .aload_n 0, 1) := Fm335 (dk_42 (dk_at s335_3 12 rfl rfl)) rfl
theorem f335_81 : ft 335 81 = some (27, 4, 0, .getfield 19, 3) := Fm335 (dk_180 0 19 (dk_at s335_3 13 rfl rfl)) rfl
theorem f335_84 : ft 335 84 = some (27, 4, 0, .iconst 3, 1) := Fm335 (dk_6 (dk_at s335_3 16 rfl rfl)) rfl
theorem f335_85 : ft 335 85 = some (27, 4, 0, .iadd, 1) := Fm335 (dk_96 (dk_at s335_3 17 rfl rfl)) rfl
theorem f335_86 : ft 335 86 = some (27, 4, 0, .istore_n 2, 1) := Fm335 (dk_61 (dk_at s335_3 18 rfl rfl)) rfl
theorem f335_87 : ft 335 87 = some (27, 4, 0, .aload_n 1, 1) := Fm335 (dk_43 (dk_at s335_3 19 rfl rfl)) rfl
theorem f335_88 : ft 335 88 = some (27, 4, 0, .getfield 19, 3) := Fm335 (dk_180 0 19 (dk_at s335_3 20 rfl rfl)) rfl
theorem f335_91 : ft 335 91 = some (27, 4, 0, .iconst 3, 1) := Fm335 (dk_6 (dk_at s335_3 23 rfl rfl)) rfl
theorem f335_92 : ft 335 92 = some (27, 4, 0, .iadd, 1) := Fm335 (dk_96 (dk_at s335_4 0 rfl rfl)) rfl
theorem f335_93 : ft 335 93 = some (27, 4, 0, .istore_n 3, 1) := Fm335 (dk_62 (dk_at s335_4 1 rfl rfl)) rfl
theorem f335_94 : ft 335 94 = some (27, 4, 0, .aload_n 0, 1) := Fm335 (dk_42 (dk_at s335_4 2 rfl rfl)) rfl
theorem f335_95 : ft 335 95 = some (27, 4, 0, .getfield 15, 3) := Fm335 (dk_180 0 15 (dk_at s335_4 3 rfl rfl)) rfl
theorem f335_98 : ft 335 98 = some (27, 4, 0, .aload_n 0, 1) := Fm335 (dk_42 (dk_at s335_4 6 rfl rfl)) rfl
theorem f335_99 : ft 335 99 = some (27, 4, 0, .getfield 19, 3) := Fm335 (dk_180 0 19 (dk_at s335_4 7 rfl rfl)) rfl
theorem f335_102 : ft 335 102 = some (27, 4, 0, .invokevirtual 48, 3) := Fm335 (dk_182 0 48 (dk_at s335_4 10 rfl rfl)) rfl
theorem f335_105 : ft 335 105 = some (27, 4, 0, .istore 4, 2) := Fm335 (dk_54 4 (dk_at s335_4 13 rfl rfl)) rfl
theorem f335_107 : ft 335 107 = some (27, 4, 0, .aload_n 1, 1) := Fm335 (dk_43 (dk_at s335_4 15 rfl rfl)) rfl
theorem f335_108 : ft 335 108 = some (27, 4, 0, .getfield 15, 3) := Fm335 (dk_180 0 15 (dk_at s335_4 16 rfl rfl)) rfl
theorem f335_111 : ft 335 111 = some (27, 4, 0, .aload_n 1, 1) := Fm335 (dk_43 (dk_at s335_4 19 rfl rfl)) rfl
theorem f335_112 : ft 335 112 = some (27, 4, 0, .getfield 19, 3) := Fm335 (dk_180 0 19 (dk_at s335_4 20 rfl rfl)) rfl
theorem f335_115 : ft 335 115 = some (27, 4, 0, .invokevirtual 48, 3) := Fm335 (dk_182 0 48 (dk_at s335_5 0 rfl rfl)) rfl
theorem f335_118 : ft 335 118 = some (27, 4, 0, .istore 5, 2) := Fm335 (dk_54 5 (dk_at s335_5 3 rfl rfl)) rfl
theorem f335_120 : ft 335 120 = some (27, 4, 0, .iload_n 2, 1) := Fm335 (dk_28 (dk_at s335_5 5 rfl rfl)) rfl
theorem f335_121 : ft 335 121 = some (27, 4, 0, .iload 4, 2) := Fm335 (dk_21 4 (dk_at s335_5 6 rfl rfl)) rfl
theorem f335_123 : ft 335 123 = some (27, 4, 0, .if_icmp .ge 74, 3) := Fm335 (dk_162 0 74 (dk_at s335_5 8 rfl rfl)) rfl
theorem f335_126 : ft 335 126 = some (27, 4, 0, .iload_n 3, 1) := Fm335 (dk_29 (dk_at s335_5 11 rfl rfl)) rfl
theorem f335_127 : ft 335 127 = some (27, 4, 0, .iload 5, 2) := Fm335 (dk_21 5 (dk_at s335_5 12 rfl rfl)) rfl
theorem f335_129 : ft 335 129 = some (27, 4, 0, .if_icmp .ge 68, 3) := Fm335 (dk_162 0 68 (dk_at s335_5 14 rfl rfl)) rfl
theorem f335_132 : ft 335 132 = some (27, 4, 0, .aload_n 0, 1) := Fm335 (dk_42 (dk_at s335_5 17 rfl rfl)) rfl
theorem f335_133 : ft 335 133 = some (27, 4, 0, .getfield 15, 3) := Fm335 (dk_180 0 15 (dk_at s335_5 18 rfl rfl)) rfl
theorem f335_136 : ft 335 136 = some (27, 4, 0, .iload_n 2, 1) := Fm335 (dk_28 (dk_at s335_5 21 rfl rfl)) rfl
theorem f335_137 : ft 335 137 = some (27, 4, 0, .invokestatic 51, 3) := Fm335 (dk_184 0 51 (dk_at s335_6 0 rfl rfl)) rfl
theorem f335_140 : ft 335 140 = some (27, 4, 0, .istore 6, 2) := Fm335 (dk_54 6 (dk_at s335_6 3 rfl rfl)) rfl
theorem f335_142 : ft 335 142 = some (27, 4, 0, .aload_n 1, 1) := Fm335 (dk_43 (dk_at s335_6 5 rfl rfl)) rfl
theorem f335_143 : ft 335 143 = some (27, 4, 0, .getfield 15, 3) := Fm335 (dk_180 0 15 (dk_at s335_6 6 rfl rfl)) rfl
theorem f335_146 : ft 335 146 = some (27, 4, 0, .iload_n 3, 1) := Fm335 (dk_29 (dk_at s335_6 9 rfl rfl)) rfl
theorem f335_147 : ft 335 147 = some (27, 4, 0, .invokestatic 51, 3) := Fm335 (dk_184 0 51 (dk_at s335_6 10 rfl rfl)) rfl
theorem f335_150 : ft 335 150 = some (27, 4, 0, .istore 7, 2) := Fm335 (dk_54 7 (dk_at s335_6 13 rfl rfl)) rfl
theorem f335_152 : ft 335 152 = some (27, 4, 0, .iload 6, 2) := Fm335 (dk_21 6 (dk_at s335_6 15 rfl rfl)) rfl
theorem f335_154 : ft 335 154 = some (27, 4, 0, .iload 7, 2) := Fm335 (dk_21 7 (dk_at s335_6 17 rfl rfl)) rfl
theorem f335_156 : ft 335 156 = some (27, 4, 0, .if_icmp .eq 16, 3) := Fm335 (dk_159 0 16 (dk_at s335_6 19 rfl rfl)) rfl
theorem f335_159 : ft 335 159 = some (27, 4, 0, .iload 6, 2) := Fm335 (dk_21 6 (dk_at s335_6 22 rfl rfl)) rfl
theorem f335_161 : ft 335 161 = some (27, 4, 0, .iload 7, 2) := Fm335 (dk_21 7 (dk_at s335_7 0 rfl rfl)) rfl
theorem f335_163 : ft 335 163 = some (27, 4, 0, .if_icmp .ge 7, 3) := Fm335 (dk_162 0 7 (dk_at s335_7 2 rfl rfl)) rfl
theorem f335_166 : ft 335 166 = some (27, 4, 0, .iconst 1, 1) := Fm335 (dk_4 (dk_at s335_7 5 rfl rfl)) rfl
theorem f335_167 : ft 335 167 = some (27, 4, 0, .goto 4, 3) := Fm335 (dk_167 0 4 (dk_at s335_7 6 rfl rfl)) rfl
theorem f335_170 : ft 335 170 = some (27, 4, 0, .iconst 0, 1) := Fm335 (dk_3 (dk_at s335_7 9 rfl rfl)) rfl
theorem f335_171 : ft 335 171 = some (27, 4, 0, .ireturn, 1) := Fm335 (dk_172 (dk_at s335_7 10 rfl rfl)) rfl
theorem f335_172 : ft 335 172 = some (27, 4, 0, .iload_n 2, 1) := Fm335 (dk_28 (dk_at s335_7 11 rfl rfl)) rfl
theorem f335_173 : ft 335 173 = some (27, 4, 0, .aload_n 0, 1) := Fm335 (dk_42 (dk_at s335_7 12 rfl rfl)) rfl
theorem f335_174 : ft 335 174 = some (27, 4, 0, .getfield 15, 3) := Fm335 (dk_180 0 15 (dk_at s335_7 13 rfl rfl)) rfl
theorem f335_177 : ft 335 177 = some (27, 4, 0, .iload_n 2, 1) := Fm335 (dk_28 (dk_at s335_7 16 rfl rfl)) rfl
theorem f335_178 : ft 335 178 = some (27, 4, 0, .invokestatic 55, 3) := Fm335 (dk_184 0 55 (dk_at s335_7 17 rfl rfl)) rfl
theorem f335_181 : ft 335 181 = some (27, 4, 0, .iadd, 1) := Fm335 (dk_96 (dk_at s335_7 20 rfl rfl)) rfl
theorem f335_182 : ft 335 182 = some (27, 4, 0, .istore_n 2, 1) := Fm335 (dk_61 (dk_at s335_7 21 rfl rfl)) rfl
theorem f335_183 : ft 335 183 = some (27, 4, 0, .iload_n 3, 1) := Fm335 (dk_29 (dk_at s335_7 22 rfl rfl)) rfl
theorem f335_184 : ft 335 184 = some (27, 4, 0, .aload_n 1, 1) := Fm335 (dk_43 (dk_at s335_7 23 rfl rfl)) rfl
theorem f335_185 : ft 335 185 = some (27, 4, 0, .getfield 15, 3) := Fm335 (dk_180 0 15 (dk_at s335_8 0 rfl rfl)) rfl
theorem f335_188 : ft 335 188 = some (27, 4, 0, .iload_n 3, 1) := Fm335 (dk_29 (dk_at s335_8 3 rfl rfl)) rfl
theorem f335_189 : ft 335 189 = some (27, 4, 0, .invokestatic 55, 3) := Fm335 (dk_184 0 55 (dk_at s335_8 4 rfl rfl)) rfl
theorem f335_192 : ft 335 192 = some (27, 4, 0, .iadd, 1) := Fm335 (dk_96 (dk_at s335_8 7 rfl rfl)) rfl
theorem f335_193 : ft 335 193 = some (27, 4, 0, .istore_n 3, 1) := Fm335 (dk_62 (dk_at s335_8 8 rfl rfl)) rfl
theorem f335_194 : ft 335 194 = some (27, 4, 0, .goto (-74), 3) := Fm335 (dk_167 255 182 (dk_at s335_8 9 rfl rfl)) rfl
theorem f335_197 : ft 335 197 = some (27, 4, 0, .iload_n 2, 1) := Fm335 (dk_28 (dk_at s335_8 12 rfl rfl)) rfl
theorem f335_198 : ft 335 198 = some (27, 4, 0, .iload 4, 2) := Fm335 (dk_21 4 (dk_at s335_8 13 rfl rfl)) rfl
theorem f335_200 : ft 335 200 = some (27, 4, 0, .if_icmp .ne 13, 3) := Fm335 (dk_160 0 13 (dk_at s335_8 15 rfl rfl)) rfl
theorem f335_203 : ft 335 203 = some (27, 4, 0, .iload_n 3, 1) := Fm335 (dk_29 (dk_at s335_8 18 rfl rfl)) rfl
theorem f335_204 : ft 335 204 = some (27, 4, 0, .iload 5, 2) := Fm335 (dk_21 5 (dk_at s335_8 19 rfl rfl)) rfl
theorem f335_206 : ft 335 206 = some (27, 4, 0, .if_icmp .ge 7, 3) := Fm335 (dk_162 0 7 (dk_at s335_8 21 rfl rfl)) rfl
theorem f335_209 : ft 335 209 = some (27, 4, 0, .iconst 1, 1) := Fm335 (dk_4 (dk_at s335_9 0 rfl rfl)) rfl
theorem f335_210 : ft 335 210 = some (27, 4, 0, .goto 4, 3) := Fm335 (dk_167 0 4 (dk_at s335_9 1 rfl rfl)) rfl
theorem f335_213 : ft 335 213 = some (27, 4, 0, .iconst 0, 1) := Fm335 (dk_3 (dk_at s335_9 4 rfl rfl)) rfl
theorem f335_214 : ft 335 214 = some (27, 4, 0, .ireturn, 1) := Fm335 (dk_172 (dk_at s335_9 5 rfl rfl)) rfl
theorem q335 {d : Nat} {m : Mem} {a0 a1 : Int} (hd : 0 < d) (hz : TZ m) : le2 (gd (tg m a0 = 27) <| bI (cl (d - 1) 333 [pR a0] m) fun v1 m1 => if v1 = 0 then (rn d 335 32 [pR a0, pR a1, pU, pU, pU, pU, pU, pU] [] m1) else gd (tg m1 a1 = 27) <| bI (cl (d - 1) 333 [pR a1] m1) fun v2 m2 => if v2 = 0 then (rn d 335 32 [pR a0, pR a1, pU, pU, pU, pU, pU, pU] [] m2) else bL (cl (d - 1) 334 [pR a0] m2) fun v3 m3 => bL (cl (d - 1) 334 [pR a1] m3) fun v4 m4 => if v3 < v4 then (some (.inl (some (pI 1)), m4)) else some (.inl (some (pI 0)), m4)) (cl d 335 [pR a0, pR a1] m) := by
  refine q_in (n := 8) (L := [pR a0, pR a1, pU, pU, pU, pU, pU, pU]) rfl rfl rfl ?_
  refine r_aln0 (p := 1) f335_0 rfl ?_
  refine le2_gd (fun h1 => ?_)
  refine r_invI (p := 4) f335_1 rfl rfl rfl (Or.inl h1) hd (Nat.le_of_ble_eq_true rfl) rfl rfl rfl (fun _ => rfl) (fun v1 m1 c1 => ?_)
  have hz1 := z_k c1 hz
  refine r_ifeq (t := 32) (p := 7) f335_4 (by decide) rfl rfl ?_ ?_
  · exact le2_refl _
  · refine r_aln1 (p := 8) f335_7 rfl ?_
    refine le2_gd (fun h2 => ?_)
    refine r_invI (p := 11) f335_8 rfl rfl rfl (Or.inl h2) hd (Nat.le_of_ble_eq_true rfl) rfl rfl rfl (fun _ => rfl) (fun v2 m2 c2 => ?_)
    have hz2 := z_k c2 hz1
    refine r_ifeq (t := 32) (p := 14) f335_11 (by decide) rfl rfl ?_ ?_
    · exact le2_refl _
    · refine r_aln0 (p := 15) f335_14 rfl ?_
      have h3 := k_t1 c1 hz h1 (by decide)
      have h4 := k_t1 c2 hz1 h3 (by decide)
      refine r_invL (p := 18) f335_15 rfl rfl rfl (Or.inl h4) hd (Nat.le_of_ble_eq_true rfl) rfl rfl rfl (fun _ => rfl) (fun v3 m3 c3 => ?_)
      have hz3 := z_k c3 hz2
      refine r_aln1 (p := 19) f335_18 rfl ?_
      have h5 := k_t1 c2 hz1 h2 (by decide)
      have h6 := k_t1 c3 hz2 h5 (by decide)
      refine r_invL (p := 22) f335_19 rfl rfl rfl (Or.inl h6) hd (Nat.le_of_ble_eq_true rfl) rfl rfl rfl (fun _ => rfl) (fun v4 m4 c4 => ?_)
      have hz4 := z_k c4 hz3
      refine r_lcge (p1 := 23) (t := 30) (p := 26) f335_22 rfl f335_23 (by decide) rfl rfl ?_ ?_
      · refine r_iconst (p := 27) f335_26 rfl (pinD rfl rfl) ?_
        refine r_goto (p := 31) f335_27 (by decide) rfl ?_
        exact r_iret4 f335_31 (by decide)
      · refine r_iconst (p := 31) f335_30 rfl (pinD rfl rfl) ?_
        exact r_iret4 f335_31 (by decide)
theorem q335_32 {d : Nat} {m : Mem} {a0 a1 : Int} (hd : 0 < d) (hz : TZ m) : le2 (gd (tg m a0 = 27) <| if (vl m a0 0) = 1 then (gd (tg m a1 = 27) <| if (vl m a1 0) = 1 then (nm (vl m a0 1) fun v5 => gd (tg m v5 = 8) <| bI (cl (d - 1) 139 [pR v5, pI (vl m a0 2)] m) fun v1 m1 => if v1 = 4 then (nm (vl m1 a1 1) fun v6 => gd (tg m1 v6 = 8) <| bI (cl (d - 1) 139 [pR v6, pI (vl m1 a1 2)] m1) fun v2 m2 => if v2 = 4 then (nm (vl m2 a0 2) fun v7 => nm (vl m2 a0 1) fun v8 => gd (tg m2 v8 = 8) <| bI (cl (d - 1) 137 [pR v8, pI v7] m2) fun v3 m3 => nm (vl m3 a1 1) fun v9 => gd (tg m3 v9 = 8) <| bI (cl (d - 1) 137 [pR v9, pI (vl m3 a1 2)] m3) fun v4 m4 => rn d 335 120 [pR a0, pR a1, pI (w32 (v7 + 3)), pI (w32 ((vl m2 a1 2) + 3)), pI v3, pI v4, pU, pU] [] m4) else some (.inl (some (pI 0)), m2)) else some (.inl (some (pI 0)), m1)) else some (.inl (some (pI 0)), m)) else some (.inl (some (pI 0)), m)) (rn d 335 32 [pR a0, pR a1, pU, pU, pU, pU, pU, pU] [] m) := by
  refine r_aln0 (p := 33) f335_32 rfl ?_
  refine le2_gd (fun h1 => ?_)
  refine r_gfI (f := 0) (p := 36) f335_33 rfl rfl rfl (Or.inl h1) rfl ?_
  refine r_iconst (p := 37) f335_36 rfl (pinD rfl rfl) ?_
  refine r_icne (t := 78) (p := 40) f335_37 (by decide) rfl rfl ?_ ?_
  · refine r_aln1 (p := 41) f335_40 rfl ?_
    refine le2_gd (fun h2 => ?_)
    refine r_gfI (f := 0) (p := 44) f335_41 rfl rfl rfl (Or.inl h2) rfl ?_
    refine r_iconst (p := 45) f335_44 rfl (pinD rfl rfl) ?_
    refine r_icne (t := 78) (p := 48) f335_45 (by decide) rfl rfl ?_ ?_
    · refine r_aln0 (p := 49) f335_48 rfl ?_
      refine r_gfR (f := 1) (p := 52) f335_49 rfl rfl rfl (Or.inl h1) rfl ?_
      refine r_nmR (fun v5 ev5 => ?_)
      refine r_aln0 (p := 53) f335_52 rfl ?_
      refine r_gfI (f := 2) (p := 56) f335_53 rfl rfl rfl (Or.inl h1) rfl ?_
      refine le2_gd (fun h3 => ?_)
      refine r_invI (p := 59) f335_56 rfl rfl rfl (Or.inl h3) hd (Nat.le_of_ble_eq_true rfl) rfl rfl rfl (fun _ => rfl) (fun v1 m1 c1 => ?_)
      have hz1 := z_k c1 hz
      refine r_iconst (p := 60) f335_59 rfl (pinD rfl rfl) ?_
      refine r_icne (t := 78) (p := 63) f335_60 (by decide) rfl rfl ?_ ?_
      · refine r_aln1 (p := 64) f335_63 rfl ?_
        have h4 := k_t1 c1 hz h2 (by decide)
        refine r_gfR (f := 1) (p := 67) f335_64 rfl rfl rfl (Or.inl h4) rfl ?_
        refine r_nmR (fun v6 ev6 => ?_)
        refine r_aln1 (p := 68) f335_67 rfl ?_
        refine r_gfI (f := 2) (p := 71) f335_68 rfl rfl rfl (Or.inl h4) rfl ?_
        refine le2_gd (fun h5 => ?_)
        refine r_invI (p := 74) f335_71 rfl rfl rfl (Or.inl h5) hd (Nat.le_of_ble_eq_true rfl) rfl rfl rfl (fun _ => rfl) (fun v2 m2 c2 => ?_)
        have hz2 := z_k c2 hz1
        refine r_iconst (p := 75) f335_74 rfl (pinD rfl rfl) ?_
        refine r_iceq (t := 80) (p := 78) f335_75 (by decide) rfl rfl ?_ ?_
        · refine r_aln0 (p := 81) f335_80 rfl ?_
          have h6 := k_t1 c1 hz h1 (by decide)
          have h7 := k_t1 c2 hz1 h6 (by decide)
          refine r_gfI (f := 2) (p := 84) f335_81 rfl rfl rfl (Or.inl h7) rfl ?_
          refine r_nmI (fun v7 ev7 => ?_)
          refine r_iconst (p := 85) f335_84 rfl (pinD rfl rfl) ?_
          refine r_iadd (p := 86) f335_85 rfl ?_
          refine r_isn2 (p := 87) f335_86 rfl rfl ?_
          refine r_aln1 (p := 88) f335_87 rfl ?_
          have h8 := k_t1 c2 hz1 h4 (by decide)
          refine r_gfI (f := 2) (p := 91) f335_88 rfl rfl rfl (Or.inl h8) rfl ?_
          refine r_iconst (p := 92) f335_91 rfl (pinD rfl rfl) ?_
          refine r_iadd (p := 93) f335_92 rfl ?_
          refine r_isn3 (p := 94) f335_93 rfl rfl ?_
          refine r_aln0 (p := 95) f335_94 rfl ?_
          refine r_gfR (f := 1) (p := 98) f335_95 rfl rfl rfl (Or.inl h7) rfl ?_
          refine r_nmR (fun v8 ev8 => ?_)
          refine r_aln0 (p := 99) f335_98 rfl ?_
          refine r_gfI (f := 2) (p := 102) f335_99 rfl rfl rfl (Or.inl h7) ev7.symm ?_
          refine le2_gd (fun h9 => ?_)
          refine r_invI (p := 105) f335_102 rfl rfl rfl (Or.inl h9) hd (Nat.le_of_ble_eq_true rfl) rfl rfl rfl (fun _ => rfl) (fun v3 m3 c3 => ?_)
          have hz3 := z_k c3 hz2
          refine r_isw4 (p := 107) f335_105 rfl rfl ?_
          refine r_aln1 (p := 108) f335_107 rfl ?_
          have h10 := k_t1 c3 hz2 h8 (by decide)
          refine r_gfR (f := 1) (p := 111) f335_108 rfl rfl rfl (Or.inl h10) rfl ?_
          refine r_nmR (fun v9 ev9 => ?_)
          refine r_aln1 (p := 112) f335_111 rfl ?_
          refine r_gfI (f := 2) (p := 115) f335_112 rfl rfl rfl (Or.inl h10) rfl ?_
          refine le2_gd (fun h11 => ?_)
          refine r_invI (p := 118) f335_115 rfl rfl rfl (Or.inl h11) hd (Nat.le_of_ble_eq_true rfl) rfl rfl rfl (fun _ => rfl) (fun v4 m4 c4 => ?_)
          have hz4 := z_k c4 hz3
          refine r_isw5 (p := 120) f335_118 rfl rfl ?_
          exact le2_refl _
        · refine r_iconst (p := 79) f335_78 rfl (pinD rfl rfl) ?_
          exact r_iret4 f335_79 (by decide)
      · refine r_iconst (p := 79) f335_78 rfl (pinD rfl rfl) ?_
        exact r_iret4 f335_79 (by decide)
    · refine r_iconst (p := 79) f335_78 rfl (pinD rfl rfl) ?_
      exact r_iret4 f335_79 (by decide)
  · refine r_iconst (p := 79) f335_78 rfl (pinD rfl rfl) ?_
    exact r_iret4 f335_79 (by decide)
theorem q335_120 {d : Nat} {m : Mem} {a0 a1 a2 a3 a4 a5 : Int} {z6 z7 : PV} (hd : 0 < d) (hz : TZ m) (hcz6 : cat z6 = 1) (hcz7 : cat z7 = 1) : le2 (if a2 < a4 then (if a3 < a5 then (gd (tg m a0 = 27) <| bI (cl (d - 1) 336 [pR (vl m a0 1), pI a2] m) fun v1 m1 => gd (tg m1 a1 = 27) <| bI (cl (d - 1) 336 [pR (vl m1 a1 1), pI a3] m1) fun v2 m2 => if v1 = v2 then (bI (cl (d - 1) 331 [pR (vl m2 a0 1), pI a2] m2) fun v3 m3 => bI (cl (d - 1) 331 [pR (vl m3 a1 1), pI a3] m3) fun v4 m4 => rn d 335 120 [pR a0, pR a1, pI (w32 (a2 + v3)), pI (w32 (a3 + v4)), pI a4, pI a5, pI v1, pI v2] [] m4) else if v1 < v2 then (some (.inl (some (pI 1)), m2)) else some (.inl (some (pI 0)), m2)) else rn d 335 197 [pR a0, pR a1, pI a2, pI a3, pI a4, pI a5, z6, z7] [] m) else rn d 335 197 [pR a0, pR a1, pI a2, pI a3, pI a4, pI a5, z6, z7] [] m) (rn d 335 120 [pR a0, pR a1, pI a2, pI a3, pI a4, pI a5, z6, z7] [] m) := by
  refine r_iln2 (p := 121) f335_120 rfl ?_
  refine r_ilw4 (p := 123) f335_121 rfl ?_
  refine r_icge (t := 197) (p := 126) f335_123 (by decide) rfl rfl ?_ ?_
  · refine r_iln3 (p := 127) f335_126 rfl ?_
    refine r_ilw5 (p := 129) f335_127 rfl ?_
    refine r_icge (t := 197) (p := 132) f335_129 (by decide) rfl rfl ?_ ?_
    · refine r_aln0 (p := 133) f335_132 rfl ?_
      refine le2_gd (fun h1 => ?_)
      refine r_gfR (f := 1) (p := 136) f335_133 rfl rfl rfl (Or.inl h1) rfl ?_
      refine r_iln2 (p := 137) f335_136 rfl ?_
      refine r_istI (p := 140) f335_137 rfl rfl rfl hd (Nat.le_of_ble_eq_true rfl) rfl rfl rfl (fun _ => rfl) (fun v1 m1 c1 => ?_)
      have hz1 := z_k c1 hz
      refine r_isw6 (p := 142) f335_140 rfl rfl ?_
      refine r_aln1 (p := 143) f335_142 rfl ?_
      refine le2_gd (fun h2 => ?_)
      refine r_gfR (f := 1) (p := 146) f335_143 rfl rfl rfl (Or.inl h2) rfl ?_
      refine r_iln3 (p := 147) f335_146 rfl ?_
      refine r_istI (p := 150) f335_147 rfl rfl rfl hd (Nat.le_of_ble_eq_true rfl) rfl rfl rfl (fun _ => rfl) (fun v2 m2 c2 => ?_)
      have hz2 := z_k c2 hz1
      refine r_isw7 (p := 152) f335_150 rfl rfl ?_
      refine r_ilw6 (p := 154) f335_152 rfl ?_
      refine r_ilw7 (p := 156) f335_154 rfl ?_
      refine r_iceq (t := 172) (p := 159) f335_156 (by decide) rfl rfl ?_ ?_
      · refine r_iln2 (p := 173) f335_172 rfl ?_
        refine r_aln0 (p := 174) f335_173 rfl ?_
        have h3 := k_t1 c1 hz h1 (by decide)
        have h4 := k_t1 c2 hz1 h3 (by decide)
        refine r_gfR (f := 1) (p := 177) f335_174 rfl rfl rfl (Or.inl h4) rfl ?_
        refine r_iln2 (p := 178) f335_177 rfl ?_
        refine r_istI (p := 181) f335_178 rfl rfl rfl hd (Nat.le_of_ble_eq_true rfl) rfl rfl rfl (fun _ => rfl) (fun v3 m3 c3 => ?_)
        have hz3 := z_k c3 hz2
        refine r_iadd (p := 182) f335_181 rfl ?_
        refine r_isn2 (p := 183) f335_182 rfl rfl ?_
        refine r_iln3 (p := 184) f335_183 rfl ?_
        refine r_aln1 (p := 185) f335_184 rfl ?_
        have h5 := k_t1 c2 hz1 h2 (by decide)
        have h6 := k_t1 c3 hz2 h5 (by decide)
        refine r_gfR (f := 1) (p := 188) f335_185 rfl rfl rfl (Or.inl h6) rfl ?_
        refine r_iln3 (p := 189) f335_188 rfl ?_
        refine r_istI (p := 192) f335_189 rfl rfl rfl hd (Nat.le_of_ble_eq_true rfl) rfl rfl rfl (fun _ => rfl) (fun v4 m4 c4 => ?_)
        have hz4 := z_k c4 hz3
        refine r_iadd (p := 193) f335_192 rfl ?_
        refine r_isn3 (p := 194) f335_193 rfl rfl ?_
        refine r_goto (p := 120) f335_194 (by decide) rfl ?_
        exact le2_refl _
      · refine r_ilw6 (p := 161) f335_159 rfl ?_
        refine r_ilw7 (p := 163) f335_161 rfl ?_
        refine r_icge (t := 170) (p := 166) f335_163 (by decide) rfl rfl ?_ ?_
        · refine r_iconst (p := 167) f335_166 rfl (pinD rfl rfl) ?_
          refine r_goto (p := 171) f335_167 (by decide) rfl ?_
          exact r_iret4 f335_171 (by decide)
        · refine r_iconst (p := 171) f335_170 rfl (pinD rfl rfl) ?_
          exact r_iret4 f335_171 (by decide)
    · exact le2_refl _
  · exact le2_refl _
theorem q335_197 {d : Nat} {m : Mem} {a0 a1 a2 a3 a4 a5 : Int} {z6 z7 : PV} (hz : TZ m) (hcz6 : cat z6 = 1) (hcz7 : cat z7 = 1) : le2 (if a2 = a4 then (if a3 < a5 then (some (.inl (some (pI 1)), m)) else some (.inl (some (pI 0)), m)) else some (.inl (some (pI 0)), m)) (rn d 335 197 [pR a0, pR a1, pI a2, pI a3, pI a4, pI a5, z6, z7] [] m) := by
  refine r_iln2 (p := 198) f335_197 rfl ?_
  refine r_ilw4 (p := 200) f335_198 rfl ?_
  refine r_icne (t := 213) (p := 203) f335_200 (by decide) rfl rfl ?_ ?_
  · refine r_iln3 (p := 204) f335_203 rfl ?_
    refine r_ilw5 (p := 206) f335_204 rfl ?_
    refine r_icge (t := 213) (p := 209) f335_206 (by decide) rfl rfl ?_ ?_
    · refine r_iconst (p := 210) f335_209 rfl (pinD rfl rfl) ?_
      refine r_goto (p := 214) f335_210 (by decide) rfl ?_
      exact r_iret4 f335_214 (by decide)
    · refine r_iconst (p := 214) f335_213 rfl (pinD rfl rfl) ?_
      exact r_iret4 f335_214 (by decide)
  · refine r_iconst (p := 214) f335_213 rfl (pinD rfl rfl) ?_
    exact r_iret4 f335_214 (by decide)
/-! 336 PathStore$Result.character (LPathStore$Row;I)I -/
def w336_1 : List UInt8 := [28, 18, 61, 100, 16, 10, 120, 96, 42, 27, 6, 96, 182, 0, 58, 96, 18, 64, 100, 172]
abbrev u336_1 : List UInt8 := w336_1 ++ []
def w336_0 : List UInt8 := [42, 27, 182, 0, 58, 61, 28, 18, 61, 161, 0, 9, 28, 18, 62, 164, 0, 7, 28, 167, 0, 24, 18, 63]
abbrev u336_0 : List UInt8 := w336_0 ++ u336_1
theorem s336_0 : (prog_20_method_9_code).data.toList.drop 0 = u336_0 := by decide +kernel
theorem s336_1 : (prog_20_method_9_code).data.toList.drop 24 = u336_1 := dk_seg s336_0 24 rfl rfl
theorem Fm336 {pc len : Nat} {i : Instr} (h : decode (prog_20_method_9_code) pc = .ok (i, len)) (hl : len = ilen i len) : ft 336 pc = some (27, 1, 0, i, len) := ft_mk rfl h hl
theorem f336_0 : ft 336 0 = some (27, 1, 0, .aload_n 0, 1) := Fm336 (dk_42 (dk_at s336_0 0 rfl rfl)) rfl
theorem f336_1 : ft 336 1 = some (27, 1, 0, .iload_n 1, 1) := Fm336 (dk_27 (dk_at s336_0 1 rfl rfl)) rfl
theorem f336_2 : ft 336 2 = some (27, 1, 0, .invokevirtual 58, 3) := Fm336 (dk_182 0 58 (dk_at s336_0 2 rfl rfl)) rfl
theorem f336_5 : ft 336 5 = some (27, 1, 0, .istore_n 2, 1) := Fm336 (dk_61 (dk_at s336_0 5 rfl rfl)) rfl
theorem f336_6 : ft 336 6 = some (27, 1, 0, .iload_n 2, 1) := Fm336 (dk_28 (dk_at s336_0 6 rfl rfl)) rfl
theorem f336_7 : ft 336 7 = some (27, 1, 0, .ldc 61, 2) := Fm336 (dk_18 61 (dk_at s336_0 7 rfl rfl)) rfl
theorem f336_9 : ft 336 9 = some (27, 1, 0, .if_icmp .lt 9, 3) := Fm336 (dk_161 0 9 (dk_at s336_0 9 rfl rfl)) rfl
theorem f336_12 : ft 336 12 = some (27, 1, 0, .iload_n 2, 1) := Fm336 (dk_28 (dk_at s336_0 12 rfl rfl)) rfl
theorem f336_13 : ft 336 13 = some (27, 1, 0, .ldc 62, 2) := Fm336 (dk_18 62 (dk_at s336_0 13 rfl rfl)) rfl
theorem f336_15 : ft 336 15 = some (27, 1, 0, .if_icmp .le 7, 3) := Fm336 (dk_164 0 7 (dk_at s336_0 15 rfl rfl)) rfl
theorem f336_18 : ft 336 18 = some (27, 1, 0, .iload_n 2, 1) := Fm336 (dk_28 (dk_at s336_0 18 rfl rfl)) rfl
theorem f336_19 : ft 336 19 = some (27, 1, 0, .goto 24, 3) := Fm336 (dk_167 0 24 (dk_at s336_0 19 rfl rfl)) rfl
theorem f336_22 : ft 336 22 = some (27, 1, 0, .ldc 63, 2) := Fm336 (dk_18 63 (dk_at s336_0 22 rfl rfl)) rfl
theorem f336_24 : ft 336 24 = some (27, 1, 0, .iload_n 2, 1) := Fm336 (dk_28 (dk_at s336_1 0 rfl rfl)) rfl
theorem f336_25 : ft 336 25 = some (27, 1, 0, .ldc 61, 2) := Fm336 (dk_18 61 (dk_at s336_1 1 rfl rfl)) rfl
theorem f336_27 : ft 336 27 = some (27, 1, 0, .isub, 1) := Fm336 (dk_100 (dk_at s336_1 3 rfl rfl)) rfl
theorem f336_28 : ft 336 28 = some (27, 1, 0, .bipush 10, 2) := Fm336 (dk_16 10 (dk_at s336_1 4 rfl rfl)) rfl
theorem f336_30 : ft 336 30 = some (27, 1, 0, .ishl, 1) := Fm336 (dk_120 (dk_at s336_1 6 rfl rfl)) rfl
theorem f336_31 : ft 336 31 = some (27, 1, 0, .iadd, 1) := Fm336 (dk_96 (dk_at s336_1 7 rfl rfl)) rfl
theorem f336_32 : ft 336 32 = some (27, 1, 0, .aload_n 0, 1) := Fm336 (dk_42 (dk_at s336_1 8 rfl rfl)) rfl
theorem f336_33 : ft 336 33 = some (27, 1, 0, .iload_n 1, 1) := Fm336 (dk_27 (dk_at s336_1 9 rfl rfl)) rfl
theorem f336_34 : ft 336 34 = some (27, 1, 0, .iconst 3, 1) := Fm336 (dk_6 (dk_at s336_1 10 rfl rfl)) rfl
theorem f336_35 : ft 336 35 = some (27, 1, 0, .iadd, 1) := Fm336 (dk_96 (dk_at s336_1 11 rfl rfl)) rfl
theorem f336_36 : ft 336 36 = some (27, 1, 0, .invokevirtual 58, 3) := Fm336 (dk_182 0 58 (dk_at s336_1 12 rfl rfl)) rfl
theorem f336_39 : ft 336 39 = some (27, 1, 0, .iadd, 1) := Fm336 (dk_96 (dk_at s336_1 15 rfl rfl)) rfl
theorem f336_40 : ft 336 40 = some (27, 1, 0, .ldc 64, 2) := Fm336 (dk_18 64 (dk_at s336_1 16 rfl rfl)) rfl
theorem f336_42 : ft 336 42 = some (27, 1, 0, .isub, 1) := Fm336 (dk_100 (dk_at s336_1 18 rfl rfl)) rfl
theorem f336_43 : ft 336 43 = some (27, 1, 0, .ireturn, 1) := Fm336 (dk_172 (dk_at s336_1 19 rfl rfl)) rfl
theorem q336 {d : Nat} {m : Mem} {a0 a1 : Int} (hd : 0 < d) (hz : TZ m) : le2 (gd (tg m a0 = 8) <| bI (cl (d - 1) 141 [pR a0, pI a1] m) fun v1 m1 => if v1 < 55296 then (some (.inl (some (pI v1)), m1)) else if 56319 < v1 then (some (.inl (some (pI v1)), m1)) else bI (cl (d - 1) 141 [pR a0, pI (w32 (a1 + 3))] m1) fun v2 m2 => some (.inl (some (pI (w32 ((w32 ((w32 (65536 + (pShl (w32 (v1 - 55296)) 10))) + v2)) - 56320)))), m2)) (cl d 336 [pR a0, pI a1] m) := by
  refine q_in (n := 3) (L := [pR a0, pI a1, pU]) rfl rfl rfl ?_
  refine r_aln0 (p := 1) f336_0 rfl ?_
  refine r_iln1 (p := 2) f336_1 rfl ?_
  refine le2_gd (fun h1 => ?_)
  refine r_invI (p := 5) f336_2 rfl rfl rfl (Or.inl h1) hd (Nat.le_of_ble_eq_true rfl) rfl rfl rfl (fun _ => rfl) (fun v1 m1 c1 => ?_)
  have hz1 := z_k c1 hz
  refine r_isn2 (p := 6) f336_5 rfl rfl ?_
  refine r_iln2 (p := 7) f336_6 rfl ?_
  refine r_ldcI (p := 9) f336_7 rfl rfl (pinD rfl rfl) ?_
  refine r_iclt (t := 18) (p := 12) f336_9 (by decide) rfl rfl ?_ ?_
  · refine r_iln2 (p := 19) f336_18 rfl ?_
    refine r_goto (p := 43) f336_19 (by decide) rfl ?_
    exact r_iret1 f336_43
  · refine r_iln2 (p := 13) f336_12 rfl ?_
    refine r_ldcI (p := 15) f336_13 rfl rfl (pinD rfl rfl) ?_
    refine r_icle (t := 22) (p := 18) f336_15 (by decide) rfl rfl ?_ ?_
    · refine r_iln2 (p := 19) f336_18 rfl ?_
      refine r_goto (p := 43) f336_19 (by decide) rfl ?_
      exact r_iret1 f336_43
    · refine r_ldcI (p := 24) f336_22 rfl rfl (pinD rfl rfl) ?_
      refine r_iln2 (p := 25) f336_24 rfl ?_
      refine r_ldcI (p := 27) f336_25 rfl rfl (pinD rfl rfl) ?_
      refine r_isub (p := 28) f336_27 rfl ?_
      refine r_bipush (p := 30) f336_28 rfl (pinD rfl rfl) ?_
      refine r_ishl (p := 31) f336_30 rfl ?_
      refine r_iadd (p := 32) f336_31 rfl ?_
      refine r_aln0 (p := 33) f336_32 rfl ?_
      refine r_iln1 (p := 34) f336_33 rfl ?_
      refine r_iconst (p := 35) f336_34 rfl (pinD rfl rfl) ?_
      refine r_iadd (p := 36) f336_35 rfl ?_
      have h2 := k_t1 c1 hz h1 (by decide)
      refine r_invI (p := 39) f336_36 rfl rfl rfl (Or.inl h2) hd (Nat.le_of_ble_eq_true rfl) rfl rfl rfl (fun _ => rfl) (fun v2 m2 c2 => ?_)
      have hz2 := z_k c2 hz1
      refine r_iadd (p := 40) f336_39 rfl ?_
      refine r_ldcI (p := 42) f336_40 rfl rfl (pinD rfl rfl) ?_
      refine r_isub (p := 43) f336_42 rfl ?_
      exact r_iret1 f336_43
/-! 337 PathStore$Many.<init> (Z)V -/
def w337_0 : List UInt8 := [42, 183, 0, 1, 42, 5, 189, 0, 7, 181, 0, 9, 42, 27, 181, 0, 15, 177]
abbrev u337_0 : List UInt8 := w337_0 ++ []
theorem s337_0 : (prog_12_method_1_code).data.toList.drop 0 = u337_0 := by decide +kernel
theorem Fm337 {pc len : Nat} {i : Instr} (h : decode (prog_12_method_1_code) pc = .ok (i, len)) (hl : len = ilen i len) : ft 337 pc = some (28, 0, 1, i, len) := ft_mk rfl h hl
theorem f337_0 : ft 337 0 = some (28, 0, 1, .aload_n 0, 1) := Fm337 (dk_42 (dk_at s337_0 0 rfl rfl)) rfl
theorem f337_1 : ft 337 1 = some (28, 0, 1, .invokespecial 1, 3) := Fm337 (dk_183 0 1 (dk_at s337_0 1 rfl rfl)) rfl
theorem f337_4 : ft 337 4 = some (28, 0, 1, .aload_n 0, 1) := Fm337 (dk_42 (dk_at s337_0 4 rfl rfl)) rfl
theorem f337_5 : ft 337 5 = some (28, 0, 1, .iconst 2, 1) := Fm337 (dk_5 (dk_at s337_0 5 rfl rfl)) rfl
theorem f337_6 : ft 337 6 = some (28, 0, 1, .anewarray 7, 3) := Fm337 (dk_189 0 7 (dk_at s337_0 6 rfl rfl)) rfl
theorem f337_9 : ft 337 9 = some (28, 0, 1, .putfield 9, 3) := Fm337 (dk_181 0 9 (dk_at s337_0 9 rfl rfl)) rfl
theorem f337_12 : ft 337 12 = some (28, 0, 1, .aload_n 0, 1) := Fm337 (dk_42 (dk_at s337_0 12 rfl rfl)) rfl
theorem f337_13 : ft 337 13 = some (28, 0, 1, .iload_n 1, 1) := Fm337 (dk_27 (dk_at s337_0 13 rfl rfl)) rfl
theorem f337_14 : ft 337 14 = some (28, 0, 1, .putfield 15, 3) := Fm337 (dk_181 0 15 (dk_at s337_0 14 rfl rfl)) rfl
theorem f337_17 : ft 337 17 = some (28, 0, 1, .return_, 1) := Fm337 (dk_177 (dk_at s337_0 17 rfl rfl)) rfl
theorem q337 {d : Nat} {m : Mem} {a0 a1 : Int} (hz : TZ m) : le2 (gd (tg m a0 = 28) <| nw (nx m) (mal m 338112 2) fun o1 m1 => gd (a1 = 0 ∨ a1 = 1) <| some (.inl none, (mst (mst m1 a0 1 o1) a0 0 a1))) (cl d 337 [pR a0, pI a1] m) := by
  refine q_in (n := 2) (L := [pR a0, pI a1]) rfl rfl rfl ?_
  refine r_aln0 (p := 1) f337_0 rfl ?_
  refine le2_gd (fun h1 => ?_)
  refine r_objinit (p := 4) f337_1 rfl rfl (dj1 (fun x => 0 < x ∧ x < 100) h1 (by decide)) (Nat.le_of_ble_eq_true rfl) ?_
  refine r_aln0 (p := 5) f337_4 rfl ?_
  refine r_iconst (p := 6) f337_5 rfl (pinD rfl rfl) ?_
  refine r_anewa (t1 := 338112) (p := 9) f337_6 rfl rfl (pinE rfl rfl) rfl rfl (fun o1 m1 h2 k1 => ?_)
  have hz1 := z_k k1 hz
  have h3 := k_t1 k1 hz h1 (by decide)
  refine r_pfR (f := 1) (p := 12) f337_9 rfl rfl rfl (by decide) (by decide) (Or.inl h3) rfl ?_
  refine r_aln0 (p := 13) f337_12 rfl ?_
  refine r_iln1 (p := 14) f337_13 rfl ?_
  refine le2_gd (fun h4 => ?_)
  refine r_pfZ (f := 0) (p := 17) f337_14 rfl rfl rfl (by decide) (by decide) (Or.inl h3) rfl h4 ?_
  exact r_ret f337_17
/-! 338 PathStore$Many.add (LPathStore$Test;)V -/
def w338_2 : List UInt8 := [44, 181, 0, 9, 42, 180, 0, 9, 42, 89, 180, 0, 19, 90, 4, 96, 181, 0, 19, 43, 83, 177]
abbrev u338_2 : List UInt8 := w338_2 ++ []
def w338_1 : List UInt8 := [29, 42, 180, 0, 19, 162, 0, 18, 44, 29, 42, 180, 0, 9, 29, 50, 83, 132, 3, 1, 167, 255, 236, 42]
abbrev u338_1 : List UInt8 := w338_1 ++ u338_2
def w338_0 : List UInt8 := [42, 180, 0, 19, 42, 180, 0, 9, 190, 160, 0, 43, 5, 42, 180, 0, 19, 104, 189, 0, 7, 77, 3, 62]
abbrev u338_0 : List UInt8 := w338_0 ++ u338_1
theorem s338_0 : (prog_12_method_2_code).data.toList.drop 0 = u338_0 := by decide +kernel
theorem s338_1 : (prog_12_method_2_code).data.toList.drop 24 = u338_1 := dk_seg s338_0 24 rfl rfl
theorem s338_2 : (prog_12_method_2_code).data.toList.drop 48 = u338_2 := dk_seg s338_1 24 rfl rfl
theorem Fm338 {pc len : Nat} {i : Instr} (h : decode (prog_12_method_2_code) pc = .ok (i, len)) (hl : len = ilen i len) : ft 338 pc = some (28, 0, 0, i, len) := ft_mk rfl h hl
theorem f338_0 : ft 338 0 = some (28, 0, 0, .aload_n 0, 1) := Fm338 (dk_42 (dk_at s338_0 0 rfl rfl)) rfl
theorem f338_1 : ft 338 1 = some (28, 0, 0, .getfield 19, 3) := Fm338 (dk_180 0 19 (dk_at s338_0 1 rfl rfl)) rfl
theorem f338_4 : ft 338 4 = some (28, 0, 0, .aload_n 0, 1) := Fm338 (dk_42 (dk_at s338_0 4 rfl rfl)) rfl
theorem f338_5 : ft 338 5 = some (28, 0, 0, .getfield 9, 3) := Fm338 (dk_180 0 9 (dk_at s338_0 5 rfl rfl)) rfl
theorem f338_8 : ft 338 8 = some (28, 0, 0, .arraylength, 1) := Fm338 (dk_190 (dk_at s338_0 8 rfl rfl)) rfl
theorem f338_9 : ft 338 9 = some (28, 0, 0, .if_icmp .ne 43, 3) := Fm338 (dk_160 0 43 (dk_at s338_0 9 rfl rfl)) rfl
theorem f338_12 : ft 338 12 = some (28, 0, 0, .iconst 2, 1) := Fm338 (dk_5 (dk_at s338_0 12 rfl rfl)) rfl
theorem f338_13 : ft 338 13 = some (28, 0, 0, .aload_n 0, 1) := Fm338 (dk_42 (dk_at s338_0 13 rfl rfl)) rfl
theorem f338_14 : ft 338 14 = some (28, 0, 0, .getfield 19, 3) := Fm338 (dk_180 0 19 (dk_at s338_0 14 rfl rfl)) rfl
theorem f338_17 : ft 338 17 = some (28, 0, 0, .imul, 1) := Fm338 (dk_104 (dk_at s338_0 17 rfl rfl)) rfl
theorem f338_18 : ft 338 18 = some (28, 0, 0, .anewarray 7, 3) := Fm338 (dk_189 0 7 (dk_at s338_0 18 rfl rfl)) rfl
theorem f338_21 : ft 338 21 = some (28, 0, 0, .astore_n 2, 1) := Fm338 (dk_77 (dk_at s338_0 21 rfl rfl)) rfl
theorem f338_22 : ft 338 22 = some (28, 0, 0, .iconst 0, 1) := Fm338 (dk_3 (dk_at s338_0 22 rfl rfl)) rfl
theorem f338_23 : ft 338 23 = some (28, 0, 0, .istore_n 3, 1) := Fm338 (dk_62 (dk_at s338_0 23 rfl rfl)) rfl
theorem f338_24 : ft 338 24 = some (28, 0, 0, .iload_n 3, 1) := Fm338 (dk_29 (dk_at s338_1 0 rfl rfl)) rfl
theorem f338_25 : ft 338 25 = some (28, 0, 0, .aload_n 0, 1) := Fm338 (dk_42 (dk_at s338_1 1 rfl rfl)) rfl
theorem f338_26 : ft 338 26 = some (28, 0, 0, .getfield 19, 3) := Fm338 (dk_180 0 19 (dk_at s338_1 2 rfl rfl)) rfl
theorem f338_29 : ft 338 29 = some (28, 0, 0, .if_icmp .ge 18, 3) := Fm338 (dk_162 0 18 (dk_at s338_1 5 rfl rfl)) rfl
theorem f338_32 : ft 338 32 = some (28, 0, 0, .aload_n 2, 1) := Fm338 (dk_44 (dk_at s338_1 8 rfl rfl)) rfl
theorem f338_33 : ft 338 33 = some (28, 0, 0, .iload_n 3, 1) := Fm338 (dk_29 (dk_at s338_1 9 rfl rfl)) rfl
theorem f338_34 : ft 338 34 = some (28, 0, 0, .aload_n 0, 1) := Fm338 (dk_42 (dk_at s338_1 10 rfl rfl)) rfl
theorem f338_35 : ft 338 35 = some (28, 0, 0, .getfield 9, 3) := Fm338 (dk_180 0 9 (dk_at s338_1 11 rfl rfl)) rfl
theorem f338_38 : ft 338 38 = some (28, 0, 0, .iload_n 3, 1) := Fm338 (dk_29 (dk_at s338_1 14 rfl rfl)) rfl
theorem f338_39 : ft 338 39 = some (28, 0, 0, .aaload, 1) := Fm338 (dk_50 (dk_at s338_1 15 rfl rfl)) rfl
theorem f338_40 : ft 338 40 = some (28, 0, 0, .aastore, 1) := Fm338 (dk_83 (dk_at s338_1 16 rfl rfl)) rfl
theorem f338_41 : ft 338 41 = some (28, 0, 0, .iinc 3 1, 3) := Fm338 (dk_132 3 1 (dk_at s338_1 17 rfl rfl)) rfl
theorem f338_44 : ft 338 44 = some (28, 0, 0, .goto (-20), 3) := Fm338 (dk_167 255 236 (dk_at s338_1 20 rfl rfl)) rfl
theorem f338_47 : ft 338 47 = some (28, 0, 0, .aload_n 0, 1) := Fm338 (dk_42 (dk_at s338_1 23 rfl rfl)) rfl
theorem f338_48 : ft 338 48 = some (28, 0, 0, .aload_n 2, 1) := Fm338 (dk_44 (dk_at s338_2 0 rfl rfl)) rfl
theorem f338_49 : ft 338 49 = some (28, 0, 0, .putfield 9, 3) := Fm338 (dk_181 0 9 (dk_at s338_2 1 rfl rfl)) rfl
theorem f338_52 : ft 338 52 = some (28, 0, 0, .aload_n 0, 1) := Fm338 (dk_42 (dk_at s338_2 4 rfl rfl)) rfl
theorem f338_53 : ft 338 53 = some (28, 0, 0, .getfield 9, 3) := Fm338 (dk_180 0 9 (dk_at s338_2 5 rfl rfl)) rfl
theorem f338_56 : ft 338 56 = some (28, 0, 0, .aload_n 0, 1) := Fm338 (dk_42 (dk_at s338_2 8 rfl rfl)) rfl
theorem f338_57 : ft 338 57 = some (28, 0, 0, .dup, 1) := Fm338 (dk_89 (dk_at s338_2 9 rfl rfl)) rfl
theorem f338_58 : ft 338 58 = some (28, 0, 0, .getfield 19, 3) := Fm338 (dk_180 0 19 (dk_at s338_2 10 rfl rfl)) rfl
theorem f338_61 : ft 338 61 = some (28, 0, 0, .dup_x1, 1) := Fm338 (dk_90 (dk_at s338_2 13 rfl rfl)) rfl
theorem f338_62 : ft 338 62 = some (28, 0, 0, .iconst 1, 1) := Fm338 (dk_4 (dk_at s338_2 14 rfl rfl)) rfl
theorem f338_63 : ft 338 63 = some (28, 0, 0, .iadd, 1) := Fm338 (dk_96 (dk_at s338_2 15 rfl rfl)) rfl
theorem f338_64 : ft 338 64 = some (28, 0, 0, .putfield 19, 3) := Fm338 (dk_181 0 19 (dk_at s338_2 16 rfl rfl)) rfl
theorem f338_67 : ft 338 67 = some (28, 0, 0, .aload_n 1, 1) := Fm338 (dk_43 (dk_at s338_2 19 rfl rfl)) rfl
theorem f338_68 : ft 338 68 = some (28, 0, 0, .aastore, 1) := Fm338 (dk_83 (dk_at s338_2 20 rfl rfl)) rfl
theorem f338_69 : ft 338 69 = some (28, 0, 0, .return_, 1) := Fm338 (dk_177 (dk_at s338_2 21 rfl rfl)) rfl
theorem q338 {d : Nat} {m : Mem} {a0 a1 : Int} (hz : TZ m) : le2 (gd (tg m a0 = 28) <| nm (vl m a0 2) fun v2 => nm (vl m a0 1) fun v3 => gd (tg m v3 = 338112 ∨ tg m v3 = 339112) <| if v2 = (ln m v3) then (nm (w32 (2 * v2)) fun v4 => gd ((0 : Int) ≤ v4 ∧ v4 ≤ 2000000) <| nw (nx m) (mal m 339112 v4) fun o1 m1 => rn d 338 24 [pR a0, pR a1, pR o1, pI 0] [] m1) else rn d 338 52 [pR a0, pR a1, pU, pU] [] m) (cl d 338 [pR a0, pR a1] m) := by
  refine q_in (n := 4) (L := [pR a0, pR a1, pU, pU]) rfl rfl rfl ?_
  refine r_aln0 (p := 1) f338_0 rfl ?_
  refine le2_gd (fun h1 => ?_)
  refine r_gfI (f := 2) (p := 4) f338_1 rfl rfl rfl (Or.inl h1) rfl ?_
  refine r_nmI (fun v2 ev2 => ?_)
  refine r_aln0 (p := 5) f338_4 rfl ?_
  refine r_gfR (f := 1) (p := 8) f338_5 rfl rfl rfl (Or.inl h1) rfl ?_
  refine r_nmR (fun v3 ev3 => ?_)
  refine le2_gd (fun h2 => ?_)
  refine r_alen (p := 9) f338_8 rfl (dj2 (fun x => 100 < x % 1000 ∧ x % 1000 < 119) h2 (by decide) (by decide)) ?_
  refine r_icne (t := 52) (p := 12) f338_9 (by decide) rfl rfl ?_ ?_
  · refine r_iconst (p := 13) f338_12 rfl (pinD rfl rfl) ?_
    refine r_aln0 (p := 14) f338_13 rfl ?_
    refine r_gfI (f := 2) (p := 17) f338_14 rfl rfl rfl (Or.inl h1) ev2.symm ?_
    refine r_imul (p := 18) f338_17 rfl ?_
    refine r_nmI (fun v4 ev4 => ?_)
    refine le2_gd (fun h3 => ?_)
    refine r_anewa (t1 := 339112) (p := 21) f338_18 rfl rfl h3 rfl rfl (fun o1 m1 h4 k1 => ?_)
    have hz1 := z_k k1 hz
    refine r_asn2 (p := 22) f338_21 rfl rfl ?_
    refine r_iconst (p := 23) f338_22 rfl (pinD rfl rfl) ?_
    refine r_isn3 (p := 24) f338_23 rfl rfl ?_
    exact le2_refl _
  · exact le2_refl _
theorem q338_24 {d : Nat} {m : Mem} {a0 a1 a2 a3 : Int} (hz : TZ m) : le2 (gd (tg m a0 = 28) <| if a3 < (vl m a0 2) then (nm (vl m a0 1) fun v1 => gd (tg m v1 = 338112 ∨ tg m v1 = 339112) <| gd ((0 : Int) ≤ a3 ∧ a3 < ln m v1) <| nm (vl m v1 a3) fun v2 => gd (tg m a2 = 339112) <| gd ((0 : Int) ≤ a3 ∧ a3 < ln m a2) <| gd (aOk (tg m a2 % 1000) (tg m v2) = true) <| rn d 338 24 [pR a0, pR a1, pR a2, pI (w32 (a3 + 1))] [] (mst m a2 a3 v2)) else rn d 338 52 [pR a0, pR a1, pR a2, pI a3] [] (mst m a0 1 a2)) (rn d 338 24 [pR a0, pR a1, pR a2, pI a3] [] m) := by
  refine r_iln3 (p := 25) f338_24 rfl ?_
  refine r_aln0 (p := 26) f338_25 rfl ?_
  refine le2_gd (fun h1 => ?_)
  refine r_gfI (f := 2) (p := 29) f338_26 rfl rfl rfl (Or.inl h1) rfl ?_
  refine r_icge (t := 47) (p := 32) f338_29 (by decide) rfl rfl ?_ ?_
  · refine r_aln2 (p := 33) f338_32 rfl ?_
    refine r_iln3 (p := 34) f338_33 rfl ?_
    refine r_aln0 (p := 35) f338_34 rfl ?_
    refine r_gfR (f := 1) (p := 38) f338_35 rfl rfl rfl (Or.inl h1) rfl ?_
    refine r_nmR (fun v1 ev1 => ?_)
    refine r_iln3 (p := 39) f338_38 rfl ?_
    refine le2_gd (fun h2 => ?_)
    refine le2_gd (fun h3 => ?_)
    refine r_aaload (p := 40) f338_39 rfl (dj2 (fun x => 110 < x % 1000 ∧ x % 1000 < 119) h2 (by decide) (by decide)) h3 rfl ?_
    refine r_nmR (fun v2 ev2 => ?_)
    refine le2_gd (fun h4 => ?_)
    refine le2_gd (fun h5 => ?_)
    refine le2_gd (fun h6 => ?_)
    refine r_aastore (p := 41) f338_40 rfl (dj1 (fun x => 1000 ≤ x ∧ (110 < x % 1000 ∧ x % 1000 < 119) ∧ Nat.testBit (eM 338) (bix x 0) = true) h4 (by decide)) h5 h6 ?_
    refine r_iinc3 (p := 44) f338_41 rfl rfl ?_
    refine r_goto (p := 24) f338_44 (by decide) rfl ?_
    exact le2_refl _
  · refine r_aln0 (p := 48) f338_47 rfl ?_
    refine r_aln2 (p := 49) f338_48 rfl ?_
    refine r_pfR (f := 1) (p := 52) f338_49 rfl rfl rfl (by decide) (by decide) (Or.inl h1) rfl ?_
    exact le2_refl _
theorem q338_52 {d : Nat} {m : Mem} {a0 a1 : Int} {z2 z3 : PV} (hz : TZ m) (hcz2 : cat z2 = 1) (hcz3 : cat z3 = 1) : le2 (gd (tg m a0 = 28) <| nm (vl m a0 1) fun v1 => nm (vl m a0 2) fun v2 => gd (tg m v1 = 338112 ∨ tg m v1 = 339112) <| gd ((0 : Int) ≤ v2 ∧ v2 < ln m v1) <| gd (aOk (tg m v1 % 1000) (tg m a1) = true) <| some (.inl none, (mst (mst m a0 2 (w32 (v2 + 1))) v1 v2 a1))) (rn d 338 52 [pR a0, pR a1, z2, z3] [] m) := by
  refine r_aln0 (p := 53) f338_52 rfl ?_
  refine le2_gd (fun h1 => ?_)
  refine r_gfR (f := 1) (p := 56) f338_53 rfl rfl rfl (Or.inl h1) rfl ?_
  refine r_nmR (fun v1 ev1 => ?_)
  refine r_aln0 (p := 57) f338_56 rfl ?_
  refine r_dup (p := 58) f338_57 rfl rfl ?_
  refine r_gfI (f := 2) (p := 61) f338_58 rfl rfl rfl (Or.inl h1) rfl ?_
  refine r_nmI (fun v2 ev2 => ?_)
  refine r_dup_x1 (p := 62) f338_61 rfl rfl rfl ?_
  refine r_iconst (p := 63) f338_62 rfl (pinD rfl rfl) ?_
  refine r_iadd (p := 64) f338_63 rfl ?_
  refine r_pfI (f := 2) (p := 67) f338_64 rfl rfl rfl (by decide) (by decide) (Or.inl h1) rfl ?_
  refine r_aln1 (p := 68) f338_67 rfl ?_
  refine le2_gd (fun h2 => ?_)
  refine le2_gd (fun h3 => ?_)
  refine le2_gd (fun h4 => ?_)
  refine r_aastore (p := 69) f338_68 rfl (dj2 (fun x => 1000 ≤ x ∧ (110 < x % 1000 ∧ x % 1000 < 119) ∧ Nat.testBit (eM 338) (bix x 0) = true) h2 (by decide) (by decide)) h3 h4 ?_
  exact r_ret f338_69
/-! 339 PathStore$Many.holds (LPathStore$Runner;I)Z -/
def w339_2 : List UInt8 := [4, 167, 0, 4, 3, 172]
abbrev u339_2 : List UInt8 := w339_2 ++ []
def w339_1 : List UInt8 := [180, 0, 15, 160, 0, 8, 42, 180, 0, 15, 172, 132, 3, 1, 167, 255, 220, 42, 180, 0, 15, 154, 0, 7]
abbrev u339_1 : List UInt8 := w339_1 ++ u339_2
def w339_0 : List UInt8 := [3, 62, 29, 42, 180, 0, 19, 162, 0, 34, 42, 180, 0, 9, 29, 50, 43, 28, 185, 0, 23, 3, 0, 42]
abbrev u339_0 : List UInt8 := w339_0 ++ u339_1
theorem s339_0 : (prog_12_method_3_code).data.toList.drop 0 = u339_0 := by decide +kernel
theorem s339_1 : (prog_12_method_3_code).data.toList.drop 24 = u339_1 := dk_seg s339_0 24 rfl rfl
theorem s339_2 : (prog_12_method_3_code).data.toList.drop 48 = u339_2 := dk_seg s339_1 24 rfl rfl
theorem Fm339 {pc len : Nat} {i : Instr} (h : decode (prog_12_method_3_code) pc = .ok (i, len)) (hl : len = ilen i len) : ft 339 pc = some (28, 4, 0, i, len) := ft_mk rfl h hl
theorem f339_0 : ft 339 0 = some (28, 4, 0, .iconst 0, 1) := Fm339 (dk_3 (dk_at s339_0 0 rfl rfl)) rfl
theorem f339_1 : ft 339 1 = some (28, 4, 0, .istore_n 3, 1) := Fm339 (dk_62 (dk_at s339_0 1 rfl rfl)) rfl
theorem f339_2 : ft 339 2 = some (28, 4, 0, .iload_n 3, 1) := Fm339 (dk_29 (dk_at s339_0 2 rfl rfl)) rfl
theorem f339_3 : ft 339 3 = some (28, 4, 0, .aload_n 0, 1) := Fm339 (dk_42 (dk_at s339_0 3 rfl rfl)) rfl
theorem f339_4 : ft 339 4 = some (28, 4, 0, .getfield 19, 3) := Fm339 (dk_180 0 19 (dk_at s339_0 4 rfl rfl)) rfl
theorem f339_7 : ft 339 7 = some (28, 4, 0, .if_icmp .ge 34, 3) := Fm339 (dk_162 0 34 (dk_at s339_0 7 rfl rfl)) rfl
theorem f339_10 : ft 339 10 = some (28, 4, 0, .aload_n 0, 1) := Fm339 (dk_42 (dk_at s339_0 10 rfl rfl)) rfl
theorem f339_11 : ft 339 11 = some (28, 4, 0, .getfield 9, 3) := Fm339 (dk_180 0 9 (dk_at s339_0 11 rfl rfl)) rfl
theorem f339_14 : ft 339 14 = some (28, 4, 0, .iload_n 3, 1) := Fm339 (dk_29 (dk_at s339_0 14 rfl rfl)) rfl
theorem f339_15 : ft 339 15 = some (28, 4, 0, .aaload, 1) := Fm339 (dk_50 (dk_at s339_0 15 rfl rfl)) rfl
theorem f339_16 : ft 339 16 = some (28, 4, 0, .aload_n 1, 1) := Fm339 (dk_43 (dk_at s339_0 16 rfl rfl)) rfl
theorem f339_17 : ft 339 17 = some (28, 4, 0, .iload_n 2, 1) := Fm339 (dk_28 (dk_at s339_0 17 rfl rfl)) rfl
theorem f339_18 : ft 339 18 = some (28, 4, 0, .invokeinterface 23 3, 5) := Fm339 (by decide +kernel) rfl
theorem f339_23 : ft 339 23 = some (28, 4, 0, .aload_n 0, 1) := Fm339 (dk_42 (dk_at s339_0 23 rfl rfl)) rfl
theorem f339_24 : ft 339 24 = some (28, 4, 0, .getfield 15, 3) := Fm339 (dk_180 0 15 (dk_at s339_1 0 rfl rfl)) rfl
theorem f339_27 : ft 339 27 = some (28, 4, 0, .if_icmp .ne 8, 3) := Fm339 (dk_160 0 8 (dk_at s339_1 3 rfl rfl)) rfl
theorem f339_30 : ft 339 30 = some (28, 4, 0, .aload_n 0, 1) := Fm339 (dk_42 (dk_at s339_1 6 rfl rfl)) rfl
theorem f339_31 : ft 339 31 = some (28, 4, 0, .getfield 15, 3) := Fm339 (dk_180 0 15 (dk_at s339_1 7 rfl rfl)) rfl
theorem f339_34 : ft 339 34 = some (28, 4, 0, .ireturn, 1) := Fm339 (dk_172 (dk_at s339_1 10 rfl rfl)) rfl
theorem f339_35 : ft 339 35 = some (28, 4, 0, .iinc 3 1, 3) := Fm339 (dk_132 3 1 (dk_at s339_1 11 rfl rfl)) rfl
theorem f339_38 : ft 339 38 = some (28, 4, 0, .goto (-36), 3) := Fm339 (dk_167 255 220 (dk_at s339_1 14 rfl rfl)) rfl
theorem f339_41 : ft 339 41 = some (28, 4, 0, .aload_n 0, 1) := Fm339 (dk_42 (dk_at s339_1 17 rfl rfl)) rfl
theorem f339_42 : ft 339 42 = some (28, 4, 0, .getfield 15, 3) := Fm339 (dk_180 0 15 (dk_at s339_1 18 rfl rfl)) rfl
theorem f339_45 : ft 339 45 = some (28, 4, 0, .ifCond .ne 7, 3) := Fm339 (dk_154 0 7 (dk_at s339_1 21 rfl rfl)) rfl
theorem f339_48 : ft 339 48 = some (28, 4, 0, .iconst 1, 1) := Fm339 (dk_4 (dk_at s339_2 0 rfl rfl)) rfl
theorem f339_49 : ft 339 49 = some (28, 4, 0, .goto 4, 3) := Fm339 (dk_167 0 4 (dk_at s339_2 1 rfl rfl)) rfl
theorem f339_52 : ft 339 52 = some (28, 4, 0, .iconst 0, 1) := Fm339 (dk_3 (dk_at s339_2 4 rfl rfl)) rfl
theorem f339_53 : ft 339 53 = some (28, 4, 0, .ireturn, 1) := Fm339 (dk_172 (dk_at s339_2 5 rfl rfl)) rfl
theorem q339 {d : Nat} {m : Mem} {a0 a1 a2 : Int} (hz : TZ m) : le2 (rn d 339 2 [pR a0, pR a1, pI a2, pI 0] [] m) (cl d 339 [pR a0, pR a1, pI a2] m) := by
  refine q_in (n := 4) (L := [pR a0, pR a1, pI a2, pU]) rfl rfl rfl ?_
  refine r_iconst (p := 1) f339_0 rfl (pinD rfl rfl) ?_
  refine r_isn3 (p := 2) f339_1 rfl rfl ?_
  exact le2_refl _
theorem q339_2 {d : Nat} {m : Mem} {a0 a1 a2 a3 : Int} (hd : 0 < d) (hz : TZ m) : le2 (gd (tg m a0 = 28) <| if a3 < (vl m a0 2) then (nm (vl m a0 1) fun v2 => gd (tg m v2 = 338112 ∨ tg m v2 = 339112) <| gd ((0 : Int) ≤ a3 ∧ a3 < ln m v2) <| nm (vl m v2 a3) fun v3 => gd (0 < tg m v3) <| bI (ci (d - 1) 302 (tg m v3) [pR v3, pR a1, pI a2] m) fun v1 m1 => nm (vl m1 a0 0) fun v4 => if v1 = v4 then (gd (v4 = 0 ∨ v4 = 1) <| some (.inl (some (pI v4)), m1)) else rn d 339 2 [pR a0, pR a1, pI a2, pI (w32 (a3 + 1))] [] m1) else if (vl m a0 0) = 0 then (some (.inl (some (pI 1)), m)) else some (.inl (some (pI 0)), m)) (rn d 339 2 [pR a0, pR a1, pI a2, pI a3] [] m) := by
  refine r_iln3 (p := 3) f339_2 rfl ?_
  refine r_aln0 (p := 4) f339_3 rfl ?_
  refine le2_gd (fun h1 => ?_)
  refine r_gfI (f := 2) (p := 7) f339_4 rfl rfl rfl (Or.inl h1) rfl ?_
  refine r_icge (t := 41) (p := 10) f339_7 (by decide) rfl rfl ?_ ?_
  · refine r_aln0 (p := 11) f339_10 rfl ?_
    refine r_gfR (f := 1) (p := 14) f339_11 rfl rfl rfl (Or.inl h1) rfl ?_
    refine r_nmR (fun v2 ev2 => ?_)
    refine r_iln3 (p := 15) f339_14 rfl ?_
    refine le2_gd (fun h2 => ?_)
    refine le2_gd (fun h3 => ?_)
    refine r_aaload (p := 16) f339_15 rfl (dj2 (fun x => 110 < x % 1000 ∧ x % 1000 < 119) h2 (by decide) (by decide)) h3 rfl ?_
    refine r_nmR (fun v3 ev3 => ?_)
    refine r_aln1 (p := 17) f339_16 rfl ?_
    refine r_iln2 (p := 18) f339_17 rfl ?_
    refine le2_gd (fun h4 => ?_)
    refine r_infI (p := 23) f339_18 rfl rfl rfl h4 hd (Nat.le_of_ble_eq_true rfl) rfl rfl (fun _ => rfl) (fun v1 m1 c1 => ?_)
    have hz1 := z_k c1 hz
    refine r_aln0 (p := 24) f339_23 rfl ?_
    have h5 := k_t1 c1 hz h1 (by decide)
    refine r_gfIZ (f := 0) (p := 27) f339_24 rfl rfl rfl (Or.inl h5) rfl ?_
    refine r_nmI (fun v4 ev4 => ?_)
    refine r_icne (t := 35) (p := 30) f339_27 (by decide) rfl rfl ?_ ?_
    · refine r_aln0 (p := 31) f339_30 rfl ?_
      refine r_gfIZ (f := 0) (p := 34) f339_31 rfl rfl rfl (Or.inl h5) ev4.symm ?_
      refine le2_gd (fun h6 => ?_)
      exact r_iret4 f339_34 h6
    · refine r_iinc3 (p := 38) f339_35 rfl rfl ?_
      refine r_goto (p := 2) f339_38 (by decide) rfl ?_
      exact le2_refl _
  · refine r_aln0 (p := 42) f339_41 rfl ?_
    refine r_gfIZ (f := 0) (p := 45) f339_42 rfl rfl rfl (Or.inl h1) rfl ?_
    refine r_ifne (t := 52) (p := 48) f339_45 (by decide) rfl rfl ?_ ?_
    · refine r_iconst (p := 49) f339_48 rfl (pinD rfl rfl) ?_
      refine r_goto (p := 53) f339_49 (by decide) rfl ?_
      exact r_iret4 f339_53 (by decide)
    · refine r_iconst (p := 53) f339_52 rfl (pinD rfl rfl) ?_
      exact r_iret4 f339_53 (by decide)
/-! 340 PathStore$Slice.<init> (ZJZJJ)V -/
def w340_1 : List UInt8 := [181, 0, 22, 42, 22, 7, 181, 0, 25, 177]
abbrev u340_1 : List UInt8 := w340_1 ++ []
def w340_0 : List UInt8 := [42, 183, 0, 3, 42, 27, 181, 0, 9, 42, 32, 181, 0, 15, 42, 21, 4, 181, 0, 19, 42, 22, 5]
abbrev u340_0 : List UInt8 := w340_0 ++ u340_1
theorem s340_0 : (prog_26_method_1_code).data.toList.drop 0 = u340_0 := by decide +kernel
theorem s340_1 : (prog_26_method_1_code).data.toList.drop 23 = u340_1 := dk_seg s340_0 23 rfl rfl
theorem Fm340 {pc len : Nat} {i : Instr} (h : decode (prog_26_method_1_code) pc = .ok (i, len)) (hl : len = ilen i len) : ft 340 pc = some (29, 0, 1, i, len) := ft_mk rfl h hl
theorem f340_0 : ft 340 0 = some (29, 0, 1, .aload_n 0, 1) := Fm340 (dk_42 (dk_at s340_0 0 rfl rfl)) rfl
theorem f340_1 : ft 340 1 = some (29, 0, 1, .invokespecial 3, 3) := Fm340 (dk_183 0 3 (dk_at s340_0 1 rfl rfl)) rfl
theorem f340_4 : ft 340 4 = some (29, 0, 1, .aload_n 0, 1) := Fm340 (dk_42 (dk_at s340_0 4 rfl rfl)) rfl
theorem f340_5 : ft 340 5 = some (29, 0, 1, .iload_n 1, 1) := Fm340 (dk_27 (dk_at s340_0 5 rfl rfl)) rfl
theorem f340_6 : ft 340 6 = some (29, 0, 1, .putfield 9, 3) := Fm340 (dk_181 0 9 (dk_at s340_0 6 rfl rfl)) rfl
theorem f340_9 : ft 340 9 = some (29, 0, 1, .aload_n 0, 1) := Fm340 (dk_42 (dk_at s340_0 9 rfl rfl)) rfl
theorem f340_10 : ft 340 10 = some (29, 0, 1, .lload_n 2, 1) := Fm340 (dk_32 (dk_at s340_0 10 rfl rfl)) rfl
theorem f340_11 : ft 340 11 = some (29, 0, 1, .putfield 15, 3) := Fm340 (dk_181 0 15 (dk_at s340_0 11 rfl rfl)) rfl
theorem f340_14 : ft 340 14 = some (29, 0, 1, .aload_n 0, 1) := Fm340 (dk_42 (dk_at s340_0 14 rfl rfl)) rfl
theorem f340_15 : ft 340 15 = some (29, 0, 1, .iload 4, 2) := Fm340 (dk_21 4 (dk_at s340_0 15 rfl rfl)) rfl
theorem f340_17 : ft 340 17 = some (29, 0, 1, .putfield 19, 3) := Fm340 (dk_181 0 19 (dk_at s340_0 17 rfl rfl)) rfl
theorem f340_20 : ft 340 20 = some (29, 0, 1, .aload_n 0, 1) := Fm340 (dk_42 (dk_at s340_0 20 rfl rfl)) rfl
theorem f340_21 : ft 340 21 = some (29, 0, 1, .lload 5, 2) := Fm340 (dk_22 5 (dk_at s340_0 21 rfl rfl)) rfl
theorem f340_23 : ft 340 23 = some (29, 0, 1, .putfield 22, 3) := Fm340 (dk_181 0 22 (dk_at s340_1 0 rfl rfl)) rfl
theorem f340_26 : ft 340 26 = some (29, 0, 1, .aload_n 0, 1) := Fm340 (dk_42 (dk_at s340_1 3 rfl rfl)) rfl
theorem f340_27 : ft 340 27 = some (29, 0, 1, .lload 7, 2) := Fm340 (dk_22 7 (dk_at s340_1 4 rfl rfl)) rfl
theorem f340_29 : ft 340 29 = some (29, 0, 1, .putfield 25, 3) := Fm340 (dk_181 0 25 (dk_at s340_1 6 rfl rfl)) rfl
theorem f340_32 : ft 340 32 = some (29, 0, 1, .return_, 1) := Fm340 (dk_177 (dk_at s340_1 9 rfl rfl)) rfl
theorem q340 {d : Nat} {m : Mem} {a0 a1 a2 a4 a5 a7 : Int} (hz : TZ m) : le2 (gd (tg m a0 = 29) <| gd (a1 = 0 ∨ a1 = 1) <| gd (a4 = 0 ∨ a4 = 1) <| some (.inl none, (mst (mst (mst (mst (mst m a0 0 a1) a0 1 a2) a0 2 a4) a0 3 a5) a0 4 a7))) (cl d 340 [pR a0, pI a1, pL a2, pI a4, pL a5, pL a7] m) := by
  refine q_in (n := 9) (L := [pR a0, pI a1, pL a2, pU, pI a4, pL a5, pU, pL a7, pU]) rfl rfl rfl ?_
  refine r_aln0 (p := 1) f340_0 rfl ?_
  refine le2_gd (fun h1 => ?_)
  refine r_objinit (p := 4) f340_1 rfl rfl (dj1 (fun x => 0 < x ∧ x < 100) h1 (by decide)) (Nat.le_of_ble_eq_true rfl) ?_
  refine r_aln0 (p := 5) f340_4 rfl ?_
  refine r_iln1 (p := 6) f340_5 rfl ?_
  refine le2_gd (fun h2 => ?_)
  refine r_pfZ (f := 0) (p := 9) f340_6 rfl rfl rfl (by decide) (by decide) (Or.inl h1) rfl h2 ?_
  refine r_aln0 (p := 10) f340_9 rfl ?_
  refine r_lln2 (p := 11) f340_10 rfl ?_
  refine r_pfJ (f := 1) (p := 14) f340_11 rfl rfl rfl (by decide) (by decide) (Or.inl h1) rfl ?_
  refine r_aln0 (p := 15) f340_14 rfl ?_
  refine r_ilw4 (p := 17) f340_15 rfl ?_
  refine le2_gd (fun h3 => ?_)
  refine r_pfZ (f := 2) (p := 20) f340_17 rfl rfl rfl (by decide) (by decide) (Or.inl h1) rfl h3 ?_
  refine r_aln0 (p := 21) f340_20 rfl ?_
  refine r_llw5 (p := 23) f340_21 rfl ?_
  refine r_pfJ (f := 3) (p := 26) f340_23 rfl rfl rfl (by decide) (by decide) (Or.inl h1) rfl ?_
  refine r_aln0 (p := 27) f340_26 rfl ?_
  refine r_llw7 (p := 29) f340_27 rfl ?_
  refine r_pfJ (f := 4) (p := 32) f340_29 rfl rfl rfl (by decide) (by decide) (Or.inl h1) rfl ?_
  exact r_ret f340_32
/-! 341 PathStore$Slice.choose (LPathStore$Runner;I)V -/
def w341_9 : List UInt8 := [55, 7, 167, 255, 225, 177]
abbrev u341_9 : List UInt8 := w341_9 ++ []
def w341_8 : List UInt8 := [158, 0, 29, 43, 43, 180, 0, 37, 28, 22, 7, 182, 0, 56, 182, 0, 60, 22, 7, 42, 180, 0, 25, 97]
abbrev u341_8 : List UInt8 := w341_8 ++ u341_9
def w341_7 : List UInt8 := [33, 20, 0, 64, 33, 10, 101, 184, 0, 52, 167, 0, 6, 33, 10, 101, 55, 7, 22, 7, 22, 5, 148]
abbrev u341_7 : List UInt8 := w341_7 ++ u341_8
def w341_6 : List UInt8 := [10, 101, 184, 0, 52, 167, 0, 6, 20, 0, 64, 55, 5, 42, 180, 0, 9, 153, 0, 20, 42, 180, 0, 15]
abbrev u341_6 : List UInt8 := w341_6 ++ u341_7
def w341_5 : List UInt8 := [55, 7, 167, 255, 225, 167, 0, 95, 42, 180, 0, 19, 153, 0, 20, 42, 180, 0, 22, 33, 20, 0, 64, 33]
abbrev u341_5 : List UInt8 := w341_5 ++ u341_6
def w341_4 : List UInt8 := [156, 0, 29, 43, 43, 180, 0, 37, 28, 22, 7, 182, 0, 56, 182, 0, 60, 22, 7, 42, 180, 0, 25, 97]
abbrev u341_4 : List UInt8 := w341_4 ++ u341_5
def w341_3 : List UInt8 := [153, 0, 16, 42, 180, 0, 15, 33, 9, 33, 184, 0, 52, 167, 0, 4, 9, 55, 7, 22, 7, 22, 5, 148]
abbrev u341_3 : List UInt8 := w341_3 ++ u341_4
def w341_2 : List UInt8 := [153, 0, 16, 42, 180, 0, 22, 33, 9, 33, 184, 0, 52, 167, 0, 4, 33, 55, 5, 42, 180, 0, 9]
abbrev u341_2 : List UInt8 := w341_2 ++ u341_3
def w341_1 : List UInt8 := [180, 0, 37, 28, 182, 0, 49, 133, 66, 42, 180, 0, 25, 9, 148, 158, 0, 86, 42, 180, 0, 19]
abbrev u341_1 : List UInt8 := w341_1 ++ u341_2
def w341_0 : List UInt8 := [43, 180, 0, 37, 28, 182, 0, 43, 8, 160, 0, 12, 42, 180, 0, 25, 9, 148, 154, 0, 4, 177, 43]
abbrev u341_0 : List UInt8 := w341_0 ++ u341_1
theorem s341_0 : (prog_26_method_3_code).data.toList.drop 0 = u341_0 := by decide +kernel
theorem s341_1 : (prog_26_method_3_code).data.toList.drop 23 = u341_1 := dk_seg s341_0 23 rfl rfl
theorem s341_2 : (prog_26_method_3_code).data.toList.drop 45 = u341_2 := dk_seg s341_1 22 rfl rfl
theorem s341_3 : (prog_26_method_3_code).data.toList.drop 68 = u341_3 := dk_seg s341_2 23 rfl rfl
theorem s341_4 : (prog_26_method_3_code).data.toList.drop 92 = u341_4 := dk_seg s341_3 24 rfl rfl
theorem s341_5 : (prog_26_method_3_code).data.toList.drop 116 = u341_5 := dk_seg s341_4 24 rfl rfl
theorem s341_6 : (prog_26_method_3_code).data.toList.drop 140 = u341_6 := dk_seg s341_5 24 rfl rfl
theorem s341_7 : (prog_26_method_3_code).data.toList.drop 164 = u341_7 := dk_seg s341_6 24 rfl rfl
theorem s341_8 : (prog_26_method_3_code).data.toList.drop 187 = u341_8 := dk_seg s341_7 23 rfl rfl
theorem s341_9 : (prog_26_method_3_code).data.toList.drop 211 = u341_9 := dk_seg s341_8 24 rfl rfl
theorem Fm341 {pc len : Nat} {i : Instr} (h : decode (prog_26_method_3_code) pc = .ok (i, len)) (hl : len = ilen i len) : ft 341 pc = some (29, 0, 0, i, len) := ft_mk rfl h hl
theorem f341_0 : ft 341 0 = some (29, 0, 0, .aload_n 1, 1) := Fm341 (dk_43 (dk_at s341_0 0 rfl rfl)) rfl
theorem f341_1 : ft 341 1 = some (29, 0, 0, .getfield 37, 3) := Fm341 (dk_180 0 37 (dk_at s341_0 1 rfl rfl)) rfl
theorem f341_4 : ft 341 4 = some (29, 0, 0, .iload_n 2, 1) := Fm341 (dk_28 (dk_at s341_0 4 rfl rfl)) rfl
theorem f341_5 : ft 341 5 = some (29, 0, 0, .invokevirtual 43, 3) := Fm341 (dk_182 0 43 (dk_at s341_0 5 rfl rfl)) rfl
theorem f341_8 : ft 341 8 = some (29, 0, 0, .iconst 5, 1) := Fm341 (dk_8 (dk_at s341_0 8 rfl rfl)) rfl
theorem f341_9 : ft 341 9 = some (29, 0, 0, .if_icmp .ne 12, 3) := Fm341 (dk_160 0 12 (dk_at s341_0 9 rfl rfl)) rfl
theorem f341_12 : ft 341 12 = some (29, 0, 0, .aload_n 0, 1) := Fm341 (dk_42 (dk_at s341_0 12 rfl rfl)) rfl
theorem f341_13 : ft 341 13 = some (29, 0, 0, .getfield 25, 3) := Fm341 (dk_180 0 25 (dk_at s341_0 13 rfl rfl)) rfl
theorem f341_16 : ft 341 16 = some (29, 0, 0, .lconst 0, 1) := Fm341 (dk_9 (dk_at s341_0 16 rfl rfl)) rfl
theorem f341_17 : ft 341 17 = some (29, 0, 0, .lcmp, 1) := Fm341 (dk_148 (dk_at s341_0 17 rfl rfl)) rfl
theorem f341_18 : ft 341 18 = some (29, 0, 0, .ifCond .ne 4, 3) := Fm341 (dk_154 0 4 (dk_at s341_0 18 rfl rfl)) rfl
theorem f341_21 : ft 341 21 = some (29, 0, 0, .return_, 1) := Fm341 (dk_177 (dk_at s341_0 21 rfl rfl)) rfl
theorem f341_22 : ft 341 22 = some (29, 0, 0, .aload_n 1, 1) := Fm341 (dk_43 (dk_at s341_0 22 rfl rfl)) rfl
theorem f341_23 : ft 341 23 = some (29, 0, 0, .getfield 37, 3) := Fm341 (dk_180 0 37 (dk_at s341_1 0 rfl rfl)) rfl
theorem f341_26 : ft 341 26 = some (29, 0, 0, .iload_n 2, 1) := Fm341 (dk_28 (dk_at s341_1 3 rfl rfl)) rfl
theorem f341_27 : ft 341 27 = some (29, 0, 0, .invokevirtual 49, 3) := Fm341 (dk_182 0 49 (dk_at s341_1 4 rfl rfl)) rfl
theorem f341_30 : ft 341 30 = some (29, 0, 0, .i2l, 1) := Fm341 (dk_133 (dk_at s341_1 7 rfl rfl)) rfl
theorem f341_31 : ft 341 31 = some (29, 0, 0, .lstore_n 3, 1) := Fm341 (dk_66 (dk_at s341_1 8 rfl rfl)) rfl
theorem f341_32 : ft 341 32 = some (29, 0, 0, .aload_n 0, 1) := Fm341 (dk_42 (dk_at s341_1 9 rfl rfl)) rfl
theorem f341_33 : ft 341 33 = some (29, 0, 0, .getfield 25, 3) := Fm341 (dk_180 0 25 (dk_at s341_1 10 rfl rfl)) rfl
theorem f341_36 : ft 341 36 = some (29, 0, 0, .lconst 0, 1) := Fm341 (dk_9 (dk_at s341_1 13 rfl rfl)) rfl
theorem f341_37 : ft 341 37 = some (29, 0, 0, .lcmp, 1) := Fm341 (dk_148 (dk_at s341_1 14 rfl rfl)) rfl
theorem f341_38 : ft 341 38 = some (29, 0, 0, .ifCond .le 86, 3) := Fm341 (dk_158 0 86 (dk_at s341_1 15 rfl rfl)) rfl
theorem f341_41 : ft 341 41 = some (29, 0, 0, .aload_n 0, 1) := Fm341 (dk_42 (dk_at s341_1 18 rfl rfl)) rfl
theorem f341_42 : ft 341 42 = some (29, 0, 0, .getfield 19, 3) := Fm341 (dk_180 0 19 (dk_at s341_1 19 rfl rfl)) rfl
theorem f341_45 : ft 341 45 = some (29, 0, 0, .ifCond .eq 16, 3) := Fm341 (dk_153 0 16 (dk_at s341_2 0 rfl rfl)) rfl
theorem f341_48 : ft 341 48 = some (29, 0, 0, .aload_n 0, 1) := Fm341 (dk_42 (dk_at s341_2 3 rfl rfl)) rfl
theorem f341_49 : ft 341 49 = some (29, 0, 0, .getfield 22, 3) := Fm341 (dk_180 0 22 (dk_at s341_2 4 rfl rfl)) rfl
theorem f341_52 : ft 341 52 = some (29, 0, 0, .lload_n 3, 1) := Fm341 (dk_33 (dk_at s341_2 7 rfl rfl)) rfl
theorem f341_53 : ft 341 53 = some (29, 0, 0, .lconst 0, 1) := Fm341 (dk_9 (dk_at s341_2 8 rfl rfl)) rfl
theorem f341_54 : ft 341 54 = some (29, 0, 0, .lload_n 3, 1) := Fm341 (dk_33 (dk_at s341_2 9 rfl rfl)) rfl
theorem f341_55 : ft 341 55 = some (29, 0, 0, .invokestatic 52, 3) := Fm341 (dk_184 0 52 (dk_at s341_2 10 rfl rfl)) rfl
theorem f341_58 : ft 341 58 = some (29, 0, 0, .goto 4, 3) := Fm341 (dk_167 0 4 (dk_at s341_2 13 rfl rfl)) rfl
theorem f341_61 : ft 341 61 = some (29, 0, 0, .lload_n 3, 1) := Fm341 (dk_33 (dk_at s341_2 16 rfl rfl)) rfl
theorem f341_62 : ft 341 62 = some (29, 0, 0, .lstore 5, 2) := Fm341 (dk_55 5 (dk_at s341_2 17 rfl rfl)) rfl
theorem f341_64 : ft 341 64 = some (29, 0, 0, .aload_n 0, 1) := Fm341 (dk_42 (dk_at s341_2 19 rfl rfl)) rfl
theorem f341_65 : ft 341 65 = some (29, 0, 0, .getfield 9, 3) := Fm341 (dk_180 0 9 (dk_at s341_2 20 rfl rfl)) rfl
theorem f341_68 : ft 341 68 = some (29, 0, 0, .ifCond .eq 16, 3) := Fm341 (dk_153 0 16 (dk_at s341_3 0 rfl rfl)) rfl
theorem f341_71 : ft 341 71 = some (29, 0, 0, .aload_n 0, 1) := Fm341 (dk_42 (dk_at s341_3 3 rfl rfl)) rfl
theorem f341_72 : ft 341 72 = some (29, 0, 0, .getfield 15, 3) := Fm341 (dk_180 0 15 (dk_at s341_3 4 rfl rfl)) rfl
theorem f341_75 : ft 341 75 = some (29, 0, 0, .lload_n 3, 1) := Fm341 (dk_33 (dk_at s341_3 7 rfl rfl)) rfl
theorem f341_76 : ft 341 76 = some (29, 0, 0, .lconst 0, 1) := Fm341 (dk_9 (dk_at s341_3 8 rfl rfl)) rfl
theorem f341_77 : ft 341 77 = some (29, 0, 0, .lload_n 3, 1) := Fm341 (dk_33 (dk_at s341_3 9 rfl rfl)) rfl
theorem f341_78 : ft 341 78 = some (29, 0, 0, .invokestatic 52, 3) := Fm341 (dk_184 0 52 (dk_at s341_3 10 rfl rfl)) rfl
theorem f341_81 : ft 341 81 = some (29, 0, 0, .goto 4, 3) := Fm341 (dk_167 0 4 (dk_at s341_3 13 rfl rfl)) rfl
theorem f341_84 : ft 341 84 = some (29, 0, 0, .lconst 0, 1) := Fm341 (dk_9 (dk_at s341_3 16 rfl rfl)) rfl
theorem f341_85 : ft 341 85 = some (29, 0, 0, .lstore 7, 2) := Fm341 (dk_55 7 (dk_at s341_3 17 rfl rfl)) rfl
theorem f341_87 : ft 341 87 = some (29, 0, 0, .lload 7, 2) := Fm341 (dk_22 7 (dk_at s341_3 19 rfl rfl)) rfl
theorem f341_89 : ft 341 89 = some (29, 0, 0, .lload 5, 2) := Fm341 (dk_22 5 (dk_at s341_3 21 rfl rfl)) rfl
theorem f341_91 : ft 341 91 = some (29, 0, 0, .lcmp, 1) := Fm341 (dk_148 (dk_at s341_3 23 rfl rfl)) rfl
theorem f341_92 : ft 341 92 = some (29, 0, 0, .ifCond .ge 29, 3) := Fm341 (dk_156 0 29 (dk_at s341_4 0 rfl rfl)) rfl
theorem f341_95 : ft 341 95 = some (29, 0, 0, .aload_n 1, 1) := Fm341 (dk_43 (dk_at s341_4 3 rfl rfl)) rfl
theorem f341_96 : ft 341 96 = some (29, 0, 0, .aload_n 1, 1) := Fm341 (dk_43 (dk_at s341_4 4 rfl rfl)) rfl
theorem f341_97 : ft 341 97 = some (29, 0, 0, .getfield 37, 3) := Fm341 (dk_180 0 37 (dk_at s341_4 5 rfl rfl)) rfl
theorem f341_100 : ft 341 100 = some (29, 0, 0, .iload_n 2, 1) := Fm341 (dk_28 (dk_at s341_4 8 rfl rfl)) rfl
theorem f341_101 : ft 341 101 = some (29, 0, 0, .lload 7, 2) := Fm341 (dk_22 7 (dk_at s341_4 9 rfl rfl)) rfl
theorem f341_103 : ft 341 103 = some (29, 0, 0, .invokevirtual 56, 3) := Fm341 (dk_182 0 56 (dk_at s341_4 11 rfl rfl)) rfl
theorem f341_106 : ft 341 106 = some (29, 0, 0, .invokevirtual 60, 3) := Fm341 (dk_182 0 60 (dk_at s341_4 14 rfl rfl)) rfl
theorem f341_109 : ft 341 109 = some (29, 0, 0, .lload 7, 2) := Fm341 (dk_22 7 (dk_at s341_4 17 rfl rfl)) rfl
theorem f341_111 : ft 341 111 = some (29, 0, 0, .aload_n 0, 1) := Fm341 (dk_42 (dk_at s341_4 19 rfl rfl)) rfl
theorem f341_112 : ft 341 112 = some (29, 0, 0, .getfield 25, 3) := Fm341 (dk_180 0 25 (dk_at s341_4 20 rfl rfl)) rfl
theorem f341_115 : ft 341 115 = some (29, 0, 0, .ladd, 1) := Fm341 (dk_97 (dk_at s341_4 23 rfl rfl)) rfl
theorem f341_116 : ft 341 116 = some (29, 0, 0, .lstore 7, 2) := Fm341 (dk_55 7 (dk_at s341_5 0 rfl rfl)) rfl
theorem f341_118 : ft 341 118 = some (29, 0, 0, .goto (-31), 3) := Fm341 (dk_167 255 225 (dk_at s341_5 2 rfl rfl)) rfl
theorem f341_121 : ft 341 121 = some (29, 0, 0, .goto 95, 3) := Fm341 (dk_167 0 95 (dk_at s341_5 5 rfl rfl)) rfl
theorem f341_124 : ft 341 124 = some (29, 0, 0, .aload_n 0, 1) := Fm341 (dk_42 (dk_at s341_5 8 rfl rfl)) rfl
theorem f341_125 : ft 341 125 = some (29, 0, 0, .getfield 19, 3) := Fm341 (dk_180 0 19 (dk_at s341_5 9 rfl rfl)) rfl
theorem f341_128 : ft 341 128 = some (29, 0, 0, .ifCond .eq 20, 3) := Fm341 (dk_153 0 20 (dk_at s341_5 12 rfl rfl)) rfl
theorem f341_131 : ft 341 131 = some (29, 0, 0, .aload_n 0, 1) := Fm341 (dk_42 (dk_at s341_5 15 rfl rfl)) rfl
theorem f341_132 : ft 341 132 = some (29, 0, 0, .getfield 22, 3) := Fm341 (dk_180 0 22 (dk_at s341_5 16 rfl rfl)) rfl
theorem f341_135 : ft 341 135 = some (29, 0, 0, .lload_n 3, 1) := Fm341 (dk_33 (dk_at s341_5 19 rfl rfl)) rfl
theorem f341_136 : ft 341 136 = some (29, 0, 0, .ldc2_w 64, 3) := Fm341 (dk_20 0 64 (dk_at s341_5 20 rfl rfl)) rfl
theorem f341_139 : ft 341 139 = some (29, 0, 0, .lload_n 3, 1) := Fm341 (dk_33 (dk_at s341_5 23 rfl rfl)) rfl
theorem f341_140 : ft 341 140 = some (29, 0, 0, .lconst 1, 1) := Fm341 (dk_10 (dk_at s341_6 0 rfl rfl)) rfl
theorem f341_141 : ft 341 141 = some (29, 0, 0, .lsub, 1) := Fm341 (dk_101 (dk_at s341_6 1 rfl rfl)) rfl
theorem f341_142 : ft 341 142 = some (29, 0, 0, .invokestatic 52, 3) := Fm341 (dk_184 0 52 (dk_at s341_6 2 rfl rfl)) rfl
theorem f341_145 : ft 341 145 = some (29, 0, 0, .goto 6, 3) := Fm341 (dk_167 0 6 (dk_at s341_6 5 rfl rfl)) rfl
theorem f341_148 : ft 341 148 = some (29, 0, 0, .ldc2_w 64, 3) := Fm341 (dk_20 0 64 (dk_at s341_6 8 rfl rfl)) rfl
theorem f341_151 : ft 341 151 = some (29, 0, 0, .lstore 5, 2) := Fm341 (dk_55 5 (dk_at s341_6 11 rfl rfl)) rfl
theorem f341_153 : ft 341 153 = some (29, 0, 0, .aload_n 0, 1) := Fm341 (dk_42 (dk_at s341_6 13 rfl rfl)) rfl
theorem f341_154 : ft 341 154 = some (29, 0, 0, .getfield 9, 3) := Fm341 (dk_180 0 9 (dk_at s341_6 14 rfl rfl)) rfl
theorem f341_157 : ft 341 157 = some (29, 0, 0, .ifCond .eq 20, 3) := Fm341 (dk_153 0 20 (dk_at s341_6 17 rfl rfl)) rfl
theorem f341_160 : ft 341 160 = some (29, 0, 0, .aload_n 0, 1) := Fm341 (dk_42 (dk_at s341_6 20 rfl rfl)) rfl
theorem f341_161 : ft 341 161 = some (29, 0, 0, .getfield 15, 3) := Fm341 (dk_180 0 15 (dk_at s341_6 21 rfl rfl)) rfl
theorem f341_164 : ft 341 164 = some (29, 0, 0, .lload_n 3, 1) := Fm341 (dk_33 (dk_at s341_7 0 rfl rfl)) rfl
theorem f341_165 : ft 341 165 = some (29, 0, 0, .ldc2_w 64, 3) := Fm341 (dk_20 0 64 (dk_at s341_7 1 rfl rfl)) rfl
theorem f341_168 : ft 341 168 = some (29, 0, 0, .lload_n 3, 1) := Fm341 (dk_33 (dk_at s341_7 4 rfl rfl)) rfl
theorem f341_169 : ft 341 169 = some (29, 0, 0, .lconst 1, 1) := Fm341 (dk_10 (dk_at s341_7 5 rfl rfl)) rfl
theorem f341_170 : ft 341 170 = some (29, 0, 0, .lsub, 1) := Fm341 (dk_101 (dk_at s341_7 6 rfl rfl)) rfl
theorem f341_171 : ft 341 171 = some (29, 0, 0, .invokestatic 52, 3) := Fm341 (dk_184 0 52 (dk_at s341_7 7 rfl rfl)) rfl
theorem f341_174 : ft 341 174 = some (29, 0, 0, .goto 6, 3) := Fm341 (dk_167 0 6 (dk_at s341_7 10 rfl rfl)) rfl
theorem f341_177 : ft 341 177 = some (29, 0, 0, .lload_n 3, 1) := Fm341 (dk_33 (dk_at s341_7 13 rfl rfl)) rfl
theorem f341_178 : ft 341 178 = some (29, 0, 0, .lconst 1, 1) := Fm341 (dk_10 (dk_at s341_7 14 rfl rfl)) rfl
theorem f341_179 : ft 341 179 = some (29, 0, 0, .lsub, 1) := Fm341 (dk_101 (dk_at s341_7 15 rfl rfl)) rfl
theorem f341_180 : ft 341 180 = some (29, 0, 0, .lstore 7, 2) := Fm341 (dk_55 7 (dk_at s341_7 16 rfl rfl)) rfl
theorem f341_182 : ft 341 182 = some (29, 0, 0, .lload 7, 2) := Fm341 (dk_22 7 (dk_at s341_7 18 rfl rfl)) rfl
theorem f341_184 : ft 341 184 = some (29, 0, 0, .lload 5, 2) := Fm341 (dk_22 5 (dk_at s341_7 20 rfl rfl)) rfl
theorem f341_186 : ft 341 186 = some (29, 0, 0, .lcmp, 1) := Fm341 (dk_148 (dk_at s341_7 22 rfl rfl)) rfl
theorem f341_187 : ft 341 187 = some (29, 0, 0, .ifCond .le 29, 3) := Fm341 (dk_158 0 29 (dk_at s341_8 0 rfl rfl)) rfl
theorem f341_190 : ft 341 190 = some (29, 0, 0, .aload_n 1, 1) := Fm341 (dk_43 (dk_at s341_8 3 rfl rfl)) rfl
theorem f341_191 : ft 341 191 = some (29, 0, 0, .aload_n 1, 1) := Fm341 (dk_43 (dk_at s341_8 4 rfl rfl)) rfl
theorem f341_192 : ft 341 192 = some (29, 0, 0, .getfield 37, 3) := Fm341 (dk_180 0 37 (dk_at s341_8 5 rfl rfl)) rfl
theorem f341_195 : ft 341 195 = some (29, 0, 0, .iload_n 2, 1) := Fm341 (dk_28 (dk_at s341_8 8 rfl rfl)) rfl
theorem f341_196 : ft 341 196 = some (29, 0, 0, .lload 7, 2) := Fm341 (dk_22 7 (dk_at s341_8 9 rfl rfl)) rfl
theorem f341_198 : ft 341 198 = some (29, 0, 0, .invokevirtual 56, 3) := Fm341 (dk_182 0 56 (dk_at s341_8 11 rfl rfl)) rfl
theorem f341_201 : ft 341 201 = some (29, 0, 0, .invokevirtual 60, 3) := Fm341 (dk_182 0 60 (dk_at s341_8 14 rfl rfl)) rfl
theorem f341_204 : ft 341 204 = some (29, 0, 0, .lload 7, 2) := Fm341 (dk_22 7 (dk_at s341_8 17 rfl rfl)) rfl
theorem f341_206 : ft 341 206 = some (29, 0, 0, .aload_n 0, 1) := Fm341 (dk_42 (dk_at s341_8 19 rfl rfl)) rfl
theorem f341_207 : ft 341 207 = some (29, 0, 0, .getfield 25, 3) := Fm341 (dk_180 0 25 (dk_at s341_8 20 rfl rfl)) rfl
theorem f341_210 : ft 341 210 = some (29, 0, 0, .ladd, 1) := Fm341 (dk_97 (dk_at s341_8 23 rfl rfl)) rfl
theorem f341_211 : ft 341 211 = some (29, 0, 0, .lstore 7, 2) := Fm341 (dk_55 7 (dk_at s341_9 0 rfl rfl)) rfl
theorem f341_213 : ft 341 213 = some (29, 0, 0, .goto (-31), 3) := Fm341 (dk_167 255 225 (dk_at s341_9 2 rfl rfl)) rfl
theorem f341_216 : ft 341 216 = some (29, 0, 0, .return_, 1) := Fm341 (dk_177 (dk_at s341_9 5 rfl rfl)) rfl
theorem q341 {d : Nat} {m : Mem} {a0 a1 a2 : Int} (hd : 0 < d) (hz : TZ m) : le2 (gd (tg m a1 = 6) <| nm (vl m a1 0) fun v5 => gd (tg m v5 = 8) <| bI (cl (d - 1) 139 [pR v5, pI a2] m) fun v1 m1 => if v1 = 5 then (gd (tg m1 a0 = 29) <| if (vl m1 a0 4) = 0 then (some (.inl none, m1)) else nm (vl m1 a1 0) fun v6 => gd (tg m1 v6 = 8) <| bI (cl (d - 1) 145 [pR v6, pI a2] m1) fun v2 m2 => if 0 < (vl m2 a0 4) then (if (vl m2 a0 2) = 0 then (rn d 341 62 [pR a0, pR a1, pI a2, pL v2, pU, pU, pU, pU, pU] [pL v2] m2) else bL (cl (d - 1) 342 [pL (vl m2 a0 3), pL v2, pL 0, pL v2] m2) fun v4 m4 => rn d 341 62 [pR a0, pR a1, pI a2, pL v2, pU, pU, pU, pU, pU] [pL v4] m4) else if (vl m2 a0 2) = 0 then (rn d 341 151 [pR a0, pR a1, pI a2, pL v2, pU, pU, pU, pU, pU] [pL (-1)] m2) else bL (cl (d - 1) 342 [pL (vl m2 a0 3), pL v2, pL (-1), pL (w64 (v2 - 1))] m2) fun v3 m3 => rn d 341 151 [pR a0, pR a1, pI a2, pL v2, pU, pU, pU, pU, pU] [pL v3] m3) else some (.inl none, m1)) (cl d 341 [pR a0, pR a1, pI a2] m) := by
  refine q_in (n := 9) (L := [pR a0, pR a1, pI a2, pU, pU, pU, pU, pU, pU]) rfl rfl rfl ?_
  refine r_aln1 (p := 1) f341_0 rfl ?_
  refine le2_gd (fun h1 => ?_)
  refine r_gfR (f := 0) (p := 4) f341_1 rfl rfl rfl (Or.inl h1) rfl ?_
  refine r_nmR (fun v5 ev5 => ?_)
  refine r_iln2 (p := 5) f341_4 rfl ?_
  refine le2_gd (fun h2 => ?_)
  refine r_invI (p := 8) f341_5 rfl rfl rfl (Or.inl h2) hd (Nat.le_of_ble_eq_true rfl) rfl rfl rfl (fun _ => rfl) (fun v1 m1 c1 => ?_)
  have hz1 := z_k c1 hz
  refine r_iconst (p := 9) f341_8 rfl (pinD rfl rfl) ?_
  refine r_icne (t := 21) (p := 12) f341_9 (by decide) rfl rfl ?_ ?_
  · refine r_aln0 (p := 13) f341_12 rfl ?_
    refine le2_gd (fun h3 => ?_)
    refine r_gfJ (f := 4) (p := 16) f341_13 rfl rfl rfl (Or.inl h3) rfl ?_
    refine r_lconst0 (p := 17) f341_16 rfl ?_
    refine r_lcne (p1 := 18) (t := 22) (p := 21) f341_17 rfl f341_18 (by decide) rfl rfl ?_ ?_
    · exact r_ret f341_21
    · refine r_aln1 (p := 23) f341_22 rfl ?_
      have h4 := k_t1 c1 hz h1 (by decide)
      refine r_gfR (f := 0) (p := 26) f341_23 rfl rfl rfl (Or.inl h4) rfl ?_
      refine r_nmR (fun v6 ev6 => ?_)
      refine r_iln2 (p := 27) f341_26 rfl ?_
      refine le2_gd (fun h5 => ?_)
      refine r_invI (p := 30) f341_27 rfl rfl rfl (Or.inl h5) hd (Nat.le_of_ble_eq_true rfl) rfl rfl rfl (fun _ => rfl) (fun v2 m2 c2 => ?_)
      have hz2 := z_k c2 hz1
      refine r_i2l (p := 31) f341_30 rfl ?_
      refine r_lsn3 (p := 32) f341_31 rfl rfl ?_
      refine r_aln0 (p := 33) f341_32 rfl ?_
      have h6 := k_t1 c2 hz1 h3 (by decide)
      refine r_gfJ (f := 4) (p := 36) f341_33 rfl rfl rfl (Or.inl h6) rfl ?_
      refine r_lconst0 (p := 37) f341_36 rfl ?_
      refine r_lcle (p1 := 38) (t := 124) (p := 41) f341_37 rfl f341_38 (by decide) rfl rfl ?_ ?_
      · refine r_aln0 (p := 42) f341_41 rfl ?_
        refine r_gfIZ (f := 2) (p := 45) f341_42 rfl rfl rfl (Or.inl h6) rfl ?_
        refine r_ifeq (t := 61) (p := 48) f341_45 (by decide) rfl rfl ?_ ?_
        · refine r_lln3 (p := 62) f341_61 rfl ?_
          exact le2_refl _
        · refine r_aln0 (p := 49) f341_48 rfl ?_
          refine r_gfJ (f := 3) (p := 52) f341_49 rfl rfl rfl (Or.inl h6) rfl ?_
          refine r_lln3 (p := 53) f341_52 rfl ?_
          refine r_lconst0 (p := 54) f341_53 rfl ?_
          refine r_lln3 (p := 55) f341_54 rfl ?_
          refine r_istL (p := 58) f341_55 rfl rfl rfl hd (Nat.le_of_ble_eq_true rfl) rfl rfl rfl (fun _ => rfl) (fun v4 m4 c4 => ?_)
          have hz4 := z_k c4 hz2
          refine r_goto (p := 62) f341_58 (by decide) rfl ?_
          exact le2_refl _
      · refine r_aln0 (p := 125) f341_124 rfl ?_
        refine r_gfIZ (f := 2) (p := 128) f341_125 rfl rfl rfl (Or.inl h6) rfl ?_
        refine r_ifeq (t := 148) (p := 131) f341_128 (by decide) rfl rfl ?_ ?_
        · refine r_ldc2 (p := 151) f341_148 rfl rfl (pinD rfl rfl) ?_
          exact le2_refl _
        · refine r_aln0 (p := 132) f341_131 rfl ?_
          refine r_gfJ (f := 3) (p := 135) f341_132 rfl rfl rfl (Or.inl h6) rfl ?_
          refine r_lln3 (p := 136) f341_135 rfl ?_
          refine r_ldc2 (p := 139) f341_136 rfl rfl (pinD rfl rfl) ?_
          refine r_lln3 (p := 140) f341_139 rfl ?_
          refine r_lconst1 (p := 141) f341_140 rfl ?_
          refine r_lsub (p := 142) f341_141 rfl ?_
          refine r_istL (p := 145) f341_142 rfl rfl rfl hd (Nat.le_of_ble_eq_true rfl) rfl rfl rfl (fun _ => rfl) (fun v3 m3 c3 => ?_)
          have hz3 := z_k c3 hz2
          refine r_goto (p := 151) f341_145 (by decide) rfl ?_
          exact le2_refl _
  · exact r_ret f341_21
theorem q341_62 {d : Nat} {m : Mem} {a0 a1 a2 a3 s0 : Int} (hd : 0 < d) (hz : TZ m) : le2 (gd (tg m a0 = 29) <| if (vl m a0 0) = 0 then (rn d 341 87 [pR a0, pR a1, pI a2, pL a3, pU, pL s0, pU, pL 0, pU] [] m) else bL (cl (d - 1) 342 [pL (vl m a0 1), pL a3, pL 0, pL a3] m) fun v1 m1 => rn d 341 87 [pR a0, pR a1, pI a2, pL a3, pU, pL s0, pU, pL v1, pU] [] m1) (rn d 341 62 [pR a0, pR a1, pI a2, pL a3, pU, pU, pU, pU, pU] [pL s0] m) := by
  refine r_lsw5 (p := 64) f341_62 rfl rfl ?_
  refine r_aln0 (p := 65) f341_64 rfl ?_
  refine le2_gd (fun h1 => ?_)
  refine r_gfIZ (f := 0) (p := 68) f341_65 rfl rfl rfl (Or.inl h1) rfl ?_
  refine r_ifeq (t := 84) (p := 71) f341_68 (by decide) rfl rfl ?_ ?_
  · refine r_lconst0 (p := 85) f341_84 rfl ?_
    refine r_lsw7 (p := 87) f341_85 rfl rfl ?_
    exact le2_refl _
  · refine r_aln0 (p := 72) f341_71 rfl ?_
    refine r_gfJ (f := 1) (p := 75) f341_72 rfl rfl rfl (Or.inl h1) rfl ?_
    refine r_lln3 (p := 76) f341_75 rfl ?_
    refine r_lconst0 (p := 77) f341_76 rfl ?_
    refine r_lln3 (p := 78) f341_77 rfl ?_
    refine r_istL (p := 81) f341_78 rfl rfl rfl hd (Nat.le_of_ble_eq_true rfl) rfl rfl rfl (fun _ => rfl) (fun v1 m1 c1 => ?_)
    have hz1 := z_k c1 hz
    refine r_goto (p := 85) f341_81 (by decide) rfl ?_
    refine r_lsw7 (p := 87) f341_85 rfl rfl ?_
    exact le2_refl _
theorem q341_87 {d : Nat} {m : Mem} {a0 a1 a2 a3 a5 a7 : Int} (hd : 0 < d) (hz : TZ m) : le2 (if a7 < a5 then (gd (tg m a1 = 6) <| nm (vl m a1 0) fun v3 => gd (tg m v3 = 8) <| bI (cl (d - 1) 146 [pR v3, pI a2, pL a7] m) fun v1 m1 => bV (cl (d - 1) 106 [pR a1, pI v1] m1) fun m2 => gd (tg m2 a0 = 29) <| rn d 341 87 [pR a0, pR a1, pI a2, pL a3, pU, pL a5, pU, pL (w64 (a7 + (vl m2 a0 4))), pU] [] m2) else some (.inl none, m)) (rn d 341 87 [pR a0, pR a1, pI a2, pL a3, pU, pL a5, pU, pL a7, pU] [] m) := by
  refine r_llw7 (p := 89) f341_87 rfl ?_
  refine r_llw5 (p := 91) f341_89 rfl ?_
  refine r_lcge (p1 := 92) (t := 121) (p := 95) f341_91 rfl f341_92 (by decide) rfl rfl ?_ ?_
  · refine r_aln1 (p := 96) f341_95 rfl ?_
    refine r_aln1 (p := 97) f341_96 rfl ?_
    refine le2_gd (fun h1 => ?_)
    refine r_gfR (f := 0) (p := 100) f341_97 rfl rfl rfl (Or.inl h1) rfl ?_
    refine r_nmR (fun v3 ev3 => ?_)
    refine r_iln2 (p := 101) f341_100 rfl ?_
    refine r_llw7 (p := 103) f341_101 rfl ?_
    refine le2_gd (fun h2 => ?_)
    refine r_invI (p := 106) f341_103 rfl rfl rfl (Or.inl h2) hd (Nat.le_of_ble_eq_true rfl) rfl rfl rfl (fun _ => rfl) (fun v1 m1 c1 => ?_)
    have hz1 := z_k c1 hz
    have h3 := k_t1 c1 hz h1 (by decide)
    refine r_invV (p := 109) f341_106 rfl rfl rfl (Or.inl h3) hd (Nat.le_of_ble_eq_true rfl) rfl rfl rfl (fun _ => rfl) (fun m2 c2 => ?_)
    have hz2 := z_k c2 hz1
    refine r_llw7 (p := 111) f341_109 rfl ?_
    refine r_aln0 (p := 112) f341_111 rfl ?_
    refine le2_gd (fun h4 => ?_)
    refine r_gfJ (f := 4) (p := 115) f341_112 rfl rfl rfl (Or.inl h4) rfl ?_
    refine r_ladd (p := 116) f341_115 rfl ?_
    refine r_lsw7 (p := 118) f341_116 rfl rfl ?_
    refine r_goto (p := 87) f341_118 (by decide) rfl ?_
    exact le2_refl _
  · refine r_goto (p := 216) f341_121 (by decide) rfl ?_
    exact r_ret f341_216
theorem q341_151 {d : Nat} {m : Mem} {a0 a1 a2 a3 s0 : Int} (hd : 0 < d) (hz : TZ m) : le2 (gd (tg m a0 = 29) <| if (vl m a0 0) = 0 then (rn d 341 182 [pR a0, pR a1, pI a2, pL a3, pU, pL s0, pU, pL (w64 (a3 - 1)), pU] [] m) else bL (cl (d - 1) 342 [pL (vl m a0 1), pL a3, pL (-1), pL (w64 (a3 - 1))] m) fun v1 m1 => rn d 341 182 [pR a0, pR a1, pI a2, pL a3, pU, pL s0, pU, pL v1, pU] [] m1) (rn d 341 151 [pR a0, pR a1, pI a2, pL a3, pU, pU, pU, pU, pU] [pL s0] m) := by
  refine r_lsw5 (p := 153) f341_151 rfl rfl ?_
  refine r_aln0 (p := 154) f341_153 rfl ?_
  refine le2_gd (fun h1 => ?_)
  refine r_gfIZ (f := 0) (p := 157) f341_154 rfl rfl rfl (Or.inl h1) rfl ?_
  refine r_ifeq (t := 177) (p := 160) f341_157 (by decide) rfl rfl ?_ ?_
  · refine r_lln3 (p := 178) f341_177 rfl ?_
    refine r_lconst1 (p := 179) f341_178 rfl ?_
    refine r_lsub (p := 180) f341_179 rfl ?_
    refine r_lsw7 (p := 182) f341_180 rfl rfl ?_
    exact le2_refl _
  · refine r_aln0 (p := 161) f341_160 rfl ?_
    refine r_gfJ (f := 1) (p := 164) f341_161 rfl rfl rfl (Or.inl h1) rfl ?_
    refine r_lln3 (p := 165) f341_164 rfl ?_
    refine r_ldc2 (p := 168) f341_165 rfl rfl (pinD rfl rfl) ?_
    refine r_lln3 (p := 169) f341_168 rfl ?_
    refine r_lconst1 (p := 170) f341_169 rfl ?_
    refine r_lsub (p := 171) f341_170 rfl ?_
    refine r_istL (p := 174) f341_171 rfl rfl rfl hd (Nat.le_of_ble_eq_true rfl) rfl rfl rfl (fun _ => rfl) (fun v1 m1 c1 => ?_)
    have hz1 := z_k c1 hz
    refine r_goto (p := 180) f341_174 (by decide) rfl ?_
    refine r_lsw7 (p := 182) f341_180 rfl rfl ?_
    exact le2_refl _
theorem q341_182 {d : Nat} {m : Mem} {a0 a1 a2 a3 a5 a7 : Int} (hd : 0 < d) (hz : TZ m) : le2 (if a5 < a7 then (gd (tg m a1 = 6) <| nm (vl m a1 0) fun v3 => gd (tg m v3 = 8) <| bI (cl (d - 1) 146 [pR v3, pI a2, pL a7] m) fun v1 m1 => bV (cl (d - 1) 106 [pR a1, pI v1] m1) fun m2 => gd (tg m2 a0 = 29) <| rn d 341 182 [pR a0, pR a1, pI a2, pL a3, pU, pL a5, pU, pL (w64 (a7 + (vl m2 a0 4))), pU] [] m2) else some (.inl none, m)) (rn d 341 182 [pR a0, pR a1, pI a2, pL a3, pU, pL a5, pU, pL a7, pU] [] m) := by
  refine r_llw7 (p := 184) f341_182 rfl ?_
  refine r_llw5 (p := 186) f341_184 rfl ?_
  refine r_lcle (p1 := 187) (t := 216) (p := 190) f341_186 rfl f341_187 (by decide) rfl rfl ?_ ?_
  · refine r_aln1 (p := 191) f341_190 rfl ?_
    refine r_aln1 (p := 192) f341_191 rfl ?_
    refine le2_gd (fun h1 => ?_)
    refine r_gfR (f := 0) (p := 195) f341_192 rfl rfl rfl (Or.inl h1) rfl ?_
    refine r_nmR (fun v3 ev3 => ?_)
    refine r_iln2 (p := 196) f341_195 rfl ?_
    refine r_llw7 (p := 198) f341_196 rfl ?_
    refine le2_gd (fun h2 => ?_)
    refine r_invI (p := 201) f341_198 rfl rfl rfl (Or.inl h2) hd (Nat.le_of_ble_eq_true rfl) rfl rfl rfl (fun _ => rfl) (fun v1 m1 c1 => ?_)
    have hz1 := z_k c1 hz
    have h3 := k_t1 c1 hz h1 (by decide)
    refine r_invV (p := 204) f341_201 rfl rfl rfl (Or.inl h3) hd (Nat.le_of_ble_eq_true rfl) rfl rfl rfl (fun _ => rfl) (fun m2 c2 => ?_)
    have hz2 := z_k c2 hz1
    refine r_llw7 (p := 206) f341_204 rfl ?_
    refine r_aln0 (p := 207) f341_206 rfl ?_
    refine le2_gd (fun h4 => ?_)
    refine r_gfJ (f := 4) (p := 210) f341_207 rfl rfl rfl (Or.inl h4) rfl ?_
    refine r_ladd (p := 211) f341_210 rfl ?_
    refine r_lsw7 (p := 213) f341_211 rfl rfl ?_
    refine r_goto (p := 182) f341_213 (by decide) rfl ?_
    exact le2_refl _
  · exact r_ret f341_216
/-! 342 PathStore$Slice.bound (JJJJ)J -/
def w342_0 : List UInt8 := [22, 4, 22, 6, 30, 9, 148, 156, 0, 9, 30, 32, 97, 167, 0, 4, 30, 184, 0, 28, 184, 0, 34, 173]
abbrev u342_0 : List UInt8 := w342_0 ++ []
theorem s342_0 : (prog_26_method_2_code).data.toList.drop 0 = u342_0 := by decide +kernel
theorem Fm342 {pc len : Nat} {i : Instr} (h : decode (prog_26_method_2_code) pc = .ok (i, len)) (hl : len = ilen i len) : ft 342 pc = some (29, 2, 0, i, len) := ft_mk rfl h hl
theorem f342_0 : ft 342 0 = some (29, 2, 0, .lload 4, 2) := Fm342 (dk_22 4 (dk_at s342_0 0 rfl rfl)) rfl
theorem f342_2 : ft 342 2 = some (29, 2, 0, .lload 6, 2) := Fm342 (dk_22 6 (dk_at s342_0 2 rfl rfl)) rfl
theorem f342_4 : ft 342 4 = some (29, 2, 0, .lload_n 0, 1) := Fm342 (dk_30 (dk_at s342_0 4 rfl rfl)) rfl
theorem f342_5 : ft 342 5 = some (29, 2, 0, .lconst 0, 1) := Fm342 (dk_9 (dk_at s342_0 5 rfl rfl)) rfl
theorem f342_6 : ft 342 6 = some (29, 2, 0, .lcmp, 1) := Fm342 (dk_148 (dk_at s342_0 6 rfl rfl)) rfl
theorem f342_7 : ft 342 7 = some (29, 2, 0, .ifCond .ge 9, 3) := Fm342 (dk_156 0 9 (dk_at s342_0 7 rfl rfl)) rfl
theorem f342_10 : ft 342 10 = some (29, 2, 0, .lload_n 0, 1) := Fm342 (dk_30 (dk_at s342_0 10 rfl rfl)) rfl
theorem f342_11 : ft 342 11 = some (29, 2, 0, .lload_n 2, 1) := Fm342 (dk_32 (dk_at s342_0 11 rfl rfl)) rfl
theorem f342_12 : ft 342 12 = some (29, 2, 0, .ladd, 1) := Fm342 (dk_97 (dk_at s342_0 12 rfl rfl)) rfl
theorem f342_13 : ft 342 13 = some (29, 2, 0, .goto 4, 3) := Fm342 (dk_167 0 4 (dk_at s342_0 13 rfl rfl)) rfl
theorem f342_16 : ft 342 16 = some (29, 2, 0, .lload_n 0, 1) := Fm342 (dk_30 (dk_at s342_0 16 rfl rfl)) rfl
theorem f342_17 : ft 342 17 = some (29, 2, 0, .invokestatic 28, 3) := Fm342 (dk_184 0 28 (dk_at s342_0 17 rfl rfl)) rfl
theorem f342_20 : ft 342 20 = some (29, 2, 0, .invokestatic 34, 3) := Fm342 (dk_184 0 34 (dk_at s342_0 20 rfl rfl)) rfl
theorem f342_23 : ft 342 23 = some (29, 2, 0, .lreturn, 1) := Fm342 (dk_173 (dk_at s342_0 23 rfl rfl)) rfl
theorem q342 {d : Nat} {m : Mem} {a0 a2 a4 a6 : Int} (hz : TZ m) : le2 (if a0 < 0 then (some (.inl (some (pL (max a4 (min a6 (w64 (a0 + a2)))))), m)) else some (.inl (some (pL (max a4 (min a6 a0)))), m)) (cl d 342 [pL a0, pL a2, pL a4, pL a6] m) := by
  refine q_in (n := 8) (L := [pL a0, pU, pL a2, pU, pL a4, pU, pL a6, pU]) rfl rfl rfl ?_
  refine r_llw4 (p := 2) f342_0 rfl ?_
  refine r_llw6 (p := 4) f342_2 rfl ?_
  refine r_lln0 (p := 5) f342_4 rfl ?_
  refine r_lconst0 (p := 6) f342_5 rfl ?_
  refine r_lcge (p1 := 7) (t := 16) (p := 10) f342_6 rfl f342_7 (by decide) rfl rfl ?_ ?_
  · refine r_lln0 (p := 11) f342_10 rfl ?_
    refine r_lln2 (p := 12) f342_11 rfl ?_
    refine r_ladd (p := 13) f342_12 rfl ?_
    refine r_goto (p := 17) f342_13 (by decide) rfl ?_
    refine r_math9 (p := 20) f342_17 rfl rfl (Nat.le_of_ble_eq_true rfl) ?_
    refine r_math8 (p := 23) f342_20 rfl rfl (Nat.le_of_ble_eq_true rfl) ?_
    exact r_lret f342_23
  · refine r_lln0 (p := 17) f342_16 rfl ?_
    refine r_math9 (p := 20) f342_17 rfl rfl (Nat.le_of_ble_eq_true rfl) ?_
    refine r_math8 (p := 23) f342_20 rfl rfl (Nat.le_of_ble_eq_true rfl) ?_
    exact r_lret f342_23
/-! 343 PathStore$Table.<init> (LPathStore$Query;)V -/
def w343_1 : List UInt8 := [181, 0, 19, 42, 43, 181, 0, 23, 177]
abbrev u343_1 : List UInt8 := w343_1 ++ []
def w343_0 : List UInt8 := [42, 183, 0, 3, 42, 2, 181, 0, 9, 42, 17, 0, 128, 188, 11, 181, 0, 15, 42, 17, 0, 128, 188, 10]
abbrev u343_0 : List UInt8 := w343_0 ++ u343_1
theorem s343_0 : (prog_27_method_1_code).data.toList.drop 0 = u343_0 := by decide +kernel
theorem s343_1 : (prog_27_method_1_code).data.toList.drop 24 = u343_1 := dk_seg s343_0 24 rfl rfl
theorem Fm343 {pc len : Nat} {i : Instr} (h : decode (prog_27_method_1_code) pc = .ok (i, len)) (hl : len = ilen i len) : ft 343 pc = some (30, 0, 1, i, len) := ft_mk rfl h hl
theorem f343_0 : ft 343 0 = some (30, 0, 1, .aload_n 0, 1) := Fm343 (dk_42 (dk_at s343_0 0 rfl rfl)) rfl
theorem f343_1 : ft 343 1 = some (30, 0, 1, .invokespecial 3, 3) := Fm343 (dk_183 0 3 (dk_at s343_0 1 rfl rfl)) rfl
theorem f343_4 : ft 343 4 = some (30, 0, 1, .aload_n 0, 1) := Fm343 (dk_42 (dk_at s343_0 4 rfl rfl)) rfl
theorem f343_5 : ft 343 5 = some (30, 0, 1, .iconst (-1), 1) := Fm343 (dk_2 (dk_at s343_0 5 rfl rfl)) rfl
theorem f343_6 : ft 343 6 = some (30, 0, 1, .putfield 9, 3) := Fm343 (dk_181 0 9 (dk_at s343_0 6 rfl rfl)) rfl
theorem f343_9 : ft 343 9 = some (30, 0, 1, .aload_n 0, 1) := Fm343 (dk_42 (dk_at s343_0 9 rfl rfl)) rfl
theorem f343_10 : ft 343 10 = some (30, 0, 1, .sipush 128, 3) := Fm343 (dk_17 0 128 (dk_at s343_0 10 rfl rfl)) rfl
theorem f343_13 : ft 343 13 = some (30, 0, 1, .newarray .long, 2) := Fm343 (dk_188_11 (dk_at s343_0 13 rfl rfl)) rfl
theorem f343_15 : ft 343 15 = some (30, 0, 1, .putfield 15, 3) := Fm343 (dk_181 0 15 (dk_at s343_0 15 rfl rfl)) rfl
theorem f343_18 : ft 343 18 = some (30, 0, 1, .aload_n 0, 1) := Fm343 (dk_42 (dk_at s343_0 18 rfl rfl)) rfl
theorem f343_19 : ft 343 19 = some (30, 0, 1, .sipush 128, 3) := Fm343 (dk_17 0 128 (dk_at s343_0 19 rfl rfl)) rfl
theorem f343_22 : ft 343 22 = some (30, 0, 1, .newarray .int, 2) := Fm343 (dk_188_10 (dk_at s343_0 22 rfl rfl)) rfl
theorem f343_24 : ft 343 24 = some (30, 0, 1, .putfield 19, 3) := Fm343 (dk_181 0 19 (dk_at s343_1 0 rfl rfl)) rfl
theorem f343_27 : ft 343 27 = some (30, 0, 1, .aload_n 0, 1) := Fm343 (dk_42 (dk_at s343_1 3 rfl rfl)) rfl
theorem f343_28 : ft 343 28 = some (30, 0, 1, .aload_n 1, 1) := Fm343 (dk_43 (dk_at s343_1 4 rfl rfl)) rfl
theorem f343_29 : ft 343 29 = some (30, 0, 1, .putfield 23, 3) := Fm343 (dk_181 0 23 (dk_at s343_1 5 rfl rfl)) rfl
theorem f343_32 : ft 343 32 = some (30, 0, 1, .return_, 1) := Fm343 (dk_177 (dk_at s343_1 8 rfl rfl)) rfl
theorem q343 {d : Nat} {m : Mem} {a0 a1 : Int} (hz : TZ m) : le2 (gd (tg m a0 = 30) <| nw (nx (mst m a0 1 (-1))) (mal (mst m a0 1 (-1)) 344102 128) fun o1 m1 => nw (nx (mst m1 a0 2 o1)) (mal (mst m1 a0 2 o1) 344101 128) fun o2 m2 => some (.inl none, (mst (mst m2 a0 3 o2) a0 0 a1))) (cl d 343 [pR a0, pR a1] m) := by
  refine q_in (n := 2) (L := [pR a0, pR a1]) rfl rfl rfl ?_
  refine r_aln0 (p := 1) f343_0 rfl ?_
  refine le2_gd (fun h1 => ?_)
  refine r_objinit (p := 4) f343_1 rfl rfl (dj1 (fun x => 0 < x ∧ x < 100) h1 (by decide)) (Nat.le_of_ble_eq_true rfl) ?_
  refine r_aln0 (p := 5) f343_4 rfl ?_
  refine r_iconst (p := 6) f343_5 rfl (pinD rfl rfl) ?_
  refine r_pfI (f := 1) (p := 9) f343_6 rfl rfl rfl (by decide) (by decide) (Or.inl h1) rfl ?_
  refine r_aln0 (p := 10) f343_9 rfl ?_
  refine r_sipush (p := 13) f343_10 rfl (pinD rfl rfl) ?_
  refine r_newa (t1 := 344102) (p := 15) f343_13 rfl rfl (pinE rfl rfl) rfl rfl (fun o1 m1 h2 k1 => ?_)
  have hz1 := z_k k1 hz
  have h3 := k_t1 k1 hz h1 (by decide)
  refine r_pfR (f := 2) (p := 18) f343_15 rfl rfl rfl (by decide) (by decide) (Or.inl h3) rfl ?_
  refine r_aln0 (p := 19) f343_18 rfl ?_
  refine r_sipush (p := 22) f343_19 rfl (pinD rfl rfl) ?_
  refine r_newa (t1 := 344101) (p := 24) f343_22 rfl rfl (pinE rfl rfl) rfl rfl (fun o2 m2 h4 k2 => ?_)
  have hz2 := z_k k2 hz1
  have h5 := k_t1 k2 hz1 h3 (by decide)
  refine r_pfR (f := 3) (p := 27) f343_24 rfl rfl rfl (by decide) (by decide) (Or.inl h5) rfl ?_
  refine r_aln0 (p := 28) f343_27 rfl ?_
  refine r_aln1 (p := 29) f343_28 rfl ?_
  refine r_pfR (f := 0) (p := 32) f343_29 rfl rfl rfl (by decide) (by decide) (Or.inl h5) rfl ?_
  exact r_ret f343_32
/-! 344 PathStore$Table.key (LPathStore$Row;I)J -/
def w344_3 : List UInt8 := [27, 6, 96, 42, 27, 4, 96, 182, 0, 41, 20, 0, 44, 184, 0, 46, 173, 42, 27, 184, 0, 50, 173]
abbrev u344_3 : List UInt8 := w344_3 ++ []
def w344_2 : List UInt8 := [42, 27, 182, 0, 27, 133, 173, 20, 0, 33, 42, 27, 4, 96, 182, 0, 35, 105, 20, 0, 39, 97, 173, 42]
abbrev u344_2 : List UInt8 := w344_2 ++ u344_3
def w344_1 : List UInt8 := [170, 0, 0, 0, 0, 0, 76, 0, 0, 0, 0, 0, 0, 0, 4, 0, 0, 0, 35, 0, 0, 0, 35, 0, 0, 0, 35, 0, 0, 0, 42, 0, 0, 0, 58]
abbrev u344_1 : List UInt8 := w344_1 ++ u344_2
def w344_0 : List UInt8 := [42, 27, 182, 0, 27]
abbrev u344_0 : List UInt8 := w344_0 ++ u344_1
theorem s344_0 : (prog_27_method_2_code).data.toList.drop 0 = u344_0 := by decide +kernel
theorem s344_1 : (prog_27_method_2_code).data.toList.drop 5 = u344_1 := dk_seg s344_0 5 rfl rfl
theorem s344_2 : (prog_27_method_2_code).data.toList.drop 40 = u344_2 := dk_seg s344_1 35 rfl rfl
theorem s344_3 : (prog_27_method_2_code).data.toList.drop 64 = u344_3 := dk_seg s344_2 24 rfl rfl
theorem Fm344 {pc len : Nat} {i : Instr} (h : decode (prog_27_method_2_code) pc = .ok (i, len)) (hl : len = ilen i len) : ft 344 pc = some (30, 2, 0, i, len) := ft_mk rfl h hl
theorem f344_0 : ft 344 0 = some (30, 2, 0, .aload_n 0, 1) := Fm344 (dk_42 (dk_at s344_0 0 rfl rfl)) rfl
theorem f344_1 : ft 344 1 = some (30, 2, 0, .iload_n 1, 1) := Fm344 (dk_27 (dk_at s344_0 1 rfl rfl)) rfl
theorem f344_2 : ft 344 2 = some (30, 2, 0, .invokevirtual 27, 3) := Fm344 (dk_182 0 27 (dk_at s344_0 2 rfl rfl)) rfl
theorem f344_5 : ft 344 5 = some (30, 2, 0, .tableswitch 76 0 4 #[35, 35, 35, 42, 58], 35) := Fm344 (by decide +kernel) rfl
theorem f344_40 : ft 344 40 = some (30, 2, 0, .aload_n 0, 1) := Fm344 (dk_42 (dk_at s344_2 0 rfl rfl)) rfl
theorem f344_41 : ft 344 41 = some (30, 2, 0, .iload_n 1, 1) := Fm344 (dk_27 (dk_at s344_2 1 rfl rfl)) rfl
theorem f344_42 : ft 344 42 = some (30, 2, 0, .invokevirtual 27, 3) := Fm344 (dk_182 0 27 (dk_at s344_2 2 rfl rfl)) rfl
theorem f344_45 : ft 344 45 = some (30, 2, 0, .i2l, 1) := Fm344 (dk_133 (dk_at s344_2 5 rfl rfl)) rfl
theorem f344_46 : ft 344 46 = some (30, 2, 0, .lreturn, 1) := Fm344 (dk_173 (dk_at s344_2 6 rfl rfl)) rfl
theorem f344_47 : ft 344 47 = some (30, 2, 0, .ldc2_w 33, 3) := Fm344 (dk_20 0 33 (dk_at s344_2 7 rfl rfl)) rfl
theorem f344_50 : ft 344 50 = some (30, 2, 0, .aload_n 0, 1) := Fm344 (dk_42 (dk_at s344_2 10 rfl rfl)) rfl
theorem f344_51 : ft 344 51 = some (30, 2, 0, .iload_n 1, 1) := Fm344 (dk_27 (dk_at s344_2 11 rfl rfl)) rfl
theorem f344_52 : ft 344 52 = some (30, 2, 0, .iconst 1, 1) := Fm344 (dk_4 (dk_at s344_2 12 rfl rfl)) rfl
theorem f344_53 : ft 344 53 = some (30, 2, 0, .iadd, 1) := Fm344 (dk_96 (dk_at s344_2 13 rfl rfl)) rfl
theorem f344_54 : ft 344 54 = some (30, 2, 0, .invokevirtual 35, 3) := Fm344 (dk_182 0 35 (dk_at s344_2 14 rfl rfl)) rfl
theorem f344_57 : ft 344 57 = some (30, 2, 0, .lmul, 1) := Fm344 (dk_105 (dk_at s344_2 17 rfl rfl)) rfl
theorem f344_58 : ft 344 58 = some (30, 2, 0, .ldc2_w 39, 3) := Fm344 (dk_20 0 39 (dk_at s344_2 18 rfl rfl)) rfl
theorem f344_61 : ft 344 61 = some (30, 2, 0, .ladd, 1) := Fm344 (dk_97 (dk_at s344_2 21 rfl rfl)) rfl
theorem f344_62 : ft 344 62 = some (30, 2, 0, .lreturn, 1) := Fm344 (dk_173 (dk_at s344_2 22 rfl rfl)) rfl
theorem f344_63 : ft 344 63 = some (30, 2, 0, .aload_n 0, 1) := Fm344 (dk_42 (dk_at s344_2 23 rfl rfl)) rfl
theorem f344_64 : ft 344 64 = some (30, 2, 0, .iload_n 1, 1) := Fm344 (dk_27 (dk_at s344_3 0 rfl rfl)) rfl
theorem f344_65 : ft 344 65 = some (30, 2, 0, .iconst 3, 1) := Fm344 (dk_6 (dk_at s344_3 1 rfl rfl)) rfl
theorem f344_66 : ft 344 66 = some (30, 2, 0, .iadd, 1) := Fm344 (dk_96 (dk_at s344_3 2 rfl rfl)) rfl
theorem f344_67 : ft 344 67 = some (30, 2, 0, .aload_n 0, 1) := Fm344 (dk_42 (dk_at s344_3 3 rfl rfl)) rfl
theorem f344_68 : ft 344 68 = some (30, 2, 0, .iload_n 1, 1) := Fm344 (dk_27 (dk_at s344_3 4 rfl rfl)) rfl
theorem f344_69 : ft 344 69 = some (30, 2, 0, .iconst 1, 1) := Fm344 (dk_4 (dk_at s344_3 5 rfl rfl)) rfl
theorem f344_70 : ft 344 70 = some (30, 2, 0, .iadd, 1) := Fm344 (dk_96 (dk_at s344_3 6 rfl rfl)) rfl
theorem f344_71 : ft 344 71 = some (30, 2, 0, .invokevirtual 41, 3) := Fm344 (dk_182 0 41 (dk_at s344_3 7 rfl rfl)) rfl
theorem f344_74 : ft 344 74 = some (30, 2, 0, .ldc2_w 44, 3) := Fm344 (dk_20 0 44 (dk_at s344_3 10 rfl rfl)) rfl
theorem f344_77 : ft 344 77 = some (30, 2, 0, .invokestatic 46, 3) := Fm344 (dk_184 0 46 (dk_at s344_3 13 rfl rfl)) rfl
theorem f344_80 : ft 344 80 = some (30, 2, 0, .lreturn, 1) := Fm344 (dk_173 (dk_at s344_3 16 rfl rfl)) rfl
theorem f344_81 : ft 344 81 = some (30, 2, 0, .aload_n 0, 1) := Fm344 (dk_42 (dk_at s344_3 17 rfl rfl)) rfl
theorem f344_82 : ft 344 82 = some (30, 2, 0, .iload_n 1, 1) := Fm344 (dk_27 (dk_at s344_3 18 rfl rfl)) rfl
theorem f344_83 : ft 344 83 = some (30, 2, 0, .invokestatic 50, 3) := Fm344 (dk_184 0 50 (dk_at s344_3 19 rfl rfl)) rfl
theorem f344_86 : ft 344 86 = some (30, 2, 0, .lreturn, 1) := Fm344 (dk_173 (dk_at s344_3 22 rfl rfl)) rfl
theorem q344 {d : Nat} {m : Mem} {a0 a1 : Int} (hd : 0 < d) (hz : TZ m) : le2 (gd (tg m a0 = 8) <| bI (cl (d - 1) 139 [pR a0, pI a1] m) fun v1 m1 => if v1 = 0 ∨ v1 = 1 ∨ v1 = 2 then (bI (cl (d - 1) 139 [pR a0, pI a1] m1) fun v6 m6 => some (.inl (some (pL v6)), m6)) else if v1 = 3 then (bL (cl (d - 1) 140 [pR a0, pI (w32 (a1 + 1))] m1) fun v5 m5 => some (.inl (some (pL (w64 ((w64 (31 * v5)) + 3)))), m5)) else if v1 = 4 then (bI (cl (d - 1) 134 [pR a0, pI (w32 (a1 + 1))] m1) fun v3 m3 => bL (cl (d - 1) 345 [pR a0, pI (w32 (a1 + 3)), pI v3, pL 7] m3) fun v4 m4 => some (.inl (some (pL v4)), m4)) else bL (cl (d - 1) 346 [pR a0, pI a1] m1) fun v2 m2 => some (.inl (some (pL v2)), m2)) (cl d 344 [pR a0, pI a1] m) := by
  refine q_in (n := 2) (L := [pR a0, pI a1]) rfl rfl rfl ?_
  refine r_aln0 (p := 1) f344_0 rfl ?_
  refine r_iln1 (p := 2) f344_1 rfl ?_
  refine le2_gd (fun h1 => ?_)
  refine r_invI (p := 5) f344_2 rfl rfl rfl (Or.inl h1) hd (Nat.le_of_ble_eq_true rfl) rfl rfl rfl (fun _ => rfl) (fun v1 m1 c1 => ?_)
  have hz1 := z_k c1 hz
  refine le2_ite (fun h6 => ?_) (fun h6 => ?_)
  · refine r_tsJ (off := 35) (t := 40) f344_5 (by omega) (by rcases h6 with h | h | h <;> rw [h] <;> rfl) (by decide) rfl ?_
    refine r_aln0 (p := 41) f344_40 rfl ?_
    refine r_iln1 (p := 42) f344_41 rfl ?_
    have h7 := k_t1 c1 hz h1 (by decide)
    refine r_invI (p := 45) f344_42 rfl rfl rfl (Or.inl h7) hd (Nat.le_of_ble_eq_true rfl) rfl rfl rfl (fun _ => rfl) (fun v6 m6 c6 => ?_)
    have hz6 := z_k c6 hz1
    refine r_i2l (p := 46) f344_45 rfl ?_
    exact r_lret f344_46
  · refine le2_ite (fun h4 => ?_) (fun h4 => ?_)
    · refine r_tsI (off := 42) (t := 47) f344_5 h4 rfl rfl (by decide) rfl ?_
      refine r_ldc2 (p := 50) f344_47 rfl rfl (pinD rfl rfl) ?_
      refine r_aln0 (p := 51) f344_50 rfl ?_
      refine r_iln1 (p := 52) f344_51 rfl ?_
      refine r_iconst (p := 53) f344_52 rfl (pinD rfl rfl) ?_
      refine r_iadd (p := 54) f344_53 rfl ?_
      have h5 := k_t1 c1 hz h1 (by decide)
      refine r_invL (p := 57) f344_54 rfl rfl rfl (Or.inl h5) hd (Nat.le_of_ble_eq_true rfl) rfl rfl rfl (fun _ => rfl) (fun v5 m5 c5 => ?_)
      have hz5 := z_k c5 hz1
      refine r_lmul (p := 58) f344_57 rfl ?_
      refine r_ldc2 (p := 61) f344_58 rfl rfl (pinD rfl rfl) ?_
      refine r_ladd (p := 62) f344_61 rfl ?_
      exact r_lret f344_62
    · refine le2_ite (fun h2 => ?_) (fun h2 => ?_)
      · refine r_tsI (off := 58) (t := 63) f344_5 h2 rfl rfl (by decide) rfl ?_
        refine r_aln0 (p := 64) f344_63 rfl ?_
        refine r_iln1 (p := 65) f344_64 rfl ?_
        refine r_iconst (p := 66) f344_65 rfl (pinD rfl rfl) ?_
        refine r_iadd (p := 67) f344_66 rfl ?_
        refine r_aln0 (p := 68) f344_67 rfl ?_
        refine r_iln1 (p := 69) f344_68 rfl ?_
        refine r_iconst (p := 70) f344_69 rfl (pinD rfl rfl) ?_
        refine r_iadd (p := 71) f344_70 rfl ?_
        have h3 := k_t1 c1 hz h1 (by decide)
        refine r_invI (p := 74) f344_71 rfl rfl rfl (Or.inl h3) hd (Nat.le_of_ble_eq_true rfl) rfl rfl rfl (fun _ => rfl) (fun v3 m3 c3 => ?_)
        have hz3 := z_k c3 hz1
        refine r_ldc2 (p := 77) f344_74 rfl rfl (pinD rfl rfl) ?_
        refine r_istL (p := 80) f344_77 rfl rfl rfl hd (Nat.le_of_ble_eq_true rfl) rfl rfl rfl (fun _ => rfl) (fun v4 m4 c4 => ?_)
        have hz4 := z_k c4 hz3
        exact r_lret f344_80
      · refine r_tsO (t := 81) f344_5 (by omega) (by decide) rfl ?_
        refine r_aln0 (p := 82) f344_81 rfl ?_
        refine r_iln1 (p := 83) f344_82 rfl ?_
        refine r_istL (p := 86) f344_83 rfl rfl rfl hd (Nat.le_of_ble_eq_true rfl) rfl rfl rfl (fun _ => rfl) (fun v2 m2 c2 => ?_)
        have hz2 := z_k c2 hz1
        exact r_lret f344_86
/-! 345 PathStore$Table.row (LPathStore$Row;IIJ)J -/
def w345_1 : List UInt8 := [21, 7, 96, 51, 133, 97, 55, 5, 132, 7, 1, 167, 255, 228, 22, 5, 173]
abbrev u345_1 : List UInt8 := w345_1 ++ []
def w345_0 : List UInt8 := [33, 55, 5, 3, 54, 7, 21, 7, 28, 162, 0, 28, 20, 0, 54, 22, 5, 105, 42, 180, 0, 56, 27]
abbrev u345_0 : List UInt8 := w345_0 ++ u345_1
theorem s345_0 : (prog_27_method_3_code).data.toList.drop 0 = u345_0 := by decide +kernel
theorem s345_1 : (prog_27_method_3_code).data.toList.drop 23 = u345_1 := dk_seg s345_0 23 rfl rfl
theorem Fm345 {pc len : Nat} {i : Instr} (h : decode (prog_27_method_3_code) pc = .ok (i, len)) (hl : len = ilen i len) : ft 345 pc = some (30, 2, 0, i, len) := ft_mk rfl h hl
theorem f345_0 : ft 345 0 = some (30, 2, 0, .lload_n 3, 1) := Fm345 (dk_33 (dk_at s345_0 0 rfl rfl)) rfl
theorem f345_1 : ft 345 1 = some (30, 2, 0, .lstore 5, 2) := Fm345 (dk_55 5 (dk_at s345_0 1 rfl rfl)) rfl
theorem f345_3 : ft 345 3 = some (30, 2, 0, .iconst 0, 1) := Fm345 (dk_3 (dk_at s345_0 3 rfl rfl)) rfl
theorem f345_4 : ft 345 4 = some (30, 2, 0, .istore 7, 2) := Fm345 (dk_54 7 (dk_at s345_0 4 rfl rfl)) rfl
theorem f345_6 : ft 345 6 = some (30, 2, 0, .iload 7, 2) := Fm345 (dk_21 7 (dk_at s345_0 6 rfl rfl)) rfl
theorem f345_8 : ft 345 8 = some (30, 2, 0, .iload_n 2, 1) := Fm345 (dk_28 (dk_at s345_0 8 rfl rfl)) rfl
theorem f345_9 : ft 345 9 = some (30, 2, 0, .if_icmp .ge 28, 3) := Fm345 (dk_162 0 28 (dk_at s345_0 9 rfl rfl)) rfl
theorem f345_12 : ft 345 12 = some (30, 2, 0, .ldc2_w 54, 3) := Fm345 (dk_20 0 54 (dk_at s345_0 12 rfl rfl)) rfl
theorem f345_15 : ft 345 15 = some (30, 2, 0, .lload 5, 2) := Fm345 (dk_22 5 (dk_at s345_0 15 rfl rfl)) rfl
theorem f345_17 : ft 345 17 = some (30, 2, 0, .lmul, 1) := Fm345 (dk_105 (dk_at s345_0 17 rfl rfl)) rfl
theorem f345_18 : ft 345 18 = some (30, 2, 0, .aload_n 0, 1) := Fm345 (dk_42 (dk_at s345_0 18 rfl rfl)) rfl
theorem f345_19 : ft 345 19 = some (30, 2, 0, .getfield 56, 3) := Fm345 (dk_180 0 56 (dk_at s345_0 19 rfl rfl)) rfl
theorem f345_22 : ft 345 22 = some (30, 2, 0, .iload_n 1, 1) := Fm345 (dk_27 (dk_at s345_0 22 rfl rfl)) rfl
theorem f345_23 : ft 345 23 = some (30, 2, 0, .iload 7, 2) := Fm345 (dk_21 7 (dk_at s345_1 0 rfl rfl)) rfl
theorem f345_25 : ft 345 25 = some (30, 2, 0, .iadd, 1) := Fm345 (dk_96 (dk_at s345_1 2 rfl rfl)) rfl
theorem f345_26 : ft 345 26 = some (30, 2, 0, .baload, 1) := Fm345 (dk_51 (dk_at s345_1 3 rfl rfl)) rfl
theorem f345_27 : ft 345 27 = some (30, 2, 0, .i2l, 1) := Fm345 (dk_133 (dk_at s345_1 4 rfl rfl)) rfl
theorem f345_28 : ft 345 28 = some (30, 2, 0, .ladd, 1) := Fm345 (dk_97 (dk_at s345_1 5 rfl rfl)) rfl
theorem f345_29 : ft 345 29 = some (30, 2, 0, .lstore 5, 2) := Fm345 (dk_55 5 (dk_at s345_1 6 rfl rfl)) rfl
theorem f345_31 : ft 345 31 = some (30, 2, 0, .iinc 7 1, 3) := Fm345 (dk_132 7 1 (dk_at s345_1 8 rfl rfl)) rfl
theorem f345_34 : ft 345 34 = some (30, 2, 0, .goto (-28), 3) := Fm345 (dk_167 255 228 (dk_at s345_1 11 rfl rfl)) rfl
theorem f345_37 : ft 345 37 = some (30, 2, 0, .lload 5, 2) := Fm345 (dk_22 5 (dk_at s345_1 14 rfl rfl)) rfl
theorem f345_39 : ft 345 39 = some (30, 2, 0, .lreturn, 1) := Fm345 (dk_173 (dk_at s345_1 16 rfl rfl)) rfl
theorem q345 {d : Nat} {m : Mem} {a0 a1 a2 a3 : Int} (hz : TZ m) : le2 (rn d 345 6 [pR a0, pI a1, pI a2, pL a3, pU, pL a3, pU, pI 0] [] m) (cl d 345 [pR a0, pI a1, pI a2, pL a3] m) := by
  refine q_in (n := 8) (L := [pR a0, pI a1, pI a2, pL a3, pU, pU, pU, pU]) rfl rfl rfl ?_
  refine r_lln3 (p := 1) f345_0 rfl ?_
  refine r_lsw5 (p := 3) f345_1 rfl rfl ?_
  refine r_iconst (p := 4) f345_3 rfl (pinD rfl rfl) ?_
  refine r_isw7 (p := 6) f345_4 rfl rfl ?_
  exact le2_refl _
theorem q345_6 {d : Nat} {m : Mem} {a0 a1 a2 a3 a5 a7 : Int} (hz : TZ m) : le2 (if a7 < a2 then (gd (tg m a0 = 8) <| nm (vl m a0 0) fun v1 => nm (w32 (a1 + a7)) fun v2 => gd (tg m v1 = 130103 ∨ tg m v1 = 132103) <| gd ((0 : Int) ≤ v2 ∧ v2 < ln m v1) <| rn d 345 6 [pR a0, pI a1, pI a2, pL a3, pU, pL (w64 ((w64 (131 * a5)) + (vl m v1 v2))), pU, pI (w32 (a7 + 1))] [] m) else some (.inl (some (pL a5)), m)) (rn d 345 6 [pR a0, pI a1, pI a2, pL a3, pU, pL a5, pU, pI a7] [] m) := by
  refine r_ilw7 (p := 8) f345_6 rfl ?_
  refine r_iln2 (p := 9) f345_8 rfl ?_
  refine r_icge (t := 37) (p := 12) f345_9 (by decide) rfl rfl ?_ ?_
  · refine r_ldc2 (p := 15) f345_12 rfl rfl (pinD rfl rfl) ?_
    refine r_llw5 (p := 17) f345_15 rfl ?_
    refine r_lmul (p := 18) f345_17 rfl ?_
    refine r_aln0 (p := 19) f345_18 rfl ?_
    refine le2_gd (fun h1 => ?_)
    refine r_gfR (f := 0) (p := 22) f345_19 rfl rfl rfl (Or.inl h1) rfl ?_
    refine r_nmR (fun v1 ev1 => ?_)
    refine r_iln1 (p := 23) f345_22 rfl ?_
    refine r_ilw7 (p := 25) f345_23 rfl ?_
    refine r_iadd (p := 26) f345_25 rfl ?_
    refine r_nmI (fun v2 ev2 => ?_)
    refine le2_gd (fun h2 => ?_)
    refine le2_gd (fun h3 => ?_)
    refine r_baload (p := 27) f345_26 rfl (dj2 (fun x => x % 1000 = 103 ∨ x % 1000 = 105) h2 (by decide) (by decide)) h3 rfl ?_
    refine r_i2l (p := 28) f345_27 rfl ?_
    refine r_ladd (p := 29) f345_28 rfl ?_
    refine r_lsw5 (p := 31) f345_29 rfl rfl ?_
    refine r_iinc7 (p := 34) f345_31 rfl rfl ?_
    refine r_goto (p := 6) f345_34 (by decide) rfl ?_
    exact le2_refl _
  · refine r_llw5 (p := 39) f345_37 rfl ?_
    exact r_lret f345_39
/-! 346 PathStore$Table.many (LPathStore$Row;I)J -/
def w346_5 : List UInt8 := [66, 42, 21, 7, 182, 0, 64, 54, 6, 167, 255, 171, 33, 173]
abbrev u346_5 : List UInt8 := w346_5 ++ []
def w346_4 : List UInt8 := [184, 0, 74, 105, 10, 97, 105, 97, 66, 167, 0, 16, 20, 0, 77, 33, 105, 42, 21, 7, 184, 0, 74, 97]
abbrev u346_4 : List UInt8 := w346_4 ++ u346_5
def w346_3 : List UInt8 := [33, 42, 21, 6, 5, 96, 42, 21, 6, 182, 0, 41, 20, 0, 70, 184, 0, 46, 20, 0, 72, 42, 21, 7]
abbrev u346_3 : List UInt8 := w346_3 ++ u346_4
def w346_2 : List UInt8 := [162, 0, 84, 28, 153, 0, 12, 42, 21, 6, 182, 0, 67, 167, 0, 5, 21, 6, 54, 7, 28, 153, 0, 39]
abbrev u346_2 : List UInt8 := w346_2 ++ u346_3
def w346_1 : List UInt8 := [167, 0, 6, 20, 0, 62, 66, 42, 27, 182, 0, 64, 54, 5, 27, 6, 96, 54, 6, 21, 6, 21, 5]
abbrev u346_1 : List UInt8 := w346_1 ++ u346_2
def w346_0 : List UInt8 := [42, 27, 182, 0, 27, 16, 6, 160, 0, 7, 4, 167, 0, 4, 3, 61, 28, 153, 0, 9, 20, 0, 60]
abbrev u346_0 : List UInt8 := w346_0 ++ u346_1
theorem s346_0 : (prog_27_method_4_code).data.toList.drop 0 = u346_0 := by decide +kernel
theorem s346_1 : (prog_27_method_4_code).data.toList.drop 23 = u346_1 := dk_seg s346_0 23 rfl rfl
theorem s346_2 : (prog_27_method_4_code).data.toList.drop 46 = u346_2 := dk_seg s346_1 23 rfl rfl
theorem s346_3 : (prog_27_method_4_code).data.toList.drop 70 = u346_3 := dk_seg s346_2 24 rfl rfl
theorem s346_4 : (prog_27_method_4_code).data.toList.drop 94 = u346_4 := dk_seg s346_3 24 rfl rfl
theorem s346_5 : (prog_27_method_4_code).data.toList.drop 118 = u346_5 := dk_seg s346_4 24 rfl rfl
theorem Fm346 {pc len : Nat} {i : Instr} (h : decode (prog_27_method_4_code) pc = .ok (i, len)) (hl : len = ilen i len) : ft 346 pc = some (30, 2, 0, i, len) := ft_mk rfl h hl
theorem f346_0 : ft 346 0 = some (30, 2, 0, .aload_n 0, 1) := Fm346 (dk_42 (dk_at s346_0 0 rfl rfl)) rfl
theorem f346_1 : ft 346 1 = some (30, 2, 0, .iload_n 1, 1) := Fm346 (dk_27 (dk_at s346_0 1 rfl rfl)) rfl
theorem f346_2 : ft 346 2 = some (30, 2, 0, .invokevirtual 27, 3) := Fm346 (dk_182 0 27 (dk_at s346_0 2 rfl rfl)) rfl
theorem f346_5 : ft 346 5 = some (30, 2, 0, .bipush 6, 2) := Fm346 (dk_16 6 (dk_at s346_0 5 rfl rfl)) rfl
theorem f346_7 : ft 346 7 = some (30, 2, 0, .if_icmp .ne 7, 3) := Fm346 (dk_160 0 7 (dk_at s346_0 7 rfl rfl)) rfl
theorem f346_10 : ft 346 10 = some (30, 2, 0, .iconst 1, 1) := Fm346 (dk_4 (dk_at s346_0 10 rfl rfl)) rfl
theorem f346_11 : ft 346 11 = some (30, 2, 0, .goto 4, 3) := Fm346 (dk_167 0 4 (dk_at s346_0 11 rfl rfl)) rfl
theorem f346_14 : ft 346 14 = some (30, 2, 0, .iconst 0, 1) := Fm346 (dk_3 (dk_at s346_0 14 rfl rfl)) rfl
theorem f346_15 : ft 346 15 = some (30, 2, 0, .istore_n 2, 1) := Fm346 (dk_61 (dk_at s346_0 15 rfl rfl)) rfl
theorem f346_16 : ft 346 16 = some (30, 2, 0, .iload_n 2, 1) := Fm346 (dk_28 (dk_at s346_0 16 rfl rfl)) rfl
theorem f346_17 : ft 346 17 = some (30, 2, 0, .ifCond .eq 9, 3) := Fm346 (dk_153 0 9 (dk_at s346_0 17 rfl rfl)) rfl
theorem f346_20 : ft 346 20 = some (30, 2, 0, .ldc2_w 60, 3) := Fm346 (dk_20 0 60 (dk_at s346_0 20 rfl rfl)) rfl
theorem f346_23 : ft 346 23 = some (30, 2, 0, .goto 6, 3) := Fm346 (dk_167 0 6 (dk_at s346_1 0 rfl rfl)) rfl
theorem f346_26 : ft 346 26 = some (30, 2, 0, .ldc2_w 62, 3) := Fm346 (dk_20 0 62 (dk_at s346_1 3 rfl rfl)) rfl
theorem f346_29 : ft 346 29 = some (30, 2, 0, .lstore_n 3, 1) := Fm346 (dk_66 (dk_at s346_1 6 rfl rfl)) rfl
theorem f346_30 : ft 346 30 = some (30, 2, 0, .aload_n 0, 1) := Fm346 (dk_42 (dk_at s346_1 7 rfl rfl)) rfl
theorem f346_31 : ft 346 31 = some (30, 2, 0, .iload_n 1, 1) := Fm346 (dk_27 (dk_at s346_1 8 rfl rfl)) rfl
theorem f346_32 : ft 346 32 = some (30, 2, 0, .invokevirtual 64, 3) := Fm346 (dk_182 0 64 (dk_at s346_1 9 rfl rfl)) rfl
theorem f346_35 : ft 346 35 = some (30, 2, 0, .istore 5, 2) := Fm346 (dk_54 5 (dk_at s346_1 12 rfl rfl)) rfl
theorem f346_37 : ft 346 37 = some (30, 2, 0, .iload_n 1, 1) := Fm346 (dk_27 (dk_at s346_1 14 rfl rfl)) rfl
theorem f346_38 : ft 346 38 = some (30, 2, 0, .iconst 3, 1) := Fm346 (dk_6 (dk_at s346_1 15 rfl rfl)) rfl
theorem f346_39 : ft 346 39 = some (30, 2, 0, .iadd, 1) := Fm346 (dk_96 (dk_at s346_1 16 rfl rfl)) rfl
theorem f346_40 : ft 346 40 = some (30, 2, 0, .istore 6, 2) := Fm346 (dk_54 6 (dk_at s346_1 17 rfl rfl)) rfl
theorem f346_42 : ft 346 42 = some (30, 2, 0, .iload 6, 2) := Fm346 (dk_21 6 (dk_at s346_1 19 rfl rfl)) rfl
theorem f346_44 : ft 346 44 = some (30, 2, 0, .iload 5, 2) := Fm346 (dk_21 5 (dk_at s346_1 21 rfl rfl)) rfl
theorem f346_46 : ft 346 46 = some (30, 2, 0, .if_icmp .ge 84, 3) := Fm346 (dk_162 0 84 (dk_at s346_2 0 rfl rfl)) rfl
theorem f346_49 : ft 346 49 = some (30, 2, 0, .iload_n 2, 1) := Fm346 (dk_28 (dk_at s346_2 3 rfl rfl)) rfl
theorem f346_50 : ft 346 50 = some (30, 2, 0, .ifCond .eq 12, 3) := Fm346 (dk_153 0 12 (dk_at s346_2 4 rfl rfl)) rfl
theorem f346_53 : ft 346 53 = some (30, 2, 0, .aload_n 0, 1) := Fm346 (dk_42 (dk_at s346_2 7 rfl rfl)) rfl
theorem f346_54 : ft 346 54 = some (30, 2, 0, .iload 6, 2) := Fm346 (dk_21 6 (dk_at s346_2 8 rfl rfl)) rfl
theorem f346_56 : ft 346 56 = some (30, 2, 0, .invokevirtual 67, 3) := Fm346 (dk_182 0 67 (dk_at s346_2 10 rfl rfl)) rfl
theorem f346_59 : ft 346 59 = some (30, 2, 0, .goto 5, 3) := Fm346 (dk_167 0 5 (dk_at s346_2 13 rfl rfl)) rfl
theorem f346_62 : ft 346 62 = some (30, 2, 0, .iload 6, 2) := Fm346 (dk_21 6 (dk_at s346_2 16 rfl rfl)) rfl
theorem f346_64 : ft 346 64 = some (30, 2, 0, .istore 7, 2) := Fm346 (dk_54 7 (dk_at s346_2 18 rfl rfl)) rfl
theorem f346_66 : ft 346 66 = some (30, 2, 0, .iload_n 2, 1) := Fm346 (dk_28 (dk_at s346_2 20 rfl rfl)) rfl
theorem f346_67 : ft 346 67 = some (30, 2, 0, .ifCond .eq 39, 3) := Fm346 (dk_153 0 39 (dk_at s346_2 21 rfl rfl)) rfl
theorem f346_70 : ft 346 70 = some (30, 2, 0, .lload_n 3, 1) := Fm346 (dk_33 (dk_at s346_3 0 rfl rfl)) rfl
theorem f346_71 : ft 346 71 = some (30, 2, 0, .aload_n 0, 1) := Fm346 (dk_42 (dk_at s346_3 1 rfl rfl)) rfl
theorem f346_72 : ft 346 72 = some (30, 2, 0, .iload 6, 2) := Fm346 (dk_21 6 (dk_at s346_3 2 rfl rfl)) rfl
theorem f346_74 : ft 346 74 = some (30, 2, 0, .iconst 2, 1) := Fm346 (dk_5 (dk_at s346_3 4 rfl rfl)) rfl
theorem f346_75 : ft 346 75 = some (30, 2, 0, .iadd, 1) := Fm346 (dk_96 (dk_at s346_3 5 rfl rfl)) rfl
theorem f346_76 : ft 346 76 = some (30, 2, 0, .aload_n 0, 1) := Fm346 (dk_42 (dk_at s346_3 6 rfl rfl)) rfl
theorem f346_77 : ft 346 77 = some (30, 2, 0, .iload 6, 2) := Fm346 (dk_21 6 (dk_at s346_3 7 rfl rfl)) rfl
theorem f346_79 : ft 346 79 = some (30, 2, 0, .invokevirtual 41, 3) := Fm346 (dk_182 0 41 (dk_at s346_3 9 rfl rfl)) rfl
theorem f346_82 : ft 346 82 = some (30, 2, 0, .ldc2_w 70, 3) := Fm346 (dk_20 0 70 (dk_at s346_3 12 rfl rfl)) rfl
theorem f346_85 : ft 346 85 = some (30, 2, 0, .invokestatic 46, 3) := Fm346 (dk_184 0 46 (dk_at s346_3 15 rfl rfl)) rfl
theorem f346_88 : ft 346 88 = some (30, 2, 0, .ldc2_w 72, 3) := Fm346 (dk_20 0 72 (dk_at s346_3 18 rfl rfl)) rfl
theorem f346_91 : ft 346 91 = some (30, 2, 0, .aload_n 0, 1) := Fm346 (dk_42 (dk_at s346_3 21 rfl rfl)) rfl
theorem f346_92 : ft 346 92 = some (30, 2, 0, .iload 7, 2) := Fm346 (dk_21 7 (dk_at s346_3 22 rfl rfl)) rfl
theorem f346_94 : ft 346 94 = some (30, 2, 0, .invokestatic 74, 3) := Fm346 (dk_184 0 74 (dk_at s346_4 0 rfl rfl)) rfl
theorem f346_97 : ft 346 97 = some (30, 2, 0, .lmul, 1) := Fm346 (dk_105 (dk_at s346_4 3 rfl rfl)) rfl
theorem f346_98 : ft 346 98 = some (30, 2, 0, .lconst 1, 1) := Fm346 (dk_10 (dk_at s346_4 4 rfl rfl)) rfl
theorem f346_99 : ft 346 99 = some (30, 2, 0, .ladd, 1) := Fm346 (dk_97 (dk_at s346_4 5 rfl rfl)) rfl
theorem f346_100 : ft 346 100 = some (30, 2, 0, .lmul, 1) := Fm346 (dk_105 (dk_at s346_4 6 rfl rfl)) rfl
theorem f346_101 : ft 346 101 = some (30, 2, 0, .ladd, 1) := Fm346 (dk_97 (dk_at s346_4 7 rfl rfl)) rfl
theorem f346_102 : ft 346 102 = some (30, 2, 0, .lstore_n 3, 1) := Fm346 (dk_66 (dk_at s346_4 8 rfl rfl)) rfl
theorem f346_103 : ft 346 103 = some (30, 2, 0, .goto 16, 3) := Fm346 (dk_167 0 16 (dk_at s346_4 9 rfl rfl)) rfl
theorem f346_106 : ft 346 106 = some (30, 2, 0, .ldc2_w 77, 3) := Fm346 (dk_20 0 77 (dk_at s346_4 12 rfl rfl)) rfl
theorem f346_109 : ft 346 109 = some (30, 2, 0, .lload_n 3, 1) := Fm346 (dk_33 (dk_at s346_4 15 rfl rfl)) rfl
theorem f346_110 : ft 346 110 = some (30, 2, 0, .lmul, 1) := Fm346 (dk_105 (dk_at s346_4 16 rfl rfl)) rfl
theorem f346_111 : ft 346 111 = some (30, 2, 0, .aload_n 0, 1) := Fm346 (dk_42 (dk_at s346_4 17 rfl rfl)) rfl
theorem f346_112 : ft 346 112 = some (30, 2, 0, .iload 7, 2) := Fm346 (dk_21 7 (dk_at s346_4 18 rfl rfl)) rfl
theorem f346_114 : ft 346 114 = some (30, 2, 0, .invokestatic 74, 3) := Fm346 (dk_184 0 74 (dk_at s346_4 20 rfl rfl)) rfl
theorem f346_117 : ft 346 117 = some (30, 2, 0, .ladd, 1) := Fm346 (dk_97 (dk_at s346_4 23 rfl rfl)) rfl
theorem f346_118 : ft 346 118 = some (30, 2, 0, .lstore_n 3, 1) := Fm346 (dk_66 (dk_at s346_5 0 rfl rfl)) rfl
theorem f346_119 : ft 346 119 = some (30, 2, 0, .aload_n 0, 1) := Fm346 (dk_42 (dk_at s346_5 1 rfl rfl)) rfl
theorem f346_120 : ft 346 120 = some (30, 2, 0, .iload 7, 2) := Fm346 (dk_21 7 (dk_at s346_5 2 rfl rfl)) rfl
theorem f346_122 : ft 346 122 = some (30, 2, 0, .invokevirtual 64, 3) := Fm346 (dk_182 0 64 (dk_at s346_5 4 rfl rfl)) rfl
theorem f346_125 : ft 346 125 = some (30, 2, 0, .istore 6, 2) := Fm346 (dk_54 6 (dk_at s346_5 7 rfl rfl)) rfl
theorem f346_127 : ft 346 127 = some (30, 2, 0, .goto (-85), 3) := Fm346 (dk_167 255 171 (dk_at s346_5 9 rfl rfl)) rfl
theorem f346_130 : ft 346 130 = some (30, 2, 0, .lload_n 3, 1) := Fm346 (dk_33 (dk_at s346_5 12 rfl rfl)) rfl
theorem f346_131 : ft 346 131 = some (30, 2, 0, .lreturn, 1) := Fm346 (dk_173 (dk_at s346_5 13 rfl rfl)) rfl
theorem q346 {d : Nat} {m : Mem} {a0 a1 : Int} (hd : 0 < d) (hz : TZ m) : le2 (gd (tg m a0 = 8) <| bI (cl (d - 1) 139 [pR a0, pI a1] m) fun v1 m1 => if v1 = 6 then (if (1 : Int) = 0 then (rn d 346 29 [pR a0, pI a1, pI 1, pU, pU, pU, pU, pU] [pL 13] m1) else rn d 346 29 [pR a0, pI a1, pI 1, pU, pU, pU, pU, pU] [pL 11] m1) else if (0 : Int) = 0 then (rn d 346 29 [pR a0, pI a1, pI 0, pU, pU, pU, pU, pU] [pL 13] m1) else rn d 346 29 [pR a0, pI a1, pI 0, pU, pU, pU, pU, pU] [pL 11] m1) (cl d 346 [pR a0, pI a1] m) := by
  refine q_in (n := 8) (L := [pR a0, pI a1, pU, pU, pU, pU, pU, pU]) rfl rfl rfl ?_
  refine r_aln0 (p := 1) f346_0 rfl ?_
  refine r_iln1 (p := 2) f346_1 rfl ?_
  refine le2_gd (fun h1 => ?_)
  refine r_invI (p := 5) f346_2 rfl rfl rfl (Or.inl h1) hd (Nat.le_of_ble_eq_true rfl) rfl rfl rfl (fun _ => rfl) (fun v1 m1 c1 => ?_)
  have hz1 := z_k c1 hz
  refine r_bipush (p := 7) f346_5 rfl (pinD rfl rfl) ?_
  refine r_icne (t := 14) (p := 10) f346_7 (by decide) rfl rfl ?_ ?_
  · refine r_iconst (p := 11) f346_10 rfl (pinD rfl rfl) ?_
    refine r_goto (p := 15) f346_11 (by decide) rfl ?_
    refine r_isn2 (p := 16) f346_15 rfl rfl ?_
    refine r_iln2 (p := 17) f346_16 rfl ?_
    refine r_ifeq (t := 26) (p := 20) f346_17 (by decide) rfl rfl ?_ ?_
    · refine r_ldc2 (p := 29) f346_26 rfl rfl (pinD rfl rfl) ?_
      exact le2_refl _
    · refine r_ldc2 (p := 23) f346_20 rfl rfl (pinD rfl rfl) ?_
      refine r_goto (p := 29) f346_23 (by decide) rfl ?_
      exact le2_refl _
  · refine r_iconst (p := 15) f346_14 rfl (pinD rfl rfl) ?_
    refine r_isn2 (p := 16) f346_15 rfl rfl ?_
    refine r_iln2 (p := 17) f346_16 rfl ?_
    refine r_ifeq (t := 26) (p := 20) f346_17 (by decide) rfl rfl ?_ ?_
    · refine r_ldc2 (p := 29) f346_26 rfl rfl (pinD rfl rfl) ?_
      exact le2_refl _
    · refine r_ldc2 (p := 23) f346_20 rfl rfl (pinD rfl rfl) ?_
      refine r_goto (p := 29) f346_23 (by decide) rfl ?_
      exact le2_refl _
theorem q346_29 {d : Nat} {m : Mem} {a0 a1 a2 s0 : Int} (hd : 0 < d) (hz : TZ m) : le2 (gd (tg m a0 = 8) <| bI (cl (d - 1) 137 [pR a0, pI a1] m) fun v1 m1 => rn d 346 42 [pR a0, pI a1, pI a2, pL s0, pU, pI v1, pI (w32 (a1 + 3)), pU] [] m1) (rn d 346 29 [pR a0, pI a1, pI a2, pU, pU, pU, pU, pU] [pL s0] m) := by
  refine r_lsn3 (p := 30) f346_29 rfl rfl ?_
  refine r_aln0 (p := 31) f346_30 rfl ?_
  refine r_iln1 (p := 32) f346_31 rfl ?_
  refine le2_gd (fun h1 => ?_)
  refine r_invI (p := 35) f346_32 rfl rfl rfl (Or.inl h1) hd (Nat.le_of_ble_eq_true rfl) rfl rfl rfl (fun _ => rfl) (fun v1 m1 c1 => ?_)
  have hz1 := z_k c1 hz
  refine r_isw5 (p := 37) f346_35 rfl rfl ?_
  refine r_iln1 (p := 38) f346_37 rfl ?_
  refine r_iconst (p := 39) f346_38 rfl (pinD rfl rfl) ?_
  refine r_iadd (p := 40) f346_39 rfl ?_
  refine r_isw6 (p := 42) f346_40 rfl rfl ?_
  exact le2_refl _
theorem q346_42 {d : Nat} {m : Mem} {a0 a1 a2 a3 a5 a6 : Int} {z7 : PV} (hd : 0 < d) (hz : TZ m) (hcz7 : cat z7 = 1) : le2 (if a6 < a5 then (if a2 = 0 then (rn d 346 64 [pR a0, pI a1, pI a2, pL a3, pU, pI a5, pI a6, z7] [pI a6] m) else gd (tg m a0 = 8) <| bI (cl (d - 1) 136 [pR a0, pI a6] m) fun v1 m1 => rn d 346 64 [pR a0, pI a1, pI a2, pL a3, pU, pI a5, pI a6, z7] [pI v1] m1) else some (.inl (some (pL a3)), m)) (rn d 346 42 [pR a0, pI a1, pI a2, pL a3, pU, pI a5, pI a6, z7] [] m) := by
  refine r_ilw6 (p := 44) f346_42 rfl ?_
  refine r_ilw5 (p := 46) f346_44 rfl ?_
  refine r_icge (t := 130) (p := 49) f346_46 (by decide) rfl rfl ?_ ?_
  · refine r_iln2 (p := 50) f346_49 rfl ?_
    refine r_ifeq (t := 62) (p := 53) f346_50 (by decide) rfl rfl ?_ ?_
    · refine r_ilw6 (p := 64) f346_62 rfl ?_
      exact le2_refl _
    · refine r_aln0 (p := 54) f346_53 rfl ?_
      refine r_ilw6 (p := 56) f346_54 rfl ?_
      refine le2_gd (fun h1 => ?_)
      refine r_invI (p := 59) f346_56 rfl rfl rfl (Or.inl h1) hd (Nat.le_of_ble_eq_true rfl) rfl rfl rfl (fun _ => rfl) (fun v1 m1 c1 => ?_)
      have hz1 := z_k c1 hz
      refine r_goto (p := 64) f346_59 (by decide) rfl ?_
      exact le2_refl _
  · refine r_lln3 (p := 131) f346_130 rfl ?_
    exact r_lret f346_131
theorem q346_64 {d : Nat} {m : Mem} {a0 a1 a2 a3 a5 a6 s0 : Int} {z7 : PV} (hd : 0 < d) (hz : TZ m) (hcz7 : cat z7 = 1) : le2 (if a2 = 0 then (bL (cl (d - 1) 344 [pR a0, pI s0] m) fun v1 m1 => gd (tg m1 a0 = 8) <| bI (cl (d - 1) 137 [pR a0, pI s0] m1) fun v2 m2 => rn d 346 42 [pR a0, pI a1, pI a2, pL (w64 ((w64 (37 * a3)) + v1)), pU, pI a5, pI v2, pI s0] [] m2) else gd (tg m a0 = 8) <| bI (cl (d - 1) 134 [pR a0, pI a6] m) fun v3 m3 => bL (cl (d - 1) 345 [pR a0, pI (w32 (a6 + 2)), pI v3, pL 17] m3) fun v4 m4 => bL (cl (d - 1) 344 [pR a0, pI s0] m4) fun v5 m5 => bI (cl (d - 1) 137 [pR a0, pI s0] m5) fun v6 m6 => rn d 346 42 [pR a0, pI a1, pI a2, pL (w64 (a3 + (w64 (v4 * (w64 ((w64 (2 * v5)) + 1)))))), pU, pI a5, pI v6, pI s0] [] m6) (rn d 346 64 [pR a0, pI a1, pI a2, pL a3, pU, pI a5, pI a6, z7] [pI s0] m) := by
  refine r_isw7 (p := 66) f346_64 rfl rfl ?_
  refine r_iln2 (p := 67) f346_66 rfl ?_
  refine r_ifeq (t := 106) (p := 70) f346_67 (by decide) rfl rfl ?_ ?_
  · refine r_ldc2 (p := 109) f346_106 rfl rfl (pinD rfl rfl) ?_
    refine r_lln3 (p := 110) f346_109 rfl ?_
    refine r_lmul (p := 111) f346_110 rfl ?_
    refine r_aln0 (p := 112) f346_111 rfl ?_
    refine r_ilw7 (p := 114) f346_112 rfl ?_
    refine r_istL (p := 117) f346_114 rfl rfl rfl hd (Nat.le_of_ble_eq_true rfl) rfl rfl rfl (fun _ => rfl) (fun v1 m1 c1 => ?_)
    have hz1 := z_k c1 hz
    refine r_ladd (p := 118) f346_117 rfl ?_
    refine r_lsn3 (p := 119) f346_118 rfl rfl ?_
    refine r_aln0 (p := 120) f346_119 rfl ?_
    refine r_ilw7 (p := 122) f346_120 rfl ?_
    refine le2_gd (fun h1 => ?_)
    refine r_invI (p := 125) f346_122 rfl rfl rfl (Or.inl h1) hd (Nat.le_of_ble_eq_true rfl) rfl rfl rfl (fun _ => rfl) (fun v2 m2 c2 => ?_)
    have hz2 := z_k c2 hz1
    refine r_isw6 (p := 127) f346_125 rfl rfl ?_
    refine r_goto (p := 42) f346_127 (by decide) rfl ?_
    exact le2_refl _
  · refine r_lln3 (p := 71) f346_70 rfl ?_
    refine r_aln0 (p := 72) f346_71 rfl ?_
    refine r_ilw6 (p := 74) f346_72 rfl ?_
    refine r_iconst (p := 75) f346_74 rfl (pinD rfl rfl) ?_
    refine r_iadd (p := 76) f346_75 rfl ?_
    refine r_aln0 (p := 77) f346_76 rfl ?_
    refine r_ilw6 (p := 79) f346_77 rfl ?_
    refine le2_gd (fun h2 => ?_)
    refine r_invI (p := 82) f346_79 rfl rfl rfl (Or.inl h2) hd (Nat.le_of_ble_eq_true rfl) rfl rfl rfl (fun _ => rfl) (fun v3 m3 c3 => ?_)
    have hz3 := z_k c3 hz
    refine r_ldc2 (p := 85) f346_82 rfl rfl (pinD rfl rfl) ?_
    refine r_istL (p := 88) f346_85 rfl rfl rfl hd (Nat.le_of_ble_eq_true rfl) rfl rfl rfl (fun _ => rfl) (fun v4 m4 c4 => ?_)
    have hz4 := z_k c4 hz3
    refine r_ldc2 (p := 91) f346_88 rfl rfl (pinD rfl rfl) ?_
    refine r_aln0 (p := 92) f346_91 rfl ?_
    refine r_ilw7 (p := 94) f346_92 rfl ?_
    refine r_istL (p := 97) f346_94 rfl rfl rfl hd (Nat.le_of_ble_eq_true rfl) rfl rfl rfl (fun _ => rfl) (fun v5 m5 c5 => ?_)
    have hz5 := z_k c5 hz4
    refine r_lmul (p := 98) f346_97 rfl ?_
    refine r_lconst1 (p := 99) f346_98 rfl ?_
    refine r_ladd (p := 100) f346_99 rfl ?_
    refine r_lmul (p := 101) f346_100 rfl ?_
    refine r_ladd (p := 102) f346_101 rfl ?_
    refine r_lsn3 (p := 103) f346_102 rfl rfl ?_
    refine r_goto (p := 119) f346_103 (by decide) rfl ?_
    refine r_aln0 (p := 120) f346_119 rfl ?_
    refine r_ilw7 (p := 122) f346_120 rfl ?_
    have h3 := k_t1 c3 hz h2 (by decide)
    have h4 := k_t1 c4 hz3 h3 (by decide)
    have h5 := k_t1 c5 hz4 h4 (by decide)
    refine r_invI (p := 125) f346_122 rfl rfl rfl (Or.inl h5) hd (Nat.le_of_ble_eq_true rfl) rfl rfl rfl (fun _ => rfl) (fun v6 m6 c6 => ?_)
    have hz6 := z_k c6 hz5
    refine r_isw6 (p := 127) f346_125 rfl rfl ?_
    refine r_goto (p := 42) f346_127 (by decide) rfl ?_
    exact le2_refl _
/-! 347 PathStore$Table.add (JI)V -/
def w347_3 : List UInt8 := [31, 80, 42, 180, 0, 19, 21, 4, 29, 79, 42, 89, 180, 0, 79, 4, 96, 181, 0, 79, 177]
abbrev u347_3 : List UInt8 := w347_3 ++ []
def w347_2 : List UInt8 := [21, 4, 42, 180, 0, 19, 21, 4, 4, 100, 46, 79, 132, 4, 255, 167, 255, 202, 42, 180, 0, 15, 21, 4]
abbrev u347_2 : List UInt8 := w347_2 ++ u347_3
def w347_1 : List UInt8 := [158, 0, 41, 42, 180, 0, 15, 21, 4, 42, 180, 0, 15, 21, 4, 4, 100, 47, 80, 42, 180, 0, 19]
abbrev u347_1 : List UInt8 := w347_1 ++ u347_2
def w347_0 : List UInt8 := [42, 180, 0, 79, 54, 4, 21, 4, 158, 0, 55, 42, 180, 0, 15, 21, 4, 4, 100, 47, 31, 148]
abbrev u347_0 : List UInt8 := w347_0 ++ u347_1
theorem s347_0 : (prog_27_method_5_code).data.toList.drop 0 = u347_0 := by decide +kernel
theorem s347_1 : (prog_27_method_5_code).data.toList.drop 22 = u347_1 := dk_seg s347_0 22 rfl rfl
theorem s347_2 : (prog_27_method_5_code).data.toList.drop 45 = u347_2 := dk_seg s347_1 23 rfl rfl
theorem s347_3 : (prog_27_method_5_code).data.toList.drop 69 = u347_3 := dk_seg s347_2 24 rfl rfl
theorem Fm347 {pc len : Nat} {i : Instr} (h : decode (prog_27_method_5_code) pc = .ok (i, len)) (hl : len = ilen i len) : ft 347 pc = some (30, 0, 0, i, len) := ft_mk rfl h hl
theorem f347_0 : ft 347 0 = some (30, 0, 0, .aload_n 0, 1) := Fm347 (dk_42 (dk_at s347_0 0 rfl rfl)) rfl
theorem f347_1 : ft 347 1 = some (30, 0, 0, .getfield 79, 3) := Fm347 (dk_180 0 79 (dk_at s347_0 1 rfl rfl)) rfl
theorem f347_4 : ft 347 4 = some (30, 0, 0, .istore 4, 2) := Fm347 (dk_54 4 (dk_at s347_0 4 rfl rfl)) rfl
theorem f347_6 : ft 347 6 = some (30, 0, 0, .iload 4, 2) := Fm347 (dk_21 4 (dk_at s347_0 6 rfl rfl)) rfl
theorem f347_8 : ft 347 8 = some (30, 0, 0, .ifCond .le 55, 3) := Fm347 (dk_158 0 55 (dk_at s347_0 8 rfl rfl)) rfl
theorem f347_11 : ft 347 11 = some (30, 0, 0, .aload_n 0, 1) := Fm347 (dk_42 (dk_at s347_0 11 rfl rfl)) rfl
theorem f347_12 : ft 347 12 = some (30, 0, 0, .getfield 15, 3) := Fm347 (dk_180 0 15 (dk_at s347_0 12 rfl rfl)) rfl
theorem f347_15 : ft 347 15 = some (30, 0, 0, .iload 4, 2) := Fm347 (dk_21 4 (dk_at s347_0 15 rfl rfl)) rfl
theorem f347_17 : ft 347 17 = some (30, 0, 0, .iconst 1, 1) := Fm347 (dk_4 (dk_at s347_0 17 rfl rfl)) rfl
theorem f347_18 : ft 347 18 = some (30, 0, 0, .isub, 1) := Fm347 (dk_100 (dk_at s347_0 18 rfl rfl)) rfl
theorem f347_19 : ft 347 19 = some (30, 0, 0, .laload, 1) := Fm347 (dk_47 (dk_at s347_0 19 rfl rfl)) rfl
theorem f347_20 : ft 347 20 = some (30, 0, 0, .lload_n 1, 1) := Fm347 (dk_31 (dk_at s347_0 20 rfl rfl)) rfl
theorem f347_21 : ft 347 21 = some (30, 0, 0, .lcmp, 1) := Fm347 (dk_148 (dk_at s347_0 21 rfl rfl)) rfl
theorem f347_22 : ft 347 22 = some (30, 0, 0, .ifCond .le 41, 3) := Fm347 (dk_158 0 41 (dk_at s347_1 0 rfl rfl)) rfl
theorem f347_25 : ft 347 25 = some (30, 0, 0, .aload_n 0, 1) := Fm347 (dk_42 (dk_at s347_1 3 rfl rfl)) rfl
theorem f347_26 : ft 347 26 = some (30, 0, 0, .getfield 15, 3) := Fm347 (dk_180 0 15 (dk_at s347_1 4 rfl rfl)) rfl
theorem f347_29 : ft 347 29 = some (30, 0, 0, .iload 4, 2) := Fm347 (dk_21 4 (dk_at s347_1 7 rfl rfl)) rfl
theorem f347_31 : ft 347 31 = some (30, 0, 0, .aload_n 0, 1) := Fm347 (dk_42 (dk_at s347_1 9 rfl rfl)) rfl
theorem f347_32 : ft 347 32 = some (30, 0, 0, .getfield 15, 3) := Fm347 (dk_180 0 15 (dk_at s347_1 10 rfl rfl)) rfl
theorem f347_35 : ft 347 35 = some (30, 0, 0, .iload 4, 2) := Fm347 (dk_21 4 (dk_at s347_1 13 rfl rfl)) rfl
theorem f347_37 : ft 347 37 = some (30, 0, 0, .iconst 1, 1) := Fm347 (dk_4 (dk_at s347_1 15 rfl rfl)) rfl
theorem f347_38 : ft 347 38 = some (30, 0, 0, .isub, 1) := Fm347 (dk_100 (dk_at s347_1 16 rfl rfl)) rfl
theorem f347_39 : ft 347 39 = some (30, 0, 0, .laload, 1) := Fm347 (dk_47 (dk_at s347_1 17 rfl rfl)) rfl
theorem f347_40 : ft 347 40 = some (30, 0, 0, .lastore, 1) := Fm347 (dk_80 (dk_at s347_1 18 rfl rfl)) rfl
theorem f347_41 : ft 347 41 = some (30, 0, 0, .aload_n 0, 1) := Fm347 (dk_42 (dk_at s347_1 19 rfl rfl)) rfl
theorem f347_42 : ft 347 42 = some (30, 0, 0, .getfield 19, 3) := Fm347 (dk_180 0 19 (dk_at s347_1 20 rfl rfl)) rfl
theorem f347_45 : ft 347 45 = some (30, 0, 0, .iload 4, 2) := Fm347 (dk_21 4 (dk_at s347_2 0 rfl rfl)) rfl
theorem f347_47 : ft 347 47 = some (30, 0, 0, .aload_n 0, 1) := Fm347 (dk_42 (dk_at s347_2 2 rfl rfl)) rfl
theorem f347_48 : ft 347 48 = some (30, 0, 0, .getfield 19, 3) := Fm347 (dk_180 0 19 (dk_at s347_2 3 rfl rfl)) rfl
theorem f347_51 : ft 347 51 = some (30, 0, 0, .iload 4, 2) := Fm347 (dk_21 4 (dk_at s347_2 6 rfl rfl)) rfl
theorem f347_53 : ft 347 53 = some (30, 0, 0, .iconst 1, 1) := Fm347 (dk_4 (dk_at s347_2 8 rfl rfl)) rfl
theorem f347_54 : ft 347 54 = some (30, 0, 0, .isub, 1) := Fm347 (dk_100 (dk_at s347_2 9 rfl rfl)) rfl
theorem f347_55 : ft 347 55 = some (30, 0, 0, .iaload, 1) := Fm347 (dk_46 (dk_at s347_2 10 rfl rfl)) rfl
theorem f347_56 : ft 347 56 = some (30, 0, 0, .iastore, 1) := Fm347 (dk_79 (dk_at s347_2 11 rfl rfl)) rfl
theorem f347_57 : ft 347 57 = some (30, 0, 0, .iinc 4 (-1), 3) := Fm347 (dk_132 4 255 (dk_at s347_2 12 rfl rfl)) rfl
theorem f347_60 : ft 347 60 = some (30, 0, 0, .goto (-54), 3) := Fm347 (dk_167 255 202 (dk_at s347_2 15 rfl rfl)) rfl
theorem f347_63 : ft 347 63 = some (30, 0, 0, .aload_n 0, 1) := Fm347 (dk_42 (dk_at s347_2 18 rfl rfl)) rfl
theorem f347_64 : ft 347 64 = some (30, 0, 0, .getfield 15, 3) := Fm347 (dk_180 0 15 (dk_at s347_2 19 rfl rfl)) rfl
theorem f347_67 : ft 347 67 = some (30, 0, 0, .iload 4, 2) := Fm347 (dk_21 4 (dk_at s347_2 22 rfl rfl)) rfl
theorem f347_69 : ft 347 69 = some (30, 0, 0, .lload_n 1, 1) := Fm347 (dk_31 (dk_at s347_3 0 rfl rfl)) rfl
theorem f347_70 : ft 347 70 = some (30, 0, 0, .lastore, 1) := Fm347 (dk_80 (dk_at s347_3 1 rfl rfl)) rfl
theorem f347_71 : ft 347 71 = some (30, 0, 0, .aload_n 0, 1) := Fm347 (dk_42 (dk_at s347_3 2 rfl rfl)) rfl
theorem f347_72 : ft 347 72 = some (30, 0, 0, .getfield 19, 3) := Fm347 (dk_180 0 19 (dk_at s347_3 3 rfl rfl)) rfl
theorem f347_75 : ft 347 75 = some (30, 0, 0, .iload 4, 2) := Fm347 (dk_21 4 (dk_at s347_3 6 rfl rfl)) rfl
theorem f347_77 : ft 347 77 = some (30, 0, 0, .iload_n 3, 1) := Fm347 (dk_29 (dk_at s347_3 8 rfl rfl)) rfl
theorem f347_78 : ft 347 78 = some (30, 0, 0, .iastore, 1) := Fm347 (dk_79 (dk_at s347_3 9 rfl rfl)) rfl
theorem f347_79 : ft 347 79 = some (30, 0, 0, .aload_n 0, 1) := Fm347 (dk_42 (dk_at s347_3 10 rfl rfl)) rfl
theorem f347_80 : ft 347 80 = some (30, 0, 0, .dup, 1) := Fm347 (dk_89 (dk_at s347_3 11 rfl rfl)) rfl
theorem f347_81 : ft 347 81 = some (30, 0, 0, .getfield 79, 3) := Fm347 (dk_180 0 79 (dk_at s347_3 12 rfl rfl)) rfl
theorem f347_84 : ft 347 84 = some (30, 0, 0, .iconst 1, 1) := Fm347 (dk_4 (dk_at s347_3 15 rfl rfl)) rfl
theorem f347_85 : ft 347 85 = some (30, 0, 0, .iadd, 1) := Fm347 (dk_96 (dk_at s347_3 16 rfl rfl)) rfl
theorem f347_86 : ft 347 86 = some (30, 0, 0, .putfield 79, 3) := Fm347 (dk_181 0 79 (dk_at s347_3 17 rfl rfl)) rfl
theorem f347_89 : ft 347 89 = some (30, 0, 0, .return_, 1) := Fm347 (dk_177 (dk_at s347_3 20 rfl rfl)) rfl
theorem q347 {d : Nat} {m : Mem} {a0 a1 a3 : Int} (hz : TZ m) : le2 (gd (tg m a0 = 30) <| rn d 347 6 [pR a0, pL a1, pU, pI a3, pI (vl m a0 4)] [] m) (cl d 347 [pR a0, pL a1, pI a3] m) := by
  refine q_in (n := 5) (L := [pR a0, pL a1, pU, pI a3, pU]) rfl rfl rfl ?_
  refine r_aln0 (p := 1) f347_0 rfl ?_
  refine le2_gd (fun h1 => ?_)
  refine r_gfI (f := 4) (p := 4) f347_1 rfl rfl rfl (Or.inl h1) rfl ?_
  refine r_isw4 (p := 6) f347_4 rfl rfl ?_
  exact le2_refl _
theorem q347_6 {d : Nat} {m : Mem} {a0 a1 a3 a4 : Int} (hz : TZ m) : le2 (if 0 < a4 then (gd (tg m a0 = 30) <| nm (vl m a0 2) fun v1 => nm (w32 (a4 - 1)) fun v2 => gd (tg m v1 = 344102) <| gd ((0 : Int) ≤ v2 ∧ v2 < ln m v1) <| if a1 < (vl m v1 v2) then (nm (w32 (a4 - 1)) fun v3 => gd ((0 : Int) ≤ v3 ∧ v3 < ln m v1) <| gd ((0 : Int) ≤ a4 ∧ a4 < ln m v1) <| nm (vl m a0 3) fun v4 => nm (w32 (a4 - 1)) fun v5 => gd (tg m v4 = 344101) <| gd ((0 : Int) ≤ v5 ∧ v5 < ln m v4) <| gd ((0 : Int) ≤ a4 ∧ a4 < ln m v4) <| rn d 347 6 [pR a0, pL a1, pU, pI a3, pI (w32 (a4 + (-1)))] [] (mst (mst m v1 a4 (vl m v1 v3)) v4 a4 (vl m v4 v5))) else rn d 347 63 [pR a0, pL a1, pU, pI a3, pI a4] [] m) else rn d 347 63 [pR a0, pL a1, pU, pI a3, pI a4] [] m) (rn d 347 6 [pR a0, pL a1, pU, pI a3, pI a4] [] m) := by
  refine r_ilw4 (p := 8) f347_6 rfl ?_
  refine r_ifle (t := 63) (p := 11) f347_8 (by decide) rfl rfl ?_ ?_
  · refine r_aln0 (p := 12) f347_11 rfl ?_
    refine le2_gd (fun h1 => ?_)
    refine r_gfR (f := 2) (p := 15) f347_12 rfl rfl rfl (Or.inl h1) rfl ?_
    refine r_nmR (fun v1 ev1 => ?_)
    refine r_ilw4 (p := 17) f347_15 rfl ?_
    refine r_iconst (p := 18) f347_17 rfl (pinD rfl rfl) ?_
    refine r_isub (p := 19) f347_18 rfl ?_
    refine r_nmI (fun v2 ev2 => ?_)
    refine le2_gd (fun h2 => ?_)
    refine le2_gd (fun h3 => ?_)
    refine r_laload (p := 20) f347_19 rfl (dj1 (fun x => x % 1000 = 102) h2 (by decide)) h3 rfl ?_
    refine r_lln1 (p := 21) f347_20 rfl ?_
    refine r_lcle (p1 := 22) (t := 63) (p := 25) f347_21 rfl f347_22 (by decide) rfl rfl ?_ ?_
    · refine r_aln0 (p := 26) f347_25 rfl ?_
      refine r_gfR (f := 2) (p := 29) f347_26 rfl rfl rfl (Or.inl h1) ev1.symm ?_
      refine r_ilw4 (p := 31) f347_29 rfl ?_
      refine r_aln0 (p := 32) f347_31 rfl ?_
      refine r_gfR (f := 2) (p := 35) f347_32 rfl rfl rfl (Or.inl h1) ev1.symm ?_
      refine r_ilw4 (p := 37) f347_35 rfl ?_
      refine r_iconst (p := 38) f347_37 rfl (pinD rfl rfl) ?_
      refine r_isub (p := 39) f347_38 rfl ?_
      refine r_nmI (fun v3 ev3 => ?_)
      refine le2_gd (fun h4 => ?_)
      refine r_laload (p := 40) f347_39 rfl (dj1 (fun x => x % 1000 = 102) h2 (by decide)) h4 rfl ?_
      refine le2_gd (fun h5 => ?_)
      refine r_lastore (p := 41) f347_40 rfl (dj1 (fun x => 1000 ≤ x ∧ x % 1000 = 102 ∧ Nat.testBit (eM 347) (bix x 0) = true) h2 (by decide)) h5 ?_
      refine r_aln0 (p := 42) f347_41 rfl ?_
      refine r_gfR (f := 3) (p := 45) f347_42 rfl rfl rfl (Or.inl h1) (sk_o (ne_oa (dj1 (fun x => x < 100) h1 (by decide)) (dj1 (fun x => ¬ x < 100) h2 (by decide)))) ?_
      refine r_nmR (fun v4 ev4 => ?_)
      refine r_ilw4 (p := 47) f347_45 rfl ?_
      refine r_aln0 (p := 48) f347_47 rfl ?_
      refine r_gfR (f := 3) (p := 51) f347_48 rfl rfl rfl (Or.inl h1) (Eq.trans (sk_o (ne_oa (dj1 (fun x => x < 100) h1 (by decide)) (dj1 (fun x => ¬ x < 100) h2 (by decide)))) ev4.symm) ?_
      refine r_ilw4 (p := 53) f347_51 rfl ?_
      refine r_iconst (p := 54) f347_53 rfl (pinD rfl rfl) ?_
      refine r_isub (p := 55) f347_54 rfl ?_
      refine r_nmI (fun v5 ev5 => ?_)
      refine le2_gd (fun h6 => ?_)
      refine le2_gd (fun h7 => ?_)
      refine r_iaload (p := 56) f347_55 rfl (dj1 (fun x => x % 1000 = 101) h6 (by decide)) h7 (sk_o (neP (fun x => x = 344101) h6 (dj1 (fun x => ¬ (x = 344101)) h2 (by decide)))) ?_
      refine le2_gd (fun h8 => ?_)
      refine r_iastore (p := 57) f347_56 rfl (dj1 (fun x => 1000 ≤ x ∧ x % 1000 = 101 ∧ Nat.testBit (eM 347) (bix x 0) = true) h6 (by decide)) h8 ?_
      refine r_iinc4 (p := 60) f347_57 rfl rfl ?_
      refine r_goto (p := 6) f347_60 (by decide) rfl ?_
      exact le2_refl _
    · exact le2_refl _
  · exact le2_refl _
theorem q347_63 {d : Nat} {m : Mem} {a0 a1 a3 a4 : Int} (hz : TZ m) : le2 (gd (tg m a0 = 30) <| nm (vl m a0 2) fun v1 => gd (tg m v1 = 344102) <| gd ((0 : Int) ≤ a4 ∧ a4 < ln m v1) <| nm (vl m a0 3) fun v2 => gd (tg m v2 = 344101) <| gd ((0 : Int) ≤ a4 ∧ a4 < ln m v2) <| some (.inl none, (mst (mst (mst m v1 a4 a1) v2 a4 a3) a0 4 (w32 ((vl m a0 4) + 1))))) (rn d 347 63 [pR a0, pL a1, pU, pI a3, pI a4] [] m) := by
  refine r_aln0 (p := 64) f347_63 rfl ?_
  refine le2_gd (fun h1 => ?_)
  refine r_gfR (f := 2) (p := 67) f347_64 rfl rfl rfl (Or.inl h1) rfl ?_
  refine r_nmR (fun v1 ev1 => ?_)
  refine r_ilw4 (p := 69) f347_67 rfl ?_
  refine r_lln1 (p := 70) f347_69 rfl ?_
  refine le2_gd (fun h2 => ?_)
  refine le2_gd (fun h3 => ?_)
  refine r_lastore (p := 71) f347_70 rfl (dj1 (fun x => 1000 ≤ x ∧ x % 1000 = 102 ∧ Nat.testBit (eM 347) (bix x 0) = true) h2 (by decide)) h3 ?_
  refine r_aln0 (p := 72) f347_71 rfl ?_
  refine r_gfR (f := 3) (p := 75) f347_72 rfl rfl rfl (Or.inl h1) (sk_o (ne_oa (dj1 (fun x => x < 100) h1 (by decide)) (dj1 (fun x => ¬ x < 100) h2 (by decide)))) ?_
  refine r_nmR (fun v2 ev2 => ?_)
  refine r_ilw4 (p := 77) f347_75 rfl ?_
  refine r_iln3 (p := 78) f347_77 rfl ?_
  refine le2_gd (fun h4 => ?_)
  refine le2_gd (fun h5 => ?_)
  refine r_iastore (p := 79) f347_78 rfl (dj1 (fun x => 1000 ≤ x ∧ x % 1000 = 101 ∧ Nat.testBit (eM 347) (bix x 0) = true) h4 (by decide)) h5 ?_
  refine r_aln0 (p := 80) f347_79 rfl ?_
  refine r_dup (p := 81) f347_80 rfl rfl ?_
  refine r_gfI (f := 4) (p := 84) f347_81 rfl rfl rfl (Or.inl h1) (Eq.trans (sk_o (ne_oa (dj1 (fun x => x < 100) h1 (by decide)) (dj1 (fun x => ¬ x < 100) h4 (by decide)))) (sk_o (ne_oa (dj1 (fun x => x < 100) h1 (by decide)) (dj1 (fun x => ¬ x < 100) h2 (by decide))))) ?_
  refine r_iconst (p := 85) f347_84 rfl (pinD rfl rfl) ?_
  refine r_iadd (p := 86) f347_85 rfl ?_
  refine r_pfI (f := 4) (p := 89) f347_86 rfl rfl rfl (by decide) (by decide) (Or.inl h1) rfl ?_
  exact r_ret f347_89
/-! 348 PathStore$Table.place (J)I -/
def w348_2 : List UInt8 := [167, 255, 218, 29, 172]
abbrev u348_2 : List UInt8 := w348_2 ++ []
def w348_1 : List UInt8 := [180, 0, 15, 21, 5, 47, 31, 148, 156, 0, 11, 21, 5, 4, 96, 62, 167, 0, 7, 21, 5, 54, 4]
abbrev u348_1 : List UInt8 := w348_1 ++ u348_2
def w348_0 : List UInt8 := [3, 62, 42, 180, 0, 79, 54, 4, 29, 21, 4, 162, 0, 38, 29, 21, 4, 96, 4, 124, 54, 5, 42]
abbrev u348_0 : List UInt8 := w348_0 ++ u348_1
theorem s348_0 : (prog_27_method_6_code).data.toList.drop 0 = u348_0 := by decide +kernel
theorem s348_1 : (prog_27_method_6_code).data.toList.drop 23 = u348_1 := dk_seg s348_0 23 rfl rfl
theorem s348_2 : (prog_27_method_6_code).data.toList.drop 46 = u348_2 := dk_seg s348_1 23 rfl rfl
theorem Fm348 {pc len : Nat} {i : Instr} (h : decode (prog_27_method_6_code) pc = .ok (i, len)) (hl : len = ilen i len) : ft 348 pc = some (30, 1, 0, i, len) := ft_mk rfl h hl
theorem f348_0 : ft 348 0 = some (30, 1, 0, .iconst 0, 1) := Fm348 (dk_3 (dk_at s348_0 0 rfl rfl)) rfl
theorem f348_1 : ft 348 1 = some (30, 1, 0, .istore_n 3, 1) := Fm348 (dk_62 (dk_at s348_0 1 rfl rfl)) rfl
theorem f348_2 : ft 348 2 = some (30, 1, 0, .aload_n 0, 1) := Fm348 (dk_42 (dk_at s348_0 2 rfl rfl)) rfl
theorem f348_3 : ft 348 3 = some (30, 1, 0, .getfield 79, 3) := Fm348 (dk_180 0 79 (dk_at s348_0 3 rfl rfl)) rfl
theorem f348_6 : ft 348 6 = some (30, 1, 0, .istore 4, 2) := Fm348 (dk_54 4 (dk_at s348_0 6 rfl rfl)) rfl
theorem f348_8 : ft 348 8 = some (30, 1, 0, .iload_n 3, 1) := Fm348 (dk_29 (dk_at s348_0 8 rfl rfl)) rfl
theorem f348_9 : ft 348 9 = some (30, 1, 0, .iload 4, 2) := Fm348 (dk_21 4 (dk_at s348_0 9 rfl rfl)) rfl
theorem f348_11 : ft 348 11 = some (30, 1, 0, .if_icmp .ge 38, 3) := Fm348 (dk_162 0 38 (dk_at s348_0 11 rfl rfl)) rfl
theorem f348_14 : ft 348 14 = some (30, 1, 0, .iload_n 3, 1) := Fm348 (dk_29 (dk_at s348_0 14 rfl rfl)) rfl
theorem f348_15 : ft 348 15 = some (30, 1, 0, .iload 4, 2) := Fm348 (dk_21 4 (dk_at s348_0 15 rfl rfl)) rfl
theorem f348_17 : ft 348 17 = some (30, 1, 0, .iadd, 1) := Fm348 (dk_96 (dk_at s348_0 17 rfl rfl)) rfl
theorem f348_18 : ft 348 18 = some (30, 1, 0, .iconst 1, 1) := Fm348 (dk_4 (dk_at s348_0 18 rfl rfl)) rfl
theorem f348_19 : ft 348 19 = some (30, 1, 0, .iushr, 1) := Fm348 (dk_124 (dk_at s348_0 19 rfl rfl)) rfl
theorem f348_20 : ft 348 20 = some (30, 1, 0, .istore 5, 2) := Fm348 (dk_54 5 (dk_at s348_0 20 rfl rfl)) rfl
theorem f348_22 : ft 348 22 = some (30, 1, 0, .aload_n 0, 1) := Fm348 (dk_42 (dk_at s348_0 22 rfl rfl)) rfl
theorem f348_23 : ft 348 23 = some (30, 1, 0, .getfield 15, 3) := Fm348 (dk_180 0 15 (dk_at s348_1 0 rfl rfl)) rfl
theorem f348_26 : ft 348 26 = some (30, 1, 0, .iload 5, 2) := Fm348 (dk_21 5 (dk_at s348_1 3 rfl rfl)) rfl
theorem f348_28 : ft 348 28 = some (30, 1, 0, .laload, 1) := Fm348 (dk_47 (dk_at s348_1 5 rfl rfl)) rfl
theorem f348_29 : ft 348 29 = some (30, 1, 0, .lload_n 1, 1) := Fm348 (dk_31 (dk_at s348_1 6 rfl rfl)) rfl
theorem f348_30 : ft 348 30 = some (30, 1, 0, .lcmp, 1) := Fm348 (dk_148 (dk_at s348_1 7 rfl rfl)) rfl
theorem f348_31 : ft 348 31 = some (30, 1, 0, .ifCond .ge 11, 3) := Fm348 (dk_156 0 11 (dk_at s348_1 8 rfl rfl)) rfl
theorem f348_34 : ft 348 34 = some (30, 1, 0, .iload 5, 2) := Fm348 (dk_21 5 (dk_at s348_1 11 rfl rfl)) rfl
theorem f348_36 : ft 348 36 = some (30, 1, 0, .iconst 1, 1) := Fm348 (dk_4 (dk_at s348_1 13 rfl rfl)) rfl
theorem f348_37 : ft 348 37 = some (30, 1, 0, .iadd, 1) := Fm348 (dk_96 (dk_at s348_1 14 rfl rfl)) rfl
theorem f348_38 : ft 348 38 = some (30, 1, 0, .istore_n 3, 1) := Fm348 (dk_62 (dk_at s348_1 15 rfl rfl)) rfl
theorem f348_39 : ft 348 39 = some (30, 1, 0, .goto 7, 3) := Fm348 (dk_167 0 7 (dk_at s348_1 16 rfl rfl)) rfl
theorem f348_42 : ft 348 42 = some (30, 1, 0, .iload 5, 2) := Fm348 (dk_21 5 (dk_at s348_1 19 rfl rfl)) rfl
theorem f348_44 : ft 348 44 = some (30, 1, 0, .istore 4, 2) := Fm348 (dk_54 4 (dk_at s348_1 21 rfl rfl)) rfl
theorem f348_46 : ft 348 46 = some (30, 1, 0, .goto (-38), 3) := Fm348 (dk_167 255 218 (dk_at s348_2 0 rfl rfl)) rfl
theorem f348_49 : ft 348 49 = some (30, 1, 0, .iload_n 3, 1) := Fm348 (dk_29 (dk_at s348_2 3 rfl rfl)) rfl
theorem f348_50 : ft 348 50 = some (30, 1, 0, .ireturn, 1) := Fm348 (dk_172 (dk_at s348_2 4 rfl rfl)) rfl
theorem q348 {d : Nat} {m : Mem} {a0 a1 : Int} (hz : TZ m) : le2 (gd (tg m a0 = 30) <| rn d 348 8 [pR a0, pL a1, pU, pI 0, pI (vl m a0 4), pU] [] m) (cl d 348 [pR a0, pL a1] m) := by
  refine q_in (n := 6) (L := [pR a0, pL a1, pU, pU, pU, pU]) rfl rfl rfl ?_
  refine r_iconst (p := 1) f348_0 rfl (pinD rfl rfl) ?_
  refine r_isn3 (p := 2) f348_1 rfl rfl ?_
  refine r_aln0 (p := 3) f348_2 rfl ?_
  refine le2_gd (fun h1 => ?_)
  refine r_gfI (f := 4) (p := 6) f348_3 rfl rfl rfl (Or.inl h1) rfl ?_
  refine r_isw4 (p := 8) f348_6 rfl rfl ?_
  exact le2_refl _
theorem q348_8 {d : Nat} {m : Mem} {a0 a1 a3 a4 : Int} {z5 : PV} (hz : TZ m) (hcz5 : cat z5 = 1) : le2 (if a3 < a4 then (nm (pUshr (w32 (a3 + a4)) 1) fun v1 => gd (tg m a0 = 30) <| nm (vl m a0 2) fun v2 => gd (tg m v2 = 344102) <| gd ((0 : Int) ≤ v1 ∧ v1 < ln m v2) <| if (vl m v2 v1) < a1 then (rn d 348 8 [pR a0, pL a1, pU, pI (w32 (v1 + 1)), pI a4, pI v1] [] m) else rn d 348 8 [pR a0, pL a1, pU, pI a3, pI v1, pI v1] [] m) else some (.inl (some (pI a3)), m)) (rn d 348 8 [pR a0, pL a1, pU, pI a3, pI a4, z5] [] m) := by
  refine r_iln3 (p := 9) f348_8 rfl ?_
  refine r_ilw4 (p := 11) f348_9 rfl ?_
  refine r_icge (t := 49) (p := 14) f348_11 (by decide) rfl rfl ?_ ?_
  · refine r_iln3 (p := 15) f348_14 rfl ?_
    refine r_ilw4 (p := 17) f348_15 rfl ?_
    refine r_iadd (p := 18) f348_17 rfl ?_
    refine r_iconst (p := 19) f348_18 rfl (pinD rfl rfl) ?_
    refine r_iushr (p := 20) f348_19 rfl ?_
    refine r_nmI (fun v1 ev1 => ?_)
    refine r_isw5 (p := 22) f348_20 rfl rfl ?_
    refine r_aln0 (p := 23) f348_22 rfl ?_
    refine le2_gd (fun h1 => ?_)
    refine r_gfR (f := 2) (p := 26) f348_23 rfl rfl rfl (Or.inl h1) rfl ?_
    refine r_nmR (fun v2 ev2 => ?_)
    refine r_ilw5 (p := 28) f348_26 rfl ?_
    refine le2_gd (fun h2 => ?_)
    refine le2_gd (fun h3 => ?_)
    refine r_laload (p := 29) f348_28 rfl (dj1 (fun x => x % 1000 = 102) h2 (by decide)) h3 rfl ?_
    refine r_lln1 (p := 30) f348_29 rfl ?_
    refine r_lcge (p1 := 31) (t := 42) (p := 34) f348_30 rfl f348_31 (by decide) rfl rfl ?_ ?_
    · refine r_ilw5 (p := 36) f348_34 rfl ?_
      refine r_iconst (p := 37) f348_36 rfl (pinD rfl rfl) ?_
      refine r_iadd (p := 38) f348_37 rfl ?_
      refine r_isn3 (p := 39) f348_38 rfl rfl ?_
      refine r_goto (p := 46) f348_39 (by decide) rfl ?_
      refine r_goto (p := 8) f348_46 (by decide) rfl ?_
      exact le2_refl _
    · refine r_ilw5 (p := 44) f348_42 rfl ?_
      refine r_isw4 (p := 46) f348_44 rfl rfl ?_
      refine r_goto (p := 8) f348_46 (by decide) rfl ?_
      exact le2_refl _
  · refine r_iln3 (p := 50) f348_49 rfl ?_
    exact r_iret1 f348_50
