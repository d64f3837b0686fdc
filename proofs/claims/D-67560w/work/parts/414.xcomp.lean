/-! what methods do, written by wip/D-67560w/tools/gen_parts.py -/
set_option maxRecDepth 100000
set_option maxHeartbeats 4000000
/-! 80 PathStore$Compiler.<init> ()V -/
theorem Fm80 {pc len : Nat} {i : Instr} (h : decode (prog_4_method_1_code) pc = .ok (i, len)) (hl : len = ilen i len) : ft 80 pc = some (5, 0, 1, i, len) := ft_mk rfl h hl
theorem f80_0 : ft 80 0 = some (5, 0, 1, .aload_n 0, 1) := Fm80 (by decide +kernel) rfl
theorem f80_1 : ft 80 1 = some (5, 0, 1, .invokespecial 3, 3) := Fm80 (by decide +kernel) rfl
theorem f80_4 : ft 80 4 = some (5, 0, 1, .return_, 1) := Fm80 (by decide +kernel) rfl
theorem q80 {d : Nat} {m : Mem} {a0 : Int} (hd : 0 < d) (hz : TZ m) : le2 (gd (tg m a0 = 4 ∨ tg m a0 = 5) <| bV (cl (d - 1) 60 [pR a0] m) fun m1 => some (.inl none, m1)) (cl d 80 [pR a0] m) := by
  refine q_in (n := 1) (L := [pR a0]) rfl rfl rfl ?_
  refine r_aln0 (p := 1) f80_0 rfl ?_
  refine le2_gd (fun h1 => ?_)
  refine r_ispV (p := 4) f80_1 rfl rfl rfl h1 hd (Nat.le_of_ble_eq_true rfl) rfl rfl rfl (fun _ => rfl) (fun m1 c1 => ?_)
  have hz1 := z_k c1 hz
  exact r_ret f80_4
/-! 81 PathStore$Compiler.compile ([BI)LPathStore$Query; -/
def w81_3 : List UInt8 := [176]
abbrev u81_3 : List UInt8 := w81_3 ++ []
def w81_2 : List UInt8 := [42, 180, 0, 40, 42, 180, 0, 43, 162, 0, 15, 42, 182, 0, 46, 42, 42, 180, 0, 40, 182, 0, 49, 45]
abbrev u81_2 : List UInt8 := w81_2 ++ u81_3
def w81_1 : List UInt8 := [42, 42, 182, 0, 28, 16, 36, 160, 0, 7, 4, 167, 0, 4, 3, 182, 0, 32, 42, 3, 182, 0, 36, 78]
abbrev u81_1 : List UInt8 := w81_1 ++ u81_2
def w81_0 : List UInt8 := [42, 43, 28, 182, 0, 9, 42, 187, 0, 15, 89, 16, 64, 183, 0, 17, 181, 0, 20, 42, 3, 181, 0, 24]
abbrev u81_0 : List UInt8 := w81_0 ++ u81_1
theorem s81_0 : (prog_4_method_2_code).data.toList.drop 0 = u81_0 := by decide +kernel
theorem s81_1 : (prog_4_method_2_code).data.toList.drop 24 = u81_1 := dk_seg s81_0 24 rfl rfl
theorem s81_2 : (prog_4_method_2_code).data.toList.drop 48 = u81_2 := dk_seg s81_1 24 rfl rfl
theorem s81_3 : (prog_4_method_2_code).data.toList.drop 72 = u81_3 := dk_seg s81_2 24 rfl rfl
theorem Fm81 {pc len : Nat} {i : Instr} (h : decode (prog_4_method_2_code) pc = .ok (i, len)) (hl : len = ilen i len) : ft 81 pc = some (5, 3, 0, i, len) := ft_mk rfl h hl
theorem f81_0 : ft 81 0 = some (5, 3, 0, .aload_n 0, 1) := Fm81 (dk_42 (dk_at s81_0 0 rfl rfl)) rfl
theorem f81_1 : ft 81 1 = some (5, 3, 0, .aload_n 1, 1) := Fm81 (dk_43 (dk_at s81_0 1 rfl rfl)) rfl
theorem f81_2 : ft 81 2 = some (5, 3, 0, .iload_n 2, 1) := Fm81 (dk_28 (dk_at s81_0 2 rfl rfl)) rfl
theorem f81_3 : ft 81 3 = some (5, 3, 0, .invokevirtual 9, 3) := Fm81 (dk_182 0 9 (dk_at s81_0 3 rfl rfl)) rfl
theorem f81_6 : ft 81 6 = some (5, 3, 0, .aload_n 0, 1) := Fm81 (dk_42 (dk_at s81_0 6 rfl rfl)) rfl
theorem f81_7 : ft 81 7 = some (5, 3, 0, .new 15, 3) := Fm81 (dk_187 0 15 (dk_at s81_0 7 rfl rfl)) rfl
theorem f81_10 : ft 81 10 = some (5, 3, 0, .dup, 1) := Fm81 (dk_89 (dk_at s81_0 10 rfl rfl)) rfl
theorem f81_11 : ft 81 11 = some (5, 3, 0, .bipush 64, 2) := Fm81 (dk_16 64 (dk_at s81_0 11 rfl rfl)) rfl
theorem f81_13 : ft 81 13 = some (5, 3, 0, .invokespecial 17, 3) := Fm81 (dk_183 0 17 (dk_at s81_0 13 rfl rfl)) rfl
theorem f81_16 : ft 81 16 = some (5, 3, 0, .putfield 20, 3) := Fm81 (dk_181 0 20 (dk_at s81_0 16 rfl rfl)) rfl
theorem f81_19 : ft 81 19 = some (5, 3, 0, .aload_n 0, 1) := Fm81 (dk_42 (dk_at s81_0 19 rfl rfl)) rfl
theorem f81_20 : ft 81 20 = some (5, 3, 0, .iconst 0, 1) := Fm81 (dk_3 (dk_at s81_0 20 rfl rfl)) rfl
theorem f81_21 : ft 81 21 = some (5, 3, 0, .putfield 24, 3) := Fm81 (dk_181 0 24 (dk_at s81_0 21 rfl rfl)) rfl
theorem f81_24 : ft 81 24 = some (5, 3, 0, .aload_n 0, 1) := Fm81 (dk_42 (dk_at s81_1 0 rfl rfl)) rfl
theorem f81_25 : ft 81 25 = some (5, 3, 0, .aload_n 0, 1) := Fm81 (dk_42 (dk_at s81_1 1 rfl rfl)) rfl
theorem f81_26 : ft 81 26 = some (5, 3, 0, .invokevirtual 28, 3) := Fm81 (dk_182 0 28 (dk_at s81_1 2 rfl rfl)) rfl
theorem f81_29 : ft 81 29 = some (5, 3, 0, .bipush 36, 2) := Fm81 (dk_16 36 (dk_at s81_1 5 rfl rfl)) rfl
theorem f81_31 : ft 81 31 = some (5, 3, 0, .if_icmp .ne 7, 3) := Fm81 (dk_160 0 7 (dk_at s81_1 7 rfl rfl)) rfl
theorem f81_34 : ft 81 34 = some (5, 3, 0, .iconst 1, 1) := Fm81 (dk_4 (dk_at s81_1 10 rfl rfl)) rfl
theorem f81_35 : ft 81 35 = some (5, 3, 0, .goto 4, 3) := Fm81 (dk_167 0 4 (dk_at s81_1 11 rfl rfl)) rfl
theorem f81_38 : ft 81 38 = some (5, 3, 0, .iconst 0, 1) := Fm81 (dk_3 (dk_at s81_1 14 rfl rfl)) rfl
theorem f81_39 : ft 81 39 = some (5, 3, 0, .invokevirtual 32, 3) := Fm81 (dk_182 0 32 (dk_at s81_1 15 rfl rfl)) rfl
theorem f81_42 : ft 81 42 = some (5, 3, 0, .aload_n 0, 1) := Fm81 (dk_42 (dk_at s81_1 18 rfl rfl)) rfl
theorem f81_43 : ft 81 43 = some (5, 3, 0, .iconst 0, 1) := Fm81 (dk_3 (dk_at s81_1 19 rfl rfl)) rfl
theorem f81_44 : ft 81 44 = some (5, 3, 0, .invokevirtual 36, 3) := Fm81 (dk_182 0 36 (dk_at s81_1 20 rfl rfl)) rfl
theorem f81_47 : ft 81 47 = some (5, 3, 0, .astore_n 3, 1) := Fm81 (dk_78 (dk_at s81_1 23 rfl rfl)) rfl
theorem f81_48 : ft 81 48 = some (5, 3, 0, .aload_n 0, 1) := Fm81 (dk_42 (dk_at s81_2 0 rfl rfl)) rfl
theorem f81_49 : ft 81 49 = some (5, 3, 0, .getfield 40, 3) := Fm81 (dk_180 0 40 (dk_at s81_2 1 rfl rfl)) rfl
theorem f81_52 : ft 81 52 = some (5, 3, 0, .aload_n 0, 1) := Fm81 (dk_42 (dk_at s81_2 4 rfl rfl)) rfl
theorem f81_53 : ft 81 53 = some (5, 3, 0, .getfield 43, 3) := Fm81 (dk_180 0 43 (dk_at s81_2 5 rfl rfl)) rfl
theorem f81_56 : ft 81 56 = some (5, 3, 0, .if_icmp .ge 15, 3) := Fm81 (dk_162 0 15 (dk_at s81_2 8 rfl rfl)) rfl
theorem f81_59 : ft 81 59 = some (5, 3, 0, .aload_n 0, 1) := Fm81 (dk_42 (dk_at s81_2 11 rfl rfl)) rfl
theorem f81_60 : ft 81 60 = some (5, 3, 0, .invokevirtual 46, 3) := Fm81 (dk_182 0 46 (dk_at s81_2 12 rfl rfl)) rfl
theorem f81_63 : ft 81 63 = some (5, 3, 0, .aload_n 0, 1) := Fm81 (dk_42 (dk_at s81_2 15 rfl rfl)) rfl
theorem f81_64 : ft 81 64 = some (5, 3, 0, .aload_n 0, 1) := Fm81 (dk_42 (dk_at s81_2 16 rfl rfl)) rfl
theorem f81_65 : ft 81 65 = some (5, 3, 0, .getfield 40, 3) := Fm81 (dk_180 0 40 (dk_at s81_2 17 rfl rfl)) rfl
theorem f81_68 : ft 81 68 = some (5, 3, 0, .invokevirtual 49, 3) := Fm81 (dk_182 0 49 (dk_at s81_2 20 rfl rfl)) rfl
theorem f81_71 : ft 81 71 = some (5, 3, 0, .aload_n 3, 1) := Fm81 (dk_45 (dk_at s81_2 23 rfl rfl)) rfl
theorem f81_72 : ft 81 72 = some (5, 3, 0, .areturn, 1) := Fm81 (dk_176 (dk_at s81_3 0 rfl rfl)) rfl
theorem q81 {d : Nat} {m : Mem} {a0 a1 a2 : Int} (hd : 0 < d) (hz : TZ m) : le2 (gd (tg m a0 = 5) <| bV (cl (d - 1) 61 [pR a0, pR a1, pI a2] m) fun m1 => nw (nx m1) (mal m1 8 2) fun o2 m2 => bV (cl (d - 1) 129 [pR o2, pI 64] m2) fun m3 => bI (cl (d - 1) 63 [pR a0] (mst (mst m3 a0 4 o2) a0 5 0)) fun v4 m4 => if v4 = 36 then (rn d 81 39 [pR a0, pR a1, pI a2, pU] [pI 1, pR a0] m4) else rn d 81 39 [pR a0, pR a1, pI a2, pU] [pI 0, pR a0] m4) (cl d 81 [pR a0, pR a1, pI a2] m) := by
  refine q_in (n := 4) (L := [pR a0, pR a1, pI a2, pU]) rfl rfl rfl ?_
  refine r_aln0 (p := 1) f81_0 rfl ?_
  refine r_aln1 (p := 2) f81_1 rfl ?_
  refine r_iln2 (p := 3) f81_2 rfl ?_
  refine le2_gd (fun h1 => ?_)
  refine r_invV (p := 6) f81_3 rfl rfl rfl (Or.inl h1) hd (Nat.le_of_ble_eq_true rfl) rfl rfl rfl (fun _ => rfl) (fun m1 c1 => ?_)
  have hz1 := z_k c1 hz
  refine r_aln0 (p := 7) f81_6 rfl ?_
  refine r_new (t1 := 8) (f1 := 2) (p := 10) f81_7 rfl rfl rfl rfl rfl (fun o2 m2 h2 k2 => ?_)
  have hz2 := z_k k2 hz1
  refine r_dup (p := 11) f81_10 rfl rfl ?_
  refine r_bipush (p := 13) f81_11 rfl (pinD rfl rfl) ?_
  refine r_ispV (p := 16) f81_13 rfl rfl rfl (Or.inl h2) hd (Nat.le_of_ble_eq_true rfl) rfl rfl rfl (fun _ => rfl) (fun m3 c3 => ?_)
  have hz3 := z_k c3 hz2
  have h3 := k_t1 c1 hz h1 (by decide)
  have h4 := k_t1 k2 hz1 h3 (by decide)
  have h5 := k_t1 c3 hz2 h4 (by decide)
  refine r_pfR (f := 4) (p := 19) f81_16 rfl rfl rfl (by decide) (by decide) (Or.inl h5) rfl ?_
  refine r_aln0 (p := 20) f81_19 rfl ?_
  refine r_iconst (p := 21) f81_20 rfl (pinD rfl rfl) ?_
  refine r_pfI (f := 5) (p := 24) f81_21 rfl rfl rfl (by decide) (by decide) (Or.inl h5) rfl ?_
  refine r_aln0 (p := 25) f81_24 rfl ?_
  refine r_aln0 (p := 26) f81_25 rfl ?_
  refine r_invI (p := 29) f81_26 rfl rfl rfl (Or.inl h5) hd (Nat.le_of_ble_eq_true rfl) rfl rfl rfl (fun _ => rfl) (fun v4 m4 c4 => ?_)
  have hz4 := z_k c4 hz3
  refine r_bipush (p := 31) f81_29 rfl (pinD rfl rfl) ?_
  refine r_icne (t := 38) (p := 34) f81_31 (by decide) rfl rfl ?_ ?_
  · refine r_iconst (p := 35) f81_34 rfl (pinD rfl rfl) ?_
    refine r_goto (p := 39) f81_35 (by decide) rfl ?_
    exact le2_refl _
  · refine r_iconst (p := 39) f81_38 rfl (pinD rfl rfl) ?_
    exact le2_refl _
theorem q81_39 {d : Nat} {m : Mem} {a0 a1 a2 s1 s0 : Int} (hd : 0 < d) (hz : TZ m) : le2 (gd (tg m s0 = 5) <| bV (cl (d - 1) 66 [pR s0, pI s1] m) fun m1 => gd (tg m1 a0 = 5) <| bR (cl (d - 1) 82 [pR a0, pI 0] m1) fun v2 m2 => if (vl m2 a0 2) < (vl m2 a0 1) then (bV (cl (d - 1) 62 [pR a0] m2) fun m3 => bV (cl (d - 1) 67 [pR a0, pI (vl m3 a0 2)] m3) fun m4 => some (.inl (some (pR v2)), m4)) else some (.inl (some (pR v2)), m2)) (rn d 81 39 [pR a0, pR a1, pI a2, pU] [pI s1, pR s0] m) := by
  refine le2_gd (fun h1 => ?_)
  refine r_invV (p := 42) f81_39 rfl rfl rfl (Or.inl h1) hd (Nat.le_of_ble_eq_true rfl) rfl rfl rfl (fun _ => rfl) (fun m1 c1 => ?_)
  have hz1 := z_k c1 hz
  refine r_aln0 (p := 43) f81_42 rfl ?_
  refine r_iconst (p := 44) f81_43 rfl (pinD rfl rfl) ?_
  refine le2_gd (fun h2 => ?_)
  refine r_invR (p := 47) f81_44 rfl rfl rfl (Or.inl h2) hd (Nat.le_of_ble_eq_true rfl) rfl rfl rfl (fun _ => rfl) (fun v2 m2 c2 => ?_)
  have hz2 := z_k c2 hz1
  refine r_asn3 (p := 48) f81_47 rfl rfl ?_
  refine r_aln0 (p := 49) f81_48 rfl ?_
  have h3 := k_t1 c2 hz1 h2 (by decide)
  refine r_gfI (f := 2) (p := 52) f81_49 rfl rfl rfl (Or.inl h3) rfl ?_
  refine r_aln0 (p := 53) f81_52 rfl ?_
  refine r_gfI (f := 1) (p := 56) f81_53 rfl rfl rfl (Or.inl h3) rfl ?_
  refine r_icge (t := 71) (p := 59) f81_56 (by decide) rfl rfl ?_ ?_
  · refine r_aln0 (p := 60) f81_59 rfl ?_
    refine r_invV (p := 63) f81_60 rfl rfl rfl (Or.inl h3) hd (Nat.le_of_ble_eq_true rfl) rfl rfl rfl (fun _ => rfl) (fun m3 c3 => ?_)
    have hz3 := z_k c3 hz2
    refine r_aln0 (p := 64) f81_63 rfl ?_
    refine r_aln0 (p := 65) f81_64 rfl ?_
    have h4 := k_t1 c3 hz2 h3 (by decide)
    refine r_gfI (f := 2) (p := 68) f81_65 rfl rfl rfl (Or.inl h4) rfl ?_
    refine r_invV (p := 71) f81_68 rfl rfl rfl (Or.inl h4) hd (Nat.le_of_ble_eq_true rfl) rfl rfl rfl (fun _ => rfl) (fun m4 c4 => ?_)
    have hz4 := z_k c4 hz3
    refine r_aln3 (p := 72) f81_71 rfl ?_
    exact r_aret f81_72
  · refine r_aln3 (p := 72) f81_71 rfl ?_
    exact r_aret f81_72
/-! 82 PathStore$Compiler.query (Z)LPathStore$Query; -/
def w82_3 : List UInt8 := [42, 182, 0, 59, 167, 0, 8, 42, 44, 182, 0, 63, 182, 0, 67, 167, 255, 202]
abbrev u82_3 : List UInt8 := w82_3 ++ []
def w82_2 : List UInt8 := [159, 0, 19, 42, 182, 0, 28, 16, 91, 159, 0, 10, 42, 29, 181, 0, 40, 44, 176, 44, 27, 153, 0, 10]
abbrev u82_2 : List UInt8 := w82_2 ++ u82_3
def w82_1 : List UInt8 := [180, 0, 40, 4, 96, 181, 0, 40, 42, 180, 0, 40, 62, 42, 182, 0, 46, 42, 182, 0, 28, 16, 46]
abbrev u82_1 : List UInt8 := w82_1 ++ u82_2
def w82_0 : List UInt8 := [187, 0, 55, 89, 42, 182, 0, 28, 16, 36, 160, 0, 7, 4, 167, 0, 4, 3, 183, 0, 57, 77, 42, 89]
abbrev u82_0 : List UInt8 := w82_0 ++ u82_1
theorem s82_0 : (prog_4_method_6_code).data.toList.drop 0 = u82_0 := by decide +kernel
theorem s82_1 : (prog_4_method_6_code).data.toList.drop 24 = u82_1 := dk_seg s82_0 24 rfl rfl
theorem s82_2 : (prog_4_method_6_code).data.toList.drop 47 = u82_2 := dk_seg s82_1 23 rfl rfl
theorem s82_3 : (prog_4_method_6_code).data.toList.drop 71 = u82_3 := dk_seg s82_2 24 rfl rfl
theorem Fm82 {pc len : Nat} {i : Instr} (h : decode (prog_4_method_6_code) pc = .ok (i, len)) (hl : len = ilen i len) : ft 82 pc = some (5, 3, 0, i, len) := ft_mk rfl h hl
theorem f82_0 : ft 82 0 = some (5, 3, 0, .new 55, 3) := Fm82 (dk_187 0 55 (dk_at s82_0 0 rfl rfl)) rfl
theorem f82_3 : ft 82 3 = some (5, 3, 0, .dup, 1) := Fm82 (dk_89 (dk_at s82_0 3 rfl rfl)) rfl
theorem f82_4 : ft 82 4 = some (5, 3, 0, .aload_n 0, 1) := Fm82 (dk_42 (dk_at s82_0 4 rfl rfl)) rfl
theorem f82_5 : ft 82 5 = some (5, 3, 0, .invokevirtual 28, 3) := Fm82 (dk_182 0 28 (dk_at s82_0 5 rfl rfl)) rfl
theorem f82_8 : ft 82 8 = some (5, 3, 0, .bipush 36, 2) := Fm82 (dk_16 36 (dk_at s82_0 8 rfl rfl)) rfl
theorem f82_10 : ft 82 10 = some (5, 3, 0, .if_icmp .ne 7, 3) := Fm82 (dk_160 0 7 (dk_at s82_0 10 rfl rfl)) rfl
theorem f82_13 : ft 82 13 = some (5, 3, 0, .iconst 1, 1) := Fm82 (dk_4 (dk_at s82_0 13 rfl rfl)) rfl
theorem f82_14 : ft 82 14 = some (5, 3, 0, .goto 4, 3) := Fm82 (dk_167 0 4 (dk_at s82_0 14 rfl rfl)) rfl
theorem f82_17 : ft 82 17 = some (5, 3, 0, .iconst 0, 1) := Fm82 (dk_3 (dk_at s82_0 17 rfl rfl)) rfl
theorem f82_18 : ft 82 18 = some (5, 3, 0, .invokespecial 57, 3) := Fm82 (dk_183 0 57 (dk_at s82_0 18 rfl rfl)) rfl
theorem f82_21 : ft 82 21 = some (5, 3, 0, .astore_n 2, 1) := Fm82 (dk_77 (dk_at s82_0 21 rfl rfl)) rfl
theorem f82_22 : ft 82 22 = some (5, 3, 0, .aload_n 0, 1) := Fm82 (dk_42 (dk_at s82_0 22 rfl rfl)) rfl
theorem f82_23 : ft 82 23 = some (5, 3, 0, .dup, 1) := Fm82 (dk_89 (dk_at s82_0 23 rfl rfl)) rfl
theorem f82_24 : ft 82 24 = some (5, 3, 0, .getfield 40, 3) := Fm82 (dk_180 0 40 (dk_at s82_1 0 rfl rfl)) rfl
theorem f82_27 : ft 82 27 = some (5, 3, 0, .iconst 1, 1) := Fm82 (dk_4 (dk_at s82_1 3 rfl rfl)) rfl
theorem f82_28 : ft 82 28 = some (5, 3, 0, .iadd, 1) := Fm82 (dk_96 (dk_at s82_1 4 rfl rfl)) rfl
theorem f82_29 : ft 82 29 = some (5, 3, 0, .putfield 40, 3) := Fm82 (dk_181 0 40 (dk_at s82_1 5 rfl rfl)) rfl
theorem f82_32 : ft 82 32 = some (5, 3, 0, .aload_n 0, 1) := Fm82 (dk_42 (dk_at s82_1 8 rfl rfl)) rfl
theorem f82_33 : ft 82 33 = some (5, 3, 0, .getfield 40, 3) := Fm82 (dk_180 0 40 (dk_at s82_1 9 rfl rfl)) rfl
theorem f82_36 : ft 82 36 = some (5, 3, 0, .istore_n 3, 1) := Fm82 (dk_62 (dk_at s82_1 12 rfl rfl)) rfl
theorem f82_37 : ft 82 37 = some (5, 3, 0, .aload_n 0, 1) := Fm82 (dk_42 (dk_at s82_1 13 rfl rfl)) rfl
theorem f82_38 : ft 82 38 = some (5, 3, 0, .invokevirtual 46, 3) := Fm82 (dk_182 0 46 (dk_at s82_1 14 rfl rfl)) rfl
theorem f82_41 : ft 82 41 = some (5, 3, 0, .aload_n 0, 1) := Fm82 (dk_42 (dk_at s82_1 17 rfl rfl)) rfl
theorem f82_42 : ft 82 42 = some (5, 3, 0, .invokevirtual 28, 3) := Fm82 (dk_182 0 28 (dk_at s82_1 18 rfl rfl)) rfl
theorem f82_45 : ft 82 45 = some (5, 3, 0, .bipush 46, 2) := Fm82 (dk_16 46 (dk_at s82_1 21 rfl rfl)) rfl
theorem f82_47 : ft 82 47 = some (5, 3, 0, .if_icmp .eq 19, 3) := Fm82 (dk_159 0 19 (dk_at s82_2 0 rfl rfl)) rfl
theorem f82_50 : ft 82 50 = some (5, 3, 0, .aload_n 0, 1) := Fm82 (dk_42 (dk_at s82_2 3 rfl rfl)) rfl
theorem f82_51 : ft 82 51 = some (5, 3, 0, .invokevirtual 28, 3) := Fm82 (dk_182 0 28 (dk_at s82_2 4 rfl rfl)) rfl
theorem f82_54 : ft 82 54 = some (5, 3, 0, .bipush 91, 2) := Fm82 (dk_16 91 (dk_at s82_2 7 rfl rfl)) rfl
theorem f82_56 : ft 82 56 = some (5, 3, 0, .if_icmp .eq 10, 3) := Fm82 (dk_159 0 10 (dk_at s82_2 9 rfl rfl)) rfl
theorem f82_59 : ft 82 59 = some (5, 3, 0, .aload_n 0, 1) := Fm82 (dk_42 (dk_at s82_2 12 rfl rfl)) rfl
theorem f82_60 : ft 82 60 = some (5, 3, 0, .iload_n 3, 1) := Fm82 (dk_29 (dk_at s82_2 13 rfl rfl)) rfl
theorem f82_61 : ft 82 61 = some (5, 3, 0, .putfield 40, 3) := Fm82 (dk_181 0 40 (dk_at s82_2 14 rfl rfl)) rfl
theorem f82_64 : ft 82 64 = some (5, 3, 0, .aload_n 2, 1) := Fm82 (dk_44 (dk_at s82_2 17 rfl rfl)) rfl
theorem f82_65 : ft 82 65 = some (5, 3, 0, .areturn, 1) := Fm82 (dk_176 (dk_at s82_2 18 rfl rfl)) rfl
theorem f82_66 : ft 82 66 = some (5, 3, 0, .aload_n 2, 1) := Fm82 (dk_44 (dk_at s82_2 19 rfl rfl)) rfl
theorem f82_67 : ft 82 67 = some (5, 3, 0, .iload_n 1, 1) := Fm82 (dk_27 (dk_at s82_2 20 rfl rfl)) rfl
theorem f82_68 : ft 82 68 = some (5, 3, 0, .ifCond .eq 10, 3) := Fm82 (dk_153 0 10 (dk_at s82_2 21 rfl rfl)) rfl
theorem f82_71 : ft 82 71 = some (5, 3, 0, .aload_n 0, 1) := Fm82 (dk_42 (dk_at s82_3 0 rfl rfl)) rfl
theorem f82_72 : ft 82 72 = some (5, 3, 0, .invokevirtual 59, 3) := Fm82 (dk_182 0 59 (dk_at s82_3 1 rfl rfl)) rfl
theorem f82_75 : ft 82 75 = some (5, 3, 0, .goto 8, 3) := Fm82 (dk_167 0 8 (dk_at s82_3 4 rfl rfl)) rfl
theorem f82_78 : ft 82 78 = some (5, 3, 0, .aload_n 0, 1) := Fm82 (dk_42 (dk_at s82_3 7 rfl rfl)) rfl
theorem f82_79 : ft 82 79 = some (5, 3, 0, .aload_n 2, 1) := Fm82 (dk_44 (dk_at s82_3 8 rfl rfl)) rfl
theorem f82_80 : ft 82 80 = some (5, 3, 0, .invokevirtual 63, 3) := Fm82 (dk_182 0 63 (dk_at s82_3 9 rfl rfl)) rfl
theorem f82_83 : ft 82 83 = some (5, 3, 0, .invokevirtual 67, 3) := Fm82 (dk_182 0 67 (dk_at s82_3 12 rfl rfl)) rfl
theorem f82_86 : ft 82 86 = some (5, 3, 0, .goto (-54), 3) := Fm82 (dk_167 255 202 (dk_at s82_3 15 rfl rfl)) rfl
theorem q82 {d : Nat} {m : Mem} {a0 a1 : Int} (hd : 0 < d) (hz : TZ m) : le2 (nw (nx m) (mal m 15 4) fun o1 m1 => gd (tg m1 a0 = 5) <| bI (cl (d - 1) 63 [pR a0] m1) fun v2 m2 => if v2 = 36 then (bV (cl (d - 1) 302 [pR o1, pI 1] m2) fun m4 => rn d 82 32 [pR a0, pI a1, pR o1, pU] [] (mst m4 a0 2 (w32 ((vl m4 a0 2) + 1)))) else bV (cl (d - 1) 302 [pR o1, pI 0] m2) fun m3 => rn d 82 32 [pR a0, pI a1, pR o1, pU] [] (mst m3 a0 2 (w32 ((vl m3 a0 2) + 1)))) (cl d 82 [pR a0, pI a1] m) := by
  refine q_in (n := 4) (L := [pR a0, pI a1, pU, pU]) rfl rfl rfl ?_
  refine r_new (t1 := 15) (f1 := 4) (p := 3) f82_0 rfl rfl rfl rfl rfl (fun o1 m1 h1 k1 => ?_)
  have hz1 := z_k k1 hz
  refine r_dup (p := 4) f82_3 rfl rfl ?_
  refine r_aln0 (p := 5) f82_4 rfl ?_
  refine le2_gd (fun h2 => ?_)
  refine r_invI (p := 8) f82_5 rfl rfl rfl (Or.inl h2) hd (Nat.le_of_ble_eq_true rfl) rfl rfl rfl (fun _ => rfl) (fun v2 m2 c2 => ?_)
  have hz2 := z_k c2 hz1
  refine r_bipush (p := 10) f82_8 rfl (pinD rfl rfl) ?_
  refine r_icne (t := 17) (p := 13) f82_10 (by decide) rfl rfl ?_ ?_
  · refine r_iconst (p := 14) f82_13 rfl (pinD rfl rfl) ?_
    refine r_goto (p := 18) f82_14 (by decide) rfl ?_
    have h6 := k_t1 c2 hz1 h1 (by decide)
    refine r_ispV (p := 21) f82_18 rfl rfl rfl (Or.inl h6) hd (Nat.le_of_ble_eq_true rfl) rfl rfl rfl (fun _ => rfl) (fun m4 c4 => ?_)
    have hz4 := z_k c4 hz2
    refine r_asn2 (p := 22) f82_21 rfl rfl ?_
    refine r_aln0 (p := 23) f82_22 rfl ?_
    refine r_dup (p := 24) f82_23 rfl rfl ?_
    have h7 := k_t1 c2 hz1 h2 (by decide)
    have h8 := k_t1 c4 hz2 h7 (by decide)
    refine r_gfI (f := 2) (p := 27) f82_24 rfl rfl rfl (Or.inl h8) rfl ?_
    refine r_iconst (p := 28) f82_27 rfl (pinD rfl rfl) ?_
    refine r_iadd (p := 29) f82_28 rfl ?_
    refine r_pfI (f := 2) (p := 32) f82_29 rfl rfl rfl (by decide) (by decide) (Or.inl h8) rfl ?_
    exact le2_refl _
  · refine r_iconst (p := 18) f82_17 rfl (pinD rfl rfl) ?_
    have h3 := k_t1 c2 hz1 h1 (by decide)
    refine r_ispV (p := 21) f82_18 rfl rfl rfl (Or.inl h3) hd (Nat.le_of_ble_eq_true rfl) rfl rfl rfl (fun _ => rfl) (fun m3 c3 => ?_)
    have hz3 := z_k c3 hz2
    refine r_asn2 (p := 22) f82_21 rfl rfl ?_
    refine r_aln0 (p := 23) f82_22 rfl ?_
    refine r_dup (p := 24) f82_23 rfl rfl ?_
    have h4 := k_t1 c2 hz1 h2 (by decide)
    have h5 := k_t1 c3 hz2 h4 (by decide)
    refine r_gfI (f := 2) (p := 27) f82_24 rfl rfl rfl (Or.inl h5) rfl ?_
    refine r_iconst (p := 28) f82_27 rfl (pinD rfl rfl) ?_
    refine r_iadd (p := 29) f82_28 rfl ?_
    refine r_pfI (f := 2) (p := 32) f82_29 rfl rfl rfl (by decide) (by decide) (Or.inl h5) rfl ?_
    exact le2_refl _
theorem q82_32 {d : Nat} {m : Mem} {a0 a1 a2 : Int} {z3 : PV} (hd : 0 < d) (hz : TZ m) (hcz3 : cat z3 = 1) : le2 (gd (tg m a0 = 5) <| nm (vl m a0 2) fun v4 => bV (cl (d - 1) 62 [pR a0] m) fun m1 => bI (cl (d - 1) 63 [pR a0] m1) fun v2 m2 => if v2 = 46 then (rn d 82 66 [pR a0, pI a1, pR a2, pI v4] [] m2) else bI (cl (d - 1) 63 [pR a0] m2) fun v3 m3 => if v3 = 91 then (rn d 82 66 [pR a0, pI a1, pR a2, pI v4] [] m3) else some (.inl (some (pR a2)), (mst m3 a0 2 v4))) (rn d 82 32 [pR a0, pI a1, pR a2, z3] [] m) := by
  refine r_aln0 (p := 33) f82_32 rfl ?_
  refine le2_gd (fun h1 => ?_)
  refine r_gfI (f := 2) (p := 36) f82_33 rfl rfl rfl (Or.inl h1) rfl ?_
  refine r_nmI (fun v4 ev4 => ?_)
  refine r_isn3 (p := 37) f82_36 rfl rfl ?_
  refine r_aln0 (p := 38) f82_37 rfl ?_
  refine r_invV (p := 41) f82_38 rfl rfl rfl (Or.inl h1) hd (Nat.le_of_ble_eq_true rfl) rfl rfl rfl (fun _ => rfl) (fun m1 c1 => ?_)
  have hz1 := z_k c1 hz
  refine r_aln0 (p := 42) f82_41 rfl ?_
  have h2 := k_t1 c1 hz h1 (by decide)
  refine r_invI (p := 45) f82_42 rfl rfl rfl (Or.inl h2) hd (Nat.le_of_ble_eq_true rfl) rfl rfl rfl (fun _ => rfl) (fun v2 m2 c2 => ?_)
  have hz2 := z_k c2 hz1
  refine r_bipush (p := 47) f82_45 rfl (pinD rfl rfl) ?_
  refine r_iceq (t := 66) (p := 50) f82_47 (by decide) rfl rfl ?_ ?_
  · exact le2_refl _
  · refine r_aln0 (p := 51) f82_50 rfl ?_
    have h3 := k_t1 c2 hz1 h2 (by decide)
    refine r_invI (p := 54) f82_51 rfl rfl rfl (Or.inl h3) hd (Nat.le_of_ble_eq_true rfl) rfl rfl rfl (fun _ => rfl) (fun v3 m3 c3 => ?_)
    have hz3 := z_k c3 hz2
    refine r_bipush (p := 56) f82_54 rfl (pinD rfl rfl) ?_
    refine r_iceq (t := 66) (p := 59) f82_56 (by decide) rfl rfl ?_ ?_
    · exact le2_refl _
    · refine r_aln0 (p := 60) f82_59 rfl ?_
      refine r_iln3 (p := 61) f82_60 rfl ?_
      have h4 := k_t1 c3 hz2 h3 (by decide)
      refine r_pfI (f := 2) (p := 64) f82_61 rfl rfl rfl (by decide) (by decide) (Or.inl h4) rfl ?_
      refine r_aln2 (p := 65) f82_64 rfl ?_
      exact r_aret f82_65
theorem q82_66 {d : Nat} {m : Mem} {a0 a1 a2 a3 : Int} (hd : 0 < d) (hz : TZ m) : le2 (if a1 = 0 then (gd (tg m a0 = 5) <| bR (cl (d - 1) 90 [pR a0, pR a2] m) fun v1 m1 => gd (tg m1 a2 = 15) <| bV (cl (d - 1) 303 [pR a2, pR v1] m1) fun m2 => rn d 82 32 [pR a0, pI a1, pR a2, pI a3] [] m2) else gd (tg m a0 = 5) <| bR (cl (d - 1) 83 [pR a0] m) fun v3 m3 => gd (tg m3 a2 = 15) <| bV (cl (d - 1) 303 [pR a2, pR v3] m3) fun m4 => rn d 82 32 [pR a0, pI a1, pR a2, pI a3] [] m4) (rn d 82 66 [pR a0, pI a1, pR a2, pI a3] [] m) := by
  refine r_aln2 (p := 67) f82_66 rfl ?_
  refine r_iln1 (p := 68) f82_67 rfl ?_
  refine r_ifeq (t := 78) (p := 71) f82_68 (by decide) rfl rfl ?_ ?_
  · refine r_aln0 (p := 79) f82_78 rfl ?_
    refine r_aln2 (p := 80) f82_79 rfl ?_
    refine le2_gd (fun h1 => ?_)
    refine r_invR (p := 83) f82_80 rfl rfl rfl (Or.inl h1) hd (Nat.le_of_ble_eq_true rfl) rfl rfl rfl (fun _ => rfl) (fun v1 m1 c1 => ?_)
    have hz1 := z_k c1 hz
    refine le2_gd (fun h2 => ?_)
    refine r_invV (p := 86) f82_83 rfl rfl rfl (Or.inl h2) hd (Nat.le_of_ble_eq_true rfl) rfl rfl rfl (fun _ => rfl) (fun m2 c2 => ?_)
    have hz2 := z_k c2 hz1
    refine r_goto (p := 32) f82_86 (by decide) rfl ?_
    exact le2_refl _
  · refine r_aln0 (p := 72) f82_71 rfl ?_
    refine le2_gd (fun h3 => ?_)
    refine r_invR (p := 75) f82_72 rfl rfl rfl (Or.inl h3) hd (Nat.le_of_ble_eq_true rfl) rfl rfl rfl (fun _ => rfl) (fun v3 m3 c3 => ?_)
    have hz3 := z_k c3 hz
    refine r_goto (p := 83) f82_75 (by decide) rfl ?_
    refine le2_gd (fun h4 => ?_)
    refine r_invV (p := 86) f82_83 rfl rfl rfl (Or.inl h4) hd (Nat.le_of_ble_eq_true rfl) rfl rfl rfl (fun _ => rfl) (fun m4 c4 => ?_)
    have hz4 := z_k c4 hz3
    refine r_goto (p := 32) f82_86 (by decide) rfl ?_
    exact le2_refl _
/-! 83 PathStore$Compiler.step ()LPathStore$Segment; -/
def w83_4 : List UInt8 := [182, 0, 46, 42, 16, 93, 182, 0, 117, 43, 176]
abbrev u83_4 : List UInt8 := w83_4 ++ []
def w83_3 : List UInt8 := [182, 0, 80, 167, 0, 18, 43, 187, 0, 99, 89, 42, 182, 0, 110, 183, 0, 114, 182, 0, 80, 42]
abbrev u83_3 : List UInt8 := w83_3 ++ u83_4
def w83_2 : List UInt8 := [182, 0, 28, 16, 39, 159, 0, 12, 42, 182, 0, 28, 16, 34, 160, 0, 14, 43, 42, 182, 0, 107]
abbrev u83_2 : List UInt8 := w83_2 ++ u83_3
def w83_1 : List UInt8 := [96, 181, 0, 40, 43, 42, 182, 0, 83, 182, 0, 80, 43, 176, 42, 182, 0, 104, 42, 182, 0, 46, 42]
abbrev u83_1 : List UInt8 := w83_1 ++ u83_2
def w83_0 : List UInt8 := [187, 0, 71, 89, 3, 183, 0, 73, 76, 42, 182, 0, 28, 16, 46, 160, 0, 23, 42, 89, 180, 0, 40, 4]
abbrev u83_0 : List UInt8 := w83_0 ++ u83_1
theorem s83_0 : (prog_4_method_8_code).data.toList.drop 0 = u83_0 := by decide +kernel
theorem s83_1 : (prog_4_method_8_code).data.toList.drop 24 = u83_1 := dk_seg s83_0 24 rfl rfl
theorem s83_2 : (prog_4_method_8_code).data.toList.drop 47 = u83_2 := dk_seg s83_1 23 rfl rfl
theorem s83_3 : (prog_4_method_8_code).data.toList.drop 69 = u83_3 := dk_seg s83_2 22 rfl rfl
theorem s83_4 : (prog_4_method_8_code).data.toList.drop 91 = u83_4 := dk_seg s83_3 22 rfl rfl
theorem Fm83 {pc len : Nat} {i : Instr} (h : decode (prog_4_method_8_code) pc = .ok (i, len)) (hl : len = ilen i len) : ft 83 pc = some (5, 3, 0, i, len) := ft_mk rfl h hl
theorem f83_0 : ft 83 0 = some (5, 3, 0, .new 71, 3) := Fm83 (dk_187 0 71 (dk_at s83_0 0 rfl rfl)) rfl
theorem f83_3 : ft 83 3 = some (5, 3, 0, .dup, 1) := Fm83 (dk_89 (dk_at s83_0 3 rfl rfl)) rfl
theorem f83_4 : ft 83 4 = some (5, 3, 0, .iconst 0, 1) := Fm83 (dk_3 (dk_at s83_0 4 rfl rfl)) rfl
theorem f83_5 : ft 83 5 = some (5, 3, 0, .invokespecial 73, 3) := Fm83 (dk_183 0 73 (dk_at s83_0 5 rfl rfl)) rfl
theorem f83_8 : ft 83 8 = some (5, 3, 0, .astore_n 1, 1) := Fm83 (dk_76 (dk_at s83_0 8 rfl rfl)) rfl
theorem f83_9 : ft 83 9 = some (5, 3, 0, .aload_n 0, 1) := Fm83 (dk_42 (dk_at s83_0 9 rfl rfl)) rfl
theorem f83_10 : ft 83 10 = some (5, 3, 0, .invokevirtual 28, 3) := Fm83 (dk_182 0 28 (dk_at s83_0 10 rfl rfl)) rfl
theorem f83_13 : ft 83 13 = some (5, 3, 0, .bipush 46, 2) := Fm83 (dk_16 46 (dk_at s83_0 13 rfl rfl)) rfl
theorem f83_15 : ft 83 15 = some (5, 3, 0, .if_icmp .ne 23, 3) := Fm83 (dk_160 0 23 (dk_at s83_0 15 rfl rfl)) rfl
theorem f83_18 : ft 83 18 = some (5, 3, 0, .aload_n 0, 1) := Fm83 (dk_42 (dk_at s83_0 18 rfl rfl)) rfl
theorem f83_19 : ft 83 19 = some (5, 3, 0, .dup, 1) := Fm83 (dk_89 (dk_at s83_0 19 rfl rfl)) rfl
theorem f83_20 : ft 83 20 = some (5, 3, 0, .getfield 40, 3) := Fm83 (dk_180 0 40 (dk_at s83_0 20 rfl rfl)) rfl
theorem f83_23 : ft 83 23 = some (5, 3, 0, .iconst 1, 1) := Fm83 (dk_4 (dk_at s83_0 23 rfl rfl)) rfl
theorem f83_24 : ft 83 24 = some (5, 3, 0, .iadd, 1) := Fm83 (dk_96 (dk_at s83_1 0 rfl rfl)) rfl
theorem f83_25 : ft 83 25 = some (5, 3, 0, .putfield 40, 3) := Fm83 (dk_181 0 40 (dk_at s83_1 1 rfl rfl)) rfl
theorem f83_28 : ft 83 28 = some (5, 3, 0, .aload_n 1, 1) := Fm83 (dk_43 (dk_at s83_1 4 rfl rfl)) rfl
theorem f83_29 : ft 83 29 = some (5, 3, 0, .aload_n 0, 1) := Fm83 (dk_42 (dk_at s83_1 5 rfl rfl)) rfl
theorem f83_30 : ft 83 30 = some (5, 3, 0, .invokevirtual 83, 3) := Fm83 (dk_182 0 83 (dk_at s83_1 6 rfl rfl)) rfl
theorem f83_33 : ft 83 33 = some (5, 3, 0, .invokevirtual 80, 3) := Fm83 (dk_182 0 80 (dk_at s83_1 9 rfl rfl)) rfl
theorem f83_36 : ft 83 36 = some (5, 3, 0, .aload_n 1, 1) := Fm83 (dk_43 (dk_at s83_1 12 rfl rfl)) rfl
theorem f83_37 : ft 83 37 = some (5, 3, 0, .areturn, 1) := Fm83 (dk_176 (dk_at s83_1 13 rfl rfl)) rfl
theorem f83_38 : ft 83 38 = some (5, 3, 0, .aload_n 0, 1) := Fm83 (dk_42 (dk_at s83_1 14 rfl rfl)) rfl
theorem f83_39 : ft 83 39 = some (5, 3, 0, .invokevirtual 104, 3) := Fm83 (dk_182 0 104 (dk_at s83_1 15 rfl rfl)) rfl
theorem f83_42 : ft 83 42 = some (5, 3, 0, .aload_n 0, 1) := Fm83 (dk_42 (dk_at s83_1 18 rfl rfl)) rfl
theorem f83_43 : ft 83 43 = some (5, 3, 0, .invokevirtual 46, 3) := Fm83 (dk_182 0 46 (dk_at s83_1 19 rfl rfl)) rfl
theorem f83_46 : ft 83 46 = some (5, 3, 0, .aload_n 0, 1) := Fm83 (dk_42 (dk_at s83_1 22 rfl rfl)) rfl
theorem f83_47 : ft 83 47 = some (5, 3, 0, .invokevirtual 28, 3) := Fm83 (dk_182 0 28 (dk_at s83_2 0 rfl rfl)) rfl
theorem f83_50 : ft 83 50 = some (5, 3, 0, .bipush 39, 2) := Fm83 (dk_16 39 (dk_at s83_2 3 rfl rfl)) rfl
theorem f83_52 : ft 83 52 = some (5, 3, 0, .if_icmp .eq 12, 3) := Fm83 (dk_159 0 12 (dk_at s83_2 5 rfl rfl)) rfl
theorem f83_55 : ft 83 55 = some (5, 3, 0, .aload_n 0, 1) := Fm83 (dk_42 (dk_at s83_2 8 rfl rfl)) rfl
theorem f83_56 : ft 83 56 = some (5, 3, 0, .invokevirtual 28, 3) := Fm83 (dk_182 0 28 (dk_at s83_2 9 rfl rfl)) rfl
theorem f83_59 : ft 83 59 = some (5, 3, 0, .bipush 34, 2) := Fm83 (dk_16 34 (dk_at s83_2 12 rfl rfl)) rfl
theorem f83_61 : ft 83 61 = some (5, 3, 0, .if_icmp .ne 14, 3) := Fm83 (dk_160 0 14 (dk_at s83_2 14 rfl rfl)) rfl
theorem f83_64 : ft 83 64 = some (5, 3, 0, .aload_n 1, 1) := Fm83 (dk_43 (dk_at s83_2 17 rfl rfl)) rfl
theorem f83_65 : ft 83 65 = some (5, 3, 0, .aload_n 0, 1) := Fm83 (dk_42 (dk_at s83_2 18 rfl rfl)) rfl
theorem f83_66 : ft 83 66 = some (5, 3, 0, .invokevirtual 107, 3) := Fm83 (dk_182 0 107 (dk_at s83_2 19 rfl rfl)) rfl
theorem f83_69 : ft 83 69 = some (5, 3, 0, .invokevirtual 80, 3) := Fm83 (dk_182 0 80 (dk_at s83_3 0 rfl rfl)) rfl
theorem f83_72 : ft 83 72 = some (5, 3, 0, .goto 18, 3) := Fm83 (dk_167 0 18 (dk_at s83_3 3 rfl rfl)) rfl
theorem f83_75 : ft 83 75 = some (5, 3, 0, .aload_n 1, 1) := Fm83 (dk_43 (dk_at s83_3 6 rfl rfl)) rfl
theorem f83_76 : ft 83 76 = some (5, 3, 0, .new 99, 3) := Fm83 (dk_187 0 99 (dk_at s83_3 7 rfl rfl)) rfl
theorem f83_79 : ft 83 79 = some (5, 3, 0, .dup, 1) := Fm83 (dk_89 (dk_at s83_3 10 rfl rfl)) rfl
theorem f83_80 : ft 83 80 = some (5, 3, 0, .aload_n 0, 1) := Fm83 (dk_42 (dk_at s83_3 11 rfl rfl)) rfl
theorem f83_81 : ft 83 81 = some (5, 3, 0, .invokevirtual 110, 3) := Fm83 (dk_182 0 110 (dk_at s83_3 12 rfl rfl)) rfl
theorem f83_84 : ft 83 84 = some (5, 3, 0, .invokespecial 114, 3) := Fm83 (dk_183 0 114 (dk_at s83_3 15 rfl rfl)) rfl
theorem f83_87 : ft 83 87 = some (5, 3, 0, .invokevirtual 80, 3) := Fm83 (dk_182 0 80 (dk_at s83_3 18 rfl rfl)) rfl
theorem f83_90 : ft 83 90 = some (5, 3, 0, .aload_n 0, 1) := Fm83 (dk_42 (dk_at s83_3 21 rfl rfl)) rfl
theorem f83_91 : ft 83 91 = some (5, 3, 0, .invokevirtual 46, 3) := Fm83 (dk_182 0 46 (dk_at s83_4 0 rfl rfl)) rfl
theorem f83_94 : ft 83 94 = some (5, 3, 0, .aload_n 0, 1) := Fm83 (dk_42 (dk_at s83_4 3 rfl rfl)) rfl
theorem f83_95 : ft 83 95 = some (5, 3, 0, .bipush 93, 2) := Fm83 (dk_16 93 (dk_at s83_4 4 rfl rfl)) rfl
theorem f83_97 : ft 83 97 = some (5, 3, 0, .invokevirtual 117, 3) := Fm83 (dk_182 0 117 (dk_at s83_4 6 rfl rfl)) rfl
theorem f83_100 : ft 83 100 = some (5, 3, 0, .aload_n 1, 1) := Fm83 (dk_43 (dk_at s83_4 9 rfl rfl)) rfl
theorem f83_101 : ft 83 101 = some (5, 3, 0, .areturn, 1) := Fm83 (dk_176 (dk_at s83_4 10 rfl rfl)) rfl
theorem q83 {d : Nat} {m : Mem} {a0 : Int} (hd : 0 < d) (hz : TZ m) : le2 (nw (nx m) (mal m 16 3) fun o1 m1 => bV (cl (d - 1) 304 [pR o1, pI 0] m1) fun m2 => gd (tg m2 a0 = 5) <| bI (cl (d - 1) 63 [pR a0] m2) fun v3 m3 => if v3 = 46 then (bR (cl (d - 1) 84 [pR a0] (mst m3 a0 2 (w32 ((vl m3 a0 2) + 1)))) fun v16 m16 => bV (cl (d - 1) 305 [pR o1, pR v16] m16) fun m17 => some (.inl (some (pR o1)), m17)) else bV (cl (d - 1) 86 [pR a0] m3) fun m4 => bV (cl (d - 1) 62 [pR a0] m4) fun m5 => bI (cl (d - 1) 63 [pR a0] m5) fun v6 m6 => if v6 = 39 then (bR (cl (d - 1) 87 [pR a0] m6) fun v7 m7 => bV (cl (d - 1) 305 [pR o1, pR v7] m7) fun m8 => rn d 83 90 [pR a0, pR o1] [] m8) else bI (cl (d - 1) 63 [pR a0] m6) fun v9 m9 => if v9 = 34 then (bR (cl (d - 1) 87 [pR a0] m9) fun v14 m14 => bV (cl (d - 1) 305 [pR o1, pR v14] m14) fun m15 => rn d 83 90 [pR a0, pR o1] [] m15) else nw (nx m9) (mal m9 18 1) fun o10 m10 => bL (cl (d - 1) 88 [pR a0] m10) fun v11 m11 => bV (cl (d - 1) 308 [pR o10, pL v11] m11) fun m12 => bV (cl (d - 1) 305 [pR o1, pR o10] m12) fun m13 => rn d 83 90 [pR a0, pR o1] [] m13) (cl d 83 [pR a0] m) := by
  refine q_in (n := 2) (L := [pR a0, pU]) rfl rfl rfl ?_
  refine r_new (t1 := 16) (f1 := 3) (p := 3) f83_0 rfl rfl rfl rfl rfl (fun o1 m1 h1 k1 => ?_)
  have hz1 := z_k k1 hz
  refine r_dup (p := 4) f83_3 rfl rfl ?_
  refine r_iconst (p := 5) f83_4 rfl (pinD rfl rfl) ?_
  refine r_ispV (p := 8) f83_5 rfl rfl rfl (Or.inl h1) hd (Nat.le_of_ble_eq_true rfl) rfl rfl rfl (fun _ => rfl) (fun m2 c2 => ?_)
  have hz2 := z_k c2 hz1
  refine r_asn1 (p := 9) f83_8 rfl rfl ?_
  refine r_aln0 (p := 10) f83_9 rfl ?_
  refine le2_gd (fun h2 => ?_)
  refine r_invI (p := 13) f83_10 rfl rfl rfl (Or.inl h2) hd (Nat.le_of_ble_eq_true rfl) rfl rfl rfl (fun _ => rfl) (fun v3 m3 c3 => ?_)
  have hz3 := z_k c3 hz2
  refine r_bipush (p := 15) f83_13 rfl (pinD rfl rfl) ?_
  refine r_icne (t := 38) (p := 18) f83_15 (by decide) rfl rfl ?_ ?_
  · refine r_aln0 (p := 19) f83_18 rfl ?_
    refine r_dup (p := 20) f83_19 rfl rfl ?_
    have h35 := k_t1 c3 hz2 h2 (by decide)
    refine r_gfI (f := 2) (p := 23) f83_20 rfl rfl rfl (Or.inl h35) rfl ?_
    refine r_iconst (p := 24) f83_23 rfl (pinD rfl rfl) ?_
    refine r_iadd (p := 25) f83_24 rfl ?_
    refine r_pfI (f := 2) (p := 28) f83_25 rfl rfl rfl (by decide) (by decide) (Or.inl h35) rfl ?_
    refine r_aln1 (p := 29) f83_28 rfl ?_
    refine r_aln0 (p := 30) f83_29 rfl ?_
    refine r_invR (p := 33) f83_30 rfl rfl rfl (Or.inl h35) hd (Nat.le_of_ble_eq_true rfl) rfl rfl rfl (fun _ => rfl) (fun v16 m16 c16 => ?_)
    have hz16 := z_k c16 hz3
    have h36 := k_t1 c2 hz1 h1 (by decide)
    have h37 := k_t1 c3 hz2 h36 (by decide)
    have h38 := k_t1 c16 hz3 h37 (by decide)
    refine r_invV (p := 36) f83_33 rfl rfl rfl (Or.inl h38) hd (Nat.le_of_ble_eq_true rfl) rfl rfl rfl (fun _ => rfl) (fun m17 c17 => ?_)
    have hz17 := z_k c17 hz16
    refine r_aln1 (p := 37) f83_36 rfl ?_
    exact r_aret f83_37
  · refine r_aln0 (p := 39) f83_38 rfl ?_
    have h3 := k_t1 c3 hz2 h2 (by decide)
    refine r_invV (p := 42) f83_39 rfl rfl rfl (Or.inl h3) hd (Nat.le_of_ble_eq_true rfl) rfl rfl rfl (fun _ => rfl) (fun m4 c4 => ?_)
    have hz4 := z_k c4 hz3
    refine r_aln0 (p := 43) f83_42 rfl ?_
    have h4 := k_t1 c4 hz3 h3 (by decide)
    refine r_invV (p := 46) f83_43 rfl rfl rfl (Or.inl h4) hd (Nat.le_of_ble_eq_true rfl) rfl rfl rfl (fun _ => rfl) (fun m5 c5 => ?_)
    have hz5 := z_k c5 hz4
    refine r_aln0 (p := 47) f83_46 rfl ?_
    have h5 := k_t1 c5 hz4 h4 (by decide)
    refine r_invI (p := 50) f83_47 rfl rfl rfl (Or.inl h5) hd (Nat.le_of_ble_eq_true rfl) rfl rfl rfl (fun _ => rfl) (fun v6 m6 c6 => ?_)
    have hz6 := z_k c6 hz5
    refine r_bipush (p := 52) f83_50 rfl (pinD rfl rfl) ?_
    refine r_iceq (t := 64) (p := 55) f83_52 (by decide) rfl rfl ?_ ?_
    · refine r_aln1 (p := 65) f83_64 rfl ?_
      refine r_aln0 (p := 66) f83_65 rfl ?_
      have h6 := k_t1 c6 hz5 h5 (by decide)
      refine r_invR (p := 69) f83_66 rfl rfl rfl (Or.inl h6) hd (Nat.le_of_ble_eq_true rfl) rfl rfl rfl (fun _ => rfl) (fun v7 m7 c7 => ?_)
      have hz7 := z_k c7 hz6
      have h7 := k_t1 c2 hz1 h1 (by decide)
      have h8 := k_t1 c3 hz2 h7 (by decide)
      have h9 := k_t1 c4 hz3 h8 (by decide)
      have h10 := k_t1 c5 hz4 h9 (by decide)
      have h11 := k_t1 c6 hz5 h10 (by decide)
      have h12 := k_t1 c7 hz6 h11 (by decide)
      refine r_invV (p := 72) f83_69 rfl rfl rfl (Or.inl h12) hd (Nat.le_of_ble_eq_true rfl) rfl rfl rfl (fun _ => rfl) (fun m8 c8 => ?_)
      have hz8 := z_k c8 hz7
      refine r_goto (p := 90) f83_72 (by decide) rfl ?_
      exact le2_refl _
    · refine r_aln0 (p := 56) f83_55 rfl ?_
      have h13 := k_t1 c6 hz5 h5 (by decide)
      refine r_invI (p := 59) f83_56 rfl rfl rfl (Or.inl h13) hd (Nat.le_of_ble_eq_true rfl) rfl rfl rfl (fun _ => rfl) (fun v9 m9 c9 => ?_)
      have hz9 := z_k c9 hz6
      refine r_bipush (p := 61) f83_59 rfl (pinD rfl rfl) ?_
      refine r_icne (t := 75) (p := 64) f83_61 (by decide) rfl rfl ?_ ?_
      · refine r_aln1 (p := 65) f83_64 rfl ?_
        refine r_aln0 (p := 66) f83_65 rfl ?_
        have h27 := k_t1 c9 hz6 h13 (by decide)
        refine r_invR (p := 69) f83_66 rfl rfl rfl (Or.inl h27) hd (Nat.le_of_ble_eq_true rfl) rfl rfl rfl (fun _ => rfl) (fun v14 m14 c14 => ?_)
        have hz14 := z_k c14 hz9
        have h28 := k_t1 c2 hz1 h1 (by decide)
        have h29 := k_t1 c3 hz2 h28 (by decide)
        have h30 := k_t1 c4 hz3 h29 (by decide)
        have h31 := k_t1 c5 hz4 h30 (by decide)
        have h32 := k_t1 c6 hz5 h31 (by decide)
        have h33 := k_t1 c9 hz6 h32 (by decide)
        have h34 := k_t1 c14 hz9 h33 (by decide)
        refine r_invV (p := 72) f83_69 rfl rfl rfl (Or.inl h34) hd (Nat.le_of_ble_eq_true rfl) rfl rfl rfl (fun _ => rfl) (fun m15 c15 => ?_)
        have hz15 := z_k c15 hz14
        refine r_goto (p := 90) f83_72 (by decide) rfl ?_
        exact le2_refl _
      · refine r_aln1 (p := 76) f83_75 rfl ?_
        refine r_new (t1 := 18) (f1 := 1) (p := 79) f83_76 rfl rfl rfl rfl rfl (fun o10 m10 h14 k10 => ?_)
        have hz10 := z_k k10 hz9
        refine r_dup (p := 80) f83_79 rfl rfl ?_
        refine r_aln0 (p := 81) f83_80 rfl ?_
        have h15 := k_t1 c9 hz6 h13 (by decide)
        have h16 := k_t1 k10 hz9 h15 (by decide)
        refine r_invL (p := 84) f83_81 rfl rfl rfl (Or.inl h16) hd (Nat.le_of_ble_eq_true rfl) rfl rfl rfl (fun _ => rfl) (fun v11 m11 c11 => ?_)
        have hz11 := z_k c11 hz10
        have h17 := k_t1 c11 hz10 h14 (by decide)
        refine r_ispV (p := 87) f83_84 rfl rfl rfl (Or.inl h17) hd (Nat.le_of_ble_eq_true rfl) rfl rfl rfl (fun _ => rfl) (fun m12 c12 => ?_)
        have hz12 := z_k c12 hz11
        have h18 := k_t1 c2 hz1 h1 (by decide)
        have h19 := k_t1 c3 hz2 h18 (by decide)
        have h20 := k_t1 c4 hz3 h19 (by decide)
        have h21 := k_t1 c5 hz4 h20 (by decide)
        have h22 := k_t1 c6 hz5 h21 (by decide)
        have h23 := k_t1 c9 hz6 h22 (by decide)
        have h24 := k_t1 k10 hz9 h23 (by decide)
        have h25 := k_t1 c11 hz10 h24 (by decide)
        have h26 := k_t1 c12 hz11 h25 (by decide)
        refine r_invV (p := 90) f83_87 rfl rfl rfl (Or.inl h26) hd (Nat.le_of_ble_eq_true rfl) rfl rfl rfl (fun _ => rfl) (fun m13 c13 => ?_)
        have hz13 := z_k c13 hz12
        exact le2_refl _
theorem q83_90 {d : Nat} {m : Mem} {a0 a1 : Int} (hd : 0 < d) (hz : TZ m) : le2 (gd (tg m a0 = 5) <| bV (cl (d - 1) 62 [pR a0] m) fun m1 => bV (cl (d - 1) 89 [pR a0, pI 93] m1) fun m2 => some (.inl (some (pR a1)), m2)) (rn d 83 90 [pR a0, pR a1] [] m) := by
  refine r_aln0 (p := 91) f83_90 rfl ?_
  refine le2_gd (fun h1 => ?_)
  refine r_invV (p := 94) f83_91 rfl rfl rfl (Or.inl h1) hd (Nat.le_of_ble_eq_true rfl) rfl rfl rfl (fun _ => rfl) (fun m1 c1 => ?_)
  have hz1 := z_k c1 hz
  refine r_aln0 (p := 95) f83_94 rfl ?_
  refine r_bipush (p := 97) f83_95 rfl (pinD rfl rfl) ?_
  have h2 := k_t1 c1 hz h1 (by decide)
  refine r_invV (p := 100) f83_97 rfl rfl rfl (Or.inl h2) hd (Nat.le_of_ble_eq_true rfl) rfl rfl rfl (fun _ => rfl) (fun m2 c2 => ?_)
  have hz2 := z_k c2 hz1
  refine r_aln1 (p := 101) f83_100 rfl ?_
  exact r_aret f83_101
/-! 84 PathStore$Compiler.name ()LPathStore$Name; -/
def w84_4 : List UInt8 := [100, 5, 100, 182, 0, 135, 187, 0, 97, 89, 42, 180, 0, 20, 27, 183, 0, 139, 176]
abbrev u84_4 : List UInt8 := w84_4 ++ []
def w84_3 : List UInt8 := [96, 181, 0, 40, 51, 182, 0, 125, 167, 255, 213, 42, 180, 0, 20, 27, 42, 180, 0, 20, 180, 0, 124, 27]
abbrev u84_3 : List UInt8 := w84_3 ++ u84_4
def w84_2 : List UInt8 := [182, 0, 28, 184, 0, 128, 153, 0, 29, 42, 180, 0, 20, 42, 180, 0, 131, 42, 89, 180, 0, 40, 90, 4]
abbrev u84_2 : List UInt8 := w84_2 ++ u84_3
def w84_1 : List UInt8 := [182, 0, 125, 42, 180, 0, 20, 3, 182, 0, 125, 42, 182, 0, 28, 184, 0, 120, 154, 0, 13, 42]
abbrev u84_1 : List UInt8 := w84_1 ++ u84_2
def w84_0 : List UInt8 := [42, 42, 182, 0, 28, 184, 0, 120, 182, 0, 32, 42, 180, 0, 20, 180, 0, 124, 60, 42, 180, 0, 20, 3]
abbrev u84_0 : List UInt8 := w84_0 ++ u84_1
theorem s84_0 : (prog_4_method_9_code).data.toList.drop 0 = u84_0 := by decide +kernel
theorem s84_1 : (prog_4_method_9_code).data.toList.drop 24 = u84_1 := dk_seg s84_0 24 rfl rfl
theorem s84_2 : (prog_4_method_9_code).data.toList.drop 46 = u84_2 := dk_seg s84_1 22 rfl rfl
theorem s84_3 : (prog_4_method_9_code).data.toList.drop 70 = u84_3 := dk_seg s84_2 24 rfl rfl
theorem s84_4 : (prog_4_method_9_code).data.toList.drop 94 = u84_4 := dk_seg s84_3 24 rfl rfl
theorem Fm84 {pc len : Nat} {i : Instr} (h : decode (prog_4_method_9_code) pc = .ok (i, len)) (hl : len = ilen i len) : ft 84 pc = some (5, 3, 0, i, len) := ft_mk rfl h hl
theorem f84_0 : ft 84 0 = some (5, 3, 0, .aload_n 0, 1) := Fm84 (dk_42 (dk_at s84_0 0 rfl rfl)) rfl
theorem f84_1 : ft 84 1 = some (5, 3, 0, .aload_n 0, 1) := Fm84 (dk_42 (dk_at s84_0 1 rfl rfl)) rfl
theorem f84_2 : ft 84 2 = some (5, 3, 0, .invokevirtual 28, 3) := Fm84 (dk_182 0 28 (dk_at s84_0 2 rfl rfl)) rfl
theorem f84_5 : ft 84 5 = some (5, 3, 0, .invokestatic 120, 3) := Fm84 (dk_184 0 120 (dk_at s84_0 5 rfl rfl)) rfl
theorem f84_8 : ft 84 8 = some (5, 3, 0, .invokevirtual 32, 3) := Fm84 (dk_182 0 32 (dk_at s84_0 8 rfl rfl)) rfl
theorem f84_11 : ft 84 11 = some (5, 3, 0, .aload_n 0, 1) := Fm84 (dk_42 (dk_at s84_0 11 rfl rfl)) rfl
theorem f84_12 : ft 84 12 = some (5, 3, 0, .getfield 20, 3) := Fm84 (dk_180 0 20 (dk_at s84_0 12 rfl rfl)) rfl
theorem f84_15 : ft 84 15 = some (5, 3, 0, .getfield 124, 3) := Fm84 (dk_180 0 124 (dk_at s84_0 15 rfl rfl)) rfl
theorem f84_18 : ft 84 18 = some (5, 3, 0, .istore_n 1, 1) := Fm84 (dk_60 (dk_at s84_0 18 rfl rfl)) rfl
theorem f84_19 : ft 84 19 = some (5, 3, 0, .aload_n 0, 1) := Fm84 (dk_42 (dk_at s84_0 19 rfl rfl)) rfl
theorem f84_20 : ft 84 20 = some (5, 3, 0, .getfield 20, 3) := Fm84 (dk_180 0 20 (dk_at s84_0 20 rfl rfl)) rfl
theorem f84_23 : ft 84 23 = some (5, 3, 0, .iconst 0, 1) := Fm84 (dk_3 (dk_at s84_0 23 rfl rfl)) rfl
theorem f84_24 : ft 84 24 = some (5, 3, 0, .invokevirtual 125, 3) := Fm84 (dk_182 0 125 (dk_at s84_1 0 rfl rfl)) rfl
theorem f84_27 : ft 84 27 = some (5, 3, 0, .aload_n 0, 1) := Fm84 (dk_42 (dk_at s84_1 3 rfl rfl)) rfl
theorem f84_28 : ft 84 28 = some (5, 3, 0, .getfield 20, 3) := Fm84 (dk_180 0 20 (dk_at s84_1 4 rfl rfl)) rfl
theorem f84_31 : ft 84 31 = some (5, 3, 0, .iconst 0, 1) := Fm84 (dk_3 (dk_at s84_1 7 rfl rfl)) rfl
theorem f84_32 : ft 84 32 = some (5, 3, 0, .invokevirtual 125, 3) := Fm84 (dk_182 0 125 (dk_at s84_1 8 rfl rfl)) rfl
theorem f84_35 : ft 84 35 = some (5, 3, 0, .aload_n 0, 1) := Fm84 (dk_42 (dk_at s84_1 11 rfl rfl)) rfl
theorem f84_36 : ft 84 36 = some (5, 3, 0, .invokevirtual 28, 3) := Fm84 (dk_182 0 28 (dk_at s84_1 12 rfl rfl)) rfl
theorem f84_39 : ft 84 39 = some (5, 3, 0, .invokestatic 120, 3) := Fm84 (dk_184 0 120 (dk_at s84_1 15 rfl rfl)) rfl
theorem f84_42 : ft 84 42 = some (5, 3, 0, .ifCond .ne 13, 3) := Fm84 (dk_154 0 13 (dk_at s84_1 18 rfl rfl)) rfl
theorem f84_45 : ft 84 45 = some (5, 3, 0, .aload_n 0, 1) := Fm84 (dk_42 (dk_at s84_1 21 rfl rfl)) rfl
theorem f84_46 : ft 84 46 = some (5, 3, 0, .invokevirtual 28, 3) := Fm84 (dk_182 0 28 (dk_at s84_2 0 rfl rfl)) rfl
theorem f84_49 : ft 84 49 = some (5, 3, 0, .invokestatic 128, 3) := Fm84 (dk_184 0 128 (dk_at s84_2 3 rfl rfl)) rfl
theorem f84_52 : ft 84 52 = some (5, 3, 0, .ifCond .eq 29, 3) := Fm84 (dk_153 0 29 (dk_at s84_2 6 rfl rfl)) rfl
theorem f84_55 : ft 84 55 = some (5, 3, 0, .aload_n 0, 1) := Fm84 (dk_42 (dk_at s84_2 9 rfl rfl)) rfl
theorem f84_56 : ft 84 56 = some (5, 3, 0, .getfield 20, 3) := Fm84 (dk_180 0 20 (dk_at s84_2 10 rfl rfl)) rfl
theorem f84_59 : ft 84 59 = some (5, 3, 0, .aload_n 0, 1) := Fm84 (dk_42 (dk_at s84_2 13 rfl rfl)) rfl
theorem f84_60 : ft 84 60 = some (5, 3, 0, .getfield 131, 3) := Fm84 (dk_180 0 131 (dk_at s84_2 14 rfl rfl)) rfl
theorem f84_63 : ft 84 63 = some (5, 3, 0, .aload_n 0, 1) := Fm84 (dk_42 (dk_at s84_2 17 rfl rfl)) rfl
theorem f84_64 : ft 84 64 = some (5, 3, 0, .dup, 1) := Fm84 (dk_89 (dk_at s84_2 18 rfl rfl)) rfl
theorem f84_65 : ft 84 65 = some (5, 3, 0, .getfield 40, 3) := Fm84 (dk_180 0 40 (dk_at s84_2 19 rfl rfl)) rfl
theorem f84_68 : ft 84 68 = some (5, 3, 0, .dup_x1, 1) := Fm84 (dk_90 (dk_at s84_2 22 rfl rfl)) rfl
theorem f84_69 : ft 84 69 = some (5, 3, 0, .iconst 1, 1) := Fm84 (dk_4 (dk_at s84_2 23 rfl rfl)) rfl
theorem f84_70 : ft 84 70 = some (5, 3, 0, .iadd, 1) := Fm84 (dk_96 (dk_at s84_3 0 rfl rfl)) rfl
theorem f84_71 : ft 84 71 = some (5, 3, 0, .putfield 40, 3) := Fm84 (dk_181 0 40 (dk_at s84_3 1 rfl rfl)) rfl
theorem f84_74 : ft 84 74 = some (5, 3, 0, .baload, 1) := Fm84 (dk_51 (dk_at s84_3 4 rfl rfl)) rfl
theorem f84_75 : ft 84 75 = some (5, 3, 0, .invokevirtual 125, 3) := Fm84 (dk_182 0 125 (dk_at s84_3 5 rfl rfl)) rfl
theorem f84_78 : ft 84 78 = some (5, 3, 0, .goto (-43), 3) := Fm84 (dk_167 255 213 (dk_at s84_3 8 rfl rfl)) rfl
theorem f84_81 : ft 84 81 = some (5, 3, 0, .aload_n 0, 1) := Fm84 (dk_42 (dk_at s84_3 11 rfl rfl)) rfl
theorem f84_82 : ft 84 82 = some (5, 3, 0, .getfield 20, 3) := Fm84 (dk_180 0 20 (dk_at s84_3 12 rfl rfl)) rfl
theorem f84_85 : ft 84 85 = some (5, 3, 0, .iload_n 1, 1) := Fm84 (dk_27 (dk_at s84_3 15 rfl rfl)) rfl
theorem f84_86 : ft 84 86 = some (5, 3, 0, .aload_n 0, 1) := Fm84 (dk_42 (dk_at s84_3 16 rfl rfl)) rfl
theorem f84_87 : ft 84 87 = some (5, 3, 0, .getfield 20, 3) := Fm84 (dk_180 0 20 (dk_at s84_3 17 rfl rfl)) rfl
theorem f84_90 : ft 84 90 = some (5, 3, 0, .getfield 124, 3) := Fm84 (dk_180 0 124 (dk_at s84_3 20 rfl rfl)) rfl
theorem f84_93 : ft 84 93 = some (5, 3, 0, .iload_n 1, 1) := Fm84 (dk_27 (dk_at s84_3 23 rfl rfl)) rfl
theorem f84_94 : ft 84 94 = some (5, 3, 0, .isub, 1) := Fm84 (dk_100 (dk_at s84_4 0 rfl rfl)) rfl
theorem f84_95 : ft 84 95 = some (5, 3, 0, .iconst 2, 1) := Fm84 (dk_5 (dk_at s84_4 1 rfl rfl)) rfl
theorem f84_96 : ft 84 96 = some (5, 3, 0, .isub, 1) := Fm84 (dk_100 (dk_at s84_4 2 rfl rfl)) rfl
theorem f84_97 : ft 84 97 = some (5, 3, 0, .invokevirtual 135, 3) := Fm84 (dk_182 0 135 (dk_at s84_4 3 rfl rfl)) rfl
theorem f84_100 : ft 84 100 = some (5, 3, 0, .new 97, 3) := Fm84 (dk_187 0 97 (dk_at s84_4 6 rfl rfl)) rfl
theorem f84_103 : ft 84 103 = some (5, 3, 0, .dup, 1) := Fm84 (dk_89 (dk_at s84_4 9 rfl rfl)) rfl
theorem f84_104 : ft 84 104 = some (5, 3, 0, .aload_n 0, 1) := Fm84 (dk_42 (dk_at s84_4 10 rfl rfl)) rfl
theorem f84_105 : ft 84 105 = some (5, 3, 0, .getfield 20, 3) := Fm84 (dk_180 0 20 (dk_at s84_4 11 rfl rfl)) rfl
theorem f84_108 : ft 84 108 = some (5, 3, 0, .iload_n 1, 1) := Fm84 (dk_27 (dk_at s84_4 14 rfl rfl)) rfl
theorem f84_109 : ft 84 109 = some (5, 3, 0, .invokespecial 139, 3) := Fm84 (dk_183 0 139 (dk_at s84_4 15 rfl rfl)) rfl
theorem f84_112 : ft 84 112 = some (5, 3, 0, .areturn, 1) := Fm84 (dk_176 (dk_at s84_4 18 rfl rfl)) rfl
theorem q84 {d : Nat} {m : Mem} {a0 : Int} (hd : 0 < d) (hz : TZ m) : le2 (gd (tg m a0 = 5) <| bI (cl (d - 1) 63 [pR a0] m) fun v1 m1 => bI (cl (d - 1) 85 [pI v1] m1) fun v2 m2 => bV (cl (d - 1) 66 [pR a0, pI v2] m2) fun m3 => nm (vl m3 a0 4) fun v6 => gd (tg m3 v6 = 8) <| bV (cl (d - 1) 130 [pR v6, pI 0] m3) fun m4 => nm (vl m4 a0 4) fun v7 => gd (tg m4 v7 = 8) <| bV (cl (d - 1) 130 [pR v7, pI 0] m4) fun m5 => rn d 84 35 [pR a0, pI (vl m3 v6 1)] [] m5) (cl d 84 [pR a0] m) := by
  refine q_in (n := 2) (L := [pR a0, pU]) rfl rfl rfl ?_
  refine r_aln0 (p := 1) f84_0 rfl ?_
  refine r_aln0 (p := 2) f84_1 rfl ?_
  refine le2_gd (fun h1 => ?_)
  refine r_invI (p := 5) f84_2 rfl rfl rfl (Or.inl h1) hd (Nat.le_of_ble_eq_true rfl) rfl rfl rfl (fun _ => rfl) (fun v1 m1 c1 => ?_)
  have hz1 := z_k c1 hz
  refine r_istI (p := 8) f84_5 rfl rfl rfl hd (Nat.le_of_ble_eq_true rfl) rfl rfl rfl (fun _ => rfl) (fun v2 m2 c2 => ?_)
  have hz2 := z_k c2 hz1
  have h2 := k_t1 c1 hz h1 (by decide)
  have h3 := k_t1 c2 hz1 h2 (by decide)
  refine r_invV (p := 11) f84_8 rfl rfl rfl (Or.inl h3) hd (Nat.le_of_ble_eq_true rfl) rfl rfl rfl (fun _ => rfl) (fun m3 c3 => ?_)
  have hz3 := z_k c3 hz2
  refine r_aln0 (p := 12) f84_11 rfl ?_
  have h4 := k_t1 c3 hz2 h3 (by decide)
  refine r_gfR (f := 4) (p := 15) f84_12 rfl rfl rfl (Or.inl h4) rfl ?_
  refine r_nmR (fun v6 ev6 => ?_)
  refine le2_gd (fun h5 => ?_)
  refine r_gfI (f := 1) (p := 18) f84_15 rfl rfl rfl (Or.inl h5) rfl ?_
  refine r_isn1 (p := 19) f84_18 rfl rfl ?_
  refine r_aln0 (p := 20) f84_19 rfl ?_
  refine r_gfR (f := 4) (p := 23) f84_20 rfl rfl rfl (Or.inl h4) ev6.symm ?_
  refine r_iconst (p := 24) f84_23 rfl (pinD rfl rfl) ?_
  refine r_invV (p := 27) f84_24 rfl rfl rfl (Or.inl h5) hd (Nat.le_of_ble_eq_true rfl) rfl rfl rfl (fun _ => rfl) (fun m4 c4 => ?_)
  have hz4 := z_k c4 hz3
  refine r_aln0 (p := 28) f84_27 rfl ?_
  have h6 := k_t1 c4 hz3 h4 (by decide)
  refine r_gfR (f := 4) (p := 31) f84_28 rfl rfl rfl (Or.inl h6) rfl ?_
  refine r_nmR (fun v7 ev7 => ?_)
  refine r_iconst (p := 32) f84_31 rfl (pinD rfl rfl) ?_
  refine le2_gd (fun h7 => ?_)
  refine r_invV (p := 35) f84_32 rfl rfl rfl (Or.inl h7) hd (Nat.le_of_ble_eq_true rfl) rfl rfl rfl (fun _ => rfl) (fun m5 c5 => ?_)
  have hz5 := z_k c5 hz4
  exact le2_refl _
theorem q84_35 {d : Nat} {m : Mem} {a0 a1 : Int} (hd : 0 < d) (hz : TZ m) : le2 (gd (tg m a0 = 5) <| bI (cl (d - 1) 63 [pR a0] m) fun v1 m1 => bI (cl (d - 1) 85 [pI v1] m1) fun v2 m2 => if v2 = 0 then (bI (cl (d - 1) 63 [pR a0] m2) fun v3 m3 => bI (cl (d - 1) 73 [pI v3] m3) fun v4 m4 => if v4 = 0 then (nm (vl m4 a0 4) fun v8 => gd (tg m4 v8 = 8) <| bV (cl (d - 1) 133 [pR v8, pI a1, pI (w32 ((w32 ((vl m4 v8 1) - a1)) - 2))] m4) fun m5 => nw (nx m5) (mal m5 17 2) fun o6 m6 => bV (cl (d - 1) 306 [pR o6, pR (vl m6 a0 4), pI a1] m6) fun m7 => some (.inl (some (pR o6)), m7)) else rn d 84 55 [pR a0, pI a1] [] m4) else rn d 84 55 [pR a0, pI a1] [] m2) (rn d 84 35 [pR a0, pI a1] [] m) := by
  refine r_aln0 (p := 36) f84_35 rfl ?_
  refine le2_gd (fun h1 => ?_)
  refine r_invI (p := 39) f84_36 rfl rfl rfl (Or.inl h1) hd (Nat.le_of_ble_eq_true rfl) rfl rfl rfl (fun _ => rfl) (fun v1 m1 c1 => ?_)
  have hz1 := z_k c1 hz
  refine r_istI (p := 42) f84_39 rfl rfl rfl hd (Nat.le_of_ble_eq_true rfl) rfl rfl rfl (fun _ => rfl) (fun v2 m2 c2 => ?_)
  have hz2 := z_k c2 hz1
  refine r_ifne (t := 55) (p := 45) f84_42 (by decide) rfl rfl ?_ ?_
  · refine r_aln0 (p := 46) f84_45 rfl ?_
    have h2 := k_t1 c1 hz h1 (by decide)
    have h3 := k_t1 c2 hz1 h2 (by decide)
    refine r_invI (p := 49) f84_46 rfl rfl rfl (Or.inl h3) hd (Nat.le_of_ble_eq_true rfl) rfl rfl rfl (fun _ => rfl) (fun v3 m3 c3 => ?_)
    have hz3 := z_k c3 hz2
    refine r_istI (p := 52) f84_49 rfl rfl rfl hd (Nat.le_of_ble_eq_true rfl) rfl rfl rfl (fun _ => rfl) (fun v4 m4 c4 => ?_)
    have hz4 := z_k c4 hz3
    refine r_ifeq (t := 81) (p := 55) f84_52 (by decide) rfl rfl ?_ ?_
    · refine r_aln0 (p := 82) f84_81 rfl ?_
      have h4 := k_t1 c3 hz2 h3 (by decide)
      have h5 := k_t1 c4 hz3 h4 (by decide)
      refine r_gfR (f := 4) (p := 85) f84_82 rfl rfl rfl (Or.inl h5) rfl ?_
      refine r_nmR (fun v8 ev8 => ?_)
      refine r_iln1 (p := 86) f84_85 rfl ?_
      refine r_aln0 (p := 87) f84_86 rfl ?_
      refine r_gfR (f := 4) (p := 90) f84_87 rfl rfl rfl (Or.inl h5) ev8.symm ?_
      refine le2_gd (fun h6 => ?_)
      refine r_gfI (f := 1) (p := 93) f84_90 rfl rfl rfl (Or.inl h6) rfl ?_
      refine r_iln1 (p := 94) f84_93 rfl ?_
      refine r_isub (p := 95) f84_94 rfl ?_
      refine r_iconst (p := 96) f84_95 rfl (pinD rfl rfl) ?_
      refine r_isub (p := 97) f84_96 rfl ?_
      refine r_invV (p := 100) f84_97 rfl rfl rfl (Or.inl h6) hd (Nat.le_of_ble_eq_true rfl) rfl rfl rfl (fun _ => rfl) (fun m5 c5 => ?_)
      have hz5 := z_k c5 hz4
      refine r_new (t1 := 17) (f1 := 2) (p := 103) f84_100 rfl rfl rfl rfl rfl (fun o6 m6 h7 k6 => ?_)
      have hz6 := z_k k6 hz5
      refine r_dup (p := 104) f84_103 rfl rfl ?_
      refine r_aln0 (p := 105) f84_104 rfl ?_
      have h8 := k_t1 c5 hz4 h5 (by decide)
      have h9 := k_t1 k6 hz5 h8 (by decide)
      refine r_gfR (f := 4) (p := 108) f84_105 rfl rfl rfl (Or.inl h9) rfl ?_
      refine r_iln1 (p := 109) f84_108 rfl ?_
      refine r_ispV (p := 112) f84_109 rfl rfl rfl (Or.inl h7) hd (Nat.le_of_ble_eq_true rfl) rfl rfl rfl (fun _ => rfl) (fun m7 c7 => ?_)
      have hz7 := z_k c7 hz6
      exact r_aret f84_112
    · exact le2_refl _
  · exact le2_refl _
theorem q84_55 {d : Nat} {m : Mem} {a0 a1 : Int} (hd : 0 < d) (hz : TZ m) : le2 (gd (tg m a0 = 5) <| nm (vl m a0 4) fun v2 => nm (vl m a0 0) fun v3 => nm (vl m a0 2) fun v4 => gd (tg m v3 = 17103) <| gd ((0 : Int) ≤ v4 ∧ v4 < ln m v3) <| gd (tg m v2 = 8) <| bV (cl (d - 1) 130 [pR v2, pI (vl m v3 v4)] (mst m a0 2 (w32 (v4 + 1)))) fun m1 => rn d 84 35 [pR a0, pI a1] [] m1) (rn d 84 55 [pR a0, pI a1] [] m) := by
  refine r_aln0 (p := 56) f84_55 rfl ?_
  refine le2_gd (fun h1 => ?_)
  refine r_gfR (f := 4) (p := 59) f84_56 rfl rfl rfl (Or.inl h1) rfl ?_
  refine r_nmR (fun v2 ev2 => ?_)
  refine r_aln0 (p := 60) f84_59 rfl ?_
  refine r_gfR (f := 0) (p := 63) f84_60 rfl rfl rfl (Or.inl h1) rfl ?_
  refine r_nmR (fun v3 ev3 => ?_)
  refine r_aln0 (p := 64) f84_63 rfl ?_
  refine r_dup (p := 65) f84_64 rfl rfl ?_
  refine r_gfI (f := 2) (p := 68) f84_65 rfl rfl rfl (Or.inl h1) rfl ?_
  refine r_nmI (fun v4 ev4 => ?_)
  refine r_dup_x1 (p := 69) f84_68 rfl rfl rfl ?_
  refine r_iconst (p := 70) f84_69 rfl (pinD rfl rfl) ?_
  refine r_iadd (p := 71) f84_70 rfl ?_
  refine r_pfI (f := 2) (p := 74) f84_71 rfl rfl rfl (by decide) (by decide) (Or.inl h1) rfl ?_
  refine le2_gd (fun h2 => ?_)
  refine le2_gd (fun h3 => ?_)
  refine r_baload (p := 75) f84_74 rfl (dj1 (fun x => x % 1000 = 103 ∨ x % 1000 = 105) h2 (by decide)) h3 (sk_o (ne_oa (dj1 (fun x => x < 100) h1 (by decide)) (dj1 (fun x => ¬ x < 100) h2 (by decide))).symm) ?_
  refine le2_gd (fun h4 => ?_)
  refine r_invV (p := 78) f84_75 rfl rfl rfl (Or.inl h4) hd (Nat.le_of_ble_eq_true rfl) rfl rfl rfl (fun _ => rfl) (fun m1 c1 => ?_)
  have hz1 := z_k c1 hz
  refine r_goto (p := 35) f84_78 (by decide) rfl ?_
  exact le2_refl _
/-! 85 PathStore$Compiler.letter (I)Z -/
def w85_1 : List UInt8 := [26, 16, 95, 160, 0, 7, 4, 167, 0, 4, 3, 172]
abbrev u85_1 : List UInt8 := w85_1 ++ []
def w85_0 : List UInt8 := [26, 16, 97, 161, 0, 9, 26, 16, 122, 164, 0, 21, 26, 16, 65, 161, 0, 9, 26, 16, 90, 164, 0, 9]
abbrev u85_0 : List UInt8 := w85_0 ++ u85_1
theorem s85_0 : (prog_4_method_5_code).data.toList.drop 0 = u85_0 := by decide +kernel
theorem s85_1 : (prog_4_method_5_code).data.toList.drop 24 = u85_1 := dk_seg s85_0 24 rfl rfl
theorem Fm85 {pc len : Nat} {i : Instr} (h : decode (prog_4_method_5_code) pc = .ok (i, len)) (hl : len = ilen i len) : ft 85 pc = some (5, 4, 0, i, len) := ft_mk rfl h hl
theorem f85_0 : ft 85 0 = some (5, 4, 0, .iload_n 0, 1) := Fm85 (dk_26 (dk_at s85_0 0 rfl rfl)) rfl
theorem f85_1 : ft 85 1 = some (5, 4, 0, .bipush 97, 2) := Fm85 (dk_16 97 (dk_at s85_0 1 rfl rfl)) rfl
theorem f85_3 : ft 85 3 = some (5, 4, 0, .if_icmp .lt 9, 3) := Fm85 (dk_161 0 9 (dk_at s85_0 3 rfl rfl)) rfl
theorem f85_6 : ft 85 6 = some (5, 4, 0, .iload_n 0, 1) := Fm85 (dk_26 (dk_at s85_0 6 rfl rfl)) rfl
theorem f85_7 : ft 85 7 = some (5, 4, 0, .bipush 122, 2) := Fm85 (dk_16 122 (dk_at s85_0 7 rfl rfl)) rfl
theorem f85_9 : ft 85 9 = some (5, 4, 0, .if_icmp .le 21, 3) := Fm85 (dk_164 0 21 (dk_at s85_0 9 rfl rfl)) rfl
theorem f85_12 : ft 85 12 = some (5, 4, 0, .iload_n 0, 1) := Fm85 (dk_26 (dk_at s85_0 12 rfl rfl)) rfl
theorem f85_13 : ft 85 13 = some (5, 4, 0, .bipush 65, 2) := Fm85 (dk_16 65 (dk_at s85_0 13 rfl rfl)) rfl
theorem f85_15 : ft 85 15 = some (5, 4, 0, .if_icmp .lt 9, 3) := Fm85 (dk_161 0 9 (dk_at s85_0 15 rfl rfl)) rfl
theorem f85_18 : ft 85 18 = some (5, 4, 0, .iload_n 0, 1) := Fm85 (dk_26 (dk_at s85_0 18 rfl rfl)) rfl
theorem f85_19 : ft 85 19 = some (5, 4, 0, .bipush 90, 2) := Fm85 (dk_16 90 (dk_at s85_0 19 rfl rfl)) rfl
theorem f85_21 : ft 85 21 = some (5, 4, 0, .if_icmp .le 9, 3) := Fm85 (dk_164 0 9 (dk_at s85_0 21 rfl rfl)) rfl
theorem f85_24 : ft 85 24 = some (5, 4, 0, .iload_n 0, 1) := Fm85 (dk_26 (dk_at s85_1 0 rfl rfl)) rfl
theorem f85_25 : ft 85 25 = some (5, 4, 0, .bipush 95, 2) := Fm85 (dk_16 95 (dk_at s85_1 1 rfl rfl)) rfl
theorem f85_27 : ft 85 27 = some (5, 4, 0, .if_icmp .ne 7, 3) := Fm85 (dk_160 0 7 (dk_at s85_1 3 rfl rfl)) rfl
theorem f85_30 : ft 85 30 = some (5, 4, 0, .iconst 1, 1) := Fm85 (dk_4 (dk_at s85_1 6 rfl rfl)) rfl
theorem f85_31 : ft 85 31 = some (5, 4, 0, .goto 4, 3) := Fm85 (dk_167 0 4 (dk_at s85_1 7 rfl rfl)) rfl
theorem f85_34 : ft 85 34 = some (5, 4, 0, .iconst 0, 1) := Fm85 (dk_3 (dk_at s85_1 10 rfl rfl)) rfl
theorem f85_35 : ft 85 35 = some (5, 4, 0, .ireturn, 1) := Fm85 (dk_172 (dk_at s85_1 11 rfl rfl)) rfl
theorem q85 {d : Nat} {m : Mem} {a0 : Int} (hz : TZ m) : le2 (if a0 < 97 then (rn d 85 12 [pI a0] [] m) else if 122 < a0 then (rn d 85 12 [pI a0] [] m) else some (.inl (some (pI 1)), m)) (cl d 85 [pI a0] m) := by
  refine q_in (n := 1) (L := [pI a0]) rfl rfl rfl ?_
  refine r_iln0 (p := 1) f85_0 rfl ?_
  refine r_bipush (p := 3) f85_1 rfl (pinD rfl rfl) ?_
  refine r_iclt (t := 12) (p := 6) f85_3 (by decide) rfl rfl ?_ ?_
  · exact le2_refl _
  · refine r_iln0 (p := 7) f85_6 rfl ?_
    refine r_bipush (p := 9) f85_7 rfl (pinD rfl rfl) ?_
    refine r_icle (t := 30) (p := 12) f85_9 (by decide) rfl rfl ?_ ?_
    · exact le2_refl _
    · refine r_iconst (p := 31) f85_30 rfl (pinD rfl rfl) ?_
      refine r_goto (p := 35) f85_31 (by decide) rfl ?_
      exact r_iret4 f85_35 (by decide)
theorem q85_12 {d : Nat} {m : Mem} {a0 : Int} (hz : TZ m) : le2 (if a0 < 65 then (if a0 = 95 then (some (.inl (some (pI 1)), m)) else some (.inl (some (pI 0)), m)) else if 90 < a0 then (if a0 = 95 then (some (.inl (some (pI 1)), m)) else some (.inl (some (pI 0)), m)) else some (.inl (some (pI 1)), m)) (rn d 85 12 [pI a0] [] m) := by
  refine r_iln0 (p := 13) f85_12 rfl ?_
  refine r_bipush (p := 15) f85_13 rfl (pinD rfl rfl) ?_
  refine r_iclt (t := 24) (p := 18) f85_15 (by decide) rfl rfl ?_ ?_
  · refine r_iln0 (p := 25) f85_24 rfl ?_
    refine r_bipush (p := 27) f85_25 rfl (pinD rfl rfl) ?_
    refine r_icne (t := 34) (p := 30) f85_27 (by decide) rfl rfl ?_ ?_
    · refine r_iconst (p := 31) f85_30 rfl (pinD rfl rfl) ?_
      refine r_goto (p := 35) f85_31 (by decide) rfl ?_
      exact r_iret4 f85_35 (by decide)
    · refine r_iconst (p := 35) f85_34 rfl (pinD rfl rfl) ?_
      exact r_iret4 f85_35 (by decide)
  · refine r_iln0 (p := 19) f85_18 rfl ?_
    refine r_bipush (p := 21) f85_19 rfl (pinD rfl rfl) ?_
    refine r_icle (t := 30) (p := 24) f85_21 (by decide) rfl rfl ?_ ?_
    · refine r_iln0 (p := 25) f85_24 rfl ?_
      refine r_bipush (p := 27) f85_25 rfl (pinD rfl rfl) ?_
      refine r_icne (t := 34) (p := 30) f85_27 (by decide) rfl rfl ?_ ?_
      · refine r_iconst (p := 31) f85_30 rfl (pinD rfl rfl) ?_
        refine r_goto (p := 35) f85_31 (by decide) rfl ?_
        exact r_iret4 f85_35 (by decide)
      · refine r_iconst (p := 35) f85_34 rfl (pinD rfl rfl) ?_
        exact r_iret4 f85_35 (by decide)
    · refine r_iconst (p := 31) f85_30 rfl (pinD rfl rfl) ?_
      refine r_goto (p := 35) f85_31 (by decide) rfl ?_
      exact r_iret4 f85_35 (by decide)
/-! 86 PathStore$Compiler.open ()V -/
def w86_1 : List UInt8 := [96, 181, 0, 24, 42, 89, 180, 0, 40, 4, 96, 181, 0, 40, 177]
abbrev u86_1 : List UInt8 := w86_1 ++ []
def w86_0 : List UInt8 := [42, 42, 180, 0, 24, 16, 16, 162, 0, 7, 4, 167, 0, 4, 3, 182, 0, 32, 42, 89, 180, 0, 24, 4]
abbrev u86_0 : List UInt8 := w86_0 ++ u86_1
theorem s86_0 : (prog_4_method_3_code).data.toList.drop 0 = u86_0 := by decide +kernel
theorem s86_1 : (prog_4_method_3_code).data.toList.drop 24 = u86_1 := dk_seg s86_0 24 rfl rfl
theorem Fm86 {pc len : Nat} {i : Instr} (h : decode (prog_4_method_3_code) pc = .ok (i, len)) (hl : len = ilen i len) : ft 86 pc = some (5, 0, 0, i, len) := ft_mk rfl h hl
theorem f86_0 : ft 86 0 = some (5, 0, 0, .aload_n 0, 1) := Fm86 (dk_42 (dk_at s86_0 0 rfl rfl)) rfl
theorem f86_1 : ft 86 1 = some (5, 0, 0, .aload_n 0, 1) := Fm86 (dk_42 (dk_at s86_0 1 rfl rfl)) rfl
theorem f86_2 : ft 86 2 = some (5, 0, 0, .getfield 24, 3) := Fm86 (dk_180 0 24 (dk_at s86_0 2 rfl rfl)) rfl
theorem f86_5 : ft 86 5 = some (5, 0, 0, .bipush 16, 2) := Fm86 (dk_16 16 (dk_at s86_0 5 rfl rfl)) rfl
theorem f86_7 : ft 86 7 = some (5, 0, 0, .if_icmp .ge 7, 3) := Fm86 (dk_162 0 7 (dk_at s86_0 7 rfl rfl)) rfl
theorem f86_10 : ft 86 10 = some (5, 0, 0, .iconst 1, 1) := Fm86 (dk_4 (dk_at s86_0 10 rfl rfl)) rfl
theorem f86_11 : ft 86 11 = some (5, 0, 0, .goto 4, 3) := Fm86 (dk_167 0 4 (dk_at s86_0 11 rfl rfl)) rfl
theorem f86_14 : ft 86 14 = some (5, 0, 0, .iconst 0, 1) := Fm86 (dk_3 (dk_at s86_0 14 rfl rfl)) rfl
theorem f86_15 : ft 86 15 = some (5, 0, 0, .invokevirtual 32, 3) := Fm86 (dk_182 0 32 (dk_at s86_0 15 rfl rfl)) rfl
theorem f86_18 : ft 86 18 = some (5, 0, 0, .aload_n 0, 1) := Fm86 (dk_42 (dk_at s86_0 18 rfl rfl)) rfl
theorem f86_19 : ft 86 19 = some (5, 0, 0, .dup, 1) := Fm86 (dk_89 (dk_at s86_0 19 rfl rfl)) rfl
theorem f86_20 : ft 86 20 = some (5, 0, 0, .getfield 24, 3) := Fm86 (dk_180 0 24 (dk_at s86_0 20 rfl rfl)) rfl
theorem f86_23 : ft 86 23 = some (5, 0, 0, .iconst 1, 1) := Fm86 (dk_4 (dk_at s86_0 23 rfl rfl)) rfl
theorem f86_24 : ft 86 24 = some (5, 0, 0, .iadd, 1) := Fm86 (dk_96 (dk_at s86_1 0 rfl rfl)) rfl
theorem f86_25 : ft 86 25 = some (5, 0, 0, .putfield 24, 3) := Fm86 (dk_181 0 24 (dk_at s86_1 1 rfl rfl)) rfl
theorem f86_28 : ft 86 28 = some (5, 0, 0, .aload_n 0, 1) := Fm86 (dk_42 (dk_at s86_1 4 rfl rfl)) rfl
theorem f86_29 : ft 86 29 = some (5, 0, 0, .dup, 1) := Fm86 (dk_89 (dk_at s86_1 5 rfl rfl)) rfl
theorem f86_30 : ft 86 30 = some (5, 0, 0, .getfield 40, 3) := Fm86 (dk_180 0 40 (dk_at s86_1 6 rfl rfl)) rfl
theorem f86_33 : ft 86 33 = some (5, 0, 0, .iconst 1, 1) := Fm86 (dk_4 (dk_at s86_1 9 rfl rfl)) rfl
theorem f86_34 : ft 86 34 = some (5, 0, 0, .iadd, 1) := Fm86 (dk_96 (dk_at s86_1 10 rfl rfl)) rfl
theorem f86_35 : ft 86 35 = some (5, 0, 0, .putfield 40, 3) := Fm86 (dk_181 0 40 (dk_at s86_1 11 rfl rfl)) rfl
theorem f86_38 : ft 86 38 = some (5, 0, 0, .return_, 1) := Fm86 (dk_177 (dk_at s86_1 14 rfl rfl)) rfl
theorem q86 {d : Nat} {m : Mem} {a0 : Int} (hz : TZ m) : le2 (gd (tg m a0 = 5) <| if (vl m a0 5) < 16 then (rn d 86 15 [pR a0] [pI 1, pR a0] m) else rn d 86 15 [pR a0] [pI 0, pR a0] m) (cl d 86 [pR a0] m) := by
  refine q_in (n := 1) (L := [pR a0]) rfl rfl rfl ?_
  refine r_aln0 (p := 1) f86_0 rfl ?_
  refine r_aln0 (p := 2) f86_1 rfl ?_
  refine le2_gd (fun h1 => ?_)
  refine r_gfI (f := 5) (p := 5) f86_2 rfl rfl rfl (Or.inl h1) rfl ?_
  refine r_bipush (p := 7) f86_5 rfl (pinD rfl rfl) ?_
  refine r_icge (t := 14) (p := 10) f86_7 (by decide) rfl rfl ?_ ?_
  · refine r_iconst (p := 11) f86_10 rfl (pinD rfl rfl) ?_
    refine r_goto (p := 15) f86_11 (by decide) rfl ?_
    exact le2_refl _
  · refine r_iconst (p := 15) f86_14 rfl (pinD rfl rfl) ?_
    exact le2_refl _
theorem q86_15 {d : Nat} {m : Mem} {a0 s1 s0 : Int} (hd : 0 < d) (hz : TZ m) : le2 (gd (tg m s0 = 5) <| bV (cl (d - 1) 66 [pR s0, pI s1] m) fun m1 => gd (tg m1 a0 = 5) <| some (.inl none, (mst (mst m1 a0 5 (w32 ((vl m1 a0 5) + 1))) a0 2 (w32 ((vl m1 a0 2) + 1))))) (rn d 86 15 [pR a0] [pI s1, pR s0] m) := by
  refine le2_gd (fun h1 => ?_)
  refine r_invV (p := 18) f86_15 rfl rfl rfl (Or.inl h1) hd (Nat.le_of_ble_eq_true rfl) rfl rfl rfl (fun _ => rfl) (fun m1 c1 => ?_)
  have hz1 := z_k c1 hz
  refine r_aln0 (p := 19) f86_18 rfl ?_
  refine r_dup (p := 20) f86_19 rfl rfl ?_
  refine le2_gd (fun h2 => ?_)
  refine r_gfI (f := 5) (p := 23) f86_20 rfl rfl rfl (Or.inl h2) rfl ?_
  refine r_iconst (p := 24) f86_23 rfl (pinD rfl rfl) ?_
  refine r_iadd (p := 25) f86_24 rfl ?_
  refine r_pfI (f := 5) (p := 28) f86_25 rfl rfl rfl (by decide) (by decide) (Or.inl h2) rfl ?_
  refine r_aln0 (p := 29) f86_28 rfl ?_
  refine r_dup (p := 30) f86_29 rfl rfl ?_
  refine r_gfI (f := 2) (p := 33) f86_30 rfl rfl rfl (Or.inl h2) (sk_f (by decide)) ?_
  refine r_iconst (p := 34) f86_33 rfl (pinD rfl rfl) ?_
  refine r_iadd (p := 35) f86_34 rfl ?_
  refine r_pfI (f := 2) (p := 38) f86_35 rfl rfl rfl (by decide) (by decide) (Or.inl h2) rfl ?_
  exact r_ret f86_38
/-! 87 PathStore$Compiler.quotedName ()LPathStore$Name; -/
def w87_1 : List UInt8 := [42, 180, 0, 20, 27, 183, 0, 139, 176]
abbrev u87_1 : List UInt8 := w87_1 ++ []
def w87_0 : List UInt8 := [42, 180, 0, 20, 180, 0, 124, 60, 42, 42, 180, 0, 20, 42, 182, 0, 28, 182, 0, 142, 187, 0, 97, 89]
abbrev u87_0 : List UInt8 := w87_0 ++ u87_1
theorem s87_0 : (prog_4_method_10_code).data.toList.drop 0 = u87_0 := by decide +kernel
theorem s87_1 : (prog_4_method_10_code).data.toList.drop 24 = u87_1 := dk_seg s87_0 24 rfl rfl
theorem Fm87 {pc len : Nat} {i : Instr} (h : decode (prog_4_method_10_code) pc = .ok (i, len)) (hl : len = ilen i len) : ft 87 pc = some (5, 3, 0, i, len) := ft_mk rfl h hl
theorem f87_0 : ft 87 0 = some (5, 3, 0, .aload_n 0, 1) := Fm87 (dk_42 (dk_at s87_0 0 rfl rfl)) rfl
theorem f87_1 : ft 87 1 = some (5, 3, 0, .getfield 20, 3) := Fm87 (dk_180 0 20 (dk_at s87_0 1 rfl rfl)) rfl
theorem f87_4 : ft 87 4 = some (5, 3, 0, .getfield 124, 3) := Fm87 (dk_180 0 124 (dk_at s87_0 4 rfl rfl)) rfl
theorem f87_7 : ft 87 7 = some (5, 3, 0, .istore_n 1, 1) := Fm87 (dk_60 (dk_at s87_0 7 rfl rfl)) rfl
theorem f87_8 : ft 87 8 = some (5, 3, 0, .aload_n 0, 1) := Fm87 (dk_42 (dk_at s87_0 8 rfl rfl)) rfl
theorem f87_9 : ft 87 9 = some (5, 3, 0, .aload_n 0, 1) := Fm87 (dk_42 (dk_at s87_0 9 rfl rfl)) rfl
theorem f87_10 : ft 87 10 = some (5, 3, 0, .getfield 20, 3) := Fm87 (dk_180 0 20 (dk_at s87_0 10 rfl rfl)) rfl
theorem f87_13 : ft 87 13 = some (5, 3, 0, .aload_n 0, 1) := Fm87 (dk_42 (dk_at s87_0 13 rfl rfl)) rfl
theorem f87_14 : ft 87 14 = some (5, 3, 0, .invokevirtual 28, 3) := Fm87 (dk_182 0 28 (dk_at s87_0 14 rfl rfl)) rfl
theorem f87_17 : ft 87 17 = some (5, 3, 0, .invokevirtual 142, 3) := Fm87 (dk_182 0 142 (dk_at s87_0 17 rfl rfl)) rfl
theorem f87_20 : ft 87 20 = some (5, 3, 0, .new 97, 3) := Fm87 (dk_187 0 97 (dk_at s87_0 20 rfl rfl)) rfl
theorem f87_23 : ft 87 23 = some (5, 3, 0, .dup, 1) := Fm87 (dk_89 (dk_at s87_0 23 rfl rfl)) rfl
theorem f87_24 : ft 87 24 = some (5, 3, 0, .aload_n 0, 1) := Fm87 (dk_42 (dk_at s87_1 0 rfl rfl)) rfl
theorem f87_25 : ft 87 25 = some (5, 3, 0, .getfield 20, 3) := Fm87 (dk_180 0 20 (dk_at s87_1 1 rfl rfl)) rfl
theorem f87_28 : ft 87 28 = some (5, 3, 0, .iload_n 1, 1) := Fm87 (dk_27 (dk_at s87_1 4 rfl rfl)) rfl
theorem f87_29 : ft 87 29 = some (5, 3, 0, .invokespecial 139, 3) := Fm87 (dk_183 0 139 (dk_at s87_1 5 rfl rfl)) rfl
theorem f87_32 : ft 87 32 = some (5, 3, 0, .areturn, 1) := Fm87 (dk_176 (dk_at s87_1 8 rfl rfl)) rfl
theorem q87 {d : Nat} {m : Mem} {a0 : Int} (hd : 0 < d) (hz : TZ m) : le2 (gd (tg m a0 = 5) <| nm (vl m a0 4) fun v5 => gd (tg m v5 = 8) <| bI (cl (d - 1) 63 [pR a0] m) fun v1 m1 => bV (cl (d - 1) 68 [pR a0, pR v5, pI v1] m1) fun m2 => nw (nx m2) (mal m2 17 2) fun o3 m3 => bV (cl (d - 1) 306 [pR o3, pR (vl m3 a0 4), pI (vl m v5 1)] m3) fun m4 => some (.inl (some (pR o3)), m4)) (cl d 87 [pR a0] m) := by
  refine q_in (n := 2) (L := [pR a0, pU]) rfl rfl rfl ?_
  refine r_aln0 (p := 1) f87_0 rfl ?_
  refine le2_gd (fun h1 => ?_)
  refine r_gfR (f := 4) (p := 4) f87_1 rfl rfl rfl (Or.inl h1) rfl ?_
  refine r_nmR (fun v5 ev5 => ?_)
  refine le2_gd (fun h2 => ?_)
  refine r_gfI (f := 1) (p := 7) f87_4 rfl rfl rfl (Or.inl h2) rfl ?_
  refine r_isn1 (p := 8) f87_7 rfl rfl ?_
  refine r_aln0 (p := 9) f87_8 rfl ?_
  refine r_aln0 (p := 10) f87_9 rfl ?_
  refine r_gfR (f := 4) (p := 13) f87_10 rfl rfl rfl (Or.inl h1) ev5.symm ?_
  refine r_aln0 (p := 14) f87_13 rfl ?_
  refine r_invI (p := 17) f87_14 rfl rfl rfl (Or.inl h1) hd (Nat.le_of_ble_eq_true rfl) rfl rfl rfl (fun _ => rfl) (fun v1 m1 c1 => ?_)
  have hz1 := z_k c1 hz
  have h3 := k_t1 c1 hz h1 (by decide)
  refine r_invV (p := 20) f87_17 rfl rfl rfl (Or.inl h3) hd (Nat.le_of_ble_eq_true rfl) rfl rfl rfl (fun _ => rfl) (fun m2 c2 => ?_)
  have hz2 := z_k c2 hz1
  refine r_new (t1 := 17) (f1 := 2) (p := 23) f87_20 rfl rfl rfl rfl rfl (fun o3 m3 h4 k3 => ?_)
  have hz3 := z_k k3 hz2
  refine r_dup (p := 24) f87_23 rfl rfl ?_
  refine r_aln0 (p := 25) f87_24 rfl ?_
  have h5 := k_t1 c2 hz1 h3 (by decide)
  have h6 := k_t1 k3 hz2 h5 (by decide)
  refine r_gfR (f := 4) (p := 28) f87_25 rfl rfl rfl (Or.inl h6) rfl ?_
  refine r_iln1 (p := 29) f87_28 rfl ?_
  refine r_ispV (p := 32) f87_29 rfl rfl rfl (Or.inl h4) hd (Nat.le_of_ble_eq_true rfl) rfl rfl rfl (fun _ => rfl) (fun m4 c4 => ?_)
  have hz4 := z_k c4 hz3
  exact r_aret f87_32
/-! 88 PathStore$Compiler.integer ()J -/
def w88_6 : List UInt8 := [158, 0, 8, 42, 27, 182, 0, 49, 28, 153, 0, 8, 33, 117, 167, 0, 4, 33, 173]
abbrev u88_6 : List UInt8 := w88_6 ++ []
def w88_5 : List UInt8 := [184, 0, 173, 66, 42, 89, 180, 0, 40, 4, 96, 181, 0, 40, 167, 255, 214, 33, 20, 0, 179, 148]
abbrev u88_5 : List UInt8 := w88_5 ++ u88_6
def w88_4 : List UInt8 := [184, 0, 128, 153, 0, 38, 20, 0, 167, 33, 105, 42, 182, 0, 28, 133, 97, 20, 0, 169, 101, 20, 0, 171]
abbrev u88_4 : List UInt8 := w88_4 ++ u88_5
def w88_3 : List UInt8 := [16, 48, 160, 0, 15, 42, 89, 180, 0, 40, 4, 96, 181, 0, 40, 9, 173, 9, 66, 42, 182, 0, 28]
abbrev u88_3 : List UInt8 := w88_3 ++ u88_4
def w88_2 : List UInt8 := [153, 0, 12, 42, 182, 0, 28, 16, 48, 159, 0, 7, 4, 167, 0, 4, 3, 182, 0, 32, 42, 182, 0, 28]
abbrev u88_2 : List UInt8 := w88_2 ++ u88_3
def w88_1 : List UInt8 := [42, 89, 180, 0, 40, 4, 96, 181, 0, 40, 42, 42, 182, 0, 28, 184, 0, 128, 153, 0, 20, 28]
abbrev u88_1 : List UInt8 := w88_1 ++ u88_2
def w88_0 : List UInt8 := [42, 180, 0, 40, 60, 42, 182, 0, 28, 16, 45, 160, 0, 7, 4, 167, 0, 4, 3, 61, 28, 153, 0, 13]
abbrev u88_0 : List UInt8 := w88_0 ++ u88_1
theorem s88_0 : (prog_4_method_14_code).data.toList.drop 0 = u88_0 := by decide +kernel
theorem s88_1 : (prog_4_method_14_code).data.toList.drop 24 = u88_1 := dk_seg s88_0 24 rfl rfl
theorem s88_2 : (prog_4_method_14_code).data.toList.drop 46 = u88_2 := dk_seg s88_1 22 rfl rfl
theorem s88_3 : (prog_4_method_14_code).data.toList.drop 70 = u88_3 := dk_seg s88_2 24 rfl rfl
theorem s88_4 : (prog_4_method_14_code).data.toList.drop 93 = u88_4 := dk_seg s88_3 23 rfl rfl
theorem s88_5 : (prog_4_method_14_code).data.toList.drop 117 = u88_5 := dk_seg s88_4 24 rfl rfl
theorem s88_6 : (prog_4_method_14_code).data.toList.drop 139 = u88_6 := dk_seg s88_5 22 rfl rfl
theorem Fm88 {pc len : Nat} {i : Instr} (h : decode (prog_4_method_14_code) pc = .ok (i, len)) (hl : len = ilen i len) : ft 88 pc = some (5, 2, 0, i, len) := ft_mk rfl h hl
theorem f88_0 : ft 88 0 = some (5, 2, 0, .aload_n 0, 1) := Fm88 (dk_42 (dk_at s88_0 0 rfl rfl)) rfl
theorem f88_1 : ft 88 1 = some (5, 2, 0, .getfield 40, 3) := Fm88 (dk_180 0 40 (dk_at s88_0 1 rfl rfl)) rfl
theorem f88_4 : ft 88 4 = some (5, 2, 0, .istore_n 1, 1) := Fm88 (dk_60 (dk_at s88_0 4 rfl rfl)) rfl
theorem f88_5 : ft 88 5 = some (5, 2, 0, .aload_n 0, 1) := Fm88 (dk_42 (dk_at s88_0 5 rfl rfl)) rfl
theorem f88_6 : ft 88 6 = some (5, 2, 0, .invokevirtual 28, 3) := Fm88 (dk_182 0 28 (dk_at s88_0 6 rfl rfl)) rfl
theorem f88_9 : ft 88 9 = some (5, 2, 0, .bipush 45, 2) := Fm88 (dk_16 45 (dk_at s88_0 9 rfl rfl)) rfl
theorem f88_11 : ft 88 11 = some (5, 2, 0, .if_icmp .ne 7, 3) := Fm88 (dk_160 0 7 (dk_at s88_0 11 rfl rfl)) rfl
theorem f88_14 : ft 88 14 = some (5, 2, 0, .iconst 1, 1) := Fm88 (dk_4 (dk_at s88_0 14 rfl rfl)) rfl
theorem f88_15 : ft 88 15 = some (5, 2, 0, .goto 4, 3) := Fm88 (dk_167 0 4 (dk_at s88_0 15 rfl rfl)) rfl
theorem f88_18 : ft 88 18 = some (5, 2, 0, .iconst 0, 1) := Fm88 (dk_3 (dk_at s88_0 18 rfl rfl)) rfl
theorem f88_19 : ft 88 19 = some (5, 2, 0, .istore_n 2, 1) := Fm88 (dk_61 (dk_at s88_0 19 rfl rfl)) rfl
theorem f88_20 : ft 88 20 = some (5, 2, 0, .iload_n 2, 1) := Fm88 (dk_28 (dk_at s88_0 20 rfl rfl)) rfl
theorem f88_21 : ft 88 21 = some (5, 2, 0, .ifCond .eq 13, 3) := Fm88 (dk_153 0 13 (dk_at s88_0 21 rfl rfl)) rfl
theorem f88_24 : ft 88 24 = some (5, 2, 0, .aload_n 0, 1) := Fm88 (dk_42 (dk_at s88_1 0 rfl rfl)) rfl
theorem f88_25 : ft 88 25 = some (5, 2, 0, .dup, 1) := Fm88 (dk_89 (dk_at s88_1 1 rfl rfl)) rfl
theorem f88_26 : ft 88 26 = some (5, 2, 0, .getfield 40, 3) := Fm88 (dk_180 0 40 (dk_at s88_1 2 rfl rfl)) rfl
theorem f88_29 : ft 88 29 = some (5, 2, 0, .iconst 1, 1) := Fm88 (dk_4 (dk_at s88_1 5 rfl rfl)) rfl
theorem f88_30 : ft 88 30 = some (5, 2, 0, .iadd, 1) := Fm88 (dk_96 (dk_at s88_1 6 rfl rfl)) rfl
theorem f88_31 : ft 88 31 = some (5, 2, 0, .putfield 40, 3) := Fm88 (dk_181 0 40 (dk_at s88_1 7 rfl rfl)) rfl
theorem f88_34 : ft 88 34 = some (5, 2, 0, .aload_n 0, 1) := Fm88 (dk_42 (dk_at s88_1 10 rfl rfl)) rfl
theorem f88_35 : ft 88 35 = some (5, 2, 0, .aload_n 0, 1) := Fm88 (dk_42 (dk_at s88_1 11 rfl rfl)) rfl
theorem f88_36 : ft 88 36 = some (5, 2, 0, .invokevirtual 28, 3) := Fm88 (dk_182 0 28 (dk_at s88_1 12 rfl rfl)) rfl
theorem f88_39 : ft 88 39 = some (5, 2, 0, .invokestatic 128, 3) := Fm88 (dk_184 0 128 (dk_at s88_1 15 rfl rfl)) rfl
theorem f88_42 : ft 88 42 = some (5, 2, 0, .ifCond .eq 20, 3) := Fm88 (dk_153 0 20 (dk_at s88_1 18 rfl rfl)) rfl
theorem f88_45 : ft 88 45 = some (5, 2, 0, .iload_n 2, 1) := Fm88 (dk_28 (dk_at s88_1 21 rfl rfl)) rfl
theorem f88_46 : ft 88 46 = some (5, 2, 0, .ifCond .eq 12, 3) := Fm88 (dk_153 0 12 (dk_at s88_2 0 rfl rfl)) rfl
theorem f88_49 : ft 88 49 = some (5, 2, 0, .aload_n 0, 1) := Fm88 (dk_42 (dk_at s88_2 3 rfl rfl)) rfl
theorem f88_50 : ft 88 50 = some (5, 2, 0, .invokevirtual 28, 3) := Fm88 (dk_182 0 28 (dk_at s88_2 4 rfl rfl)) rfl
theorem f88_53 : ft 88 53 = some (5, 2, 0, .bipush 48, 2) := Fm88 (dk_16 48 (dk_at s88_2 7 rfl rfl)) rfl
theorem f88_55 : ft 88 55 = some (5, 2, 0, .if_icmp .eq 7, 3) := Fm88 (dk_159 0 7 (dk_at s88_2 9 rfl rfl)) rfl
theorem f88_58 : ft 88 58 = some (5, 2, 0, .iconst 1, 1) := Fm88 (dk_4 (dk_at s88_2 12 rfl rfl)) rfl
theorem f88_59 : ft 88 59 = some (5, 2, 0, .goto 4, 3) := Fm88 (dk_167 0 4 (dk_at s88_2 13 rfl rfl)) rfl
theorem f88_62 : ft 88 62 = some (5, 2, 0, .iconst 0, 1) := Fm88 (dk_3 (dk_at s88_2 16 rfl rfl)) rfl
theorem f88_63 : ft 88 63 = some (5, 2, 0, .invokevirtual 32, 3) := Fm88 (dk_182 0 32 (dk_at s88_2 17 rfl rfl)) rfl
theorem f88_66 : ft 88 66 = some (5, 2, 0, .aload_n 0, 1) := Fm88 (dk_42 (dk_at s88_2 20 rfl rfl)) rfl
theorem f88_67 : ft 88 67 = some (5, 2, 0, .invokevirtual 28, 3) := Fm88 (dk_182 0 28 (dk_at s88_2 21 rfl rfl)) rfl
theorem f88_70 : ft 88 70 = some (5, 2, 0, .bipush 48, 2) := Fm88 (dk_16 48 (dk_at s88_3 0 rfl rfl)) rfl
theorem f88_72 : ft 88 72 = some (5, 2, 0, .if_icmp .ne 15, 3) := Fm88 (dk_160 0 15 (dk_at s88_3 2 rfl rfl)) rfl
theorem f88_75 : ft 88 75 = some (5, 2, 0, .aload_n 0, 1) := Fm88 (dk_42 (dk_at s88_3 5 rfl rfl)) rfl
theorem f88_76 : ft 88 76 = some (5, 2, 0, .dup, 1) := Fm88 (dk_89 (dk_at s88_3 6 rfl rfl)) rfl
theorem f88_77 : ft 88 77 = some (5, 2, 0, .getfield 40, 3) := Fm88 (dk_180 0 40 (dk_at s88_3 7 rfl rfl)) rfl
theorem f88_80 : ft 88 80 = some (5, 2, 0, .iconst 1, 1) := Fm88 (dk_4 (dk_at s88_3 10 rfl rfl)) rfl
theorem f88_81 : ft 88 81 = some (5, 2, 0, .iadd, 1) := Fm88 (dk_96 (dk_at s88_3 11 rfl rfl)) rfl
theorem f88_82 : ft 88 82 = some (5, 2, 0, .putfield 40, 3) := Fm88 (dk_181 0 40 (dk_at s88_3 12 rfl rfl)) rfl
theorem f88_85 : ft 88 85 = some (5, 2, 0, .lconst 0, 1) := Fm88 (dk_9 (dk_at s88_3 15 rfl rfl)) rfl
theorem f88_86 : ft 88 86 = some (5, 2, 0, .lreturn, 1) := Fm88 (dk_173 (dk_at s88_3 16 rfl rfl)) rfl
theorem f88_87 : ft 88 87 = some (5, 2, 0, .lconst 0, 1) := Fm88 (dk_9 (dk_at s88_3 17 rfl rfl)) rfl
theorem f88_88 : ft 88 88 = some (5, 2, 0, .lstore_n 3, 1) := Fm88 (dk_66 (dk_at s88_3 18 rfl rfl)) rfl
theorem f88_89 : ft 88 89 = some (5, 2, 0, .aload_n 0, 1) := Fm88 (dk_42 (dk_at s88_3 19 rfl rfl)) rfl
theorem f88_90 : ft 88 90 = some (5, 2, 0, .invokevirtual 28, 3) := Fm88 (dk_182 0 28 (dk_at s88_3 20 rfl rfl)) rfl
theorem f88_93 : ft 88 93 = some (5, 2, 0, .invokestatic 128, 3) := Fm88 (dk_184 0 128 (dk_at s88_4 0 rfl rfl)) rfl
theorem f88_96 : ft 88 96 = some (5, 2, 0, .ifCond .eq 38, 3) := Fm88 (dk_153 0 38 (dk_at s88_4 3 rfl rfl)) rfl
theorem f88_99 : ft 88 99 = some (5, 2, 0, .ldc2_w 167, 3) := Fm88 (dk_20 0 167 (dk_at s88_4 6 rfl rfl)) rfl
theorem f88_102 : ft 88 102 = some (5, 2, 0, .lload_n 3, 1) := Fm88 (dk_33 (dk_at s88_4 9 rfl rfl)) rfl
theorem f88_103 : ft 88 103 = some (5, 2, 0, .lmul, 1) := Fm88 (dk_105 (dk_at s88_4 10 rfl rfl)) rfl
theorem f88_104 : ft 88 104 = some (5, 2, 0, .aload_n 0, 1) := Fm88 (dk_42 (dk_at s88_4 11 rfl rfl)) rfl
theorem f88_105 : ft 88 105 = some (5, 2, 0, .invokevirtual 28, 3) := Fm88 (dk_182 0 28 (dk_at s88_4 12 rfl rfl)) rfl
theorem f88_108 : ft 88 108 = some (5, 2, 0, .i2l, 1) := Fm88 (dk_133 (dk_at s88_4 15 rfl rfl)) rfl
theorem f88_109 : ft 88 109 = some (5, 2, 0, .ladd, 1) := Fm88 (dk_97 (dk_at s88_4 16 rfl rfl)) rfl
theorem f88_110 : ft 88 110 = some (5, 2, 0, .ldc2_w 169, 3) := Fm88 (dk_20 0 169 (dk_at s88_4 17 rfl rfl)) rfl
theorem f88_113 : ft 88 113 = some (5, 2, 0, .lsub, 1) := Fm88 (dk_101 (dk_at s88_4 20 rfl rfl)) rfl
theorem f88_114 : ft 88 114 = some (5, 2, 0, .ldc2_w 171, 3) := Fm88 (dk_20 0 171 (dk_at s88_4 21 rfl rfl)) rfl
theorem f88_117 : ft 88 117 = some (5, 2, 0, .invokestatic 173, 3) := Fm88 (dk_184 0 173 (dk_at s88_5 0 rfl rfl)) rfl
theorem f88_120 : ft 88 120 = some (5, 2, 0, .lstore_n 3, 1) := Fm88 (dk_66 (dk_at s88_5 3 rfl rfl)) rfl
theorem f88_121 : ft 88 121 = some (5, 2, 0, .aload_n 0, 1) := Fm88 (dk_42 (dk_at s88_5 4 rfl rfl)) rfl
theorem f88_122 : ft 88 122 = some (5, 2, 0, .dup, 1) := Fm88 (dk_89 (dk_at s88_5 5 rfl rfl)) rfl
theorem f88_123 : ft 88 123 = some (5, 2, 0, .getfield 40, 3) := Fm88 (dk_180 0 40 (dk_at s88_5 6 rfl rfl)) rfl
theorem f88_126 : ft 88 126 = some (5, 2, 0, .iconst 1, 1) := Fm88 (dk_4 (dk_at s88_5 9 rfl rfl)) rfl
theorem f88_127 : ft 88 127 = some (5, 2, 0, .iadd, 1) := Fm88 (dk_96 (dk_at s88_5 10 rfl rfl)) rfl
theorem f88_128 : ft 88 128 = some (5, 2, 0, .putfield 40, 3) := Fm88 (dk_181 0 40 (dk_at s88_5 11 rfl rfl)) rfl
theorem f88_131 : ft 88 131 = some (5, 2, 0, .goto (-42), 3) := Fm88 (dk_167 255 214 (dk_at s88_5 14 rfl rfl)) rfl
theorem f88_134 : ft 88 134 = some (5, 2, 0, .lload_n 3, 1) := Fm88 (dk_33 (dk_at s88_5 17 rfl rfl)) rfl
theorem f88_135 : ft 88 135 = some (5, 2, 0, .ldc2_w 179, 3) := Fm88 (dk_20 0 179 (dk_at s88_5 18 rfl rfl)) rfl
theorem f88_138 : ft 88 138 = some (5, 2, 0, .lcmp, 1) := Fm88 (dk_148 (dk_at s88_5 21 rfl rfl)) rfl
theorem f88_139 : ft 88 139 = some (5, 2, 0, .ifCond .le 8, 3) := Fm88 (dk_158 0 8 (dk_at s88_6 0 rfl rfl)) rfl
theorem f88_142 : ft 88 142 = some (5, 2, 0, .aload_n 0, 1) := Fm88 (dk_42 (dk_at s88_6 3 rfl rfl)) rfl
theorem f88_143 : ft 88 143 = some (5, 2, 0, .iload_n 1, 1) := Fm88 (dk_27 (dk_at s88_6 4 rfl rfl)) rfl
theorem f88_144 : ft 88 144 = some (5, 2, 0, .invokevirtual 49, 3) := Fm88 (dk_182 0 49 (dk_at s88_6 5 rfl rfl)) rfl
theorem f88_147 : ft 88 147 = some (5, 2, 0, .iload_n 2, 1) := Fm88 (dk_28 (dk_at s88_6 8 rfl rfl)) rfl
theorem f88_148 : ft 88 148 = some (5, 2, 0, .ifCond .eq 8, 3) := Fm88 (dk_153 0 8 (dk_at s88_6 9 rfl rfl)) rfl
theorem f88_151 : ft 88 151 = some (5, 2, 0, .lload_n 3, 1) := Fm88 (dk_33 (dk_at s88_6 12 rfl rfl)) rfl
theorem f88_152 : ft 88 152 = some (5, 2, 0, .lneg, 1) := Fm88 (dk_117 (dk_at s88_6 13 rfl rfl)) rfl
theorem f88_153 : ft 88 153 = some (5, 2, 0, .goto 4, 3) := Fm88 (dk_167 0 4 (dk_at s88_6 14 rfl rfl)) rfl
theorem f88_156 : ft 88 156 = some (5, 2, 0, .lload_n 3, 1) := Fm88 (dk_33 (dk_at s88_6 17 rfl rfl)) rfl
theorem f88_157 : ft 88 157 = some (5, 2, 0, .lreturn, 1) := Fm88 (dk_173 (dk_at s88_6 18 rfl rfl)) rfl
theorem q88 {d : Nat} {m : Mem} {a0 : Int} (hd : 0 < d) (hz : TZ m) : le2 (gd (tg m a0 = 5) <| nm (vl m a0 2) fun v2 => bI (cl (d - 1) 63 [pR a0] m) fun v1 m1 => if v1 = 45 then (if (1 : Int) = 0 then (rn d 88 34 [pR a0, pI v2, pI 1, pU, pU] [] m1) else rn d 88 34 [pR a0, pI v2, pI 1, pU, pU] [] (mst m1 a0 2 (w32 ((vl m1 a0 2) + 1)))) else if (0 : Int) = 0 then (rn d 88 34 [pR a0, pI v2, pI 0, pU, pU] [] m1) else rn d 88 34 [pR a0, pI v2, pI 0, pU, pU] [] (mst m1 a0 2 (w32 ((vl m1 a0 2) + 1)))) (cl d 88 [pR a0] m) := by
  refine q_in (n := 5) (L := [pR a0, pU, pU, pU, pU]) rfl rfl rfl ?_
  refine r_aln0 (p := 1) f88_0 rfl ?_
  refine le2_gd (fun h1 => ?_)
  refine r_gfI (f := 2) (p := 4) f88_1 rfl rfl rfl (Or.inl h1) rfl ?_
  refine r_nmI (fun v2 ev2 => ?_)
  refine r_isn1 (p := 5) f88_4 rfl rfl ?_
  refine r_aln0 (p := 6) f88_5 rfl ?_
  refine r_invI (p := 9) f88_6 rfl rfl rfl (Or.inl h1) hd (Nat.le_of_ble_eq_true rfl) rfl rfl rfl (fun _ => rfl) (fun v1 m1 c1 => ?_)
  have hz1 := z_k c1 hz
  refine r_bipush (p := 11) f88_9 rfl (pinD rfl rfl) ?_
  refine r_icne (t := 18) (p := 14) f88_11 (by decide) rfl rfl ?_ ?_
  · refine r_iconst (p := 15) f88_14 rfl (pinD rfl rfl) ?_
    refine r_goto (p := 19) f88_15 (by decide) rfl ?_
    refine r_isn2 (p := 20) f88_19 rfl rfl ?_
    refine r_iln2 (p := 21) f88_20 rfl ?_
    refine r_ifeq (t := 34) (p := 24) f88_21 (by decide) rfl rfl ?_ ?_
    · exact le2_refl _
    · refine r_aln0 (p := 25) f88_24 rfl ?_
      refine r_dup (p := 26) f88_25 rfl rfl ?_
      have h3 := k_t1 c1 hz h1 (by decide)
      refine r_gfI (f := 2) (p := 29) f88_26 rfl rfl rfl (Or.inl h3) rfl ?_
      refine r_iconst (p := 30) f88_29 rfl (pinD rfl rfl) ?_
      refine r_iadd (p := 31) f88_30 rfl ?_
      refine r_pfI (f := 2) (p := 34) f88_31 rfl rfl rfl (by decide) (by decide) (Or.inl h3) rfl ?_
      exact le2_refl _
  · refine r_iconst (p := 19) f88_18 rfl (pinD rfl rfl) ?_
    refine r_isn2 (p := 20) f88_19 rfl rfl ?_
    refine r_iln2 (p := 21) f88_20 rfl ?_
    refine r_ifeq (t := 34) (p := 24) f88_21 (by decide) rfl rfl ?_ ?_
    · exact le2_refl _
    · refine r_aln0 (p := 25) f88_24 rfl ?_
      refine r_dup (p := 26) f88_25 rfl rfl ?_
      have h2 := k_t1 c1 hz h1 (by decide)
      refine r_gfI (f := 2) (p := 29) f88_26 rfl rfl rfl (Or.inl h2) rfl ?_
      refine r_iconst (p := 30) f88_29 rfl (pinD rfl rfl) ?_
      refine r_iadd (p := 31) f88_30 rfl ?_
      refine r_pfI (f := 2) (p := 34) f88_31 rfl rfl rfl (by decide) (by decide) (Or.inl h2) rfl ?_
      exact le2_refl _
theorem q88_34 {d : Nat} {m : Mem} {a0 a1 a2 : Int} (hd : 0 < d) (hz : TZ m) : le2 (gd (tg m a0 = 5) <| bI (cl (d - 1) 63 [pR a0] m) fun v1 m1 => bI (cl (d - 1) 73 [pI v1] m1) fun v2 m2 => if v2 = 0 then (rn d 88 63 [pR a0, pI a1, pI a2, pU, pU] [pI 0, pR a0] m2) else if a2 = 0 then (rn d 88 63 [pR a0, pI a1, pI a2, pU, pU] [pI 1, pR a0] m2) else bI (cl (d - 1) 63 [pR a0] m2) fun v3 m3 => if v3 = 48 then (rn d 88 63 [pR a0, pI a1, pI a2, pU, pU] [pI 0, pR a0] m3) else rn d 88 63 [pR a0, pI a1, pI a2, pU, pU] [pI 1, pR a0] m3) (rn d 88 34 [pR a0, pI a1, pI a2, pU, pU] [] m) := by
  refine r_aln0 (p := 35) f88_34 rfl ?_
  refine r_aln0 (p := 36) f88_35 rfl ?_
  refine le2_gd (fun h1 => ?_)
  refine r_invI (p := 39) f88_36 rfl rfl rfl (Or.inl h1) hd (Nat.le_of_ble_eq_true rfl) rfl rfl rfl (fun _ => rfl) (fun v1 m1 c1 => ?_)
  have hz1 := z_k c1 hz
  refine r_istI (p := 42) f88_39 rfl rfl rfl hd (Nat.le_of_ble_eq_true rfl) rfl rfl rfl (fun _ => rfl) (fun v2 m2 c2 => ?_)
  have hz2 := z_k c2 hz1
  refine r_ifeq (t := 62) (p := 45) f88_42 (by decide) rfl rfl ?_ ?_
  · refine r_iconst (p := 63) f88_62 rfl (pinD rfl rfl) ?_
    exact le2_refl _
  · refine r_iln2 (p := 46) f88_45 rfl ?_
    refine r_ifeq (t := 58) (p := 49) f88_46 (by decide) rfl rfl ?_ ?_
    · refine r_iconst (p := 59) f88_58 rfl (pinD rfl rfl) ?_
      refine r_goto (p := 63) f88_59 (by decide) rfl ?_
      exact le2_refl _
    · refine r_aln0 (p := 50) f88_49 rfl ?_
      have h2 := k_t1 c1 hz h1 (by decide)
      have h3 := k_t1 c2 hz1 h2 (by decide)
      refine r_invI (p := 53) f88_50 rfl rfl rfl (Or.inl h3) hd (Nat.le_of_ble_eq_true rfl) rfl rfl rfl (fun _ => rfl) (fun v3 m3 c3 => ?_)
      have hz3 := z_k c3 hz2
      refine r_bipush (p := 55) f88_53 rfl (pinD rfl rfl) ?_
      refine r_iceq (t := 62) (p := 58) f88_55 (by decide) rfl rfl ?_ ?_
      · refine r_iconst (p := 63) f88_62 rfl (pinD rfl rfl) ?_
        exact le2_refl _
      · refine r_iconst (p := 59) f88_58 rfl (pinD rfl rfl) ?_
        refine r_goto (p := 63) f88_59 (by decide) rfl ?_
        exact le2_refl _
theorem q88_63 {d : Nat} {m : Mem} {a0 a1 a2 s1 s0 : Int} (hd : 0 < d) (hz : TZ m) : le2 (gd (tg m s0 = 5) <| bV (cl (d - 1) 66 [pR s0, pI s1] m) fun m1 => gd (tg m1 a0 = 5) <| bI (cl (d - 1) 63 [pR a0] m1) fun v2 m2 => if v2 = 48 then (some (.inl (some (pL 0)), (mst m2 a0 2 (w32 ((vl m2 a0 2) + 1))))) else rn d 88 89 [pR a0, pI a1, pI a2, pL 0, pU] [] m2) (rn d 88 63 [pR a0, pI a1, pI a2, pU, pU] [pI s1, pR s0] m) := by
  refine le2_gd (fun h1 => ?_)
  refine r_invV (p := 66) f88_63 rfl rfl rfl (Or.inl h1) hd (Nat.le_of_ble_eq_true rfl) rfl rfl rfl (fun _ => rfl) (fun m1 c1 => ?_)
  have hz1 := z_k c1 hz
  refine r_aln0 (p := 67) f88_66 rfl ?_
  refine le2_gd (fun h2 => ?_)
  refine r_invI (p := 70) f88_67 rfl rfl rfl (Or.inl h2) hd (Nat.le_of_ble_eq_true rfl) rfl rfl rfl (fun _ => rfl) (fun v2 m2 c2 => ?_)
  have hz2 := z_k c2 hz1
  refine r_bipush (p := 72) f88_70 rfl (pinD rfl rfl) ?_
  refine r_icne (t := 87) (p := 75) f88_72 (by decide) rfl rfl ?_ ?_
  · refine r_aln0 (p := 76) f88_75 rfl ?_
    refine r_dup (p := 77) f88_76 rfl rfl ?_
    have h3 := k_t1 c2 hz1 h2 (by decide)
    refine r_gfI (f := 2) (p := 80) f88_77 rfl rfl rfl (Or.inl h3) rfl ?_
    refine r_iconst (p := 81) f88_80 rfl (pinD rfl rfl) ?_
    refine r_iadd (p := 82) f88_81 rfl ?_
    refine r_pfI (f := 2) (p := 85) f88_82 rfl rfl rfl (by decide) (by decide) (Or.inl h3) rfl ?_
    refine r_lconst0 (p := 86) f88_85 rfl ?_
    exact r_lret f88_86
  · refine r_lconst0 (p := 88) f88_87 rfl ?_
    refine r_lsn3 (p := 89) f88_88 rfl rfl ?_
    exact le2_refl _
theorem q88_89 {d : Nat} {m : Mem} {a0 a1 a2 a3 : Int} (hd : 0 < d) (hz : TZ m) : le2 (gd (tg m a0 = 5) <| bI (cl (d - 1) 63 [pR a0] m) fun v1 m1 => bI (cl (d - 1) 73 [pI v1] m1) fun v2 m2 => if v2 = 0 then (if 9007199254740991 < a3 then (bV (cl (d - 1) 67 [pR a0, pI a1] m2) fun m3 => if a2 = 0 then (some (.inl (some (pL a3)), m3)) else some (.inl (some (pL (w64 (-a3)))), m3)) else if a2 = 0 then (some (.inl (some (pL a3)), m2)) else some (.inl (some (pL (w64 (-a3)))), m2)) else bI (cl (d - 1) 63 [pR a0] m2) fun v4 m4 => rn d 88 89 [pR a0, pI a1, pI a2, pL (min (w64 ((w64 ((w64 (10 * a3)) + v4)) - 48)) 9007199254740992), pU] [] (mst m4 a0 2 (w32 ((vl m4 a0 2) + 1)))) (rn d 88 89 [pR a0, pI a1, pI a2, pL a3, pU] [] m) := by
  refine r_aln0 (p := 90) f88_89 rfl ?_
  refine le2_gd (fun h1 => ?_)
  refine r_invI (p := 93) f88_90 rfl rfl rfl (Or.inl h1) hd (Nat.le_of_ble_eq_true rfl) rfl rfl rfl (fun _ => rfl) (fun v1 m1 c1 => ?_)
  have hz1 := z_k c1 hz
  refine r_istI (p := 96) f88_93 rfl rfl rfl hd (Nat.le_of_ble_eq_true rfl) rfl rfl rfl (fun _ => rfl) (fun v2 m2 c2 => ?_)
  have hz2 := z_k c2 hz1
  refine r_ifeq (t := 134) (p := 99) f88_96 (by decide) rfl rfl ?_ ?_
  · refine r_lln3 (p := 135) f88_134 rfl ?_
    refine r_ldc2 (p := 138) f88_135 rfl rfl (pinD rfl rfl) ?_
    refine r_lcle (p1 := 139) (t := 147) (p := 142) f88_138 rfl f88_139 (by decide) rfl rfl ?_ ?_
    · refine r_aln0 (p := 143) f88_142 rfl ?_
      refine r_iln1 (p := 144) f88_143 rfl ?_
      have h2 := k_t1 c1 hz h1 (by decide)
      have h3 := k_t1 c2 hz1 h2 (by decide)
      refine r_invV (p := 147) f88_144 rfl rfl rfl (Or.inl h3) hd (Nat.le_of_ble_eq_true rfl) rfl rfl rfl (fun _ => rfl) (fun m3 c3 => ?_)
      have hz3 := z_k c3 hz2
      refine r_iln2 (p := 148) f88_147 rfl ?_
      refine r_ifeq (t := 156) (p := 151) f88_148 (by decide) rfl rfl ?_ ?_
      · refine r_lln3 (p := 157) f88_156 rfl ?_
        exact r_lret f88_157
      · refine r_lln3 (p := 152) f88_151 rfl ?_
        refine r_lneg (p := 153) f88_152 rfl ?_
        refine r_goto (p := 157) f88_153 (by decide) rfl ?_
        exact r_lret f88_157
    · refine r_iln2 (p := 148) f88_147 rfl ?_
      refine r_ifeq (t := 156) (p := 151) f88_148 (by decide) rfl rfl ?_ ?_
      · refine r_lln3 (p := 157) f88_156 rfl ?_
        exact r_lret f88_157
      · refine r_lln3 (p := 152) f88_151 rfl ?_
        refine r_lneg (p := 153) f88_152 rfl ?_
        refine r_goto (p := 157) f88_153 (by decide) rfl ?_
        exact r_lret f88_157
  · refine r_ldc2 (p := 102) f88_99 rfl rfl (pinD rfl rfl) ?_
    refine r_lln3 (p := 103) f88_102 rfl ?_
    refine r_lmul (p := 104) f88_103 rfl ?_
    refine r_aln0 (p := 105) f88_104 rfl ?_
    have h4 := k_t1 c1 hz h1 (by decide)
    have h5 := k_t1 c2 hz1 h4 (by decide)
    refine r_invI (p := 108) f88_105 rfl rfl rfl (Or.inl h5) hd (Nat.le_of_ble_eq_true rfl) rfl rfl rfl (fun _ => rfl) (fun v4 m4 c4 => ?_)
    have hz4 := z_k c4 hz2
    refine r_i2l (p := 109) f88_108 rfl ?_
    refine r_ladd (p := 110) f88_109 rfl ?_
    refine r_ldc2 (p := 113) f88_110 rfl rfl (pinD rfl rfl) ?_
    refine r_lsub (p := 114) f88_113 rfl ?_
    refine r_ldc2 (p := 117) f88_114 rfl rfl (pinD rfl rfl) ?_
    refine r_math9 (p := 120) f88_117 rfl rfl (Nat.le_of_ble_eq_true rfl) ?_
    refine r_lsn3 (p := 121) f88_120 rfl rfl ?_
    refine r_aln0 (p := 122) f88_121 rfl ?_
    refine r_dup (p := 123) f88_122 rfl rfl ?_
    have h6 := k_t1 c4 hz2 h5 (by decide)
    refine r_gfI (f := 2) (p := 126) f88_123 rfl rfl rfl (Or.inl h6) rfl ?_
    refine r_iconst (p := 127) f88_126 rfl (pinD rfl rfl) ?_
    refine r_iadd (p := 128) f88_127 rfl ?_
    refine r_pfI (f := 2) (p := 131) f88_128 rfl rfl rfl (by decide) (by decide) (Or.inl h6) rfl ?_
    refine r_goto (p := 89) f88_131 (by decide) rfl ?_
    exact le2_refl _
/-! 89 PathStore$Compiler.close (I)V -/
def w89_0 : List UInt8 := [42, 27, 182, 0, 52, 42, 89, 180, 0, 24, 4, 100, 181, 0, 24, 177]
abbrev u89_0 : List UInt8 := w89_0 ++ []
theorem s89_0 : (prog_4_method_4_code).data.toList.drop 0 = u89_0 := by decide +kernel
theorem Fm89 {pc len : Nat} {i : Instr} (h : decode (prog_4_method_4_code) pc = .ok (i, len)) (hl : len = ilen i len) : ft 89 pc = some (5, 0, 0, i, len) := ft_mk rfl h hl
theorem f89_0 : ft 89 0 = some (5, 0, 0, .aload_n 0, 1) := Fm89 (dk_42 (dk_at s89_0 0 rfl rfl)) rfl
theorem f89_1 : ft 89 1 = some (5, 0, 0, .iload_n 1, 1) := Fm89 (dk_27 (dk_at s89_0 1 rfl rfl)) rfl
theorem f89_2 : ft 89 2 = some (5, 0, 0, .invokevirtual 52, 3) := Fm89 (dk_182 0 52 (dk_at s89_0 2 rfl rfl)) rfl
theorem f89_5 : ft 89 5 = some (5, 0, 0, .aload_n 0, 1) := Fm89 (dk_42 (dk_at s89_0 5 rfl rfl)) rfl
theorem f89_6 : ft 89 6 = some (5, 0, 0, .dup, 1) := Fm89 (dk_89 (dk_at s89_0 6 rfl rfl)) rfl
theorem f89_7 : ft 89 7 = some (5, 0, 0, .getfield 24, 3) := Fm89 (dk_180 0 24 (dk_at s89_0 7 rfl rfl)) rfl
theorem f89_10 : ft 89 10 = some (5, 0, 0, .iconst 1, 1) := Fm89 (dk_4 (dk_at s89_0 10 rfl rfl)) rfl
theorem f89_11 : ft 89 11 = some (5, 0, 0, .isub, 1) := Fm89 (dk_100 (dk_at s89_0 11 rfl rfl)) rfl
theorem f89_12 : ft 89 12 = some (5, 0, 0, .putfield 24, 3) := Fm89 (dk_181 0 24 (dk_at s89_0 12 rfl rfl)) rfl
theorem f89_15 : ft 89 15 = some (5, 0, 0, .return_, 1) := Fm89 (dk_177 (dk_at s89_0 15 rfl rfl)) rfl
theorem q89 {d : Nat} {m : Mem} {a0 a1 : Int} (hd : 0 < d) (hz : TZ m) : le2 (gd (tg m a0 = 5) <| bV (cl (d - 1) 65 [pR a0, pI a1] m) fun m1 => some (.inl none, (mst m1 a0 5 (w32 ((vl m1 a0 5) - 1))))) (cl d 89 [pR a0, pI a1] m) := by
  refine q_in (n := 2) (L := [pR a0, pI a1]) rfl rfl rfl ?_
  refine r_aln0 (p := 1) f89_0 rfl ?_
  refine r_iln1 (p := 2) f89_1 rfl ?_
  refine le2_gd (fun h1 => ?_)
  refine r_invV (p := 5) f89_2 rfl rfl rfl (Or.inl h1) hd (Nat.le_of_ble_eq_true rfl) rfl rfl rfl (fun _ => rfl) (fun m1 c1 => ?_)
  have hz1 := z_k c1 hz
  refine r_aln0 (p := 6) f89_5 rfl ?_
  refine r_dup (p := 7) f89_6 rfl rfl ?_
  have h2 := k_t1 c1 hz h1 (by decide)
  refine r_gfI (f := 5) (p := 10) f89_7 rfl rfl rfl (Or.inl h2) rfl ?_
  refine r_iconst (p := 11) f89_10 rfl (pinD rfl rfl) ?_
  refine r_isub (p := 12) f89_11 rfl ?_
  refine r_pfI (f := 5) (p := 15) f89_12 rfl rfl rfl (by decide) (by decide) (Or.inl h2) rfl ?_
  exact r_ret f89_15
/-! 90 PathStore$Compiler.segment (LPathStore$Query;)LPathStore$Segment; -/
def w90_7 : List UInt8 := [154, 0, 20, 44, 180, 0, 94, 3, 50, 193, 0, 99, 154, 0, 8, 43, 3, 181, 0, 101, 44, 176]
abbrev u90_7 : List UInt8 := w90_7 ++ []
def w90_6 : List UInt8 := [180, 0, 87, 154, 0, 35, 44, 180, 0, 91, 4, 160, 0, 27, 44, 180, 0, 94, 3, 50, 193, 0, 97]
abbrev u90_6 : List UInt8 := w90_6 ++ u90_7
def w90_5 : List UInt8 := [182, 0, 83, 182, 0, 80, 167, 0, 17, 187, 0, 71, 89, 3, 183, 0, 73, 77, 42, 44, 182, 0, 74, 44]
abbrev u90_5 : List UInt8 := w90_5 ++ u90_6
def w90_4 : List UInt8 := [180, 0, 40, 4, 96, 181, 0, 40, 44, 187, 0, 77, 89, 183, 0, 79, 182, 0, 80, 167, 0, 11, 44, 42]
abbrev u90_4 : List UInt8 := w90_4 ++ u90_5
def w90_3 : List UInt8 := [160, 0, 11, 42, 44, 182, 0, 74, 167, 0, 44, 42, 182, 0, 28, 16, 42, 160, 0, 27, 42, 89]
abbrev u90_3 : List UInt8 := w90_3 ++ u90_4
def w90_2 : List UInt8 := [181, 0, 40, 187, 0, 71, 89, 29, 183, 0, 73, 77, 29, 153, 0, 20, 42, 182, 0, 28, 16, 91]
abbrev u90_2 : List UInt8 := w90_2 ++ u90_3
def w90_1 : List UInt8 := [16, 46, 160, 0, 7, 4, 167, 0, 4, 3, 62, 29, 153, 0, 13, 42, 89, 180, 0, 40, 4, 96]
abbrev u90_1 : List UInt8 := w90_1 ++ u90_2
def w90_0 : List UInt8 := [42, 182, 0, 28, 16, 46, 160, 0, 116, 42, 89, 180, 0, 40, 4, 96, 181, 0, 40, 42, 182, 0, 28]
abbrev u90_0 : List UInt8 := w90_0 ++ u90_1
theorem s90_0 : (prog_4_method_7_code).data.toList.drop 0 = u90_0 := by decide +kernel
theorem s90_1 : (prog_4_method_7_code).data.toList.drop 23 = u90_1 := dk_seg s90_0 23 rfl rfl
theorem s90_2 : (prog_4_method_7_code).data.toList.drop 45 = u90_2 := dk_seg s90_1 22 rfl rfl
theorem s90_3 : (prog_4_method_7_code).data.toList.drop 67 = u90_3 := dk_seg s90_2 22 rfl rfl
theorem s90_4 : (prog_4_method_7_code).data.toList.drop 89 = u90_4 := dk_seg s90_3 22 rfl rfl
theorem s90_5 : (prog_4_method_7_code).data.toList.drop 113 = u90_5 := dk_seg s90_4 24 rfl rfl
theorem s90_6 : (prog_4_method_7_code).data.toList.drop 137 = u90_6 := dk_seg s90_5 24 rfl rfl
theorem s90_7 : (prog_4_method_7_code).data.toList.drop 160 = u90_7 := dk_seg s90_6 23 rfl rfl
theorem Fm90 {pc len : Nat} {i : Instr} (h : decode (prog_4_method_7_code) pc = .ok (i, len)) (hl : len = ilen i len) : ft 90 pc = some (5, 3, 0, i, len) := ft_mk rfl h hl
theorem f90_0 : ft 90 0 = some (5, 3, 0, .aload_n 0, 1) := Fm90 (dk_42 (dk_at s90_0 0 rfl rfl)) rfl
theorem f90_1 : ft 90 1 = some (5, 3, 0, .invokevirtual 28, 3) := Fm90 (dk_182 0 28 (dk_at s90_0 1 rfl rfl)) rfl
theorem f90_4 : ft 90 4 = some (5, 3, 0, .bipush 46, 2) := Fm90 (dk_16 46 (dk_at s90_0 4 rfl rfl)) rfl
theorem f90_6 : ft 90 6 = some (5, 3, 0, .if_icmp .ne 116, 3) := Fm90 (dk_160 0 116 (dk_at s90_0 6 rfl rfl)) rfl
theorem f90_9 : ft 90 9 = some (5, 3, 0, .aload_n 0, 1) := Fm90 (dk_42 (dk_at s90_0 9 rfl rfl)) rfl
theorem f90_10 : ft 90 10 = some (5, 3, 0, .dup, 1) := Fm90 (dk_89 (dk_at s90_0 10 rfl rfl)) rfl
theorem f90_11 : ft 90 11 = some (5, 3, 0, .getfield 40, 3) := Fm90 (dk_180 0 40 (dk_at s90_0 11 rfl rfl)) rfl
theorem f90_14 : ft 90 14 = some (5, 3, 0, .iconst 1, 1) := Fm90 (dk_4 (dk_at s90_0 14 rfl rfl)) rfl
theorem f90_15 : ft 90 15 = some (5, 3, 0, .iadd, 1) := Fm90 (dk_96 (dk_at s90_0 15 rfl rfl)) rfl
theorem f90_16 : ft 90 16 = some (5, 3, 0, .putfield 40, 3) := Fm90 (dk_181 0 40 (dk_at s90_0 16 rfl rfl)) rfl
theorem f90_19 : ft 90 19 = some (5, 3, 0, .aload_n 0, 1) := Fm90 (dk_42 (dk_at s90_0 19 rfl rfl)) rfl
theorem f90_20 : ft 90 20 = some (5, 3, 0, .invokevirtual 28, 3) := Fm90 (dk_182 0 28 (dk_at s90_0 20 rfl rfl)) rfl
theorem f90_23 : ft 90 23 = some (5, 3, 0, .bipush 46, 2) := Fm90 (dk_16 46 (dk_at s90_1 0 rfl rfl)) rfl
theorem f90_25 : ft 90 25 = some (5, 3, 0, .if_icmp .ne 7, 3) := Fm90 (dk_160 0 7 (dk_at s90_1 2 rfl rfl)) rfl
theorem f90_28 : ft 90 28 = some (5, 3, 0, .iconst 1, 1) := Fm90 (dk_4 (dk_at s90_1 5 rfl rfl)) rfl
theorem f90_29 : ft 90 29 = some (5, 3, 0, .goto 4, 3) := Fm90 (dk_167 0 4 (dk_at s90_1 6 rfl rfl)) rfl
theorem f90_32 : ft 90 32 = some (5, 3, 0, .iconst 0, 1) := Fm90 (dk_3 (dk_at s90_1 9 rfl rfl)) rfl
theorem f90_33 : ft 90 33 = some (5, 3, 0, .istore_n 3, 1) := Fm90 (dk_62 (dk_at s90_1 10 rfl rfl)) rfl
theorem f90_34 : ft 90 34 = some (5, 3, 0, .iload_n 3, 1) := Fm90 (dk_29 (dk_at s90_1 11 rfl rfl)) rfl
theorem f90_35 : ft 90 35 = some (5, 3, 0, .ifCond .eq 13, 3) := Fm90 (dk_153 0 13 (dk_at s90_1 12 rfl rfl)) rfl
theorem f90_38 : ft 90 38 = some (5, 3, 0, .aload_n 0, 1) := Fm90 (dk_42 (dk_at s90_1 15 rfl rfl)) rfl
theorem f90_39 : ft 90 39 = some (5, 3, 0, .dup, 1) := Fm90 (dk_89 (dk_at s90_1 16 rfl rfl)) rfl
theorem f90_40 : ft 90 40 = some (5, 3, 0, .getfield 40, 3) := Fm90 (dk_180 0 40 (dk_at s90_1 17 rfl rfl)) rfl
theorem f90_43 : ft 90 43 = some (5, 3, 0, .iconst 1, 1) := Fm90 (dk_4 (dk_at s90_1 20 rfl rfl)) rfl
theorem f90_44 : ft 90 44 = some (5, 3, 0, .iadd, 1) := Fm90 (dk_96 (dk_at s90_1 21 rfl rfl)) rfl
theorem f90_45 : ft 90 45 = some (5, 3, 0, .putfield 40, 3) := Fm90 (dk_181 0 40 (dk_at s90_2 0 rfl rfl)) rfl
theorem f90_48 : ft 90 48 = some (5, 3, 0, .new 71, 3) := Fm90 (dk_187 0 71 (dk_at s90_2 3 rfl rfl)) rfl
theorem f90_51 : ft 90 51 = some (5, 3, 0, .dup, 1) := Fm90 (dk_89 (dk_at s90_2 6 rfl rfl)) rfl
theorem f90_52 : ft 90 52 = some (5, 3, 0, .iload_n 3, 1) := Fm90 (dk_29 (dk_at s90_2 7 rfl rfl)) rfl
theorem f90_53 : ft 90 53 = some (5, 3, 0, .invokespecial 73, 3) := Fm90 (dk_183 0 73 (dk_at s90_2 8 rfl rfl)) rfl
theorem f90_56 : ft 90 56 = some (5, 3, 0, .astore_n 2, 1) := Fm90 (dk_77 (dk_at s90_2 11 rfl rfl)) rfl
theorem f90_57 : ft 90 57 = some (5, 3, 0, .iload_n 3, 1) := Fm90 (dk_29 (dk_at s90_2 12 rfl rfl)) rfl
theorem f90_58 : ft 90 58 = some (5, 3, 0, .ifCond .eq 20, 3) := Fm90 (dk_153 0 20 (dk_at s90_2 13 rfl rfl)) rfl
theorem f90_61 : ft 90 61 = some (5, 3, 0, .aload_n 0, 1) := Fm90 (dk_42 (dk_at s90_2 16 rfl rfl)) rfl
theorem f90_62 : ft 90 62 = some (5, 3, 0, .invokevirtual 28, 3) := Fm90 (dk_182 0 28 (dk_at s90_2 17 rfl rfl)) rfl
theorem f90_65 : ft 90 65 = some (5, 3, 0, .bipush 91, 2) := Fm90 (dk_16 91 (dk_at s90_2 20 rfl rfl)) rfl
theorem f90_67 : ft 90 67 = some (5, 3, 0, .if_icmp .ne 11, 3) := Fm90 (dk_160 0 11 (dk_at s90_3 0 rfl rfl)) rfl
theorem f90_70 : ft 90 70 = some (5, 3, 0, .aload_n 0, 1) := Fm90 (dk_42 (dk_at s90_3 3 rfl rfl)) rfl
theorem f90_71 : ft 90 71 = some (5, 3, 0, .aload_n 2, 1) := Fm90 (dk_44 (dk_at s90_3 4 rfl rfl)) rfl
theorem f90_72 : ft 90 72 = some (5, 3, 0, .invokevirtual 74, 3) := Fm90 (dk_182 0 74 (dk_at s90_3 5 rfl rfl)) rfl
theorem f90_75 : ft 90 75 = some (5, 3, 0, .goto 44, 3) := Fm90 (dk_167 0 44 (dk_at s90_3 8 rfl rfl)) rfl
theorem f90_78 : ft 90 78 = some (5, 3, 0, .aload_n 0, 1) := Fm90 (dk_42 (dk_at s90_3 11 rfl rfl)) rfl
theorem f90_79 : ft 90 79 = some (5, 3, 0, .invokevirtual 28, 3) := Fm90 (dk_182 0 28 (dk_at s90_3 12 rfl rfl)) rfl
theorem f90_82 : ft 90 82 = some (5, 3, 0, .bipush 42, 2) := Fm90 (dk_16 42 (dk_at s90_3 15 rfl rfl)) rfl
theorem f90_84 : ft 90 84 = some (5, 3, 0, .if_icmp .ne 27, 3) := Fm90 (dk_160 0 27 (dk_at s90_3 17 rfl rfl)) rfl
theorem f90_87 : ft 90 87 = some (5, 3, 0, .aload_n 0, 1) := Fm90 (dk_42 (dk_at s90_3 20 rfl rfl)) rfl
theorem f90_88 : ft 90 88 = some (5, 3, 0, .dup, 1) := Fm90 (dk_89 (dk_at s90_3 21 rfl rfl)) rfl
theorem f90_89 : ft 90 89 = some (5, 3, 0, .getfield 40, 3) := Fm90 (dk_180 0 40 (dk_at s90_4 0 rfl rfl)) rfl
theorem f90_92 : ft 90 92 = some (5, 3, 0, .iconst 1, 1) := Fm90 (dk_4 (dk_at s90_4 3 rfl rfl)) rfl
theorem f90_93 : ft 90 93 = some (5, 3, 0, .iadd, 1) := Fm90 (dk_96 (dk_at s90_4 4 rfl rfl)) rfl
theorem f90_94 : ft 90 94 = some (5, 3, 0, .putfield 40, 3) := Fm90 (dk_181 0 40 (dk_at s90_4 5 rfl rfl)) rfl
theorem f90_97 : ft 90 97 = some (5, 3, 0, .aload_n 2, 1) := Fm90 (dk_44 (dk_at s90_4 8 rfl rfl)) rfl
theorem f90_98 : ft 90 98 = some (5, 3, 0, .new 77, 3) := Fm90 (dk_187 0 77 (dk_at s90_4 9 rfl rfl)) rfl
theorem f90_101 : ft 90 101 = some (5, 3, 0, .dup, 1) := Fm90 (dk_89 (dk_at s90_4 12 rfl rfl)) rfl
theorem f90_102 : ft 90 102 = some (5, 3, 0, .invokespecial 79, 3) := Fm90 (dk_183 0 79 (dk_at s90_4 13 rfl rfl)) rfl
theorem f90_105 : ft 90 105 = some (5, 3, 0, .invokevirtual 80, 3) := Fm90 (dk_182 0 80 (dk_at s90_4 16 rfl rfl)) rfl
theorem f90_108 : ft 90 108 = some (5, 3, 0, .goto 11, 3) := Fm90 (dk_167 0 11 (dk_at s90_4 19 rfl rfl)) rfl
theorem f90_111 : ft 90 111 = some (5, 3, 0, .aload_n 2, 1) := Fm90 (dk_44 (dk_at s90_4 22 rfl rfl)) rfl
theorem f90_112 : ft 90 112 = some (5, 3, 0, .aload_n 0, 1) := Fm90 (dk_42 (dk_at s90_4 23 rfl rfl)) rfl
theorem f90_113 : ft 90 113 = some (5, 3, 0, .invokevirtual 83, 3) := Fm90 (dk_182 0 83 (dk_at s90_5 0 rfl rfl)) rfl
theorem f90_116 : ft 90 116 = some (5, 3, 0, .invokevirtual 80, 3) := Fm90 (dk_182 0 80 (dk_at s90_5 3 rfl rfl)) rfl
theorem f90_119 : ft 90 119 = some (5, 3, 0, .goto 17, 3) := Fm90 (dk_167 0 17 (dk_at s90_5 6 rfl rfl)) rfl
theorem f90_122 : ft 90 122 = some (5, 3, 0, .new 71, 3) := Fm90 (dk_187 0 71 (dk_at s90_5 9 rfl rfl)) rfl
theorem f90_125 : ft 90 125 = some (5, 3, 0, .dup, 1) := Fm90 (dk_89 (dk_at s90_5 12 rfl rfl)) rfl
theorem f90_126 : ft 90 126 = some (5, 3, 0, .iconst 0, 1) := Fm90 (dk_3 (dk_at s90_5 13 rfl rfl)) rfl
theorem f90_127 : ft 90 127 = some (5, 3, 0, .invokespecial 73, 3) := Fm90 (dk_183 0 73 (dk_at s90_5 14 rfl rfl)) rfl
theorem f90_130 : ft 90 130 = some (5, 3, 0, .astore_n 2, 1) := Fm90 (dk_77 (dk_at s90_5 17 rfl rfl)) rfl
theorem f90_131 : ft 90 131 = some (5, 3, 0, .aload_n 0, 1) := Fm90 (dk_42 (dk_at s90_5 18 rfl rfl)) rfl
theorem f90_132 : ft 90 132 = some (5, 3, 0, .aload_n 2, 1) := Fm90 (dk_44 (dk_at s90_5 19 rfl rfl)) rfl
theorem f90_133 : ft 90 133 = some (5, 3, 0, .invokevirtual 74, 3) := Fm90 (dk_182 0 74 (dk_at s90_5 20 rfl rfl)) rfl
theorem f90_136 : ft 90 136 = some (5, 3, 0, .aload_n 2, 1) := Fm90 (dk_44 (dk_at s90_5 23 rfl rfl)) rfl
theorem f90_137 : ft 90 137 = some (5, 3, 0, .getfield 87, 3) := Fm90 (dk_180 0 87 (dk_at s90_6 0 rfl rfl)) rfl
theorem f90_140 : ft 90 140 = some (5, 3, 0, .ifCond .ne 35, 3) := Fm90 (dk_154 0 35 (dk_at s90_6 3 rfl rfl)) rfl
theorem f90_143 : ft 90 143 = some (5, 3, 0, .aload_n 2, 1) := Fm90 (dk_44 (dk_at s90_6 6 rfl rfl)) rfl
theorem f90_144 : ft 90 144 = some (5, 3, 0, .getfield 91, 3) := Fm90 (dk_180 0 91 (dk_at s90_6 7 rfl rfl)) rfl
theorem f90_147 : ft 90 147 = some (5, 3, 0, .iconst 1, 1) := Fm90 (dk_4 (dk_at s90_6 10 rfl rfl)) rfl
theorem f90_148 : ft 90 148 = some (5, 3, 0, .if_icmp .ne 27, 3) := Fm90 (dk_160 0 27 (dk_at s90_6 11 rfl rfl)) rfl
theorem f90_151 : ft 90 151 = some (5, 3, 0, .aload_n 2, 1) := Fm90 (dk_44 (dk_at s90_6 14 rfl rfl)) rfl
theorem f90_152 : ft 90 152 = some (5, 3, 0, .getfield 94, 3) := Fm90 (dk_180 0 94 (dk_at s90_6 15 rfl rfl)) rfl
theorem f90_155 : ft 90 155 = some (5, 3, 0, .iconst 0, 1) := Fm90 (dk_3 (dk_at s90_6 18 rfl rfl)) rfl
theorem f90_156 : ft 90 156 = some (5, 3, 0, .aaload, 1) := Fm90 (dk_50 (dk_at s90_6 19 rfl rfl)) rfl
theorem f90_157 : ft 90 157 = some (5, 3, 0, .instanceof 97, 3) := Fm90 (dk_193 0 97 (dk_at s90_6 20 rfl rfl)) rfl
theorem f90_160 : ft 90 160 = some (5, 3, 0, .ifCond .ne 20, 3) := Fm90 (dk_154 0 20 (dk_at s90_7 0 rfl rfl)) rfl
theorem f90_163 : ft 90 163 = some (5, 3, 0, .aload_n 2, 1) := Fm90 (dk_44 (dk_at s90_7 3 rfl rfl)) rfl
theorem f90_164 : ft 90 164 = some (5, 3, 0, .getfield 94, 3) := Fm90 (dk_180 0 94 (dk_at s90_7 4 rfl rfl)) rfl
theorem f90_167 : ft 90 167 = some (5, 3, 0, .iconst 0, 1) := Fm90 (dk_3 (dk_at s90_7 7 rfl rfl)) rfl
theorem f90_168 : ft 90 168 = some (5, 3, 0, .aaload, 1) := Fm90 (dk_50 (dk_at s90_7 8 rfl rfl)) rfl
theorem f90_169 : ft 90 169 = some (5, 3, 0, .instanceof 99, 3) := Fm90 (dk_193 0 99 (dk_at s90_7 9 rfl rfl)) rfl
theorem f90_172 : ft 90 172 = some (5, 3, 0, .ifCond .ne 8, 3) := Fm90 (dk_154 0 8 (dk_at s90_7 12 rfl rfl)) rfl
theorem f90_175 : ft 90 175 = some (5, 3, 0, .aload_n 1, 1) := Fm90 (dk_43 (dk_at s90_7 15 rfl rfl)) rfl
theorem f90_176 : ft 90 176 = some (5, 3, 0, .iconst 0, 1) := Fm90 (dk_3 (dk_at s90_7 16 rfl rfl)) rfl
theorem f90_177 : ft 90 177 = some (5, 3, 0, .putfield 101, 3) := Fm90 (dk_181 0 101 (dk_at s90_7 17 rfl rfl)) rfl
theorem f90_180 : ft 90 180 = some (5, 3, 0, .aload_n 2, 1) := Fm90 (dk_44 (dk_at s90_7 20 rfl rfl)) rfl
theorem f90_181 : ft 90 181 = some (5, 3, 0, .areturn, 1) := Fm90 (dk_176 (dk_at s90_7 21 rfl rfl)) rfl
theorem q90 {d : Nat} {m : Mem} {a0 a1 : Int} (hd : 0 < d) (hz : TZ m) : le2 (gd (tg m a0 = 5) <| bI (cl (d - 1) 63 [pR a0] m) fun v1 m1 => if v1 = 46 then (bI (cl (d - 1) 63 [pR a0] (mst m1 a0 2 (w32 ((vl m1 a0 2) + 1)))) fun v5 m5 => if v5 = 46 then (if (1 : Int) = 0 then (rn d 90 48 [pR a0, pR a1, pU, pI 1] [] m5) else rn d 90 48 [pR a0, pR a1, pU, pI 1] [] (mst m5 a0 2 (w32 ((vl m5 a0 2) + 1)))) else if (0 : Int) = 0 then (rn d 90 48 [pR a0, pR a1, pU, pI 0] [] m5) else rn d 90 48 [pR a0, pR a1, pU, pI 0] [] (mst m5 a0 2 (w32 ((vl m5 a0 2) + 1)))) else nw (nx m1) (mal m1 16 3) fun o2 m2 => bV (cl (d - 1) 304 [pR o2, pI 0] m2) fun m3 => bV (cl (d - 1) 91 [pR a0, pR o2] m3) fun m4 => rn d 90 136 [pR a0, pR a1, pR o2, pU] [] m4) (cl d 90 [pR a0, pR a1] m) := by
  refine q_in (n := 4) (L := [pR a0, pR a1, pU, pU]) rfl rfl rfl ?_
  refine r_aln0 (p := 1) f90_0 rfl ?_
  refine le2_gd (fun h1 => ?_)
  refine r_invI (p := 4) f90_1 rfl rfl rfl (Or.inl h1) hd (Nat.le_of_ble_eq_true rfl) rfl rfl rfl (fun _ => rfl) (fun v1 m1 c1 => ?_)
  have hz1 := z_k c1 hz
  refine r_bipush (p := 6) f90_4 rfl (pinD rfl rfl) ?_
  refine r_icne (t := 122) (p := 9) f90_6 (by decide) rfl rfl ?_ ?_
  · refine r_aln0 (p := 10) f90_9 rfl ?_
    refine r_dup (p := 11) f90_10 rfl rfl ?_
    have h6 := k_t1 c1 hz h1 (by decide)
    refine r_gfI (f := 2) (p := 14) f90_11 rfl rfl rfl (Or.inl h6) rfl ?_
    refine r_iconst (p := 15) f90_14 rfl (pinD rfl rfl) ?_
    refine r_iadd (p := 16) f90_15 rfl ?_
    refine r_pfI (f := 2) (p := 19) f90_16 rfl rfl rfl (by decide) (by decide) (Or.inl h6) rfl ?_
    refine r_aln0 (p := 20) f90_19 rfl ?_
    refine r_invI (p := 23) f90_20 rfl rfl rfl (Or.inl h6) hd (Nat.le_of_ble_eq_true rfl) rfl rfl rfl (fun _ => rfl) (fun v5 m5 c5 => ?_)
    have hz5 := z_k c5 hz1
    refine r_bipush (p := 25) f90_23 rfl (pinD rfl rfl) ?_
    refine r_icne (t := 32) (p := 28) f90_25 (by decide) rfl rfl ?_ ?_
    · refine r_iconst (p := 29) f90_28 rfl (pinD rfl rfl) ?_
      refine r_goto (p := 33) f90_29 (by decide) rfl ?_
      refine r_isn3 (p := 34) f90_33 rfl rfl ?_
      refine r_iln3 (p := 35) f90_34 rfl ?_
      refine r_ifeq (t := 48) (p := 38) f90_35 (by decide) rfl rfl ?_ ?_
      · exact le2_refl _
      · refine r_aln0 (p := 39) f90_38 rfl ?_
        refine r_dup (p := 40) f90_39 rfl rfl ?_
        have h8 := k_t1 c5 hz1 h6 (by decide)
        refine r_gfI (f := 2) (p := 43) f90_40 rfl rfl rfl (Or.inl h8) rfl ?_
        refine r_iconst (p := 44) f90_43 rfl (pinD rfl rfl) ?_
        refine r_iadd (p := 45) f90_44 rfl ?_
        refine r_pfI (f := 2) (p := 48) f90_45 rfl rfl rfl (by decide) (by decide) (Or.inl h8) rfl ?_
        exact le2_refl _
    · refine r_iconst (p := 33) f90_32 rfl (pinD rfl rfl) ?_
      refine r_isn3 (p := 34) f90_33 rfl rfl ?_
      refine r_iln3 (p := 35) f90_34 rfl ?_
      refine r_ifeq (t := 48) (p := 38) f90_35 (by decide) rfl rfl ?_ ?_
      · exact le2_refl _
      · refine r_aln0 (p := 39) f90_38 rfl ?_
        refine r_dup (p := 40) f90_39 rfl rfl ?_
        have h7 := k_t1 c5 hz1 h6 (by decide)
        refine r_gfI (f := 2) (p := 43) f90_40 rfl rfl rfl (Or.inl h7) rfl ?_
        refine r_iconst (p := 44) f90_43 rfl (pinD rfl rfl) ?_
        refine r_iadd (p := 45) f90_44 rfl ?_
        refine r_pfI (f := 2) (p := 48) f90_45 rfl rfl rfl (by decide) (by decide) (Or.inl h7) rfl ?_
        exact le2_refl _
  · refine r_new (t1 := 16) (f1 := 3) (p := 125) f90_122 rfl rfl rfl rfl rfl (fun o2 m2 h2 k2 => ?_)
    have hz2 := z_k k2 hz1
    refine r_dup (p := 126) f90_125 rfl rfl ?_
    refine r_iconst (p := 127) f90_126 rfl (pinD rfl rfl) ?_
    refine r_ispV (p := 130) f90_127 rfl rfl rfl (Or.inl h2) hd (Nat.le_of_ble_eq_true rfl) rfl rfl rfl (fun _ => rfl) (fun m3 c3 => ?_)
    have hz3 := z_k c3 hz2
    refine r_asn2 (p := 131) f90_130 rfl rfl ?_
    refine r_aln0 (p := 132) f90_131 rfl ?_
    refine r_aln2 (p := 133) f90_132 rfl ?_
    have h3 := k_t1 c1 hz h1 (by decide)
    have h4 := k_t1 k2 hz1 h3 (by decide)
    have h5 := k_t1 c3 hz2 h4 (by decide)
    refine r_invV (p := 136) f90_133 rfl rfl rfl (Or.inl h5) hd (Nat.le_of_ble_eq_true rfl) rfl rfl rfl (fun _ => rfl) (fun m4 c4 => ?_)
    have hz4 := z_k c4 hz3
    exact le2_refl _
theorem q90_48 {d : Nat} {m : Mem} {a0 a1 a3 : Int} (hd : 0 < d) (hz : TZ m) : le2 (nw (nx m) (mal m 16 3) fun o1 m1 => bV (cl (d - 1) 304 [pR o1, pI a3] m1) fun m2 => if a3 = 0 then (rn d 90 78 [pR a0, pR a1, pR o1, pI a3] [] m2) else gd (tg m2 a0 = 5) <| bI (cl (d - 1) 63 [pR a0] m2) fun v3 m3 => if v3 = 91 then (bV (cl (d - 1) 91 [pR a0, pR o1] m3) fun m4 => rn d 90 136 [pR a0, pR a1, pR o1, pI a3] [] m4) else rn d 90 78 [pR a0, pR a1, pR o1, pI a3] [] m3) (rn d 90 48 [pR a0, pR a1, pU, pI a3] [] m) := by
  refine r_new (t1 := 16) (f1 := 3) (p := 51) f90_48 rfl rfl rfl rfl rfl (fun o1 m1 h1 k1 => ?_)
  have hz1 := z_k k1 hz
  refine r_dup (p := 52) f90_51 rfl rfl ?_
  refine r_iln3 (p := 53) f90_52 rfl ?_
  refine r_ispV (p := 56) f90_53 rfl rfl rfl (Or.inl h1) hd (Nat.le_of_ble_eq_true rfl) rfl rfl rfl (fun _ => rfl) (fun m2 c2 => ?_)
  have hz2 := z_k c2 hz1
  refine r_asn2 (p := 57) f90_56 rfl rfl ?_
  refine r_iln3 (p := 58) f90_57 rfl ?_
  refine r_ifeq (t := 78) (p := 61) f90_58 (by decide) rfl rfl ?_ ?_
  · exact le2_refl _
  · refine r_aln0 (p := 62) f90_61 rfl ?_
    refine le2_gd (fun h2 => ?_)
    refine r_invI (p := 65) f90_62 rfl rfl rfl (Or.inl h2) hd (Nat.le_of_ble_eq_true rfl) rfl rfl rfl (fun _ => rfl) (fun v3 m3 c3 => ?_)
    have hz3 := z_k c3 hz2
    refine r_bipush (p := 67) f90_65 rfl (pinD rfl rfl) ?_
    refine r_icne (t := 78) (p := 70) f90_67 (by decide) rfl rfl ?_ ?_
    · refine r_aln0 (p := 71) f90_70 rfl ?_
      refine r_aln2 (p := 72) f90_71 rfl ?_
      have h3 := k_t1 c3 hz2 h2 (by decide)
      refine r_invV (p := 75) f90_72 rfl rfl rfl (Or.inl h3) hd (Nat.le_of_ble_eq_true rfl) rfl rfl rfl (fun _ => rfl) (fun m4 c4 => ?_)
      have hz4 := z_k c4 hz3
      refine r_goto (p := 119) f90_75 (by decide) rfl ?_
      refine r_goto (p := 136) f90_119 (by decide) rfl ?_
      exact le2_refl _
    · exact le2_refl _
theorem q90_78 {d : Nat} {m : Mem} {a0 a1 a2 a3 : Int} (hd : 0 < d) (hz : TZ m) : le2 (gd (tg m a0 = 5) <| bI (cl (d - 1) 63 [pR a0] m) fun v1 m1 => if v1 = 42 then (nw (nx (mst m1 a0 2 (w32 ((vl m1 a0 2) + 1)))) (mal (mst m1 a0 2 (w32 ((vl m1 a0 2) + 1))) 19 0) fun o4 m4 => bV (cl (d - 1) 310 [pR o4] m4) fun m5 => gd (tg m5 a2 = 16) <| bV (cl (d - 1) 305 [pR a2, pR o4] m5) fun m6 => rn d 90 136 [pR a0, pR a1, pR a2, pI a3] [] m6) else bR (cl (d - 1) 84 [pR a0] m1) fun v2 m2 => gd (tg m2 a2 = 16) <| bV (cl (d - 1) 305 [pR a2, pR v2] m2) fun m3 => rn d 90 136 [pR a0, pR a1, pR a2, pI a3] [] m3) (rn d 90 78 [pR a0, pR a1, pR a2, pI a3] [] m) := by
  refine r_aln0 (p := 79) f90_78 rfl ?_
  refine le2_gd (fun h1 => ?_)
  refine r_invI (p := 82) f90_79 rfl rfl rfl (Or.inl h1) hd (Nat.le_of_ble_eq_true rfl) rfl rfl rfl (fun _ => rfl) (fun v1 m1 c1 => ?_)
  have hz1 := z_k c1 hz
  refine r_bipush (p := 84) f90_82 rfl (pinD rfl rfl) ?_
  refine r_icne (t := 111) (p := 87) f90_84 (by decide) rfl rfl ?_ ?_
  · refine r_aln0 (p := 88) f90_87 rfl ?_
    refine r_dup (p := 89) f90_88 rfl rfl ?_
    have h4 := k_t1 c1 hz h1 (by decide)
    refine r_gfI (f := 2) (p := 92) f90_89 rfl rfl rfl (Or.inl h4) rfl ?_
    refine r_iconst (p := 93) f90_92 rfl (pinD rfl rfl) ?_
    refine r_iadd (p := 94) f90_93 rfl ?_
    refine r_pfI (f := 2) (p := 97) f90_94 rfl rfl rfl (by decide) (by decide) (Or.inl h4) rfl ?_
    refine r_aln2 (p := 98) f90_97 rfl ?_
    refine r_new (t1 := 19) (f1 := 0) (p := 101) f90_98 rfl rfl rfl rfl rfl (fun o4 m4 h5 k4 => ?_)
    have hz4 := z_k k4 hz1
    refine r_dup (p := 102) f90_101 rfl rfl ?_
    refine r_ispV (p := 105) f90_102 rfl rfl rfl (Or.inl h5) hd (Nat.le_of_ble_eq_true rfl) rfl rfl rfl (fun _ => rfl) (fun m5 c5 => ?_)
    have hz5 := z_k c5 hz4
    refine le2_gd (fun h6 => ?_)
    refine r_invV (p := 108) f90_105 rfl rfl rfl (Or.inl h6) hd (Nat.le_of_ble_eq_true rfl) rfl rfl rfl (fun _ => rfl) (fun m6 c6 => ?_)
    have hz6 := z_k c6 hz5
    refine r_goto (p := 119) f90_108 (by decide) rfl ?_
    refine r_goto (p := 136) f90_119 (by decide) rfl ?_
    exact le2_refl _
  · refine r_aln2 (p := 112) f90_111 rfl ?_
    refine r_aln0 (p := 113) f90_112 rfl ?_
    have h2 := k_t1 c1 hz h1 (by decide)
    refine r_invR (p := 116) f90_113 rfl rfl rfl (Or.inl h2) hd (Nat.le_of_ble_eq_true rfl) rfl rfl rfl (fun _ => rfl) (fun v2 m2 c2 => ?_)
    have hz2 := z_k c2 hz1
    refine le2_gd (fun h3 => ?_)
    refine r_invV (p := 119) f90_116 rfl rfl rfl (Or.inl h3) hd (Nat.le_of_ble_eq_true rfl) rfl rfl rfl (fun _ => rfl) (fun m3 c3 => ?_)
    have hz3 := z_k c3 hz2
    refine r_goto (p := 136) f90_119 (by decide) rfl ?_
    exact le2_refl _
theorem q90_136 {d : Nat} {m : Mem} {a0 a1 a2 : Int} {z3 : PV} (hz : TZ m) (hcz3 : cat z3 = 1) : le2 (gd (tg m a2 = 16) <| if (vl m a2 0) = 0 then (if (vl m a2 2) = 1 then (nm (vl m a2 1) fun v1 => gd (tg m v1 = 305111 ∨ tg m v1 = 306111) <| gd ((0 : Int) ≤ 0 ∧ 0 < ln m v1) <| nm (vl m v1 0) fun v2 => gd (aOk 111 (tg m v2) = true) <| if (if tg m v2 = 17 then (1 : Int) else 0) = 0 then (gd (aOk 111 (tg m v2) = true) <| if (if tg m v2 = 18 then (1 : Int) else 0) = 0 then (gd (tg m a1 = 15) <| some (.inl (some (pR a2)), (mst m a1 1 0))) else some (.inl (some (pR a2)), m)) else some (.inl (some (pR a2)), m)) else gd (tg m a1 = 15) <| some (.inl (some (pR a2)), (mst m a1 1 0))) else gd (tg m a1 = 15) <| some (.inl (some (pR a2)), (mst m a1 1 0))) (rn d 90 136 [pR a0, pR a1, pR a2, z3] [] m) := by
  refine r_aln2 (p := 137) f90_136 rfl ?_
  refine le2_gd (fun h1 => ?_)
  refine r_gfIZ (f := 0) (p := 140) f90_137 rfl rfl rfl (Or.inl h1) rfl ?_
  refine r_ifne (t := 175) (p := 143) f90_140 (by decide) rfl rfl ?_ ?_
  · refine r_aln2 (p := 144) f90_143 rfl ?_
    refine r_gfI (f := 2) (p := 147) f90_144 rfl rfl rfl (Or.inl h1) rfl ?_
    refine r_iconst (p := 148) f90_147 rfl (pinD rfl rfl) ?_
    refine r_icne (t := 175) (p := 151) f90_148 (by decide) rfl rfl ?_ ?_
    · refine r_aln2 (p := 152) f90_151 rfl ?_
      refine r_gfR (f := 1) (p := 155) f90_152 rfl rfl rfl (Or.inl h1) rfl ?_
      refine r_nmR (fun v1 ev1 => ?_)
      refine r_iconst (p := 156) f90_155 rfl (pinD rfl rfl) ?_
      refine le2_gd (fun h4 => ?_)
      refine le2_gd (fun h5 => ?_)
      refine r_aaload (p := 157) f90_156 rfl (dj2 (fun x => 110 < x % 1000 ∧ x % 1000 < 119) h4 (by decide) (by decide)) h5 rfl ?_
      refine r_nmR (fun v2 ev2 => ?_)
      refine le2_gd (fun h6 => ?_)
      refine r_inst (t1 := 17) (p := 160) f90_157 rfl rfl rfl h6 ?_
      refine r_ifne (t := 180) (p := 163) f90_160 (by decide) rfl rfl ?_ ?_
      · refine r_aln2 (p := 164) f90_163 rfl ?_
        refine r_gfR (f := 1) (p := 167) f90_164 rfl rfl rfl (Or.inl h1) ev1.symm ?_
        refine r_iconst (p := 168) f90_167 rfl (pinD rfl rfl) ?_
        refine r_aaload (p := 169) f90_168 rfl (dj2 (fun x => 110 < x % 1000 ∧ x % 1000 < 119) h4 (by decide) (by decide)) h5 ev2.symm ?_
        refine le2_gd (fun h7 => ?_)
        refine r_inst (t1 := 18) (p := 172) f90_169 rfl rfl rfl h7 ?_
        refine r_ifne (t := 180) (p := 175) f90_172 (by decide) rfl rfl ?_ ?_
        · refine r_aln1 (p := 176) f90_175 rfl ?_
          refine r_iconst (p := 177) f90_176 rfl (pinD rfl rfl) ?_
          refine le2_gd (fun h8 => ?_)
          refine r_pfZ (f := 1) (p := 180) f90_177 rfl rfl rfl (by decide) (by decide) (Or.inl h8) rfl (by decide) ?_
          refine r_aln2 (p := 181) f90_180 rfl ?_
          exact r_aret f90_181
        · refine r_aln2 (p := 181) f90_180 rfl ?_
          exact r_aret f90_181
      · refine r_aln2 (p := 181) f90_180 rfl ?_
        exact r_aret f90_181
    · refine r_aln1 (p := 176) f90_175 rfl ?_
      refine r_iconst (p := 177) f90_176 rfl (pinD rfl rfl) ?_
      refine le2_gd (fun h3 => ?_)
      refine r_pfZ (f := 1) (p := 180) f90_177 rfl rfl rfl (by decide) (by decide) (Or.inl h3) rfl (by decide) ?_
      refine r_aln2 (p := 181) f90_180 rfl ?_
      exact r_aret f90_181
  · refine r_aln1 (p := 176) f90_175 rfl ?_
    refine r_iconst (p := 177) f90_176 rfl (pinD rfl rfl) ?_
    refine le2_gd (fun h2 => ?_)
    refine r_pfZ (f := 1) (p := 180) f90_177 rfl rfl rfl (by decide) (by decide) (Or.inl h2) rfl (by decide) ?_
    refine r_aln2 (p := 181) f90_180 rfl ?_
    exact r_aret f90_181
/-! 91 PathStore$Compiler.selectors (LPathStore$Segment;)V -/
def w91_2 : List UInt8 := [182, 0, 80, 42, 182, 0, 46, 167, 255, 221, 42, 16, 93, 182, 0, 117, 177]
abbrev u91_2 : List UInt8 := w91_2 ++ []
def w91_1 : List UInt8 := [16, 44, 160, 0, 32, 42, 89, 180, 0, 40, 4, 96, 181, 0, 40, 42, 182, 0, 46, 43, 42, 182, 0, 145]
abbrev u91_1 : List UInt8 := w91_1 ++ u91_2
def w91_0 : List UInt8 := [42, 182, 0, 104, 42, 182, 0, 46, 43, 42, 182, 0, 145, 182, 0, 80, 42, 182, 0, 46, 42, 182, 0, 28]
abbrev u91_0 : List UInt8 := w91_0 ++ u91_1
theorem s91_0 : (prog_4_method_11_code).data.toList.drop 0 = u91_0 := by decide +kernel
theorem s91_1 : (prog_4_method_11_code).data.toList.drop 24 = u91_1 := dk_seg s91_0 24 rfl rfl
theorem s91_2 : (prog_4_method_11_code).data.toList.drop 48 = u91_2 := dk_seg s91_1 24 rfl rfl
theorem Fm91 {pc len : Nat} {i : Instr} (h : decode (prog_4_method_11_code) pc = .ok (i, len)) (hl : len = ilen i len) : ft 91 pc = some (5, 0, 0, i, len) := ft_mk rfl h hl
theorem f91_0 : ft 91 0 = some (5, 0, 0, .aload_n 0, 1) := Fm91 (dk_42 (dk_at s91_0 0 rfl rfl)) rfl
theorem f91_1 : ft 91 1 = some (5, 0, 0, .invokevirtual 104, 3) := Fm91 (dk_182 0 104 (dk_at s91_0 1 rfl rfl)) rfl
theorem f91_4 : ft 91 4 = some (5, 0, 0, .aload_n 0, 1) := Fm91 (dk_42 (dk_at s91_0 4 rfl rfl)) rfl
theorem f91_5 : ft 91 5 = some (5, 0, 0, .invokevirtual 46, 3) := Fm91 (dk_182 0 46 (dk_at s91_0 5 rfl rfl)) rfl
theorem f91_8 : ft 91 8 = some (5, 0, 0, .aload_n 1, 1) := Fm91 (dk_43 (dk_at s91_0 8 rfl rfl)) rfl
theorem f91_9 : ft 91 9 = some (5, 0, 0, .aload_n 0, 1) := Fm91 (dk_42 (dk_at s91_0 9 rfl rfl)) rfl
theorem f91_10 : ft 91 10 = some (5, 0, 0, .invokevirtual 145, 3) := Fm91 (dk_182 0 145 (dk_at s91_0 10 rfl rfl)) rfl
theorem f91_13 : ft 91 13 = some (5, 0, 0, .invokevirtual 80, 3) := Fm91 (dk_182 0 80 (dk_at s91_0 13 rfl rfl)) rfl
theorem f91_16 : ft 91 16 = some (5, 0, 0, .aload_n 0, 1) := Fm91 (dk_42 (dk_at s91_0 16 rfl rfl)) rfl
theorem f91_17 : ft 91 17 = some (5, 0, 0, .invokevirtual 46, 3) := Fm91 (dk_182 0 46 (dk_at s91_0 17 rfl rfl)) rfl
theorem f91_20 : ft 91 20 = some (5, 0, 0, .aload_n 0, 1) := Fm91 (dk_42 (dk_at s91_0 20 rfl rfl)) rfl
theorem f91_21 : ft 91 21 = some (5, 0, 0, .invokevirtual 28, 3) := Fm91 (dk_182 0 28 (dk_at s91_0 21 rfl rfl)) rfl
theorem f91_24 : ft 91 24 = some (5, 0, 0, .bipush 44, 2) := Fm91 (dk_16 44 (dk_at s91_1 0 rfl rfl)) rfl
theorem f91_26 : ft 91 26 = some (5, 0, 0, .if_icmp .ne 32, 3) := Fm91 (dk_160 0 32 (dk_at s91_1 2 rfl rfl)) rfl
theorem f91_29 : ft 91 29 = some (5, 0, 0, .aload_n 0, 1) := Fm91 (dk_42 (dk_at s91_1 5 rfl rfl)) rfl
theorem f91_30 : ft 91 30 = some (5, 0, 0, .dup, 1) := Fm91 (dk_89 (dk_at s91_1 6 rfl rfl)) rfl
theorem f91_31 : ft 91 31 = some (5, 0, 0, .getfield 40, 3) := Fm91 (dk_180 0 40 (dk_at s91_1 7 rfl rfl)) rfl
theorem f91_34 : ft 91 34 = some (5, 0, 0, .iconst 1, 1) := Fm91 (dk_4 (dk_at s91_1 10 rfl rfl)) rfl
theorem f91_35 : ft 91 35 = some (5, 0, 0, .iadd, 1) := Fm91 (dk_96 (dk_at s91_1 11 rfl rfl)) rfl
theorem f91_36 : ft 91 36 = some (5, 0, 0, .putfield 40, 3) := Fm91 (dk_181 0 40 (dk_at s91_1 12 rfl rfl)) rfl
theorem f91_39 : ft 91 39 = some (5, 0, 0, .aload_n 0, 1) := Fm91 (dk_42 (dk_at s91_1 15 rfl rfl)) rfl
theorem f91_40 : ft 91 40 = some (5, 0, 0, .invokevirtual 46, 3) := Fm91 (dk_182 0 46 (dk_at s91_1 16 rfl rfl)) rfl
theorem f91_43 : ft 91 43 = some (5, 0, 0, .aload_n 1, 1) := Fm91 (dk_43 (dk_at s91_1 19 rfl rfl)) rfl
theorem f91_44 : ft 91 44 = some (5, 0, 0, .aload_n 0, 1) := Fm91 (dk_42 (dk_at s91_1 20 rfl rfl)) rfl
theorem f91_45 : ft 91 45 = some (5, 0, 0, .invokevirtual 145, 3) := Fm91 (dk_182 0 145 (dk_at s91_1 21 rfl rfl)) rfl
theorem f91_48 : ft 91 48 = some (5, 0, 0, .invokevirtual 80, 3) := Fm91 (dk_182 0 80 (dk_at s91_2 0 rfl rfl)) rfl
theorem f91_51 : ft 91 51 = some (5, 0, 0, .aload_n 0, 1) := Fm91 (dk_42 (dk_at s91_2 3 rfl rfl)) rfl
theorem f91_52 : ft 91 52 = some (5, 0, 0, .invokevirtual 46, 3) := Fm91 (dk_182 0 46 (dk_at s91_2 4 rfl rfl)) rfl
theorem f91_55 : ft 91 55 = some (5, 0, 0, .goto (-35), 3) := Fm91 (dk_167 255 221 (dk_at s91_2 7 rfl rfl)) rfl
theorem f91_58 : ft 91 58 = some (5, 0, 0, .aload_n 0, 1) := Fm91 (dk_42 (dk_at s91_2 10 rfl rfl)) rfl
theorem f91_59 : ft 91 59 = some (5, 0, 0, .bipush 93, 2) := Fm91 (dk_16 93 (dk_at s91_2 11 rfl rfl)) rfl
theorem f91_61 : ft 91 61 = some (5, 0, 0, .invokevirtual 117, 3) := Fm91 (dk_182 0 117 (dk_at s91_2 13 rfl rfl)) rfl
theorem f91_64 : ft 91 64 = some (5, 0, 0, .return_, 1) := Fm91 (dk_177 (dk_at s91_2 16 rfl rfl)) rfl
theorem q91 {d : Nat} {m : Mem} {a0 a1 : Int} (hd : 0 < d) (hz : TZ m) : le2 (gd (tg m a0 = 5) <| bV (cl (d - 1) 86 [pR a0] m) fun m1 => bV (cl (d - 1) 62 [pR a0] m1) fun m2 => bR (cl (d - 1) 92 [pR a0] m2) fun v3 m3 => gd (tg m3 a1 = 16) <| bV (cl (d - 1) 305 [pR a1, pR v3] m3) fun m4 => bV (cl (d - 1) 62 [pR a0] m4) fun m5 => rn d 91 20 [pR a0, pR a1] [] m5) (cl d 91 [pR a0, pR a1] m) := by
  refine q_in (n := 2) (L := [pR a0, pR a1]) rfl rfl rfl ?_
  refine r_aln0 (p := 1) f91_0 rfl ?_
  refine le2_gd (fun h1 => ?_)
  refine r_invV (p := 4) f91_1 rfl rfl rfl (Or.inl h1) hd (Nat.le_of_ble_eq_true rfl) rfl rfl rfl (fun _ => rfl) (fun m1 c1 => ?_)
  have hz1 := z_k c1 hz
  refine r_aln0 (p := 5) f91_4 rfl ?_
  have h2 := k_t1 c1 hz h1 (by decide)
  refine r_invV (p := 8) f91_5 rfl rfl rfl (Or.inl h2) hd (Nat.le_of_ble_eq_true rfl) rfl rfl rfl (fun _ => rfl) (fun m2 c2 => ?_)
  have hz2 := z_k c2 hz1
  refine r_aln1 (p := 9) f91_8 rfl ?_
  refine r_aln0 (p := 10) f91_9 rfl ?_
  have h3 := k_t1 c2 hz1 h2 (by decide)
  refine r_invR (p := 13) f91_10 rfl rfl rfl (Or.inl h3) hd (Nat.le_of_ble_eq_true rfl) rfl rfl rfl (fun _ => rfl) (fun v3 m3 c3 => ?_)
  have hz3 := z_k c3 hz2
  refine le2_gd (fun h4 => ?_)
  refine r_invV (p := 16) f91_13 rfl rfl rfl (Or.inl h4) hd (Nat.le_of_ble_eq_true rfl) rfl rfl rfl (fun _ => rfl) (fun m4 c4 => ?_)
  have hz4 := z_k c4 hz3
  refine r_aln0 (p := 17) f91_16 rfl ?_
  have h5 := k_t1 c3 hz2 h3 (by decide)
  have h6 := k_t1 c4 hz3 h5 (by decide)
  refine r_invV (p := 20) f91_17 rfl rfl rfl (Or.inl h6) hd (Nat.le_of_ble_eq_true rfl) rfl rfl rfl (fun _ => rfl) (fun m5 c5 => ?_)
  have hz5 := z_k c5 hz4
  exact le2_refl _
theorem q91_20 {d : Nat} {m : Mem} {a0 a1 : Int} (hd : 0 < d) (hz : TZ m) : le2 (gd (tg m a0 = 5) <| bI (cl (d - 1) 63 [pR a0] m) fun v1 m1 => if v1 = 44 then (bV (cl (d - 1) 62 [pR a0] (mst m1 a0 2 (w32 ((vl m1 a0 2) + 1)))) fun m3 => bR (cl (d - 1) 92 [pR a0] m3) fun v4 m4 => gd (tg m4 a1 = 16) <| bV (cl (d - 1) 305 [pR a1, pR v4] m4) fun m5 => bV (cl (d - 1) 62 [pR a0] m5) fun m6 => rn d 91 20 [pR a0, pR a1] [] m6) else bV (cl (d - 1) 89 [pR a0, pI 93] m1) fun m2 => some (.inl none, m2)) (rn d 91 20 [pR a0, pR a1] [] m) := by
  refine r_aln0 (p := 21) f91_20 rfl ?_
  refine le2_gd (fun h1 => ?_)
  refine r_invI (p := 24) f91_21 rfl rfl rfl (Or.inl h1) hd (Nat.le_of_ble_eq_true rfl) rfl rfl rfl (fun _ => rfl) (fun v1 m1 c1 => ?_)
  have hz1 := z_k c1 hz
  refine r_bipush (p := 26) f91_24 rfl (pinD rfl rfl) ?_
  refine r_icne (t := 58) (p := 29) f91_26 (by decide) rfl rfl ?_ ?_
  · refine r_aln0 (p := 30) f91_29 rfl ?_
    refine r_dup (p := 31) f91_30 rfl rfl ?_
    have h3 := k_t1 c1 hz h1 (by decide)
    refine r_gfI (f := 2) (p := 34) f91_31 rfl rfl rfl (Or.inl h3) rfl ?_
    refine r_iconst (p := 35) f91_34 rfl (pinD rfl rfl) ?_
    refine r_iadd (p := 36) f91_35 rfl ?_
    refine r_pfI (f := 2) (p := 39) f91_36 rfl rfl rfl (by decide) (by decide) (Or.inl h3) rfl ?_
    refine r_aln0 (p := 40) f91_39 rfl ?_
    refine r_invV (p := 43) f91_40 rfl rfl rfl (Or.inl h3) hd (Nat.le_of_ble_eq_true rfl) rfl rfl rfl (fun _ => rfl) (fun m3 c3 => ?_)
    have hz3 := z_k c3 hz1
    refine r_aln1 (p := 44) f91_43 rfl ?_
    refine r_aln0 (p := 45) f91_44 rfl ?_
    have h4 := k_t1 c3 hz1 h3 (by decide)
    refine r_invR (p := 48) f91_45 rfl rfl rfl (Or.inl h4) hd (Nat.le_of_ble_eq_true rfl) rfl rfl rfl (fun _ => rfl) (fun v4 m4 c4 => ?_)
    have hz4 := z_k c4 hz3
    refine le2_gd (fun h5 => ?_)
    refine r_invV (p := 51) f91_48 rfl rfl rfl (Or.inl h5) hd (Nat.le_of_ble_eq_true rfl) rfl rfl rfl (fun _ => rfl) (fun m5 c5 => ?_)
    have hz5 := z_k c5 hz4
    refine r_aln0 (p := 52) f91_51 rfl ?_
    have h6 := k_t1 c4 hz3 h4 (by decide)
    have h7 := k_t1 c5 hz4 h6 (by decide)
    refine r_invV (p := 55) f91_52 rfl rfl rfl (Or.inl h7) hd (Nat.le_of_ble_eq_true rfl) rfl rfl rfl (fun _ => rfl) (fun m6 c6 => ?_)
    have hz6 := z_k c6 hz5
    refine r_goto (p := 20) f91_55 (by decide) rfl ?_
    exact le2_refl _
  · refine r_aln0 (p := 59) f91_58 rfl ?_
    refine r_bipush (p := 61) f91_59 rfl (pinD rfl rfl) ?_
    have h2 := k_t1 c1 hz h1 (by decide)
    refine r_invV (p := 64) f91_61 rfl rfl rfl (Or.inl h2) hd (Nat.le_of_ble_eq_true rfl) rfl rfl rfl (fun _ => rfl) (fun m2 c2 => ?_)
    have hz2 := z_k c2 hz1
    exact r_ret f91_64
/-! 92 PathStore$Compiler.selector ()LPathStore$Selector; -/
def w92_9 : List UInt8 := [22, 5, 22, 7, 183, 0, 164, 176]
abbrev u92_9 : List UInt8 := w92_9 ++ []
def w92_8 : List UInt8 := [182, 0, 46, 42, 182, 0, 158, 153, 0, 9, 42, 182, 0, 110, 55, 7, 187, 0, 162, 89, 27, 32, 21, 4]
abbrev u92_8 : List UInt8 := w92_8 ++ u92_9
def w92_7 : List UInt8 := [10, 55, 7, 42, 182, 0, 28, 16, 58, 160, 0, 30, 42, 89, 180, 0, 40, 4, 96, 181, 0, 40, 42]
abbrev u92_7 : List UInt8 := w92_7 ++ u92_8
def w92_6 : List UInt8 := [182, 0, 158, 54, 4, 21, 4, 153, 0, 10, 42, 182, 0, 110, 167, 0, 4, 9, 55, 5, 42, 182, 0, 46]
abbrev u92_6 : List UInt8 := w92_6 ++ u92_7
def w92_5 : List UInt8 := [159, 0, 12, 187, 0, 99, 89, 32, 183, 0, 114, 176, 42, 16, 58, 182, 0, 52, 42, 182, 0, 46, 42]
abbrev u92_5 : List UInt8 := w92_5 ++ u92_6
def w92_4 : List UInt8 := [42, 182, 0, 110, 167, 0, 4, 9, 65, 42, 182, 0, 46, 27, 153, 0, 21, 42, 182, 0, 28, 16, 58]
abbrev u92_4 : List UInt8 := w92_4 ++ u92_5
def w92_3 : List UInt8 := [182, 0, 46, 187, 0, 149, 89, 42, 182, 0, 151, 183, 0, 155, 176, 42, 182, 0, 158, 60, 27, 153, 0, 10]
abbrev u92_3 : List UInt8 := w92_3 ++ u92_4
def w92_2 : List UInt8 := [183, 0, 79, 176, 42, 182, 0, 28, 16, 63, 160, 0, 29, 42, 89, 180, 0, 40, 4, 96, 181, 0, 40, 42]
abbrev u92_2 : List UInt8 := w92_2 ++ u92_3
def w92_1 : List UInt8 := [182, 0, 28, 16, 42, 160, 0, 21, 42, 89, 180, 0, 40, 4, 96, 181, 0, 40, 187, 0, 77, 89]
abbrev u92_1 : List UInt8 := w92_1 ++ u92_2
def w92_0 : List UInt8 := [42, 182, 0, 28, 16, 39, 159, 0, 12, 42, 182, 0, 28, 16, 34, 160, 0, 8, 42, 182, 0, 107, 176, 42]
abbrev u92_0 : List UInt8 := w92_0 ++ u92_1
theorem s92_0 : (prog_4_method_13_code).data.toList.drop 0 = u92_0 := by decide +kernel
theorem s92_1 : (prog_4_method_13_code).data.toList.drop 24 = u92_1 := dk_seg s92_0 24 rfl rfl
theorem s92_2 : (prog_4_method_13_code).data.toList.drop 46 = u92_2 := dk_seg s92_1 22 rfl rfl
theorem s92_3 : (prog_4_method_13_code).data.toList.drop 70 = u92_3 := dk_seg s92_2 24 rfl rfl
theorem s92_4 : (prog_4_method_13_code).data.toList.drop 94 = u92_4 := dk_seg s92_3 24 rfl rfl
theorem s92_5 : (prog_4_method_13_code).data.toList.drop 117 = u92_5 := dk_seg s92_4 23 rfl rfl
theorem s92_6 : (prog_4_method_13_code).data.toList.drop 140 = u92_6 := dk_seg s92_5 23 rfl rfl
theorem s92_7 : (prog_4_method_13_code).data.toList.drop 164 = u92_7 := dk_seg s92_6 24 rfl rfl
theorem s92_8 : (prog_4_method_13_code).data.toList.drop 187 = u92_8 := dk_seg s92_7 23 rfl rfl
theorem s92_9 : (prog_4_method_13_code).data.toList.drop 211 = u92_9 := dk_seg s92_8 24 rfl rfl
theorem Fm92 {pc len : Nat} {i : Instr} (h : decode (prog_4_method_13_code) pc = .ok (i, len)) (hl : len = ilen i len) : ft 92 pc = some (5, 3, 0, i, len) := ft_mk rfl h hl
theorem f92_0 : ft 92 0 = some (5, 3, 0, .aload_n 0, 1) := Fm92 (dk_42 (dk_at s92_0 0 rfl rfl)) rfl
theorem f92_1 : ft 92 1 = some (5, 3, 0, .invokevirtual 28, 3) := Fm92 (dk_182 0 28 (dk_at s92_0 1 rfl rfl)) rfl
theorem f92_4 : ft 92 4 = some (5, 3, 0, .bipush 39, 2) := Fm92 (dk_16 39 (dk_at s92_0 4 rfl rfl)) rfl
theorem f92_6 : ft 92 6 = some (5, 3, 0, .if_icmp .eq 12, 3) := Fm92 (dk_159 0 12 (dk_at s92_0 6 rfl rfl)) rfl
theorem f92_9 : ft 92 9 = some (5, 3, 0, .aload_n 0, 1) := Fm92 (dk_42 (dk_at s92_0 9 rfl rfl)) rfl
theorem f92_10 : ft 92 10 = some (5, 3, 0, .invokevirtual 28, 3) := Fm92 (dk_182 0 28 (dk_at s92_0 10 rfl rfl)) rfl
theorem f92_13 : ft 92 13 = some (5, 3, 0, .bipush 34, 2) := Fm92 (dk_16 34 (dk_at s92_0 13 rfl rfl)) rfl
theorem f92_15 : ft 92 15 = some (5, 3, 0, .if_icmp .ne 8, 3) := Fm92 (dk_160 0 8 (dk_at s92_0 15 rfl rfl)) rfl
theorem f92_18 : ft 92 18 = some (5, 3, 0, .aload_n 0, 1) := Fm92 (dk_42 (dk_at s92_0 18 rfl rfl)) rfl
theorem f92_19 : ft 92 19 = some (5, 3, 0, .invokevirtual 107, 3) := Fm92 (dk_182 0 107 (dk_at s92_0 19 rfl rfl)) rfl
theorem f92_22 : ft 92 22 = some (5, 3, 0, .areturn, 1) := Fm92 (dk_176 (dk_at s92_0 22 rfl rfl)) rfl
theorem f92_23 : ft 92 23 = some (5, 3, 0, .aload_n 0, 1) := Fm92 (dk_42 (dk_at s92_0 23 rfl rfl)) rfl
theorem f92_24 : ft 92 24 = some (5, 3, 0, .invokevirtual 28, 3) := Fm92 (dk_182 0 28 (dk_at s92_1 0 rfl rfl)) rfl
theorem f92_27 : ft 92 27 = some (5, 3, 0, .bipush 42, 2) := Fm92 (dk_16 42 (dk_at s92_1 3 rfl rfl)) rfl
theorem f92_29 : ft 92 29 = some (5, 3, 0, .if_icmp .ne 21, 3) := Fm92 (dk_160 0 21 (dk_at s92_1 5 rfl rfl)) rfl
theorem f92_32 : ft 92 32 = some (5, 3, 0, .aload_n 0, 1) := Fm92 (dk_42 (dk_at s92_1 8 rfl rfl)) rfl
theorem f92_33 : ft 92 33 = some (5, 3, 0, .dup, 1) := Fm92 (dk_89 (dk_at s92_1 9 rfl rfl)) rfl
theorem f92_34 : ft 92 34 = some (5, 3, 0, .getfield 40, 3) := Fm92 (dk_180 0 40 (dk_at s92_1 10 rfl rfl)) rfl
theorem f92_37 : ft 92 37 = some (5, 3, 0, .iconst 1, 1) := Fm92 (dk_4 (dk_at s92_1 13 rfl rfl)) rfl
theorem f92_38 : ft 92 38 = some (5, 3, 0, .iadd, 1) := Fm92 (dk_96 (dk_at s92_1 14 rfl rfl)) rfl
theorem f92_39 : ft 92 39 = some (5, 3, 0, .putfield 40, 3) := Fm92 (dk_181 0 40 (dk_at s92_1 15 rfl rfl)) rfl
theorem f92_42 : ft 92 42 = some (5, 3, 0, .new 77, 3) := Fm92 (dk_187 0 77 (dk_at s92_1 18 rfl rfl)) rfl
theorem f92_45 : ft 92 45 = some (5, 3, 0, .dup, 1) := Fm92 (dk_89 (dk_at s92_1 21 rfl rfl)) rfl
theorem f92_46 : ft 92 46 = some (5, 3, 0, .invokespecial 79, 3) := Fm92 (dk_183 0 79 (dk_at s92_2 0 rfl rfl)) rfl
theorem f92_49 : ft 92 49 = some (5, 3, 0, .areturn, 1) := Fm92 (dk_176 (dk_at s92_2 3 rfl rfl)) rfl
theorem f92_50 : ft 92 50 = some (5, 3, 0, .aload_n 0, 1) := Fm92 (dk_42 (dk_at s92_2 4 rfl rfl)) rfl
theorem f92_51 : ft 92 51 = some (5, 3, 0, .invokevirtual 28, 3) := Fm92 (dk_182 0 28 (dk_at s92_2 5 rfl rfl)) rfl
theorem f92_54 : ft 92 54 = some (5, 3, 0, .bipush 63, 2) := Fm92 (dk_16 63 (dk_at s92_2 8 rfl rfl)) rfl
theorem f92_56 : ft 92 56 = some (5, 3, 0, .if_icmp .ne 29, 3) := Fm92 (dk_160 0 29 (dk_at s92_2 10 rfl rfl)) rfl
theorem f92_59 : ft 92 59 = some (5, 3, 0, .aload_n 0, 1) := Fm92 (dk_42 (dk_at s92_2 13 rfl rfl)) rfl
theorem f92_60 : ft 92 60 = some (5, 3, 0, .dup, 1) := Fm92 (dk_89 (dk_at s92_2 14 rfl rfl)) rfl
theorem f92_61 : ft 92 61 = some (5, 3, 0, .getfield 40, 3) := Fm92 (dk_180 0 40 (dk_at s92_2 15 rfl rfl)) rfl
theorem f92_64 : ft 92 64 = some (5, 3, 0, .iconst 1, 1) := Fm92 (dk_4 (dk_at s92_2 18 rfl rfl)) rfl
theorem f92_65 : ft 92 65 = some (5, 3, 0, .iadd, 1) := Fm92 (dk_96 (dk_at s92_2 19 rfl rfl)) rfl
theorem f92_66 : ft 92 66 = some (5, 3, 0, .putfield 40, 3) := Fm92 (dk_181 0 40 (dk_at s92_2 20 rfl rfl)) rfl
theorem f92_69 : ft 92 69 = some (5, 3, 0, .aload_n 0, 1) := Fm92 (dk_42 (dk_at s92_2 23 rfl rfl)) rfl
theorem f92_70 : ft 92 70 = some (5, 3, 0, .invokevirtual 46, 3) := Fm92 (dk_182 0 46 (dk_at s92_3 0 rfl rfl)) rfl
theorem f92_73 : ft 92 73 = some (5, 3, 0, .new 149, 3) := Fm92 (dk_187 0 149 (dk_at s92_3 3 rfl rfl)) rfl
theorem f92_76 : ft 92 76 = some (5, 3, 0, .dup, 1) := Fm92 (dk_89 (dk_at s92_3 6 rfl rfl)) rfl
theorem f92_77 : ft 92 77 = some (5, 3, 0, .aload_n 0, 1) := Fm92 (dk_42 (dk_at s92_3 7 rfl rfl)) rfl
theorem f92_78 : ft 92 78 = some (5, 3, 0, .invokevirtual 151, 3) := Fm92 (dk_182 0 151 (dk_at s92_3 8 rfl rfl)) rfl
theorem f92_81 : ft 92 81 = some (5, 3, 0, .invokespecial 155, 3) := Fm92 (dk_183 0 155 (dk_at s92_3 11 rfl rfl)) rfl
theorem f92_84 : ft 92 84 = some (5, 3, 0, .areturn, 1) := Fm92 (dk_176 (dk_at s92_3 14 rfl rfl)) rfl
theorem f92_85 : ft 92 85 = some (5, 3, 0, .aload_n 0, 1) := Fm92 (dk_42 (dk_at s92_3 15 rfl rfl)) rfl
theorem f92_86 : ft 92 86 = some (5, 3, 0, .invokevirtual 158, 3) := Fm92 (dk_182 0 158 (dk_at s92_3 16 rfl rfl)) rfl
theorem f92_89 : ft 92 89 = some (5, 3, 0, .istore_n 1, 1) := Fm92 (dk_60 (dk_at s92_3 19 rfl rfl)) rfl
theorem f92_90 : ft 92 90 = some (5, 3, 0, .iload_n 1, 1) := Fm92 (dk_27 (dk_at s92_3 20 rfl rfl)) rfl
theorem f92_91 : ft 92 91 = some (5, 3, 0, .ifCond .eq 10, 3) := Fm92 (dk_153 0 10 (dk_at s92_3 21 rfl rfl)) rfl
theorem f92_94 : ft 92 94 = some (5, 3, 0, .aload_n 0, 1) := Fm92 (dk_42 (dk_at s92_4 0 rfl rfl)) rfl
theorem f92_95 : ft 92 95 = some (5, 3, 0, .invokevirtual 110, 3) := Fm92 (dk_182 0 110 (dk_at s92_4 1 rfl rfl)) rfl
theorem f92_98 : ft 92 98 = some (5, 3, 0, .goto 4, 3) := Fm92 (dk_167 0 4 (dk_at s92_4 4 rfl rfl)) rfl
theorem f92_101 : ft 92 101 = some (5, 3, 0, .lconst 0, 1) := Fm92 (dk_9 (dk_at s92_4 7 rfl rfl)) rfl
theorem f92_102 : ft 92 102 = some (5, 3, 0, .lstore_n 2, 1) := Fm92 (dk_65 (dk_at s92_4 8 rfl rfl)) rfl
theorem f92_103 : ft 92 103 = some (5, 3, 0, .aload_n 0, 1) := Fm92 (dk_42 (dk_at s92_4 9 rfl rfl)) rfl
theorem f92_104 : ft 92 104 = some (5, 3, 0, .invokevirtual 46, 3) := Fm92 (dk_182 0 46 (dk_at s92_4 10 rfl rfl)) rfl
theorem f92_107 : ft 92 107 = some (5, 3, 0, .iload_n 1, 1) := Fm92 (dk_27 (dk_at s92_4 13 rfl rfl)) rfl
theorem f92_108 : ft 92 108 = some (5, 3, 0, .ifCond .eq 21, 3) := Fm92 (dk_153 0 21 (dk_at s92_4 14 rfl rfl)) rfl
theorem f92_111 : ft 92 111 = some (5, 3, 0, .aload_n 0, 1) := Fm92 (dk_42 (dk_at s92_4 17 rfl rfl)) rfl
theorem f92_112 : ft 92 112 = some (5, 3, 0, .invokevirtual 28, 3) := Fm92 (dk_182 0 28 (dk_at s92_4 18 rfl rfl)) rfl
theorem f92_115 : ft 92 115 = some (5, 3, 0, .bipush 58, 2) := Fm92 (dk_16 58 (dk_at s92_4 21 rfl rfl)) rfl
theorem f92_117 : ft 92 117 = some (5, 3, 0, .if_icmp .eq 12, 3) := Fm92 (dk_159 0 12 (dk_at s92_5 0 rfl rfl)) rfl
theorem f92_120 : ft 92 120 = some (5, 3, 0, .new 99, 3) := Fm92 (dk_187 0 99 (dk_at s92_5 3 rfl rfl)) rfl
theorem f92_123 : ft 92 123 = some (5, 3, 0, .dup, 1) := Fm92 (dk_89 (dk_at s92_5 6 rfl rfl)) rfl
theorem f92_124 : ft 92 124 = some (5, 3, 0, .lload_n 2, 1) := Fm92 (dk_32 (dk_at s92_5 7 rfl rfl)) rfl
theorem f92_125 : ft 92 125 = some (5, 3, 0, .invokespecial 114, 3) := Fm92 (dk_183 0 114 (dk_at s92_5 8 rfl rfl)) rfl
theorem f92_128 : ft 92 128 = some (5, 3, 0, .areturn, 1) := Fm92 (dk_176 (dk_at s92_5 11 rfl rfl)) rfl
theorem f92_129 : ft 92 129 = some (5, 3, 0, .aload_n 0, 1) := Fm92 (dk_42 (dk_at s92_5 12 rfl rfl)) rfl
theorem f92_130 : ft 92 130 = some (5, 3, 0, .bipush 58, 2) := Fm92 (dk_16 58 (dk_at s92_5 13 rfl rfl)) rfl
theorem f92_132 : ft 92 132 = some (5, 3, 0, .invokevirtual 52, 3) := Fm92 (dk_182 0 52 (dk_at s92_5 15 rfl rfl)) rfl
theorem f92_135 : ft 92 135 = some (5, 3, 0, .aload_n 0, 1) := Fm92 (dk_42 (dk_at s92_5 18 rfl rfl)) rfl
theorem f92_136 : ft 92 136 = some (5, 3, 0, .invokevirtual 46, 3) := Fm92 (dk_182 0 46 (dk_at s92_5 19 rfl rfl)) rfl
theorem f92_139 : ft 92 139 = some (5, 3, 0, .aload_n 0, 1) := Fm92 (dk_42 (dk_at s92_5 22 rfl rfl)) rfl
theorem f92_140 : ft 92 140 = some (5, 3, 0, .invokevirtual 158, 3) := Fm92 (dk_182 0 158 (dk_at s92_6 0 rfl rfl)) rfl
theorem f92_143 : ft 92 143 = some (5, 3, 0, .istore 4, 2) := Fm92 (dk_54 4 (dk_at s92_6 3 rfl rfl)) rfl
theorem f92_145 : ft 92 145 = some (5, 3, 0, .iload 4, 2) := Fm92 (dk_21 4 (dk_at s92_6 5 rfl rfl)) rfl
theorem f92_147 : ft 92 147 = some (5, 3, 0, .ifCond .eq 10, 3) := Fm92 (dk_153 0 10 (dk_at s92_6 7 rfl rfl)) rfl
theorem f92_150 : ft 92 150 = some (5, 3, 0, .aload_n 0, 1) := Fm92 (dk_42 (dk_at s92_6 10 rfl rfl)) rfl
theorem f92_151 : ft 92 151 = some (5, 3, 0, .invokevirtual 110, 3) := Fm92 (dk_182 0 110 (dk_at s92_6 11 rfl rfl)) rfl
theorem f92_154 : ft 92 154 = some (5, 3, 0, .goto 4, 3) := Fm92 (dk_167 0 4 (dk_at s92_6 14 rfl rfl)) rfl
theorem f92_157 : ft 92 157 = some (5, 3, 0, .lconst 0, 1) := Fm92 (dk_9 (dk_at s92_6 17 rfl rfl)) rfl
theorem f92_158 : ft 92 158 = some (5, 3, 0, .lstore 5, 2) := Fm92 (dk_55 5 (dk_at s92_6 18 rfl rfl)) rfl
theorem f92_160 : ft 92 160 = some (5, 3, 0, .aload_n 0, 1) := Fm92 (dk_42 (dk_at s92_6 20 rfl rfl)) rfl
theorem f92_161 : ft 92 161 = some (5, 3, 0, .invokevirtual 46, 3) := Fm92 (dk_182 0 46 (dk_at s92_6 21 rfl rfl)) rfl
theorem f92_164 : ft 92 164 = some (5, 3, 0, .lconst 1, 1) := Fm92 (dk_10 (dk_at s92_7 0 rfl rfl)) rfl
theorem f92_165 : ft 92 165 = some (5, 3, 0, .lstore 7, 2) := Fm92 (dk_55 7 (dk_at s92_7 1 rfl rfl)) rfl
theorem f92_167 : ft 92 167 = some (5, 3, 0, .aload_n 0, 1) := Fm92 (dk_42 (dk_at s92_7 3 rfl rfl)) rfl
theorem f92_168 : ft 92 168 = some (5, 3, 0, .invokevirtual 28, 3) := Fm92 (dk_182 0 28 (dk_at s92_7 4 rfl rfl)) rfl
theorem f92_171 : ft 92 171 = some (5, 3, 0, .bipush 58, 2) := Fm92 (dk_16 58 (dk_at s92_7 7 rfl rfl)) rfl
theorem f92_173 : ft 92 173 = some (5, 3, 0, .if_icmp .ne 30, 3) := Fm92 (dk_160 0 30 (dk_at s92_7 9 rfl rfl)) rfl
theorem f92_176 : ft 92 176 = some (5, 3, 0, .aload_n 0, 1) := Fm92 (dk_42 (dk_at s92_7 12 rfl rfl)) rfl
theorem f92_177 : ft 92 177 = some (5, 3, 0, .dup, 1) := Fm92 (dk_89 (dk_at s92_7 13 rfl rfl)) rfl
theorem f92_178 : ft 92 178 = some (5, 3, 0, .getfield 40, 3) := Fm92 (dk_180 0 40 (dk_at s92_7 14 rfl rfl)) rfl
theorem f92_181 : ft 92 181 = some (5, 3, 0, .iconst 1, 1) := Fm92 (dk_4 (dk_at s92_7 17 rfl rfl)) rfl
theorem f92_182 : ft 92 182 = some (5, 3, 0, .iadd, 1) := Fm92 (dk_96 (dk_at s92_7 18 rfl rfl)) rfl
theorem f92_183 : ft 92 183 = some (5, 3, 0, .putfield 40, 3) := Fm92 (dk_181 0 40 (dk_at s92_7 19 rfl rfl)) rfl
theorem f92_186 : ft 92 186 = some (5, 3, 0, .aload_n 0, 1) := Fm92 (dk_42 (dk_at s92_7 22 rfl rfl)) rfl
theorem f92_187 : ft 92 187 = some (5, 3, 0, .invokevirtual 46, 3) := Fm92 (dk_182 0 46 (dk_at s92_8 0 rfl rfl)) rfl
theorem f92_190 : ft 92 190 = some (5, 3, 0, .aload_n 0, 1) := Fm92 (dk_42 (dk_at s92_8 3 rfl rfl)) rfl
theorem f92_191 : ft 92 191 = some (5, 3, 0, .invokevirtual 158, 3) := Fm92 (dk_182 0 158 (dk_at s92_8 4 rfl rfl)) rfl
theorem f92_194 : ft 92 194 = some (5, 3, 0, .ifCond .eq 9, 3) := Fm92 (dk_153 0 9 (dk_at s92_8 7 rfl rfl)) rfl
theorem f92_197 : ft 92 197 = some (5, 3, 0, .aload_n 0, 1) := Fm92 (dk_42 (dk_at s92_8 10 rfl rfl)) rfl
theorem f92_198 : ft 92 198 = some (5, 3, 0, .invokevirtual 110, 3) := Fm92 (dk_182 0 110 (dk_at s92_8 11 rfl rfl)) rfl
theorem f92_201 : ft 92 201 = some (5, 3, 0, .lstore 7, 2) := Fm92 (dk_55 7 (dk_at s92_8 14 rfl rfl)) rfl
theorem f92_203 : ft 92 203 = some (5, 3, 0, .new 162, 3) := Fm92 (dk_187 0 162 (dk_at s92_8 16 rfl rfl)) rfl
theorem f92_206 : ft 92 206 = some (5, 3, 0, .dup, 1) := Fm92 (dk_89 (dk_at s92_8 19 rfl rfl)) rfl
theorem f92_207 : ft 92 207 = some (5, 3, 0, .iload_n 1, 1) := Fm92 (dk_27 (dk_at s92_8 20 rfl rfl)) rfl
theorem f92_208 : ft 92 208 = some (5, 3, 0, .lload_n 2, 1) := Fm92 (dk_32 (dk_at s92_8 21 rfl rfl)) rfl
theorem f92_209 : ft 92 209 = some (5, 3, 0, .iload 4, 2) := Fm92 (dk_21 4 (dk_at s92_8 22 rfl rfl)) rfl
theorem f92_211 : ft 92 211 = some (5, 3, 0, .lload 5, 2) := Fm92 (dk_22 5 (dk_at s92_9 0 rfl rfl)) rfl
theorem f92_213 : ft 92 213 = some (5, 3, 0, .lload 7, 2) := Fm92 (dk_22 7 (dk_at s92_9 2 rfl rfl)) rfl
theorem f92_215 : ft 92 215 = some (5, 3, 0, .invokespecial 164, 3) := Fm92 (dk_183 0 164 (dk_at s92_9 4 rfl rfl)) rfl
theorem f92_218 : ft 92 218 = some (5, 3, 0, .areturn, 1) := Fm92 (dk_176 (dk_at s92_9 7 rfl rfl)) rfl
theorem q92 {d : Nat} {m : Mem} {a0 : Int} (hd : 0 < d) (hz : TZ m) : le2 (gd (tg m a0 = 5) <| bI (cl (d - 1) 63 [pR a0] m) fun v1 m1 => if v1 = 39 then (bR (cl (d - 1) 87 [pR a0] m1) fun v2 m2 => some (.inl (some (pR v2)), m2)) else bI (cl (d - 1) 63 [pR a0] m1) fun v3 m3 => if v3 = 34 then (bR (cl (d - 1) 87 [pR a0] m3) fun v14 m14 => some (.inl (some (pR v14)), m14)) else bI (cl (d - 1) 63 [pR a0] m3) fun v4 m4 => if v4 = 42 then (nw (nx (mst m4 a0 2 (w32 ((vl m4 a0 2) + 1)))) (mal (mst m4 a0 2 (w32 ((vl m4 a0 2) + 1))) 19 0) fun o12 m12 => bV (cl (d - 1) 310 [pR o12] m12) fun m13 => some (.inl (some (pR o12)), m13)) else bI (cl (d - 1) 63 [pR a0] m4) fun v5 m5 => if v5 = 63 then (bV (cl (d - 1) 62 [pR a0] (mst m5 a0 2 (w32 ((vl m5 a0 2) + 1)))) fun m8 => nw (nx m8) (mal m8 20 1) fun o9 m9 => bR (cl (d - 1) 93 [pR a0] m9) fun v10 m10 => bV (cl (d - 1) 312 [pR o9, pR v10] m10) fun m11 => some (.inl (some (pR o9)), m11)) else bI (cl (d - 1) 102 [pR a0] m5) fun v6 m6 => if v6 = 0 then (rn d 92 102 [pR a0, pI v6, pU, pU, pU, pU, pU, pU, pU] [pL 0] m6) else bL (cl (d - 1) 88 [pR a0] m6) fun v7 m7 => rn d 92 102 [pR a0, pI v6, pU, pU, pU, pU, pU, pU, pU] [pL v7] m7) (cl d 92 [pR a0] m) := by
  refine q_in (n := 9) (L := [pR a0, pU, pU, pU, pU, pU, pU, pU, pU]) rfl rfl rfl ?_
  refine r_aln0 (p := 1) f92_0 rfl ?_
  refine le2_gd (fun h1 => ?_)
  refine r_invI (p := 4) f92_1 rfl rfl rfl (Or.inl h1) hd (Nat.le_of_ble_eq_true rfl) rfl rfl rfl (fun _ => rfl) (fun v1 m1 c1 => ?_)
  have hz1 := z_k c1 hz
  refine r_bipush (p := 6) f92_4 rfl (pinD rfl rfl) ?_
  refine r_iceq (t := 18) (p := 9) f92_6 (by decide) rfl rfl ?_ ?_
  · refine r_aln0 (p := 19) f92_18 rfl ?_
    have h2 := k_t1 c1 hz h1 (by decide)
    refine r_invR (p := 22) f92_19 rfl rfl rfl (Or.inl h2) hd (Nat.le_of_ble_eq_true rfl) rfl rfl rfl (fun _ => rfl) (fun v2 m2 c2 => ?_)
    have hz2 := z_k c2 hz1
    exact r_aret f92_22
  · refine r_aln0 (p := 10) f92_9 rfl ?_
    have h3 := k_t1 c1 hz h1 (by decide)
    refine r_invI (p := 13) f92_10 rfl rfl rfl (Or.inl h3) hd (Nat.le_of_ble_eq_true rfl) rfl rfl rfl (fun _ => rfl) (fun v3 m3 c3 => ?_)
    have hz3 := z_k c3 hz1
    refine r_bipush (p := 15) f92_13 rfl (pinD rfl rfl) ?_
    refine r_icne (t := 23) (p := 18) f92_15 (by decide) rfl rfl ?_ ?_
    · refine r_aln0 (p := 19) f92_18 rfl ?_
      have h15 := k_t1 c3 hz1 h3 (by decide)
      refine r_invR (p := 22) f92_19 rfl rfl rfl (Or.inl h15) hd (Nat.le_of_ble_eq_true rfl) rfl rfl rfl (fun _ => rfl) (fun v14 m14 c14 => ?_)
      have hz14 := z_k c14 hz3
      exact r_aret f92_22
    · refine r_aln0 (p := 24) f92_23 rfl ?_
      have h4 := k_t1 c3 hz1 h3 (by decide)
      refine r_invI (p := 27) f92_24 rfl rfl rfl (Or.inl h4) hd (Nat.le_of_ble_eq_true rfl) rfl rfl rfl (fun _ => rfl) (fun v4 m4 c4 => ?_)
      have hz4 := z_k c4 hz3
      refine r_bipush (p := 29) f92_27 rfl (pinD rfl rfl) ?_
      refine r_icne (t := 50) (p := 32) f92_29 (by decide) rfl rfl ?_ ?_
      · refine r_aln0 (p := 33) f92_32 rfl ?_
        refine r_dup (p := 34) f92_33 rfl rfl ?_
        have h13 := k_t1 c4 hz3 h4 (by decide)
        refine r_gfI (f := 2) (p := 37) f92_34 rfl rfl rfl (Or.inl h13) rfl ?_
        refine r_iconst (p := 38) f92_37 rfl (pinD rfl rfl) ?_
        refine r_iadd (p := 39) f92_38 rfl ?_
        refine r_pfI (f := 2) (p := 42) f92_39 rfl rfl rfl (by decide) (by decide) (Or.inl h13) rfl ?_
        refine r_new (t1 := 19) (f1 := 0) (p := 45) f92_42 rfl rfl rfl rfl rfl (fun o12 m12 h14 k12 => ?_)
        have hz12 := z_k k12 hz4
        refine r_dup (p := 46) f92_45 rfl rfl ?_
        refine r_ispV (p := 49) f92_46 rfl rfl rfl (Or.inl h14) hd (Nat.le_of_ble_eq_true rfl) rfl rfl rfl (fun _ => rfl) (fun m13 c13 => ?_)
        have hz13 := z_k c13 hz12
        exact r_aret f92_49
      · refine r_aln0 (p := 51) f92_50 rfl ?_
        have h5 := k_t1 c4 hz3 h4 (by decide)
        refine r_invI (p := 54) f92_51 rfl rfl rfl (Or.inl h5) hd (Nat.le_of_ble_eq_true rfl) rfl rfl rfl (fun _ => rfl) (fun v5 m5 c5 => ?_)
        have hz5 := z_k c5 hz4
        refine r_bipush (p := 56) f92_54 rfl (pinD rfl rfl) ?_
        refine r_icne (t := 85) (p := 59) f92_56 (by decide) rfl rfl ?_ ?_
        · refine r_aln0 (p := 60) f92_59 rfl ?_
          refine r_dup (p := 61) f92_60 rfl rfl ?_
          have h8 := k_t1 c5 hz4 h5 (by decide)
          refine r_gfI (f := 2) (p := 64) f92_61 rfl rfl rfl (Or.inl h8) rfl ?_
          refine r_iconst (p := 65) f92_64 rfl (pinD rfl rfl) ?_
          refine r_iadd (p := 66) f92_65 rfl ?_
          refine r_pfI (f := 2) (p := 69) f92_66 rfl rfl rfl (by decide) (by decide) (Or.inl h8) rfl ?_
          refine r_aln0 (p := 70) f92_69 rfl ?_
          refine r_invV (p := 73) f92_70 rfl rfl rfl (Or.inl h8) hd (Nat.le_of_ble_eq_true rfl) rfl rfl rfl (fun _ => rfl) (fun m8 c8 => ?_)
          have hz8 := z_k c8 hz5
          refine r_new (t1 := 20) (f1 := 1) (p := 76) f92_73 rfl rfl rfl rfl rfl (fun o9 m9 h9 k9 => ?_)
          have hz9 := z_k k9 hz8
          refine r_dup (p := 77) f92_76 rfl rfl ?_
          refine r_aln0 (p := 78) f92_77 rfl ?_
          have h10 := k_t1 c8 hz5 h8 (by decide)
          have h11 := k_t1 k9 hz8 h10 (by decide)
          refine r_invR (p := 81) f92_78 rfl rfl rfl (Or.inl h11) hd (Nat.le_of_ble_eq_true rfl) rfl rfl rfl (fun _ => rfl) (fun v10 m10 c10 => ?_)
          have hz10 := z_k c10 hz9
          have h12 := k_t1 c10 hz9 h9 (by decide)
          refine r_ispV (p := 84) f92_81 rfl rfl rfl (Or.inl h12) hd (Nat.le_of_ble_eq_true rfl) rfl rfl rfl (fun _ => rfl) (fun m11 c11 => ?_)
          have hz11 := z_k c11 hz10
          exact r_aret f92_84
        · refine r_aln0 (p := 86) f92_85 rfl ?_
          have h6 := k_t1 c5 hz4 h5 (by decide)
          refine r_invI (p := 89) f92_86 rfl rfl rfl (Or.inl h6) hd (Nat.le_of_ble_eq_true rfl) rfl rfl rfl (fun _ => rfl) (fun v6 m6 c6 => ?_)
          have hz6 := z_k c6 hz5
          refine r_isn1 (p := 90) f92_89 rfl rfl ?_
          refine r_iln1 (p := 91) f92_90 rfl ?_
          refine r_ifeq (t := 101) (p := 94) f92_91 (by decide) rfl rfl ?_ ?_
          · refine r_lconst0 (p := 102) f92_101 rfl ?_
            exact le2_refl _
          · refine r_aln0 (p := 95) f92_94 rfl ?_
            have h7 := k_t1 c6 hz5 h6 (by decide)
            refine r_invL (p := 98) f92_95 rfl rfl rfl (Or.inl h7) hd (Nat.le_of_ble_eq_true rfl) rfl rfl rfl (fun _ => rfl) (fun v7 m7 c7 => ?_)
            have hz7 := z_k c7 hz6
            refine r_goto (p := 102) f92_98 (by decide) rfl ?_
            exact le2_refl _
theorem q92_102 {d : Nat} {m : Mem} {a0 a1 s0 : Int} (hd : 0 < d) (hz : TZ m) : le2 (gd (tg m a0 = 5) <| bV (cl (d - 1) 62 [pR a0] m) fun m1 => if a1 = 0 then (rn d 92 129 [pR a0, pI a1, pL s0, pU, pU, pU, pU, pU, pU] [] m1) else bI (cl (d - 1) 63 [pR a0] m1) fun v2 m2 => if v2 = 58 then (rn d 92 129 [pR a0, pI a1, pL s0, pU, pU, pU, pU, pU, pU] [] m2) else nw (nx m2) (mal m2 18 1) fun o3 m3 => bV (cl (d - 1) 308 [pR o3, pL s0] m3) fun m4 => some (.inl (some (pR o3)), m4)) (rn d 92 102 [pR a0, pI a1, pU, pU, pU, pU, pU, pU, pU] [pL s0] m) := by
  refine r_lsn2 (p := 103) f92_102 rfl rfl ?_
  refine r_aln0 (p := 104) f92_103 rfl ?_
  refine le2_gd (fun h1 => ?_)
  refine r_invV (p := 107) f92_104 rfl rfl rfl (Or.inl h1) hd (Nat.le_of_ble_eq_true rfl) rfl rfl rfl (fun _ => rfl) (fun m1 c1 => ?_)
  have hz1 := z_k c1 hz
  refine r_iln1 (p := 108) f92_107 rfl ?_
  refine r_ifeq (t := 129) (p := 111) f92_108 (by decide) rfl rfl ?_ ?_
  · exact le2_refl _
  · refine r_aln0 (p := 112) f92_111 rfl ?_
    have h2 := k_t1 c1 hz h1 (by decide)
    refine r_invI (p := 115) f92_112 rfl rfl rfl (Or.inl h2) hd (Nat.le_of_ble_eq_true rfl) rfl rfl rfl (fun _ => rfl) (fun v2 m2 c2 => ?_)
    have hz2 := z_k c2 hz1
    refine r_bipush (p := 117) f92_115 rfl (pinD rfl rfl) ?_
    refine r_iceq (t := 129) (p := 120) f92_117 (by decide) rfl rfl ?_ ?_
    · exact le2_refl _
    · refine r_new (t1 := 18) (f1 := 1) (p := 123) f92_120 rfl rfl rfl rfl rfl (fun o3 m3 h3 k3 => ?_)
      have hz3 := z_k k3 hz2
      refine r_dup (p := 124) f92_123 rfl rfl ?_
      refine r_lln2 (p := 125) f92_124 rfl ?_
      refine r_ispV (p := 128) f92_125 rfl rfl rfl (Or.inl h3) hd (Nat.le_of_ble_eq_true rfl) rfl rfl rfl (fun _ => rfl) (fun m4 c4 => ?_)
      have hz4 := z_k c4 hz3
      exact r_aret f92_128
theorem q92_129 {d : Nat} {m : Mem} {a0 a1 a2 : Int} (hd : 0 < d) (hz : TZ m) : le2 (gd (tg m a0 = 5) <| bV (cl (d - 1) 65 [pR a0, pI 58] m) fun m1 => bV (cl (d - 1) 62 [pR a0] m1) fun m2 => bI (cl (d - 1) 102 [pR a0] m2) fun v3 m3 => if v3 = 0 then (rn d 92 158 [pR a0, pI a1, pL a2, pU, pI v3, pU, pU, pU, pU] [pL 0] m3) else bL (cl (d - 1) 88 [pR a0] m3) fun v4 m4 => rn d 92 158 [pR a0, pI a1, pL a2, pU, pI v3, pU, pU, pU, pU] [pL v4] m4) (rn d 92 129 [pR a0, pI a1, pL a2, pU, pU, pU, pU, pU, pU] [] m) := by
  refine r_aln0 (p := 130) f92_129 rfl ?_
  refine r_bipush (p := 132) f92_130 rfl (pinD rfl rfl) ?_
  refine le2_gd (fun h1 => ?_)
  refine r_invV (p := 135) f92_132 rfl rfl rfl (Or.inl h1) hd (Nat.le_of_ble_eq_true rfl) rfl rfl rfl (fun _ => rfl) (fun m1 c1 => ?_)
  have hz1 := z_k c1 hz
  refine r_aln0 (p := 136) f92_135 rfl ?_
  have h2 := k_t1 c1 hz h1 (by decide)
  refine r_invV (p := 139) f92_136 rfl rfl rfl (Or.inl h2) hd (Nat.le_of_ble_eq_true rfl) rfl rfl rfl (fun _ => rfl) (fun m2 c2 => ?_)
  have hz2 := z_k c2 hz1
  refine r_aln0 (p := 140) f92_139 rfl ?_
  have h3 := k_t1 c2 hz1 h2 (by decide)
  refine r_invI (p := 143) f92_140 rfl rfl rfl (Or.inl h3) hd (Nat.le_of_ble_eq_true rfl) rfl rfl rfl (fun _ => rfl) (fun v3 m3 c3 => ?_)
  have hz3 := z_k c3 hz2
  refine r_isw4 (p := 145) f92_143 rfl rfl ?_
  refine r_ilw4 (p := 147) f92_145 rfl ?_
  refine r_ifeq (t := 157) (p := 150) f92_147 (by decide) rfl rfl ?_ ?_
  · refine r_lconst0 (p := 158) f92_157 rfl ?_
    exact le2_refl _
  · refine r_aln0 (p := 151) f92_150 rfl ?_
    have h4 := k_t1 c3 hz2 h3 (by decide)
    refine r_invL (p := 154) f92_151 rfl rfl rfl (Or.inl h4) hd (Nat.le_of_ble_eq_true rfl) rfl rfl rfl (fun _ => rfl) (fun v4 m4 c4 => ?_)
    have hz4 := z_k c4 hz3
    refine r_goto (p := 158) f92_154 (by decide) rfl ?_
    exact le2_refl _
theorem q92_158 {d : Nat} {m : Mem} {a0 a1 a2 a4 s0 : Int} (hd : 0 < d) (hz : TZ m) : le2 (gd (tg m a0 = 5) <| bV (cl (d - 1) 62 [pR a0] m) fun m1 => bI (cl (d - 1) 63 [pR a0] m1) fun v2 m2 => if v2 = 58 then (bV (cl (d - 1) 62 [pR a0] (mst m2 a0 2 (w32 ((vl m2 a0 2) + 1)))) fun m3 => bI (cl (d - 1) 102 [pR a0] m3) fun v4 m4 => if v4 = 0 then (rn d 92 203 [pR a0, pI a1, pL a2, pU, pI a4, pL s0, pU, pL 1, pU] [] m4) else bL (cl (d - 1) 88 [pR a0] m4) fun v5 m5 => rn d 92 203 [pR a0, pI a1, pL a2, pU, pI a4, pL s0, pU, pL v5, pU] [] m5) else rn d 92 203 [pR a0, pI a1, pL a2, pU, pI a4, pL s0, pU, pL 1, pU] [] m2) (rn d 92 158 [pR a0, pI a1, pL a2, pU, pI a4, pU, pU, pU, pU] [pL s0] m) := by
  refine r_lsw5 (p := 160) f92_158 rfl rfl ?_
  refine r_aln0 (p := 161) f92_160 rfl ?_
  refine le2_gd (fun h1 => ?_)
  refine r_invV (p := 164) f92_161 rfl rfl rfl (Or.inl h1) hd (Nat.le_of_ble_eq_true rfl) rfl rfl rfl (fun _ => rfl) (fun m1 c1 => ?_)
  have hz1 := z_k c1 hz
  refine r_lconst1 (p := 165) f92_164 rfl ?_
  refine r_lsw7 (p := 167) f92_165 rfl rfl ?_
  refine r_aln0 (p := 168) f92_167 rfl ?_
  have h2 := k_t1 c1 hz h1 (by decide)
  refine r_invI (p := 171) f92_168 rfl rfl rfl (Or.inl h2) hd (Nat.le_of_ble_eq_true rfl) rfl rfl rfl (fun _ => rfl) (fun v2 m2 c2 => ?_)
  have hz2 := z_k c2 hz1
  refine r_bipush (p := 173) f92_171 rfl (pinD rfl rfl) ?_
  refine r_icne (t := 203) (p := 176) f92_173 (by decide) rfl rfl ?_ ?_
  · refine r_aln0 (p := 177) f92_176 rfl ?_
    refine r_dup (p := 178) f92_177 rfl rfl ?_
    have h3 := k_t1 c2 hz1 h2 (by decide)
    refine r_gfI (f := 2) (p := 181) f92_178 rfl rfl rfl (Or.inl h3) rfl ?_
    refine r_iconst (p := 182) f92_181 rfl (pinD rfl rfl) ?_
    refine r_iadd (p := 183) f92_182 rfl ?_
    refine r_pfI (f := 2) (p := 186) f92_183 rfl rfl rfl (by decide) (by decide) (Or.inl h3) rfl ?_
    refine r_aln0 (p := 187) f92_186 rfl ?_
    refine r_invV (p := 190) f92_187 rfl rfl rfl (Or.inl h3) hd (Nat.le_of_ble_eq_true rfl) rfl rfl rfl (fun _ => rfl) (fun m3 c3 => ?_)
    have hz3 := z_k c3 hz2
    refine r_aln0 (p := 191) f92_190 rfl ?_
    have h4 := k_t1 c3 hz2 h3 (by decide)
    refine r_invI (p := 194) f92_191 rfl rfl rfl (Or.inl h4) hd (Nat.le_of_ble_eq_true rfl) rfl rfl rfl (fun _ => rfl) (fun v4 m4 c4 => ?_)
    have hz4 := z_k c4 hz3
    refine r_ifeq (t := 203) (p := 197) f92_194 (by decide) rfl rfl ?_ ?_
    · exact le2_refl _
    · refine r_aln0 (p := 198) f92_197 rfl ?_
      have h5 := k_t1 c4 hz3 h4 (by decide)
      refine r_invL (p := 201) f92_198 rfl rfl rfl (Or.inl h5) hd (Nat.le_of_ble_eq_true rfl) rfl rfl rfl (fun _ => rfl) (fun v5 m5 c5 => ?_)
      have hz5 := z_k c5 hz4
      refine r_lsw7 (p := 203) f92_201 rfl rfl ?_
      exact le2_refl _
  · exact le2_refl _
theorem q92_203 {d : Nat} {m : Mem} {a0 a1 a2 a4 a5 a7 : Int} (hd : 0 < d) (hz : TZ m) : le2 (nw (nx m) (mal m 29 5) fun o1 m1 => bV (cl (d - 1) 340 [pR o1, pI a1, pL a2, pI a4, pL a5, pL a7] m1) fun m2 => some (.inl (some (pR o1)), m2)) (rn d 92 203 [pR a0, pI a1, pL a2, pU, pI a4, pL a5, pU, pL a7, pU] [] m) := by
  refine r_new (t1 := 29) (f1 := 5) (p := 206) f92_203 rfl rfl rfl rfl rfl (fun o1 m1 h1 k1 => ?_)
  have hz1 := z_k k1 hz
  refine r_dup (p := 207) f92_206 rfl rfl ?_
  refine r_iln1 (p := 208) f92_207 rfl ?_
  refine r_lln2 (p := 209) f92_208 rfl ?_
  refine r_ilw4 (p := 211) f92_209 rfl ?_
  refine r_llw5 (p := 213) f92_211 rfl ?_
  refine r_llw7 (p := 215) f92_213 rfl ?_
  refine r_ispV (p := 218) f92_215 rfl rfl rfl (Or.inl h1) hd (Nat.le_of_ble_eq_true rfl) rfl rfl rfl (fun _ => rfl) (fun m2 c2 => ?_)
  have hz2 := z_k c2 hz1
  exact r_aret f92_218
/-! 93 PathStore$Compiler.or ()LPathStore$Test; -/
def w93_0 : List UInt8 := [42, 4, 16, 124, 182, 0, 181, 176]
abbrev u93_0 : List UInt8 := w93_0 ++ []
theorem s93_0 : (prog_4_method_15_code).data.toList.drop 0 = u93_0 := by decide +kernel
theorem Fm93 {pc len : Nat} {i : Instr} (h : decode (prog_4_method_15_code) pc = .ok (i, len)) (hl : len = ilen i len) : ft 93 pc = some (5, 3, 0, i, len) := ft_mk rfl h hl
theorem f93_0 : ft 93 0 = some (5, 3, 0, .aload_n 0, 1) := Fm93 (dk_42 (dk_at s93_0 0 rfl rfl)) rfl
theorem f93_1 : ft 93 1 = some (5, 3, 0, .iconst 1, 1) := Fm93 (dk_4 (dk_at s93_0 1 rfl rfl)) rfl
theorem f93_2 : ft 93 2 = some (5, 3, 0, .bipush 124, 2) := Fm93 (dk_16 124 (dk_at s93_0 2 rfl rfl)) rfl
theorem f93_4 : ft 93 4 = some (5, 3, 0, .invokevirtual 181, 3) := Fm93 (dk_182 0 181 (dk_at s93_0 4 rfl rfl)) rfl
theorem f93_7 : ft 93 7 = some (5, 3, 0, .areturn, 1) := Fm93 (dk_176 (dk_at s93_0 7 rfl rfl)) rfl
theorem q93 {d : Nat} {m : Mem} {a0 : Int} (hd : 0 < d) (hz : TZ m) : le2 (gd (tg m a0 = 5) <| bR (cl (d - 1) 94 [pR a0, pI 1, pI 124] m) fun v1 m1 => some (.inl (some (pR v1)), m1)) (cl d 93 [pR a0] m) := by
  refine q_in (n := 1) (L := [pR a0]) rfl rfl rfl ?_
  refine r_aln0 (p := 1) f93_0 rfl ?_
  refine r_iconst (p := 2) f93_1 rfl (pinD rfl rfl) ?_
  refine r_bipush (p := 4) f93_2 rfl (pinD rfl rfl) ?_
  refine le2_gd (fun h1 => ?_)
  refine r_invR (p := 7) f93_4 rfl rfl rfl (Or.inl h1) hd (Nat.le_of_ble_eq_true rfl) rfl rfl rfl (fun _ => rfl) (fun v1 m1 c1 => ?_)
  have hz1 := z_k c1 hz
  exact r_aret f93_7
/-! 94 PathStore$Compiler.several (ZI)LPathStore$Test; -/
def w94_4 : List UInt8 := [182, 0, 185, 182, 0, 191, 42, 182, 0, 46, 167, 255, 202, 25, 4, 176]
abbrev u94_4 : List UInt8 := w94_4 ++ []
def w94_3 : List UInt8 := [182, 0, 52, 42, 182, 0, 46, 25, 4, 27, 153, 0, 13, 42, 3, 16, 38, 182, 0, 181, 167, 0, 7, 42]
abbrev u94_3 : List UInt8 := w94_3 ++ u94_4
def w94_2 : List UInt8 := [182, 0, 191, 42, 182, 0, 28, 28, 160, 0, 52, 42, 89, 180, 0, 40, 4, 96, 181, 0, 40, 42, 28]
abbrev u94_2 : List UInt8 := w94_2 ++ u94_3
def w94_1 : List UInt8 := [182, 0, 28, 28, 159, 0, 5, 45, 176, 187, 0, 188, 89, 27, 183, 0, 190, 58, 4, 25, 4, 45]
abbrev u94_1 : List UInt8 := w94_1 ++ u94_2
def w94_0 : List UInt8 := [27, 153, 0, 13, 42, 3, 16, 38, 182, 0, 181, 167, 0, 7, 42, 182, 0, 185, 78, 42, 182, 0, 46, 42]
abbrev u94_0 : List UInt8 := w94_0 ++ u94_1
theorem s94_0 : (prog_4_method_16_code).data.toList.drop 0 = u94_0 := by decide +kernel
theorem s94_1 : (prog_4_method_16_code).data.toList.drop 24 = u94_1 := dk_seg s94_0 24 rfl rfl
theorem s94_2 : (prog_4_method_16_code).data.toList.drop 46 = u94_2 := dk_seg s94_1 22 rfl rfl
theorem s94_3 : (prog_4_method_16_code).data.toList.drop 69 = u94_3 := dk_seg s94_2 23 rfl rfl
theorem s94_4 : (prog_4_method_16_code).data.toList.drop 93 = u94_4 := dk_seg s94_3 24 rfl rfl
theorem Fm94 {pc len : Nat} {i : Instr} (h : decode (prog_4_method_16_code) pc = .ok (i, len)) (hl : len = ilen i len) : ft 94 pc = some (5, 3, 0, i, len) := ft_mk rfl h hl
theorem f94_0 : ft 94 0 = some (5, 3, 0, .iload_n 1, 1) := Fm94 (dk_27 (dk_at s94_0 0 rfl rfl)) rfl
theorem f94_1 : ft 94 1 = some (5, 3, 0, .ifCond .eq 13, 3) := Fm94 (dk_153 0 13 (dk_at s94_0 1 rfl rfl)) rfl
theorem f94_4 : ft 94 4 = some (5, 3, 0, .aload_n 0, 1) := Fm94 (dk_42 (dk_at s94_0 4 rfl rfl)) rfl
theorem f94_5 : ft 94 5 = some (5, 3, 0, .iconst 0, 1) := Fm94 (dk_3 (dk_at s94_0 5 rfl rfl)) rfl
theorem f94_6 : ft 94 6 = some (5, 3, 0, .bipush 38, 2) := Fm94 (dk_16 38 (dk_at s94_0 6 rfl rfl)) rfl
theorem f94_8 : ft 94 8 = some (5, 3, 0, .invokevirtual 181, 3) := Fm94 (dk_182 0 181 (dk_at s94_0 8 rfl rfl)) rfl
theorem f94_11 : ft 94 11 = some (5, 3, 0, .goto 7, 3) := Fm94 (dk_167 0 7 (dk_at s94_0 11 rfl rfl)) rfl
theorem f94_14 : ft 94 14 = some (5, 3, 0, .aload_n 0, 1) := Fm94 (dk_42 (dk_at s94_0 14 rfl rfl)) rfl
theorem f94_15 : ft 94 15 = some (5, 3, 0, .invokevirtual 185, 3) := Fm94 (dk_182 0 185 (dk_at s94_0 15 rfl rfl)) rfl
theorem f94_18 : ft 94 18 = some (5, 3, 0, .astore_n 3, 1) := Fm94 (dk_78 (dk_at s94_0 18 rfl rfl)) rfl
theorem f94_19 : ft 94 19 = some (5, 3, 0, .aload_n 0, 1) := Fm94 (dk_42 (dk_at s94_0 19 rfl rfl)) rfl
theorem f94_20 : ft 94 20 = some (5, 3, 0, .invokevirtual 46, 3) := Fm94 (dk_182 0 46 (dk_at s94_0 20 rfl rfl)) rfl
theorem f94_23 : ft 94 23 = some (5, 3, 0, .aload_n 0, 1) := Fm94 (dk_42 (dk_at s94_0 23 rfl rfl)) rfl
theorem f94_24 : ft 94 24 = some (5, 3, 0, .invokevirtual 28, 3) := Fm94 (dk_182 0 28 (dk_at s94_1 0 rfl rfl)) rfl
theorem f94_27 : ft 94 27 = some (5, 3, 0, .iload_n 2, 1) := Fm94 (dk_28 (dk_at s94_1 3 rfl rfl)) rfl
theorem f94_28 : ft 94 28 = some (5, 3, 0, .if_icmp .eq 5, 3) := Fm94 (dk_159 0 5 (dk_at s94_1 4 rfl rfl)) rfl
theorem f94_31 : ft 94 31 = some (5, 3, 0, .aload_n 3, 1) := Fm94 (dk_45 (dk_at s94_1 7 rfl rfl)) rfl
theorem f94_32 : ft 94 32 = some (5, 3, 0, .areturn, 1) := Fm94 (dk_176 (dk_at s94_1 8 rfl rfl)) rfl
theorem f94_33 : ft 94 33 = some (5, 3, 0, .new 188, 3) := Fm94 (dk_187 0 188 (dk_at s94_1 9 rfl rfl)) rfl
theorem f94_36 : ft 94 36 = some (5, 3, 0, .dup, 1) := Fm94 (dk_89 (dk_at s94_1 12 rfl rfl)) rfl
theorem f94_37 : ft 94 37 = some (5, 3, 0, .iload_n 1, 1) := Fm94 (dk_27 (dk_at s94_1 13 rfl rfl)) rfl
theorem f94_38 : ft 94 38 = some (5, 3, 0, .invokespecial 190, 3) := Fm94 (dk_183 0 190 (dk_at s94_1 14 rfl rfl)) rfl
theorem f94_41 : ft 94 41 = some (5, 3, 0, .astore 4, 2) := Fm94 (dk_58 4 (dk_at s94_1 17 rfl rfl)) rfl
theorem f94_43 : ft 94 43 = some (5, 3, 0, .aload 4, 2) := Fm94 (dk_25 4 (dk_at s94_1 19 rfl rfl)) rfl
theorem f94_45 : ft 94 45 = some (5, 3, 0, .aload_n 3, 1) := Fm94 (dk_45 (dk_at s94_1 21 rfl rfl)) rfl
theorem f94_46 : ft 94 46 = some (5, 3, 0, .invokevirtual 191, 3) := Fm94 (dk_182 0 191 (dk_at s94_2 0 rfl rfl)) rfl
theorem f94_49 : ft 94 49 = some (5, 3, 0, .aload_n 0, 1) := Fm94 (dk_42 (dk_at s94_2 3 rfl rfl)) rfl
theorem f94_50 : ft 94 50 = some (5, 3, 0, .invokevirtual 28, 3) := Fm94 (dk_182 0 28 (dk_at s94_2 4 rfl rfl)) rfl
theorem f94_53 : ft 94 53 = some (5, 3, 0, .iload_n 2, 1) := Fm94 (dk_28 (dk_at s94_2 7 rfl rfl)) rfl
theorem f94_54 : ft 94 54 = some (5, 3, 0, .if_icmp .ne 52, 3) := Fm94 (dk_160 0 52 (dk_at s94_2 8 rfl rfl)) rfl
theorem f94_57 : ft 94 57 = some (5, 3, 0, .aload_n 0, 1) := Fm94 (dk_42 (dk_at s94_2 11 rfl rfl)) rfl
theorem f94_58 : ft 94 58 = some (5, 3, 0, .dup, 1) := Fm94 (dk_89 (dk_at s94_2 12 rfl rfl)) rfl
theorem f94_59 : ft 94 59 = some (5, 3, 0, .getfield 40, 3) := Fm94 (dk_180 0 40 (dk_at s94_2 13 rfl rfl)) rfl
theorem f94_62 : ft 94 62 = some (5, 3, 0, .iconst 1, 1) := Fm94 (dk_4 (dk_at s94_2 16 rfl rfl)) rfl
theorem f94_63 : ft 94 63 = some (5, 3, 0, .iadd, 1) := Fm94 (dk_96 (dk_at s94_2 17 rfl rfl)) rfl
theorem f94_64 : ft 94 64 = some (5, 3, 0, .putfield 40, 3) := Fm94 (dk_181 0 40 (dk_at s94_2 18 rfl rfl)) rfl
theorem f94_67 : ft 94 67 = some (5, 3, 0, .aload_n 0, 1) := Fm94 (dk_42 (dk_at s94_2 21 rfl rfl)) rfl
theorem f94_68 : ft 94 68 = some (5, 3, 0, .iload_n 2, 1) := Fm94 (dk_28 (dk_at s94_2 22 rfl rfl)) rfl
theorem f94_69 : ft 94 69 = some (5, 3, 0, .invokevirtual 52, 3) := Fm94 (dk_182 0 52 (dk_at s94_3 0 rfl rfl)) rfl
theorem f94_72 : ft 94 72 = some (5, 3, 0, .aload_n 0, 1) := Fm94 (dk_42 (dk_at s94_3 3 rfl rfl)) rfl
theorem f94_73 : ft 94 73 = some (5, 3, 0, .invokevirtual 46, 3) := Fm94 (dk_182 0 46 (dk_at s94_3 4 rfl rfl)) rfl
theorem f94_76 : ft 94 76 = some (5, 3, 0, .aload 4, 2) := Fm94 (dk_25 4 (dk_at s94_3 7 rfl rfl)) rfl
theorem f94_78 : ft 94 78 = some (5, 3, 0, .iload_n 1, 1) := Fm94 (dk_27 (dk_at s94_3 9 rfl rfl)) rfl
theorem f94_79 : ft 94 79 = some (5, 3, 0, .ifCond .eq 13, 3) := Fm94 (dk_153 0 13 (dk_at s94_3 10 rfl rfl)) rfl
theorem f94_82 : ft 94 82 = some (5, 3, 0, .aload_n 0, 1) := Fm94 (dk_42 (dk_at s94_3 13 rfl rfl)) rfl
theorem f94_83 : ft 94 83 = some (5, 3, 0, .iconst 0, 1) := Fm94 (dk_3 (dk_at s94_3 14 rfl rfl)) rfl
theorem f94_84 : ft 94 84 = some (5, 3, 0, .bipush 38, 2) := Fm94 (dk_16 38 (dk_at s94_3 15 rfl rfl)) rfl
theorem f94_86 : ft 94 86 = some (5, 3, 0, .invokevirtual 181, 3) := Fm94 (dk_182 0 181 (dk_at s94_3 17 rfl rfl)) rfl
theorem f94_89 : ft 94 89 = some (5, 3, 0, .goto 7, 3) := Fm94 (dk_167 0 7 (dk_at s94_3 20 rfl rfl)) rfl
theorem f94_92 : ft 94 92 = some (5, 3, 0, .aload_n 0, 1) := Fm94 (dk_42 (dk_at s94_3 23 rfl rfl)) rfl
theorem f94_93 : ft 94 93 = some (5, 3, 0, .invokevirtual 185, 3) := Fm94 (dk_182 0 185 (dk_at s94_4 0 rfl rfl)) rfl
theorem f94_96 : ft 94 96 = some (5, 3, 0, .invokevirtual 191, 3) := Fm94 (dk_182 0 191 (dk_at s94_4 3 rfl rfl)) rfl
theorem f94_99 : ft 94 99 = some (5, 3, 0, .aload_n 0, 1) := Fm94 (dk_42 (dk_at s94_4 6 rfl rfl)) rfl
theorem f94_100 : ft 94 100 = some (5, 3, 0, .invokevirtual 46, 3) := Fm94 (dk_182 0 46 (dk_at s94_4 7 rfl rfl)) rfl
theorem f94_103 : ft 94 103 = some (5, 3, 0, .goto (-54), 3) := Fm94 (dk_167 255 202 (dk_at s94_4 10 rfl rfl)) rfl
theorem f94_106 : ft 94 106 = some (5, 3, 0, .aload 4, 2) := Fm94 (dk_25 4 (dk_at s94_4 13 rfl rfl)) rfl
theorem f94_108 : ft 94 108 = some (5, 3, 0, .areturn, 1) := Fm94 (dk_176 (dk_at s94_4 15 rfl rfl)) rfl
theorem q94 {d : Nat} {m : Mem} {a0 a1 a2 : Int} (hd : 0 < d) (hz : TZ m) : le2 (if a1 = 0 then (gd (tg m a0 = 5) <| bR (cl (d - 1) 95 [pR a0] m) fun v1 m1 => rn d 94 18 [pR a0, pI a1, pI a2, pU, pU] [pR v1] m1) else gd (tg m a0 = 5) <| bR (cl (d - 1) 94 [pR a0, pI 0, pI 38] m) fun v2 m2 => rn d 94 18 [pR a0, pI a1, pI a2, pU, pU] [pR v2] m2) (cl d 94 [pR a0, pI a1, pI a2] m) := by
  refine q_in (n := 5) (L := [pR a0, pI a1, pI a2, pU, pU]) rfl rfl rfl ?_
  refine r_iln1 (p := 1) f94_0 rfl ?_
  refine r_ifeq (t := 14) (p := 4) f94_1 (by decide) rfl rfl ?_ ?_
  · refine r_aln0 (p := 15) f94_14 rfl ?_
    refine le2_gd (fun h1 => ?_)
    refine r_invR (p := 18) f94_15 rfl rfl rfl (Or.inl h1) hd (Nat.le_of_ble_eq_true rfl) rfl rfl rfl (fun _ => rfl) (fun v1 m1 c1 => ?_)
    have hz1 := z_k c1 hz
    exact le2_refl _
  · refine r_aln0 (p := 5) f94_4 rfl ?_
    refine r_iconst (p := 6) f94_5 rfl (pinD rfl rfl) ?_
    refine r_bipush (p := 8) f94_6 rfl (pinD rfl rfl) ?_
    refine le2_gd (fun h2 => ?_)
    refine r_invR (p := 11) f94_8 rfl rfl rfl (Or.inl h2) hd (Nat.le_of_ble_eq_true rfl) rfl rfl rfl (fun _ => rfl) (fun v2 m2 c2 => ?_)
    have hz2 := z_k c2 hz
    refine r_goto (p := 18) f94_11 (by decide) rfl ?_
    exact le2_refl _
theorem q94_18 {d : Nat} {m : Mem} {a0 a1 a2 s0 : Int} (hd : 0 < d) (hz : TZ m) : le2 (gd (tg m a0 = 5) <| bV (cl (d - 1) 62 [pR a0] m) fun m1 => bI (cl (d - 1) 63 [pR a0] m1) fun v2 m2 => if v2 = a2 then (nw (nx m2) (mal m2 28 3) fun o3 m3 => bV (cl (d - 1) 337 [pR o3, pI a1] m3) fun m4 => bV (cl (d - 1) 338 [pR o3, pR s0] m4) fun m5 => rn d 94 49 [pR a0, pI a1, pI a2, pR s0, pR o3] [] m5) else some (.inl (some (pR s0)), m2)) (rn d 94 18 [pR a0, pI a1, pI a2, pU, pU] [pR s0] m) := by
  refine r_asn3 (p := 19) f94_18 rfl rfl ?_
  refine r_aln0 (p := 20) f94_19 rfl ?_
  refine le2_gd (fun h1 => ?_)
  refine r_invV (p := 23) f94_20 rfl rfl rfl (Or.inl h1) hd (Nat.le_of_ble_eq_true rfl) rfl rfl rfl (fun _ => rfl) (fun m1 c1 => ?_)
  have hz1 := z_k c1 hz
  refine r_aln0 (p := 24) f94_23 rfl ?_
  have h2 := k_t1 c1 hz h1 (by decide)
  refine r_invI (p := 27) f94_24 rfl rfl rfl (Or.inl h2) hd (Nat.le_of_ble_eq_true rfl) rfl rfl rfl (fun _ => rfl) (fun v2 m2 c2 => ?_)
  have hz2 := z_k c2 hz1
  refine r_iln2 (p := 28) f94_27 rfl ?_
  refine r_iceq (t := 33) (p := 31) f94_28 (by decide) rfl rfl ?_ ?_
  · refine r_new (t1 := 28) (f1 := 3) (p := 36) f94_33 rfl rfl rfl rfl rfl (fun o3 m3 h3 k3 => ?_)
    have hz3 := z_k k3 hz2
    refine r_dup (p := 37) f94_36 rfl rfl ?_
    refine r_iln1 (p := 38) f94_37 rfl ?_
    refine r_ispV (p := 41) f94_38 rfl rfl rfl (Or.inl h3) hd (Nat.le_of_ble_eq_true rfl) rfl rfl rfl (fun _ => rfl) (fun m4 c4 => ?_)
    have hz4 := z_k c4 hz3
    refine r_asw4 (p := 43) f94_41 rfl rfl ?_
    refine r_alw4 (p := 45) f94_43 rfl ?_
    refine r_aln3 (p := 46) f94_45 rfl ?_
    have h4 := k_t1 c4 hz3 h3 (by decide)
    refine r_invV (p := 49) f94_46 rfl rfl rfl (Or.inl h4) hd (Nat.le_of_ble_eq_true rfl) rfl rfl rfl (fun _ => rfl) (fun m5 c5 => ?_)
    have hz5 := z_k c5 hz4
    exact le2_refl _
  · refine r_aln3 (p := 32) f94_31 rfl ?_
    exact r_aret f94_32
theorem q94_49 {d : Nat} {m : Mem} {a0 a1 a2 a3 a4 : Int} (hd : 0 < d) (hz : TZ m) : le2 (gd (tg m a0 = 5) <| bI (cl (d - 1) 63 [pR a0] m) fun v1 m1 => if v1 = a2 then (bV (cl (d - 1) 65 [pR a0, pI a2] (mst m1 a0 2 (w32 ((vl m1 a0 2) + 1)))) fun m2 => bV (cl (d - 1) 62 [pR a0] m2) fun m3 => if a1 = 0 then (bR (cl (d - 1) 95 [pR a0] m3) fun v4 m4 => gd (tg m4 a4 = 28) <| bV (cl (d - 1) 338 [pR a4, pR v4] m4) fun m5 => bV (cl (d - 1) 62 [pR a0] m5) fun m6 => rn d 94 49 [pR a0, pI a1, pI a2, pR a3, pR a4] [] m6) else bR (cl (d - 1) 94 [pR a0, pI 0, pI 38] m3) fun v7 m7 => gd (tg m7 a4 = 28) <| bV (cl (d - 1) 338 [pR a4, pR v7] m7) fun m8 => bV (cl (d - 1) 62 [pR a0] m8) fun m9 => rn d 94 49 [pR a0, pI a1, pI a2, pR a3, pR a4] [] m9) else some (.inl (some (pR a4)), m1)) (rn d 94 49 [pR a0, pI a1, pI a2, pR a3, pR a4] [] m) := by
  refine r_aln0 (p := 50) f94_49 rfl ?_
  refine le2_gd (fun h1 => ?_)
  refine r_invI (p := 53) f94_50 rfl rfl rfl (Or.inl h1) hd (Nat.le_of_ble_eq_true rfl) rfl rfl rfl (fun _ => rfl) (fun v1 m1 c1 => ?_)
  have hz1 := z_k c1 hz
  refine r_iln2 (p := 54) f94_53 rfl ?_
  refine r_icne (t := 106) (p := 57) f94_54 (by decide) rfl rfl ?_ ?_
  · refine r_aln0 (p := 58) f94_57 rfl ?_
    refine r_dup (p := 59) f94_58 rfl rfl ?_
    have h2 := k_t1 c1 hz h1 (by decide)
    refine r_gfI (f := 2) (p := 62) f94_59 rfl rfl rfl (Or.inl h2) rfl ?_
    refine r_iconst (p := 63) f94_62 rfl (pinD rfl rfl) ?_
    refine r_iadd (p := 64) f94_63 rfl ?_
    refine r_pfI (f := 2) (p := 67) f94_64 rfl rfl rfl (by decide) (by decide) (Or.inl h2) rfl ?_
    refine r_aln0 (p := 68) f94_67 rfl ?_
    refine r_iln2 (p := 69) f94_68 rfl ?_
    refine r_invV (p := 72) f94_69 rfl rfl rfl (Or.inl h2) hd (Nat.le_of_ble_eq_true rfl) rfl rfl rfl (fun _ => rfl) (fun m2 c2 => ?_)
    have hz2 := z_k c2 hz1
    refine r_aln0 (p := 73) f94_72 rfl ?_
    have h3 := k_t1 c2 hz1 h2 (by decide)
    refine r_invV (p := 76) f94_73 rfl rfl rfl (Or.inl h3) hd (Nat.le_of_ble_eq_true rfl) rfl rfl rfl (fun _ => rfl) (fun m3 c3 => ?_)
    have hz3 := z_k c3 hz2
    refine r_alw4 (p := 78) f94_76 rfl ?_
    refine r_iln1 (p := 79) f94_78 rfl ?_
    refine r_ifeq (t := 92) (p := 82) f94_79 (by decide) rfl rfl ?_ ?_
    · refine r_aln0 (p := 93) f94_92 rfl ?_
      have h4 := k_t1 c3 hz2 h3 (by decide)
      refine r_invR (p := 96) f94_93 rfl rfl rfl (Or.inl h4) hd (Nat.le_of_ble_eq_true rfl) rfl rfl rfl (fun _ => rfl) (fun v4 m4 c4 => ?_)
      have hz4 := z_k c4 hz3
      refine le2_gd (fun h5 => ?_)
      refine r_invV (p := 99) f94_96 rfl rfl rfl (Or.inl h5) hd (Nat.le_of_ble_eq_true rfl) rfl rfl rfl (fun _ => rfl) (fun m5 c5 => ?_)
      have hz5 := z_k c5 hz4
      refine r_aln0 (p := 100) f94_99 rfl ?_
      have h6 := k_t1 c4 hz3 h4 (by decide)
      have h7 := k_t1 c5 hz4 h6 (by decide)
      refine r_invV (p := 103) f94_100 rfl rfl rfl (Or.inl h7) hd (Nat.le_of_ble_eq_true rfl) rfl rfl rfl (fun _ => rfl) (fun m6 c6 => ?_)
      have hz6 := z_k c6 hz5
      refine r_goto (p := 49) f94_103 (by decide) rfl ?_
      exact le2_refl _
    · refine r_aln0 (p := 83) f94_82 rfl ?_
      refine r_iconst (p := 84) f94_83 rfl (pinD rfl rfl) ?_
      refine r_bipush (p := 86) f94_84 rfl (pinD rfl rfl) ?_
      have h8 := k_t1 c3 hz2 h3 (by decide)
      refine r_invR (p := 89) f94_86 rfl rfl rfl (Or.inl h8) hd (Nat.le_of_ble_eq_true rfl) rfl rfl rfl (fun _ => rfl) (fun v7 m7 c7 => ?_)
      have hz7 := z_k c7 hz3
      refine r_goto (p := 96) f94_89 (by decide) rfl ?_
      refine le2_gd (fun h9 => ?_)
      refine r_invV (p := 99) f94_96 rfl rfl rfl (Or.inl h9) hd (Nat.le_of_ble_eq_true rfl) rfl rfl rfl (fun _ => rfl) (fun m8 c8 => ?_)
      have hz8 := z_k c8 hz7
      refine r_aln0 (p := 100) f94_99 rfl ?_
      have h10 := k_t1 c7 hz3 h8 (by decide)
      have h11 := k_t1 c8 hz7 h10 (by decide)
      refine r_invV (p := 103) f94_100 rfl rfl rfl (Or.inl h11) hd (Nat.le_of_ble_eq_true rfl) rfl rfl rfl (fun _ => rfl) (fun m9 c9 => ?_)
      have hz9 := z_k c9 hz8
      refine r_goto (p := 49) f94_103 (by decide) rfl ?_
      exact le2_refl _
  · refine r_alw4 (p := 108) f94_106 rfl ?_
    exact r_aret f94_108
/-! 95 PathStore$Compiler.basic ()LPathStore$Test; -/
def w95_7 : List UInt8 := [43, 180, 0, 101, 182, 0, 32, 42, 187, 0, 215, 89, 43, 3, 183, 0, 217, 182, 0, 211, 176]
abbrev u95_7 : List UInt8 := w95_7 ++ []
def w95_6 : List UInt8 := [159, 0, 23, 29, 16, 62, 159, 0, 17, 42, 28, 181, 0, 40, 187, 0, 202, 89, 43, 183, 0, 204, 176, 42]
abbrev u95_6 : List UInt8 := w95_6 ++ u95_7
def w95_5 : List UInt8 := [182, 0, 46, 42, 182, 0, 28, 62, 29, 16, 61, 159, 0, 35, 29, 16, 33, 159, 0, 29, 29, 16, 60]
abbrev u95_5 : List UInt8 := w95_5 ++ u95_6
def w95_4 : List UInt8 := [154, 0, 12, 42, 42, 182, 0, 207, 182, 0, 211, 176, 42, 3, 182, 0, 36, 76, 42, 180, 0, 40, 61, 42]
abbrev u95_4 : List UInt8 := w95_4 ++ u95_5
def w95_3 : List UInt8 := [183, 0, 198, 176, 42, 182, 0, 28, 16, 40, 160, 0, 8, 42, 182, 0, 195, 176, 42, 182, 0, 199]
abbrev u95_3 : List UInt8 := w95_3 ++ u95_4
def w95_2 : List UInt8 := [182, 0, 199, 182, 0, 32, 187, 0, 193, 89, 187, 0, 202, 89, 42, 3, 182, 0, 36, 183, 0, 204]
abbrev u95_2 : List UInt8 := w95_2 ++ u95_3
def w95_1 : List UInt8 := [182, 0, 28, 16, 40, 160, 0, 15, 187, 0, 193, 89, 42, 182, 0, 195, 183, 0, 198, 176, 42, 42]
abbrev u95_1 : List UInt8 := w95_1 ++ u95_2
def w95_0 : List UInt8 := [42, 182, 0, 28, 16, 33, 160, 0, 66, 42, 89, 180, 0, 40, 4, 96, 181, 0, 40, 42, 182, 0, 46, 42]
abbrev u95_0 : List UInt8 := w95_0 ++ u95_1
theorem s95_0 : (prog_4_method_18_code).data.toList.drop 0 = u95_0 := by decide +kernel
theorem s95_1 : (prog_4_method_18_code).data.toList.drop 24 = u95_1 := dk_seg s95_0 24 rfl rfl
theorem s95_2 : (prog_4_method_18_code).data.toList.drop 46 = u95_2 := dk_seg s95_1 22 rfl rfl
theorem s95_3 : (prog_4_method_18_code).data.toList.drop 68 = u95_3 := dk_seg s95_2 22 rfl rfl
theorem s95_4 : (prog_4_method_18_code).data.toList.drop 90 = u95_4 := dk_seg s95_3 22 rfl rfl
theorem s95_5 : (prog_4_method_18_code).data.toList.drop 114 = u95_5 := dk_seg s95_4 24 rfl rfl
theorem s95_6 : (prog_4_method_18_code).data.toList.drop 137 = u95_6 := dk_seg s95_5 23 rfl rfl
theorem s95_7 : (prog_4_method_18_code).data.toList.drop 161 = u95_7 := dk_seg s95_6 24 rfl rfl
theorem Fm95 {pc len : Nat} {i : Instr} (h : decode (prog_4_method_18_code) pc = .ok (i, len)) (hl : len = ilen i len) : ft 95 pc = some (5, 3, 0, i, len) := ft_mk rfl h hl
theorem f95_0 : ft 95 0 = some (5, 3, 0, .aload_n 0, 1) := Fm95 (dk_42 (dk_at s95_0 0 rfl rfl)) rfl
theorem f95_1 : ft 95 1 = some (5, 3, 0, .invokevirtual 28, 3) := Fm95 (dk_182 0 28 (dk_at s95_0 1 rfl rfl)) rfl
theorem f95_4 : ft 95 4 = some (5, 3, 0, .bipush 33, 2) := Fm95 (dk_16 33 (dk_at s95_0 4 rfl rfl)) rfl
theorem f95_6 : ft 95 6 = some (5, 3, 0, .if_icmp .ne 66, 3) := Fm95 (dk_160 0 66 (dk_at s95_0 6 rfl rfl)) rfl
theorem f95_9 : ft 95 9 = some (5, 3, 0, .aload_n 0, 1) := Fm95 (dk_42 (dk_at s95_0 9 rfl rfl)) rfl
theorem f95_10 : ft 95 10 = some (5, 3, 0, .dup, 1) := Fm95 (dk_89 (dk_at s95_0 10 rfl rfl)) rfl
theorem f95_11 : ft 95 11 = some (5, 3, 0, .getfield 40, 3) := Fm95 (dk_180 0 40 (dk_at s95_0 11 rfl rfl)) rfl
theorem f95_14 : ft 95 14 = some (5, 3, 0, .iconst 1, 1) := Fm95 (dk_4 (dk_at s95_0 14 rfl rfl)) rfl
theorem f95_15 : ft 95 15 = some (5, 3, 0, .iadd, 1) := Fm95 (dk_96 (dk_at s95_0 15 rfl rfl)) rfl
theorem f95_16 : ft 95 16 = some (5, 3, 0, .putfield 40, 3) := Fm95 (dk_181 0 40 (dk_at s95_0 16 rfl rfl)) rfl
theorem f95_19 : ft 95 19 = some (5, 3, 0, .aload_n 0, 1) := Fm95 (dk_42 (dk_at s95_0 19 rfl rfl)) rfl
theorem f95_20 : ft 95 20 = some (5, 3, 0, .invokevirtual 46, 3) := Fm95 (dk_182 0 46 (dk_at s95_0 20 rfl rfl)) rfl
theorem f95_23 : ft 95 23 = some (5, 3, 0, .aload_n 0, 1) := Fm95 (dk_42 (dk_at s95_0 23 rfl rfl)) rfl
theorem f95_24 : ft 95 24 = some (5, 3, 0, .invokevirtual 28, 3) := Fm95 (dk_182 0 28 (dk_at s95_1 0 rfl rfl)) rfl
theorem f95_27 : ft 95 27 = some (5, 3, 0, .bipush 40, 2) := Fm95 (dk_16 40 (dk_at s95_1 3 rfl rfl)) rfl
theorem f95_29 : ft 95 29 = some (5, 3, 0, .if_icmp .ne 15, 3) := Fm95 (dk_160 0 15 (dk_at s95_1 5 rfl rfl)) rfl
theorem f95_32 : ft 95 32 = some (5, 3, 0, .new 193, 3) := Fm95 (dk_187 0 193 (dk_at s95_1 8 rfl rfl)) rfl
theorem f95_35 : ft 95 35 = some (5, 3, 0, .dup, 1) := Fm95 (dk_89 (dk_at s95_1 11 rfl rfl)) rfl
theorem f95_36 : ft 95 36 = some (5, 3, 0, .aload_n 0, 1) := Fm95 (dk_42 (dk_at s95_1 12 rfl rfl)) rfl
theorem f95_37 : ft 95 37 = some (5, 3, 0, .invokevirtual 195, 3) := Fm95 (dk_182 0 195 (dk_at s95_1 13 rfl rfl)) rfl
theorem f95_40 : ft 95 40 = some (5, 3, 0, .invokespecial 198, 3) := Fm95 (dk_183 0 198 (dk_at s95_1 16 rfl rfl)) rfl
theorem f95_43 : ft 95 43 = some (5, 3, 0, .areturn, 1) := Fm95 (dk_176 (dk_at s95_1 19 rfl rfl)) rfl
theorem f95_44 : ft 95 44 = some (5, 3, 0, .aload_n 0, 1) := Fm95 (dk_42 (dk_at s95_1 20 rfl rfl)) rfl
theorem f95_45 : ft 95 45 = some (5, 3, 0, .aload_n 0, 1) := Fm95 (dk_42 (dk_at s95_1 21 rfl rfl)) rfl
theorem f95_46 : ft 95 46 = some (5, 3, 0, .invokevirtual 199, 3) := Fm95 (dk_182 0 199 (dk_at s95_2 0 rfl rfl)) rfl
theorem f95_49 : ft 95 49 = some (5, 3, 0, .invokevirtual 32, 3) := Fm95 (dk_182 0 32 (dk_at s95_2 3 rfl rfl)) rfl
theorem f95_52 : ft 95 52 = some (5, 3, 0, .new 193, 3) := Fm95 (dk_187 0 193 (dk_at s95_2 6 rfl rfl)) rfl
theorem f95_55 : ft 95 55 = some (5, 3, 0, .dup, 1) := Fm95 (dk_89 (dk_at s95_2 9 rfl rfl)) rfl
theorem f95_56 : ft 95 56 = some (5, 3, 0, .new 202, 3) := Fm95 (dk_187 0 202 (dk_at s95_2 10 rfl rfl)) rfl
theorem f95_59 : ft 95 59 = some (5, 3, 0, .dup, 1) := Fm95 (dk_89 (dk_at s95_2 13 rfl rfl)) rfl
theorem f95_60 : ft 95 60 = some (5, 3, 0, .aload_n 0, 1) := Fm95 (dk_42 (dk_at s95_2 14 rfl rfl)) rfl
theorem f95_61 : ft 95 61 = some (5, 3, 0, .iconst 0, 1) := Fm95 (dk_3 (dk_at s95_2 15 rfl rfl)) rfl
theorem f95_62 : ft 95 62 = some (5, 3, 0, .invokevirtual 36, 3) := Fm95 (dk_182 0 36 (dk_at s95_2 16 rfl rfl)) rfl
theorem f95_65 : ft 95 65 = some (5, 3, 0, .invokespecial 204, 3) := Fm95 (dk_183 0 204 (dk_at s95_2 19 rfl rfl)) rfl
theorem f95_68 : ft 95 68 = some (5, 3, 0, .invokespecial 198, 3) := Fm95 (dk_183 0 198 (dk_at s95_3 0 rfl rfl)) rfl
theorem f95_71 : ft 95 71 = some (5, 3, 0, .areturn, 1) := Fm95 (dk_176 (dk_at s95_3 3 rfl rfl)) rfl
theorem f95_72 : ft 95 72 = some (5, 3, 0, .aload_n 0, 1) := Fm95 (dk_42 (dk_at s95_3 4 rfl rfl)) rfl
theorem f95_73 : ft 95 73 = some (5, 3, 0, .invokevirtual 28, 3) := Fm95 (dk_182 0 28 (dk_at s95_3 5 rfl rfl)) rfl
theorem f95_76 : ft 95 76 = some (5, 3, 0, .bipush 40, 2) := Fm95 (dk_16 40 (dk_at s95_3 8 rfl rfl)) rfl
theorem f95_78 : ft 95 78 = some (5, 3, 0, .if_icmp .ne 8, 3) := Fm95 (dk_160 0 8 (dk_at s95_3 10 rfl rfl)) rfl
theorem f95_81 : ft 95 81 = some (5, 3, 0, .aload_n 0, 1) := Fm95 (dk_42 (dk_at s95_3 13 rfl rfl)) rfl
theorem f95_82 : ft 95 82 = some (5, 3, 0, .invokevirtual 195, 3) := Fm95 (dk_182 0 195 (dk_at s95_3 14 rfl rfl)) rfl
theorem f95_85 : ft 95 85 = some (5, 3, 0, .areturn, 1) := Fm95 (dk_176 (dk_at s95_3 17 rfl rfl)) rfl
theorem f95_86 : ft 95 86 = some (5, 3, 0, .aload_n 0, 1) := Fm95 (dk_42 (dk_at s95_3 18 rfl rfl)) rfl
theorem f95_87 : ft 95 87 = some (5, 3, 0, .invokevirtual 199, 3) := Fm95 (dk_182 0 199 (dk_at s95_3 19 rfl rfl)) rfl
theorem f95_90 : ft 95 90 = some (5, 3, 0, .ifCond .ne 12, 3) := Fm95 (dk_154 0 12 (dk_at s95_4 0 rfl rfl)) rfl
theorem f95_93 : ft 95 93 = some (5, 3, 0, .aload_n 0, 1) := Fm95 (dk_42 (dk_at s95_4 3 rfl rfl)) rfl
theorem f95_94 : ft 95 94 = some (5, 3, 0, .aload_n 0, 1) := Fm95 (dk_42 (dk_at s95_4 4 rfl rfl)) rfl
theorem f95_95 : ft 95 95 = some (5, 3, 0, .invokevirtual 207, 3) := Fm95 (dk_182 0 207 (dk_at s95_4 5 rfl rfl)) rfl
theorem f95_98 : ft 95 98 = some (5, 3, 0, .invokevirtual 211, 3) := Fm95 (dk_182 0 211 (dk_at s95_4 8 rfl rfl)) rfl
theorem f95_101 : ft 95 101 = some (5, 3, 0, .areturn, 1) := Fm95 (dk_176 (dk_at s95_4 11 rfl rfl)) rfl
theorem f95_102 : ft 95 102 = some (5, 3, 0, .aload_n 0, 1) := Fm95 (dk_42 (dk_at s95_4 12 rfl rfl)) rfl
theorem f95_103 : ft 95 103 = some (5, 3, 0, .iconst 0, 1) := Fm95 (dk_3 (dk_at s95_4 13 rfl rfl)) rfl
theorem f95_104 : ft 95 104 = some (5, 3, 0, .invokevirtual 36, 3) := Fm95 (dk_182 0 36 (dk_at s95_4 14 rfl rfl)) rfl
theorem f95_107 : ft 95 107 = some (5, 3, 0, .astore_n 1, 1) := Fm95 (dk_76 (dk_at s95_4 17 rfl rfl)) rfl
theorem f95_108 : ft 95 108 = some (5, 3, 0, .aload_n 0, 1) := Fm95 (dk_42 (dk_at s95_4 18 rfl rfl)) rfl
theorem f95_109 : ft 95 109 = some (5, 3, 0, .getfield 40, 3) := Fm95 (dk_180 0 40 (dk_at s95_4 19 rfl rfl)) rfl
theorem f95_112 : ft 95 112 = some (5, 3, 0, .istore_n 2, 1) := Fm95 (dk_61 (dk_at s95_4 22 rfl rfl)) rfl
theorem f95_113 : ft 95 113 = some (5, 3, 0, .aload_n 0, 1) := Fm95 (dk_42 (dk_at s95_4 23 rfl rfl)) rfl
theorem f95_114 : ft 95 114 = some (5, 3, 0, .invokevirtual 46, 3) := Fm95 (dk_182 0 46 (dk_at s95_5 0 rfl rfl)) rfl
theorem f95_117 : ft 95 117 = some (5, 3, 0, .aload_n 0, 1) := Fm95 (dk_42 (dk_at s95_5 3 rfl rfl)) rfl
theorem f95_118 : ft 95 118 = some (5, 3, 0, .invokevirtual 28, 3) := Fm95 (dk_182 0 28 (dk_at s95_5 4 rfl rfl)) rfl
theorem f95_121 : ft 95 121 = some (5, 3, 0, .istore_n 3, 1) := Fm95 (dk_62 (dk_at s95_5 7 rfl rfl)) rfl
theorem f95_122 : ft 95 122 = some (5, 3, 0, .iload_n 3, 1) := Fm95 (dk_29 (dk_at s95_5 8 rfl rfl)) rfl
theorem f95_123 : ft 95 123 = some (5, 3, 0, .bipush 61, 2) := Fm95 (dk_16 61 (dk_at s95_5 9 rfl rfl)) rfl
theorem f95_125 : ft 95 125 = some (5, 3, 0, .if_icmp .eq 35, 3) := Fm95 (dk_159 0 35 (dk_at s95_5 11 rfl rfl)) rfl
theorem f95_128 : ft 95 128 = some (5, 3, 0, .iload_n 3, 1) := Fm95 (dk_29 (dk_at s95_5 14 rfl rfl)) rfl
theorem f95_129 : ft 95 129 = some (5, 3, 0, .bipush 33, 2) := Fm95 (dk_16 33 (dk_at s95_5 15 rfl rfl)) rfl
theorem f95_131 : ft 95 131 = some (5, 3, 0, .if_icmp .eq 29, 3) := Fm95 (dk_159 0 29 (dk_at s95_5 17 rfl rfl)) rfl
theorem f95_134 : ft 95 134 = some (5, 3, 0, .iload_n 3, 1) := Fm95 (dk_29 (dk_at s95_5 20 rfl rfl)) rfl
theorem f95_135 : ft 95 135 = some (5, 3, 0, .bipush 60, 2) := Fm95 (dk_16 60 (dk_at s95_5 21 rfl rfl)) rfl
theorem f95_137 : ft 95 137 = some (5, 3, 0, .if_icmp .eq 23, 3) := Fm95 (dk_159 0 23 (dk_at s95_6 0 rfl rfl)) rfl
theorem f95_140 : ft 95 140 = some (5, 3, 0, .iload_n 3, 1) := Fm95 (dk_29 (dk_at s95_6 3 rfl rfl)) rfl
theorem f95_141 : ft 95 141 = some (5, 3, 0, .bipush 62, 2) := Fm95 (dk_16 62 (dk_at s95_6 4 rfl rfl)) rfl
theorem f95_143 : ft 95 143 = some (5, 3, 0, .if_icmp .eq 17, 3) := Fm95 (dk_159 0 17 (dk_at s95_6 6 rfl rfl)) rfl
theorem f95_146 : ft 95 146 = some (5, 3, 0, .aload_n 0, 1) := Fm95 (dk_42 (dk_at s95_6 9 rfl rfl)) rfl
theorem f95_147 : ft 95 147 = some (5, 3, 0, .iload_n 2, 1) := Fm95 (dk_28 (dk_at s95_6 10 rfl rfl)) rfl
theorem f95_148 : ft 95 148 = some (5, 3, 0, .putfield 40, 3) := Fm95 (dk_181 0 40 (dk_at s95_6 11 rfl rfl)) rfl
theorem f95_151 : ft 95 151 = some (5, 3, 0, .new 202, 3) := Fm95 (dk_187 0 202 (dk_at s95_6 14 rfl rfl)) rfl
theorem f95_154 : ft 95 154 = some (5, 3, 0, .dup, 1) := Fm95 (dk_89 (dk_at s95_6 17 rfl rfl)) rfl
theorem f95_155 : ft 95 155 = some (5, 3, 0, .aload_n 1, 1) := Fm95 (dk_43 (dk_at s95_6 18 rfl rfl)) rfl
theorem f95_156 : ft 95 156 = some (5, 3, 0, .invokespecial 204, 3) := Fm95 (dk_183 0 204 (dk_at s95_6 19 rfl rfl)) rfl
theorem f95_159 : ft 95 159 = some (5, 3, 0, .areturn, 1) := Fm95 (dk_176 (dk_at s95_6 22 rfl rfl)) rfl
theorem f95_160 : ft 95 160 = some (5, 3, 0, .aload_n 0, 1) := Fm95 (dk_42 (dk_at s95_6 23 rfl rfl)) rfl
theorem f95_161 : ft 95 161 = some (5, 3, 0, .aload_n 1, 1) := Fm95 (dk_43 (dk_at s95_7 0 rfl rfl)) rfl
theorem f95_162 : ft 95 162 = some (5, 3, 0, .getfield 101, 3) := Fm95 (dk_180 0 101 (dk_at s95_7 1 rfl rfl)) rfl
theorem f95_165 : ft 95 165 = some (5, 3, 0, .invokevirtual 32, 3) := Fm95 (dk_182 0 32 (dk_at s95_7 4 rfl rfl)) rfl
theorem f95_168 : ft 95 168 = some (5, 3, 0, .aload_n 0, 1) := Fm95 (dk_42 (dk_at s95_7 7 rfl rfl)) rfl
theorem f95_169 : ft 95 169 = some (5, 3, 0, .new 215, 3) := Fm95 (dk_187 0 215 (dk_at s95_7 8 rfl rfl)) rfl
theorem f95_172 : ft 95 172 = some (5, 3, 0, .dup, 1) := Fm95 (dk_89 (dk_at s95_7 11 rfl rfl)) rfl
theorem f95_173 : ft 95 173 = some (5, 3, 0, .aload_n 1, 1) := Fm95 (dk_43 (dk_at s95_7 12 rfl rfl)) rfl
theorem f95_174 : ft 95 174 = some (5, 3, 0, .iconst 0, 1) := Fm95 (dk_3 (dk_at s95_7 13 rfl rfl)) rfl
theorem f95_175 : ft 95 175 = some (5, 3, 0, .invokespecial 217, 3) := Fm95 (dk_183 0 217 (dk_at s95_7 14 rfl rfl)) rfl
theorem f95_178 : ft 95 178 = some (5, 3, 0, .invokevirtual 211, 3) := Fm95 (dk_182 0 211 (dk_at s95_7 17 rfl rfl)) rfl
theorem f95_181 : ft 95 181 = some (5, 3, 0, .areturn, 1) := Fm95 (dk_176 (dk_at s95_7 20 rfl rfl)) rfl
theorem q95 {d : Nat} {m : Mem} {a0 : Int} (hd : 0 < d) (hz : TZ m) : le2 (gd (tg m a0 = 5) <| bI (cl (d - 1) 63 [pR a0] m) fun v1 m1 => if v1 = 33 then (bV (cl (d - 1) 62 [pR a0] (mst m1 a0 2 (w32 ((vl m1 a0 2) + 1)))) fun m12 => bI (cl (d - 1) 63 [pR a0] m12) fun v13 m13 => if v13 = 40 then (nw (nx m13) (mal m13 21 1) fun o21 m21 => bR (cl (d - 1) 96 [pR a0] m21) fun v22 m22 => bV (cl (d - 1) 314 [pR o21, pR v22] m22) fun m23 => some (.inl (some (pR o21)), m23)) else bI (cl (d - 1) 97 [pR a0] m13) fun v14 m14 => bV (cl (d - 1) 66 [pR a0, pI v14] m14) fun m15 => nw (nx m15) (mal m15 21 1) fun o16 m16 => nw (nx m16) (mal m16 22 1) fun o17 m17 => bR (cl (d - 1) 82 [pR a0, pI 0] m17) fun v18 m18 => bV (cl (d - 1) 316 [pR o17, pR v18] m18) fun m19 => bV (cl (d - 1) 314 [pR o16, pR o17] m19) fun m20 => some (.inl (some (pR o16)), m20)) else bI (cl (d - 1) 63 [pR a0] m1) fun v2 m2 => if v2 = 40 then (bR (cl (d - 1) 96 [pR a0] m2) fun v11 m11 => some (.inl (some (pR v11)), m11)) else bI (cl (d - 1) 97 [pR a0] m2) fun v3 m3 => if v3 = 0 then (bR (cl (d - 1) 98 [pR a0] m3) fun v9 m9 => bR (cl (d - 1) 100 [pR a0, pR v9] m9) fun v10 m10 => some (.inl (some (pR v10)), m10)) else bR (cl (d - 1) 82 [pR a0, pI 0] m3) fun v4 m4 => nm (vl m4 a0 2) fun v24 => bV (cl (d - 1) 62 [pR a0] m4) fun m5 => bI (cl (d - 1) 63 [pR a0] m5) fun v6 m6 => if v6 = 61 then (rn d 95 160 [pR a0, pR v4, pI v24, pI v6] [] m6) else if v6 = 33 then (rn d 95 160 [pR a0, pR v4, pI v24, pI v6] [] m6) else if v6 = 60 then (rn d 95 160 [pR a0, pR v4, pI v24, pI v6] [] m6) else if v6 = 62 then (rn d 95 160 [pR a0, pR v4, pI v24, pI v6] [] m6) else nw (nx (mst m6 a0 2 v24)) (mal (mst m6 a0 2 v24) 22 1) fun o7 m7 => bV (cl (d - 1) 316 [pR o7, pR v4] m7) fun m8 => some (.inl (some (pR o7)), m8)) (cl d 95 [pR a0] m) := by
  refine q_in (n := 4) (L := [pR a0, pU, pU, pU]) rfl rfl rfl ?_
  refine r_aln0 (p := 1) f95_0 rfl ?_
  refine le2_gd (fun h1 => ?_)
  refine r_invI (p := 4) f95_1 rfl rfl rfl (Or.inl h1) hd (Nat.le_of_ble_eq_true rfl) rfl rfl rfl (fun _ => rfl) (fun v1 m1 c1 => ?_)
  have hz1 := z_k c1 hz
  refine r_bipush (p := 6) f95_4 rfl (pinD rfl rfl) ?_
  refine r_icne (t := 72) (p := 9) f95_6 (by decide) rfl rfl ?_ ?_
  · refine r_aln0 (p := 10) f95_9 rfl ?_
    refine r_dup (p := 11) f95_10 rfl rfl ?_
    have h12 := k_t1 c1 hz h1 (by decide)
    refine r_gfI (f := 2) (p := 14) f95_11 rfl rfl rfl (Or.inl h12) rfl ?_
    refine r_iconst (p := 15) f95_14 rfl (pinD rfl rfl) ?_
    refine r_iadd (p := 16) f95_15 rfl ?_
    refine r_pfI (f := 2) (p := 19) f95_16 rfl rfl rfl (by decide) (by decide) (Or.inl h12) rfl ?_
    refine r_aln0 (p := 20) f95_19 rfl ?_
    refine r_invV (p := 23) f95_20 rfl rfl rfl (Or.inl h12) hd (Nat.le_of_ble_eq_true rfl) rfl rfl rfl (fun _ => rfl) (fun m12 c12 => ?_)
    have hz12 := z_k c12 hz1
    refine r_aln0 (p := 24) f95_23 rfl ?_
    have h13 := k_t1 c12 hz1 h12 (by decide)
    refine r_invI (p := 27) f95_24 rfl rfl rfl (Or.inl h13) hd (Nat.le_of_ble_eq_true rfl) rfl rfl rfl (fun _ => rfl) (fun v13 m13 c13 => ?_)
    have hz13 := z_k c13 hz12
    refine r_bipush (p := 29) f95_27 rfl (pinD rfl rfl) ?_
    refine r_icne (t := 44) (p := 32) f95_29 (by decide) rfl rfl ?_ ?_
    · refine r_new (t1 := 21) (f1 := 1) (p := 35) f95_32 rfl rfl rfl rfl rfl (fun o21 m21 h25 k21 => ?_)
      have hz21 := z_k k21 hz13
      refine r_dup (p := 36) f95_35 rfl rfl ?_
      refine r_aln0 (p := 37) f95_36 rfl ?_
      have h26 := k_t1 c13 hz12 h13 (by decide)
      have h27 := k_t1 k21 hz13 h26 (by decide)
      refine r_invR (p := 40) f95_37 rfl rfl rfl (Or.inl h27) hd (Nat.le_of_ble_eq_true rfl) rfl rfl rfl (fun _ => rfl) (fun v22 m22 c22 => ?_)
      have hz22 := z_k c22 hz21
      have h28 := k_t1 c22 hz21 h25 (by decide)
      refine r_ispV (p := 43) f95_40 rfl rfl rfl (Or.inl h28) hd (Nat.le_of_ble_eq_true rfl) rfl rfl rfl (fun _ => rfl) (fun m23 c23 => ?_)
      have hz23 := z_k c23 hz22
      exact r_aret f95_43
    · refine r_aln0 (p := 45) f95_44 rfl ?_
      refine r_aln0 (p := 46) f95_45 rfl ?_
      have h14 := k_t1 c13 hz12 h13 (by decide)
      refine r_invI (p := 49) f95_46 rfl rfl rfl (Or.inl h14) hd (Nat.le_of_ble_eq_true rfl) rfl rfl rfl (fun _ => rfl) (fun v14 m14 c14 => ?_)
      have hz14 := z_k c14 hz13
      have h15 := k_t1 c14 hz13 h14 (by decide)
      refine r_invV (p := 52) f95_49 rfl rfl rfl (Or.inl h15) hd (Nat.le_of_ble_eq_true rfl) rfl rfl rfl (fun _ => rfl) (fun m15 c15 => ?_)
      have hz15 := z_k c15 hz14
      refine r_new (t1 := 21) (f1 := 1) (p := 55) f95_52 rfl rfl rfl rfl rfl (fun o16 m16 h16 k16 => ?_)
      have hz16 := z_k k16 hz15
      refine r_dup (p := 56) f95_55 rfl rfl ?_
      refine r_new (t1 := 22) (f1 := 1) (p := 59) f95_56 rfl rfl rfl rfl rfl (fun o17 m17 h17 k17 => ?_)
      have hz17 := z_k k17 hz16
      refine r_dup (p := 60) f95_59 rfl rfl ?_
      refine r_aln0 (p := 61) f95_60 rfl ?_
      refine r_iconst (p := 62) f95_61 rfl (pinD rfl rfl) ?_
      have h18 := k_t1 c15 hz14 h15 (by decide)
      have h19 := k_t1 k16 hz15 h18 (by decide)
      have h20 := k_t1 k17 hz16 h19 (by decide)
      refine r_invR (p := 65) f95_62 rfl rfl rfl (Or.inl h20) hd (Nat.le_of_ble_eq_true rfl) rfl rfl rfl (fun _ => rfl) (fun v18 m18 c18 => ?_)
      have hz18 := z_k c18 hz17
      have h21 := k_t1 c18 hz17 h17 (by decide)
      refine r_ispV (p := 68) f95_65 rfl rfl rfl (Or.inl h21) hd (Nat.le_of_ble_eq_true rfl) rfl rfl rfl (fun _ => rfl) (fun m19 c19 => ?_)
      have hz19 := z_k c19 hz18
      have h22 := k_t1 k17 hz16 h16 (by decide)
      have h23 := k_t1 c18 hz17 h22 (by decide)
      have h24 := k_t1 c19 hz18 h23 (by decide)
      refine r_ispV (p := 71) f95_68 rfl rfl rfl (Or.inl h24) hd (Nat.le_of_ble_eq_true rfl) rfl rfl rfl (fun _ => rfl) (fun m20 c20 => ?_)
      have hz20 := z_k c20 hz19
      exact r_aret f95_71
  · refine r_aln0 (p := 73) f95_72 rfl ?_
    have h2 := k_t1 c1 hz h1 (by decide)
    refine r_invI (p := 76) f95_73 rfl rfl rfl (Or.inl h2) hd (Nat.le_of_ble_eq_true rfl) rfl rfl rfl (fun _ => rfl) (fun v2 m2 c2 => ?_)
    have hz2 := z_k c2 hz1
    refine r_bipush (p := 78) f95_76 rfl (pinD rfl rfl) ?_
    refine r_icne (t := 86) (p := 81) f95_78 (by decide) rfl rfl ?_ ?_
    · refine r_aln0 (p := 82) f95_81 rfl ?_
      have h11 := k_t1 c2 hz1 h2 (by decide)
      refine r_invR (p := 85) f95_82 rfl rfl rfl (Or.inl h11) hd (Nat.le_of_ble_eq_true rfl) rfl rfl rfl (fun _ => rfl) (fun v11 m11 c11 => ?_)
      have hz11 := z_k c11 hz2
      exact r_aret f95_85
    · refine r_aln0 (p := 87) f95_86 rfl ?_
      have h3 := k_t1 c2 hz1 h2 (by decide)
      refine r_invI (p := 90) f95_87 rfl rfl rfl (Or.inl h3) hd (Nat.le_of_ble_eq_true rfl) rfl rfl rfl (fun _ => rfl) (fun v3 m3 c3 => ?_)
      have hz3 := z_k c3 hz2
      refine r_ifne (t := 102) (p := 93) f95_90 (by decide) rfl rfl ?_ ?_
      · refine r_aln0 (p := 94) f95_93 rfl ?_
        refine r_aln0 (p := 95) f95_94 rfl ?_
        have h9 := k_t1 c3 hz2 h3 (by decide)
        refine r_invR (p := 98) f95_95 rfl rfl rfl (Or.inl h9) hd (Nat.le_of_ble_eq_true rfl) rfl rfl rfl (fun _ => rfl) (fun v9 m9 c9 => ?_)
        have hz9 := z_k c9 hz3
        have h10 := k_t1 c9 hz3 h9 (by decide)
        refine r_invR (p := 101) f95_98 rfl rfl rfl (Or.inl h10) hd (Nat.le_of_ble_eq_true rfl) rfl rfl rfl (fun _ => rfl) (fun v10 m10 c10 => ?_)
        have hz10 := z_k c10 hz9
        exact r_aret f95_101
      · refine r_aln0 (p := 103) f95_102 rfl ?_
        refine r_iconst (p := 104) f95_103 rfl (pinD rfl rfl) ?_
        have h4 := k_t1 c3 hz2 h3 (by decide)
        refine r_invR (p := 107) f95_104 rfl rfl rfl (Or.inl h4) hd (Nat.le_of_ble_eq_true rfl) rfl rfl rfl (fun _ => rfl) (fun v4 m4 c4 => ?_)
        have hz4 := z_k c4 hz3
        refine r_asn1 (p := 108) f95_107 rfl rfl ?_
        refine r_aln0 (p := 109) f95_108 rfl ?_
        have h5 := k_t1 c4 hz3 h4 (by decide)
        refine r_gfI (f := 2) (p := 112) f95_109 rfl rfl rfl (Or.inl h5) rfl ?_
        refine r_nmI (fun v24 ev24 => ?_)
        refine r_isn2 (p := 113) f95_112 rfl rfl ?_
        refine r_aln0 (p := 114) f95_113 rfl ?_
        refine r_invV (p := 117) f95_114 rfl rfl rfl (Or.inl h5) hd (Nat.le_of_ble_eq_true rfl) rfl rfl rfl (fun _ => rfl) (fun m5 c5 => ?_)
        have hz5 := z_k c5 hz4
        refine r_aln0 (p := 118) f95_117 rfl ?_
        have h6 := k_t1 c5 hz4 h5 (by decide)
        refine r_invI (p := 121) f95_118 rfl rfl rfl (Or.inl h6) hd (Nat.le_of_ble_eq_true rfl) rfl rfl rfl (fun _ => rfl) (fun v6 m6 c6 => ?_)
        have hz6 := z_k c6 hz5
        refine r_isn3 (p := 122) f95_121 rfl rfl ?_
        refine r_iln3 (p := 123) f95_122 rfl ?_
        refine r_bipush (p := 125) f95_123 rfl (pinD rfl rfl) ?_
        refine r_iceq (t := 160) (p := 128) f95_125 (by decide) rfl rfl ?_ ?_
        · exact le2_refl _
        · refine r_iln3 (p := 129) f95_128 rfl ?_
          refine r_bipush (p := 131) f95_129 rfl (pinD rfl rfl) ?_
          refine r_iceq (t := 160) (p := 134) f95_131 (by decide) rfl rfl ?_ ?_
          · exact le2_refl _
          · refine r_iln3 (p := 135) f95_134 rfl ?_
            refine r_bipush (p := 137) f95_135 rfl (pinD rfl rfl) ?_
            refine r_iceq (t := 160) (p := 140) f95_137 (by decide) rfl rfl ?_ ?_
            · exact le2_refl _
            · refine r_iln3 (p := 141) f95_140 rfl ?_
              refine r_bipush (p := 143) f95_141 rfl (pinD rfl rfl) ?_
              refine r_iceq (t := 160) (p := 146) f95_143 (by decide) rfl rfl ?_ ?_
              · exact le2_refl _
              · refine r_aln0 (p := 147) f95_146 rfl ?_
                refine r_iln2 (p := 148) f95_147 rfl ?_
                have h7 := k_t1 c6 hz5 h6 (by decide)
                refine r_pfI (f := 2) (p := 151) f95_148 rfl rfl rfl (by decide) (by decide) (Or.inl h7) rfl ?_
                refine r_new (t1 := 22) (f1 := 1) (p := 154) f95_151 rfl rfl rfl rfl rfl (fun o7 m7 h8 k7 => ?_)
                have hz7 := z_k k7 hz6
                refine r_dup (p := 155) f95_154 rfl rfl ?_
                refine r_aln1 (p := 156) f95_155 rfl ?_
                refine r_ispV (p := 159) f95_156 rfl rfl rfl (Or.inl h8) hd (Nat.le_of_ble_eq_true rfl) rfl rfl rfl (fun _ => rfl) (fun m8 c8 => ?_)
                have hz8 := z_k c8 hz7
                exact r_aret f95_159
theorem q95_160 {d : Nat} {m : Mem} {a0 a1 a2 a3 : Int} (hd : 0 < d) (hz : TZ m) : le2 (gd (tg m a1 = 15) <| gd (tg m a0 = 5) <| bV (cl (d - 1) 66 [pR a0, pI (vl m a1 1)] m) fun m1 => nw (nx m1) (mal m1 23 2) fun o2 m2 => bV (cl (d - 1) 318 [pR o2, pR a1, pI 0] m2) fun m3 => bR (cl (d - 1) 100 [pR a0, pR o2] m3) fun v4 m4 => some (.inl (some (pR v4)), m4)) (rn d 95 160 [pR a0, pR a1, pI a2, pI a3] [] m) := by
  refine r_aln0 (p := 161) f95_160 rfl ?_
  refine r_aln1 (p := 162) f95_161 rfl ?_
  refine le2_gd (fun h1 => ?_)
  refine r_gfIZ (f := 1) (p := 165) f95_162 rfl rfl rfl (Or.inl h1) rfl ?_
  refine le2_gd (fun h2 => ?_)
  refine r_invV (p := 168) f95_165 rfl rfl rfl (Or.inl h2) hd (Nat.le_of_ble_eq_true rfl) rfl rfl rfl (fun _ => rfl) (fun m1 c1 => ?_)
  have hz1 := z_k c1 hz
  refine r_aln0 (p := 169) f95_168 rfl ?_
  refine r_new (t1 := 23) (f1 := 2) (p := 172) f95_169 rfl rfl rfl rfl rfl (fun o2 m2 h3 k2 => ?_)
  have hz2 := z_k k2 hz1
  refine r_dup (p := 173) f95_172 rfl rfl ?_
  refine r_aln1 (p := 174) f95_173 rfl ?_
  refine r_iconst (p := 175) f95_174 rfl (pinD rfl rfl) ?_
  refine r_ispV (p := 178) f95_175 rfl rfl rfl (Or.inl h3) hd (Nat.le_of_ble_eq_true rfl) rfl rfl rfl (fun _ => rfl) (fun m3 c3 => ?_)
  have hz3 := z_k c3 hz2
  have h4 := k_t1 c1 hz h2 (by decide)
  have h5 := k_t1 k2 hz1 h4 (by decide)
  have h6 := k_t1 c3 hz2 h5 (by decide)
  refine r_invR (p := 181) f95_178 rfl rfl rfl (Or.inl h6) hd (Nat.le_of_ble_eq_true rfl) rfl rfl rfl (fun _ => rfl) (fun v4 m4 c4 => ?_)
  have hz4 := z_k c4 hz3
  exact r_aret f95_181
/-! 96 PathStore$Compiler.inner ()LPathStore$Test; -/
def w96_1 : List UInt8 := [176]
abbrev u96_1 : List UInt8 := w96_1 ++ []
def w96_0 : List UInt8 := [42, 182, 0, 104, 42, 182, 0, 46, 42, 182, 0, 151, 76, 42, 182, 0, 46, 42, 16, 41, 182, 0, 117, 43]
abbrev u96_0 : List UInt8 := w96_0 ++ u96_1
theorem s96_0 : (prog_4_method_19_code).data.toList.drop 0 = u96_0 := by decide +kernel
theorem s96_1 : (prog_4_method_19_code).data.toList.drop 24 = u96_1 := dk_seg s96_0 24 rfl rfl
theorem Fm96 {pc len : Nat} {i : Instr} (h : decode (prog_4_method_19_code) pc = .ok (i, len)) (hl : len = ilen i len) : ft 96 pc = some (5, 3, 0, i, len) := ft_mk rfl h hl
theorem f96_0 : ft 96 0 = some (5, 3, 0, .aload_n 0, 1) := Fm96 (dk_42 (dk_at s96_0 0 rfl rfl)) rfl
theorem f96_1 : ft 96 1 = some (5, 3, 0, .invokevirtual 104, 3) := Fm96 (dk_182 0 104 (dk_at s96_0 1 rfl rfl)) rfl
theorem f96_4 : ft 96 4 = some (5, 3, 0, .aload_n 0, 1) := Fm96 (dk_42 (dk_at s96_0 4 rfl rfl)) rfl
theorem f96_5 : ft 96 5 = some (5, 3, 0, .invokevirtual 46, 3) := Fm96 (dk_182 0 46 (dk_at s96_0 5 rfl rfl)) rfl
theorem f96_8 : ft 96 8 = some (5, 3, 0, .aload_n 0, 1) := Fm96 (dk_42 (dk_at s96_0 8 rfl rfl)) rfl
theorem f96_9 : ft 96 9 = some (5, 3, 0, .invokevirtual 151, 3) := Fm96 (dk_182 0 151 (dk_at s96_0 9 rfl rfl)) rfl
theorem f96_12 : ft 96 12 = some (5, 3, 0, .astore_n 1, 1) := Fm96 (dk_76 (dk_at s96_0 12 rfl rfl)) rfl
theorem f96_13 : ft 96 13 = some (5, 3, 0, .aload_n 0, 1) := Fm96 (dk_42 (dk_at s96_0 13 rfl rfl)) rfl
theorem f96_14 : ft 96 14 = some (5, 3, 0, .invokevirtual 46, 3) := Fm96 (dk_182 0 46 (dk_at s96_0 14 rfl rfl)) rfl
theorem f96_17 : ft 96 17 = some (5, 3, 0, .aload_n 0, 1) := Fm96 (dk_42 (dk_at s96_0 17 rfl rfl)) rfl
theorem f96_18 : ft 96 18 = some (5, 3, 0, .bipush 41, 2) := Fm96 (dk_16 41 (dk_at s96_0 18 rfl rfl)) rfl
theorem f96_20 : ft 96 20 = some (5, 3, 0, .invokevirtual 117, 3) := Fm96 (dk_182 0 117 (dk_at s96_0 20 rfl rfl)) rfl
theorem f96_23 : ft 96 23 = some (5, 3, 0, .aload_n 1, 1) := Fm96 (dk_43 (dk_at s96_0 23 rfl rfl)) rfl
theorem f96_24 : ft 96 24 = some (5, 3, 0, .areturn, 1) := Fm96 (dk_176 (dk_at s96_1 0 rfl rfl)) rfl
theorem q96 {d : Nat} {m : Mem} {a0 : Int} (hd : 0 < d) (hz : TZ m) : le2 (gd (tg m a0 = 5) <| bV (cl (d - 1) 86 [pR a0] m) fun m1 => bV (cl (d - 1) 62 [pR a0] m1) fun m2 => bR (cl (d - 1) 93 [pR a0] m2) fun v3 m3 => bV (cl (d - 1) 62 [pR a0] m3) fun m4 => bV (cl (d - 1) 89 [pR a0, pI 41] m4) fun m5 => some (.inl (some (pR v3)), m5)) (cl d 96 [pR a0] m) := by
  refine q_in (n := 2) (L := [pR a0, pU]) rfl rfl rfl ?_
  refine r_aln0 (p := 1) f96_0 rfl ?_
  refine le2_gd (fun h1 => ?_)
  refine r_invV (p := 4) f96_1 rfl rfl rfl (Or.inl h1) hd (Nat.le_of_ble_eq_true rfl) rfl rfl rfl (fun _ => rfl) (fun m1 c1 => ?_)
  have hz1 := z_k c1 hz
  refine r_aln0 (p := 5) f96_4 rfl ?_
  have h2 := k_t1 c1 hz h1 (by decide)
  refine r_invV (p := 8) f96_5 rfl rfl rfl (Or.inl h2) hd (Nat.le_of_ble_eq_true rfl) rfl rfl rfl (fun _ => rfl) (fun m2 c2 => ?_)
  have hz2 := z_k c2 hz1
  refine r_aln0 (p := 9) f96_8 rfl ?_
  have h3 := k_t1 c2 hz1 h2 (by decide)
  refine r_invR (p := 12) f96_9 rfl rfl rfl (Or.inl h3) hd (Nat.le_of_ble_eq_true rfl) rfl rfl rfl (fun _ => rfl) (fun v3 m3 c3 => ?_)
  have hz3 := z_k c3 hz2
  refine r_asn1 (p := 13) f96_12 rfl rfl ?_
  refine r_aln0 (p := 14) f96_13 rfl ?_
  have h4 := k_t1 c3 hz2 h3 (by decide)
  refine r_invV (p := 17) f96_14 rfl rfl rfl (Or.inl h4) hd (Nat.le_of_ble_eq_true rfl) rfl rfl rfl (fun _ => rfl) (fun m4 c4 => ?_)
  have hz4 := z_k c4 hz3
  refine r_aln0 (p := 18) f96_17 rfl ?_
  refine r_bipush (p := 20) f96_18 rfl (pinD rfl rfl) ?_
  have h5 := k_t1 c4 hz3 h4 (by decide)
  refine r_invV (p := 23) f96_20 rfl rfl rfl (Or.inl h5) hd (Nat.le_of_ble_eq_true rfl) rfl rfl rfl (fun _ => rfl) (fun m5 c5 => ?_)
  have hz5 := z_k c5 hz4
  refine r_aln1 (p := 24) f96_23 rfl ?_
  exact r_aret f96_24
/-! 97 PathStore$Compiler.queryBegins ()Z -/
def w97_0 : List UInt8 := [42, 182, 0, 28, 16, 36, 159, 0, 12, 42, 182, 0, 28, 16, 64, 160, 0, 7, 4, 167, 0, 4, 3, 172]
abbrev u97_0 : List UInt8 := w97_0 ++ []
theorem s97_0 : (prog_4_method_17_code).data.toList.drop 0 = u97_0 := by decide +kernel
theorem Fm97 {pc len : Nat} {i : Instr} (h : decode (prog_4_method_17_code) pc = .ok (i, len)) (hl : len = ilen i len) : ft 97 pc = some (5, 4, 0, i, len) := ft_mk rfl h hl
theorem f97_0 : ft 97 0 = some (5, 4, 0, .aload_n 0, 1) := Fm97 (dk_42 (dk_at s97_0 0 rfl rfl)) rfl
theorem f97_1 : ft 97 1 = some (5, 4, 0, .invokevirtual 28, 3) := Fm97 (dk_182 0 28 (dk_at s97_0 1 rfl rfl)) rfl
theorem f97_4 : ft 97 4 = some (5, 4, 0, .bipush 36, 2) := Fm97 (dk_16 36 (dk_at s97_0 4 rfl rfl)) rfl
theorem f97_6 : ft 97 6 = some (5, 4, 0, .if_icmp .eq 12, 3) := Fm97 (dk_159 0 12 (dk_at s97_0 6 rfl rfl)) rfl
theorem f97_9 : ft 97 9 = some (5, 4, 0, .aload_n 0, 1) := Fm97 (dk_42 (dk_at s97_0 9 rfl rfl)) rfl
theorem f97_10 : ft 97 10 = some (5, 4, 0, .invokevirtual 28, 3) := Fm97 (dk_182 0 28 (dk_at s97_0 10 rfl rfl)) rfl
theorem f97_13 : ft 97 13 = some (5, 4, 0, .bipush 64, 2) := Fm97 (dk_16 64 (dk_at s97_0 13 rfl rfl)) rfl
theorem f97_15 : ft 97 15 = some (5, 4, 0, .if_icmp .ne 7, 3) := Fm97 (dk_160 0 7 (dk_at s97_0 15 rfl rfl)) rfl
theorem f97_18 : ft 97 18 = some (5, 4, 0, .iconst 1, 1) := Fm97 (dk_4 (dk_at s97_0 18 rfl rfl)) rfl
theorem f97_19 : ft 97 19 = some (5, 4, 0, .goto 4, 3) := Fm97 (dk_167 0 4 (dk_at s97_0 19 rfl rfl)) rfl
theorem f97_22 : ft 97 22 = some (5, 4, 0, .iconst 0, 1) := Fm97 (dk_3 (dk_at s97_0 22 rfl rfl)) rfl
theorem f97_23 : ft 97 23 = some (5, 4, 0, .ireturn, 1) := Fm97 (dk_172 (dk_at s97_0 23 rfl rfl)) rfl
theorem q97 {d : Nat} {m : Mem} {a0 : Int} (hd : 0 < d) (hz : TZ m) : le2 (gd (tg m a0 = 5) <| bI (cl (d - 1) 63 [pR a0] m) fun v1 m1 => if v1 = 36 then (some (.inl (some (pI 1)), m1)) else bI (cl (d - 1) 63 [pR a0] m1) fun v2 m2 => if v2 = 64 then (some (.inl (some (pI 1)), m2)) else some (.inl (some (pI 0)), m2)) (cl d 97 [pR a0] m) := by
  refine q_in (n := 1) (L := [pR a0]) rfl rfl rfl ?_
  refine r_aln0 (p := 1) f97_0 rfl ?_
  refine le2_gd (fun h1 => ?_)
  refine r_invI (p := 4) f97_1 rfl rfl rfl (Or.inl h1) hd (Nat.le_of_ble_eq_true rfl) rfl rfl rfl (fun _ => rfl) (fun v1 m1 c1 => ?_)
  have hz1 := z_k c1 hz
  refine r_bipush (p := 6) f97_4 rfl (pinD rfl rfl) ?_
  refine r_iceq (t := 18) (p := 9) f97_6 (by decide) rfl rfl ?_ ?_
  · refine r_iconst (p := 19) f97_18 rfl (pinD rfl rfl) ?_
    refine r_goto (p := 23) f97_19 (by decide) rfl ?_
    exact r_iret4 f97_23 (by decide)
  · refine r_aln0 (p := 10) f97_9 rfl ?_
    have h2 := k_t1 c1 hz h1 (by decide)
    refine r_invI (p := 13) f97_10 rfl rfl rfl (Or.inl h2) hd (Nat.le_of_ble_eq_true rfl) rfl rfl rfl (fun _ => rfl) (fun v2 m2 c2 => ?_)
    have hz2 := z_k c2 hz1
    refine r_bipush (p := 15) f97_13 rfl (pinD rfl rfl) ?_
    refine r_icne (t := 22) (p := 18) f97_15 (by decide) rfl rfl ?_ ?_
    · refine r_iconst (p := 19) f97_18 rfl (pinD rfl rfl) ?_
      refine r_goto (p := 23) f97_19 (by decide) rfl ?_
      exact r_iret4 f97_23 (by decide)
    · refine r_iconst (p := 23) f97_22 rfl (pinD rfl rfl) ?_
      exact r_iret4 f97_23 (by decide)
/-! 98 PathStore$Compiler.operand ()LPathStore$Operand; -/
def w98_10 : List UInt8 := [182, 0, 125, 42, 180, 0, 20, 32, 182, 0, 251, 187, 0, 228, 89, 42, 180, 0, 20, 27, 183, 0, 230, 176]
abbrev u98_10 : List UInt8 := w98_10 ++ []
def w98_9 : List UInt8 := [18, 249, 182, 0, 233, 42, 16, 118, 182, 0, 243, 176, 42, 182, 0, 110, 65, 42, 180, 0, 20, 6]
abbrev u98_9 : List UInt8 := w98_9 ++ u98_10
def w98_8 : List UInt8 := [182, 0, 233, 42, 16, 108, 182, 0, 243, 176, 42, 18, 247, 182, 0, 233, 42, 16, 99, 182, 0, 243, 176, 42]
abbrev u98_8 : List UInt8 := w98_8 ++ u98_9
def w98_7 : List UInt8 := [180, 0, 20, 3, 182, 0, 125, 187, 0, 228, 89, 42, 180, 0, 20, 27, 183, 0, 230, 176, 42, 18, 241]
abbrev u98_7 : List UInt8 := w98_7 ++ u98_8
def w98_6 : List UInt8 := [182, 0, 125, 187, 0, 228, 89, 42, 180, 0, 20, 27, 183, 0, 230, 176, 42, 18, 239, 182, 0, 233, 42]
abbrev u98_6 : List UInt8 := w98_6 ++ u98_7
def w98_5 : List UInt8 := [187, 0, 228, 89, 42, 180, 0, 20, 27, 183, 0, 230, 176, 42, 18, 237, 182, 0, 233, 42, 180, 0, 20, 4]
abbrev u98_5 : List UInt8 := w98_5 ++ u98_6
def w98_4 : List UInt8 := [42, 180, 0, 20, 27, 183, 0, 230, 176, 42, 18, 231, 182, 0, 233, 42, 180, 0, 20, 5, 182, 0, 125]
abbrev u98_4 : List UInt8 := w98_4 ++ u98_5
def w98_3 : List UInt8 := [42, 180, 0, 20, 7, 182, 0, 125, 42, 42, 180, 0, 20, 42, 182, 0, 28, 182, 0, 142, 187, 0, 228, 89]
abbrev u98_3 : List UInt8 := w98_3 ++ u98_4
def w98_2 : List UInt8 := [171, 0, 0, 0, 0, 0, 228, 0, 0, 0, 8, 0, 0, 0, 34, 0, 0, 0, 75, 0, 0, 0, 39, 0, 0, 0, 75, 0, 0, 0, 99, 0, 0, 0, 202, 0, 0, 0, 102, 0, 0, 0, 135, 0, 0, 0, 108, 0, 0, 0, 189, 0, 0, 0, 110, 0, 0, 0, 162, 0, 0, 0, 116, 0, 0, 0, 108, 0, 0, 0, 118, 0, 0, 0, 215]
abbrev u98_2 : List UInt8 := w98_2 ++ u98_3
def w98_1 : List UInt8 := [180, 0, 20, 180, 0, 124, 60, 42, 182, 0, 28]
abbrev u98_1 : List UInt8 := w98_1 ++ u98_2
def w98_0 : List UInt8 := [42, 182, 0, 199, 153, 0, 17, 187, 0, 215, 89, 42, 4, 182, 0, 36, 3, 183, 0, 217, 176, 42]
abbrev u98_0 : List UInt8 := w98_0 ++ u98_1
theorem s98_0 : (prog_4_method_22_code).data.toList.drop 0 = u98_0 := by decide +kernel
theorem s98_1 : (prog_4_method_22_code).data.toList.drop 22 = u98_1 := dk_seg s98_0 22 rfl rfl
theorem s98_2 : (prog_4_method_22_code).data.toList.drop 33 = u98_2 := dk_seg s98_1 11 rfl rfl
theorem s98_3 : (prog_4_method_22_code).data.toList.drop 108 = u98_3 := dk_seg s98_2 75 rfl rfl
theorem s98_4 : (prog_4_method_22_code).data.toList.drop 132 = u98_4 := dk_seg s98_3 24 rfl rfl
theorem s98_5 : (prog_4_method_22_code).data.toList.drop 155 = u98_5 := dk_seg s98_4 23 rfl rfl
theorem s98_6 : (prog_4_method_22_code).data.toList.drop 179 = u98_6 := dk_seg s98_5 24 rfl rfl
theorem s98_7 : (prog_4_method_22_code).data.toList.drop 202 = u98_7 := dk_seg s98_6 23 rfl rfl
theorem s98_8 : (prog_4_method_22_code).data.toList.drop 225 = u98_8 := dk_seg s98_7 23 rfl rfl
theorem s98_9 : (prog_4_method_22_code).data.toList.drop 249 = u98_9 := dk_seg s98_8 24 rfl rfl
theorem s98_10 : (prog_4_method_22_code).data.toList.drop 271 = u98_10 := dk_seg s98_9 22 rfl rfl
theorem Fm98 {pc len : Nat} {i : Instr} (h : decode (prog_4_method_22_code) pc = .ok (i, len)) (hl : len = ilen i len) : ft 98 pc = some (5, 3, 0, i, len) := ft_mk rfl h hl
theorem f98_0 : ft 98 0 = some (5, 3, 0, .aload_n 0, 1) := Fm98 (dk_42 (dk_at s98_0 0 rfl rfl)) rfl
theorem f98_1 : ft 98 1 = some (5, 3, 0, .invokevirtual 199, 3) := Fm98 (dk_182 0 199 (dk_at s98_0 1 rfl rfl)) rfl
theorem f98_4 : ft 98 4 = some (5, 3, 0, .ifCond .eq 17, 3) := Fm98 (dk_153 0 17 (dk_at s98_0 4 rfl rfl)) rfl
theorem f98_7 : ft 98 7 = some (5, 3, 0, .new 215, 3) := Fm98 (dk_187 0 215 (dk_at s98_0 7 rfl rfl)) rfl
theorem f98_10 : ft 98 10 = some (5, 3, 0, .dup, 1) := Fm98 (dk_89 (dk_at s98_0 10 rfl rfl)) rfl
theorem f98_11 : ft 98 11 = some (5, 3, 0, .aload_n 0, 1) := Fm98 (dk_42 (dk_at s98_0 11 rfl rfl)) rfl
theorem f98_12 : ft 98 12 = some (5, 3, 0, .iconst 1, 1) := Fm98 (dk_4 (dk_at s98_0 12 rfl rfl)) rfl
theorem f98_13 : ft 98 13 = some (5, 3, 0, .invokevirtual 36, 3) := Fm98 (dk_182 0 36 (dk_at s98_0 13 rfl rfl)) rfl
theorem f98_16 : ft 98 16 = some (5, 3, 0, .iconst 0, 1) := Fm98 (dk_3 (dk_at s98_0 16 rfl rfl)) rfl
theorem f98_17 : ft 98 17 = some (5, 3, 0, .invokespecial 217, 3) := Fm98 (dk_183 0 217 (dk_at s98_0 17 rfl rfl)) rfl
theorem f98_20 : ft 98 20 = some (5, 3, 0, .areturn, 1) := Fm98 (dk_176 (dk_at s98_0 20 rfl rfl)) rfl
theorem f98_21 : ft 98 21 = some (5, 3, 0, .aload_n 0, 1) := Fm98 (dk_42 (dk_at s98_0 21 rfl rfl)) rfl
theorem f98_22 : ft 98 22 = some (5, 3, 0, .getfield 20, 3) := Fm98 (dk_180 0 20 (dk_at s98_1 0 rfl rfl)) rfl
theorem f98_25 : ft 98 25 = some (5, 3, 0, .getfield 124, 3) := Fm98 (dk_180 0 124 (dk_at s98_1 3 rfl rfl)) rfl
theorem f98_28 : ft 98 28 = some (5, 3, 0, .istore_n 1, 1) := Fm98 (dk_60 (dk_at s98_1 6 rfl rfl)) rfl
theorem f98_29 : ft 98 29 = some (5, 3, 0, .aload_n 0, 1) := Fm98 (dk_42 (dk_at s98_1 7 rfl rfl)) rfl
theorem f98_30 : ft 98 30 = some (5, 3, 0, .invokevirtual 28, 3) := Fm98 (dk_182 0 28 (dk_at s98_1 8 rfl rfl)) rfl
theorem f98_33 : ft 98 33 = some (5, 3, 0, .lookupswitch 228 #[(34, 75), (39, 75), (99, 202), (102, 135), (108, 189), (110, 162), (116, 108), (118, 215)], 75) := Fm98 (by decide +kernel) rfl
theorem f98_108 : ft 98 108 = some (5, 3, 0, .aload_n 0, 1) := Fm98 (dk_42 (dk_at s98_3 0 rfl rfl)) rfl
theorem f98_109 : ft 98 109 = some (5, 3, 0, .getfield 20, 3) := Fm98 (dk_180 0 20 (dk_at s98_3 1 rfl rfl)) rfl
theorem f98_112 : ft 98 112 = some (5, 3, 0, .iconst 4, 1) := Fm98 (dk_7 (dk_at s98_3 4 rfl rfl)) rfl
theorem f98_113 : ft 98 113 = some (5, 3, 0, .invokevirtual 125, 3) := Fm98 (dk_182 0 125 (dk_at s98_3 5 rfl rfl)) rfl
theorem f98_116 : ft 98 116 = some (5, 3, 0, .aload_n 0, 1) := Fm98 (dk_42 (dk_at s98_3 8 rfl rfl)) rfl
theorem f98_117 : ft 98 117 = some (5, 3, 0, .aload_n 0, 1) := Fm98 (dk_42 (dk_at s98_3 9 rfl rfl)) rfl
theorem f98_118 : ft 98 118 = some (5, 3, 0, .getfield 20, 3) := Fm98 (dk_180 0 20 (dk_at s98_3 10 rfl rfl)) rfl
theorem f98_121 : ft 98 121 = some (5, 3, 0, .aload_n 0, 1) := Fm98 (dk_42 (dk_at s98_3 13 rfl rfl)) rfl
theorem f98_122 : ft 98 122 = some (5, 3, 0, .invokevirtual 28, 3) := Fm98 (dk_182 0 28 (dk_at s98_3 14 rfl rfl)) rfl
theorem f98_125 : ft 98 125 = some (5, 3, 0, .invokevirtual 142, 3) := Fm98 (dk_182 0 142 (dk_at s98_3 17 rfl rfl)) rfl
theorem f98_128 : ft 98 128 = some (5, 3, 0, .new 228, 3) := Fm98 (dk_187 0 228 (dk_at s98_3 20 rfl rfl)) rfl
theorem f98_131 : ft 98 131 = some (5, 3, 0, .dup, 1) := Fm98 (dk_89 (dk_at s98_3 23 rfl rfl)) rfl
theorem f98_132 : ft 98 132 = some (5, 3, 0, .aload_n 0, 1) := Fm98 (dk_42 (dk_at s98_4 0 rfl rfl)) rfl
theorem f98_133 : ft 98 133 = some (5, 3, 0, .getfield 20, 3) := Fm98 (dk_180 0 20 (dk_at s98_4 1 rfl rfl)) rfl
theorem f98_136 : ft 98 136 = some (5, 3, 0, .iload_n 1, 1) := Fm98 (dk_27 (dk_at s98_4 4 rfl rfl)) rfl
theorem f98_137 : ft 98 137 = some (5, 3, 0, .invokespecial 230, 3) := Fm98 (dk_183 0 230 (dk_at s98_4 5 rfl rfl)) rfl
theorem f98_140 : ft 98 140 = some (5, 3, 0, .areturn, 1) := Fm98 (dk_176 (dk_at s98_4 8 rfl rfl)) rfl
theorem f98_141 : ft 98 141 = some (5, 3, 0, .aload_n 0, 1) := Fm98 (dk_42 (dk_at s98_4 9 rfl rfl)) rfl
theorem f98_142 : ft 98 142 = some (5, 3, 0, .ldc 231, 2) := Fm98 (dk_18 231 (dk_at s98_4 10 rfl rfl)) rfl
theorem f98_144 : ft 98 144 = some (5, 3, 0, .invokevirtual 233, 3) := Fm98 (dk_182 0 233 (dk_at s98_4 12 rfl rfl)) rfl
theorem f98_147 : ft 98 147 = some (5, 3, 0, .aload_n 0, 1) := Fm98 (dk_42 (dk_at s98_4 15 rfl rfl)) rfl
theorem f98_148 : ft 98 148 = some (5, 3, 0, .getfield 20, 3) := Fm98 (dk_180 0 20 (dk_at s98_4 16 rfl rfl)) rfl
theorem f98_151 : ft 98 151 = some (5, 3, 0, .iconst 2, 1) := Fm98 (dk_5 (dk_at s98_4 19 rfl rfl)) rfl
theorem f98_152 : ft 98 152 = some (5, 3, 0, .invokevirtual 125, 3) := Fm98 (dk_182 0 125 (dk_at s98_4 20 rfl rfl)) rfl
theorem f98_155 : ft 98 155 = some (5, 3, 0, .new 228, 3) := Fm98 (dk_187 0 228 (dk_at s98_5 0 rfl rfl)) rfl
theorem f98_158 : ft 98 158 = some (5, 3, 0, .dup, 1) := Fm98 (dk_89 (dk_at s98_5 3 rfl rfl)) rfl
theorem f98_159 : ft 98 159 = some (5, 3, 0, .aload_n 0, 1) := Fm98 (dk_42 (dk_at s98_5 4 rfl rfl)) rfl
theorem f98_160 : ft 98 160 = some (5, 3, 0, .getfield 20, 3) := Fm98 (dk_180 0 20 (dk_at s98_5 5 rfl rfl)) rfl
theorem f98_163 : ft 98 163 = some (5, 3, 0, .iload_n 1, 1) := Fm98 (dk_27 (dk_at s98_5 8 rfl rfl)) rfl
theorem f98_164 : ft 98 164 = some (5, 3, 0, .invokespecial 230, 3) := Fm98 (dk_183 0 230 (dk_at s98_5 9 rfl rfl)) rfl
theorem f98_167 : ft 98 167 = some (5, 3, 0, .areturn, 1) := Fm98 (dk_176 (dk_at s98_5 12 rfl rfl)) rfl
theorem f98_168 : ft 98 168 = some (5, 3, 0, .aload_n 0, 1) := Fm98 (dk_42 (dk_at s98_5 13 rfl rfl)) rfl
theorem f98_169 : ft 98 169 = some (5, 3, 0, .ldc 237, 2) := Fm98 (dk_18 237 (dk_at s98_5 14 rfl rfl)) rfl
theorem f98_171 : ft 98 171 = some (5, 3, 0, .invokevirtual 233, 3) := Fm98 (dk_182 0 233 (dk_at s98_5 16 rfl rfl)) rfl
theorem f98_174 : ft 98 174 = some (5, 3, 0, .aload_n 0, 1) := Fm98 (dk_42 (dk_at s98_5 19 rfl rfl)) rfl
theorem f98_175 : ft 98 175 = some (5, 3, 0, .getfield 20, 3) := Fm98 (dk_180 0 20 (dk_at s98_5 20 rfl rfl)) rfl
theorem f98_178 : ft 98 178 = some (5, 3, 0, .iconst 1, 1) := Fm98 (dk_4 (dk_at s98_5 23 rfl rfl)) rfl
theorem f98_179 : ft 98 179 = some (5, 3, 0, .invokevirtual 125, 3) := Fm98 (dk_182 0 125 (dk_at s98_6 0 rfl rfl)) rfl
theorem f98_182 : ft 98 182 = some (5, 3, 0, .new 228, 3) := Fm98 (dk_187 0 228 (dk_at s98_6 3 rfl rfl)) rfl
theorem f98_185 : ft 98 185 = some (5, 3, 0, .dup, 1) := Fm98 (dk_89 (dk_at s98_6 6 rfl rfl)) rfl
theorem f98_186 : ft 98 186 = some (5, 3, 0, .aload_n 0, 1) := Fm98 (dk_42 (dk_at s98_6 7 rfl rfl)) rfl
theorem f98_187 : ft 98 187 = some (5, 3, 0, .getfield 20, 3) := Fm98 (dk_180 0 20 (dk_at s98_6 8 rfl rfl)) rfl
theorem f98_190 : ft 98 190 = some (5, 3, 0, .iload_n 1, 1) := Fm98 (dk_27 (dk_at s98_6 11 rfl rfl)) rfl
theorem f98_191 : ft 98 191 = some (5, 3, 0, .invokespecial 230, 3) := Fm98 (dk_183 0 230 (dk_at s98_6 12 rfl rfl)) rfl
theorem f98_194 : ft 98 194 = some (5, 3, 0, .areturn, 1) := Fm98 (dk_176 (dk_at s98_6 15 rfl rfl)) rfl
theorem f98_195 : ft 98 195 = some (5, 3, 0, .aload_n 0, 1) := Fm98 (dk_42 (dk_at s98_6 16 rfl rfl)) rfl
theorem f98_196 : ft 98 196 = some (5, 3, 0, .ldc 239, 2) := Fm98 (dk_18 239 (dk_at s98_6 17 rfl rfl)) rfl
theorem f98_198 : ft 98 198 = some (5, 3, 0, .invokevirtual 233, 3) := Fm98 (dk_182 0 233 (dk_at s98_6 19 rfl rfl)) rfl
theorem f98_201 : ft 98 201 = some (5, 3, 0, .aload_n 0, 1) := Fm98 (dk_42 (dk_at s98_6 22 rfl rfl)) rfl
theorem f98_202 : ft 98 202 = some (5, 3, 0, .getfield 20, 3) := Fm98 (dk_180 0 20 (dk_at s98_7 0 rfl rfl)) rfl
theorem f98_205 : ft 98 205 = some (5, 3, 0, .iconst 0, 1) := Fm98 (dk_3 (dk_at s98_7 3 rfl rfl)) rfl
theorem f98_206 : ft 98 206 = some (5, 3, 0, .invokevirtual 125, 3) := Fm98 (dk_182 0 125 (dk_at s98_7 4 rfl rfl)) rfl
theorem f98_209 : ft 98 209 = some (5, 3, 0, .new 228, 3) := Fm98 (dk_187 0 228 (dk_at s98_7 7 rfl rfl)) rfl
theorem f98_212 : ft 98 212 = some (5, 3, 0, .dup, 1) := Fm98 (dk_89 (dk_at s98_7 10 rfl rfl)) rfl
theorem f98_213 : ft 98 213 = some (5, 3, 0, .aload_n 0, 1) := Fm98 (dk_42 (dk_at s98_7 11 rfl rfl)) rfl
theorem f98_214 : ft 98 214 = some (5, 3, 0, .getfield 20, 3) := Fm98 (dk_180 0 20 (dk_at s98_7 12 rfl rfl)) rfl
theorem f98_217 : ft 98 217 = some (5, 3, 0, .iload_n 1, 1) := Fm98 (dk_27 (dk_at s98_7 15 rfl rfl)) rfl
theorem f98_218 : ft 98 218 = some (5, 3, 0, .invokespecial 230, 3) := Fm98 (dk_183 0 230 (dk_at s98_7 16 rfl rfl)) rfl
theorem f98_221 : ft 98 221 = some (5, 3, 0, .areturn, 1) := Fm98 (dk_176 (dk_at s98_7 19 rfl rfl)) rfl
theorem f98_222 : ft 98 222 = some (5, 3, 0, .aload_n 0, 1) := Fm98 (dk_42 (dk_at s98_7 20 rfl rfl)) rfl
theorem f98_223 : ft 98 223 = some (5, 3, 0, .ldc 241, 2) := Fm98 (dk_18 241 (dk_at s98_7 21 rfl rfl)) rfl
theorem f98_225 : ft 98 225 = some (5, 3, 0, .invokevirtual 233, 3) := Fm98 (dk_182 0 233 (dk_at s98_8 0 rfl rfl)) rfl
theorem f98_228 : ft 98 228 = some (5, 3, 0, .aload_n 0, 1) := Fm98 (dk_42 (dk_at s98_8 3 rfl rfl)) rfl
theorem f98_229 : ft 98 229 = some (5, 3, 0, .bipush 108, 2) := Fm98 (dk_16 108 (dk_at s98_8 4 rfl rfl)) rfl
theorem f98_231 : ft 98 231 = some (5, 3, 0, .invokevirtual 243, 3) := Fm98 (dk_182 0 243 (dk_at s98_8 6 rfl rfl)) rfl
theorem f98_234 : ft 98 234 = some (5, 3, 0, .areturn, 1) := Fm98 (dk_176 (dk_at s98_8 9 rfl rfl)) rfl
theorem f98_235 : ft 98 235 = some (5, 3, 0, .aload_n 0, 1) := Fm98 (dk_42 (dk_at s98_8 10 rfl rfl)) rfl
theorem f98_236 : ft 98 236 = some (5, 3, 0, .ldc 247, 2) := Fm98 (dk_18 247 (dk_at s98_8 11 rfl rfl)) rfl
theorem f98_238 : ft 98 238 = some (5, 3, 0, .invokevirtual 233, 3) := Fm98 (dk_182 0 233 (dk_at s98_8 13 rfl rfl)) rfl
theorem f98_241 : ft 98 241 = some (5, 3, 0, .aload_n 0, 1) := Fm98 (dk_42 (dk_at s98_8 16 rfl rfl)) rfl
theorem f98_242 : ft 98 242 = some (5, 3, 0, .bipush 99, 2) := Fm98 (dk_16 99 (dk_at s98_8 17 rfl rfl)) rfl
theorem f98_244 : ft 98 244 = some (5, 3, 0, .invokevirtual 243, 3) := Fm98 (dk_182 0 243 (dk_at s98_8 19 rfl rfl)) rfl
theorem f98_247 : ft 98 247 = some (5, 3, 0, .areturn, 1) := Fm98 (dk_176 (dk_at s98_8 22 rfl rfl)) rfl
theorem f98_248 : ft 98 248 = some (5, 3, 0, .aload_n 0, 1) := Fm98 (dk_42 (dk_at s98_8 23 rfl rfl)) rfl
theorem f98_249 : ft 98 249 = some (5, 3, 0, .ldc 249, 2) := Fm98 (dk_18 249 (dk_at s98_9 0 rfl rfl)) rfl
theorem f98_251 : ft 98 251 = some (5, 3, 0, .invokevirtual 233, 3) := Fm98 (dk_182 0 233 (dk_at s98_9 2 rfl rfl)) rfl
theorem f98_254 : ft 98 254 = some (5, 3, 0, .aload_n 0, 1) := Fm98 (dk_42 (dk_at s98_9 5 rfl rfl)) rfl
theorem f98_255 : ft 98 255 = some (5, 3, 0, .bipush 118, 2) := Fm98 (dk_16 118 (dk_at s98_9 6 rfl rfl)) rfl
theorem f98_257 : ft 98 257 = some (5, 3, 0, .invokevirtual 243, 3) := Fm98 (dk_182 0 243 (dk_at s98_9 8 rfl rfl)) rfl
theorem f98_260 : ft 98 260 = some (5, 3, 0, .areturn, 1) := Fm98 (dk_176 (dk_at s98_9 11 rfl rfl)) rfl
theorem f98_261 : ft 98 261 = some (5, 3, 0, .aload_n 0, 1) := Fm98 (dk_42 (dk_at s98_9 12 rfl rfl)) rfl
theorem f98_262 : ft 98 262 = some (5, 3, 0, .invokevirtual 110, 3) := Fm98 (dk_182 0 110 (dk_at s98_9 13 rfl rfl)) rfl
theorem f98_265 : ft 98 265 = some (5, 3, 0, .lstore_n 2, 1) := Fm98 (dk_65 (dk_at s98_9 16 rfl rfl)) rfl
theorem f98_266 : ft 98 266 = some (5, 3, 0, .aload_n 0, 1) := Fm98 (dk_42 (dk_at s98_9 17 rfl rfl)) rfl
theorem f98_267 : ft 98 267 = some (5, 3, 0, .getfield 20, 3) := Fm98 (dk_180 0 20 (dk_at s98_9 18 rfl rfl)) rfl
theorem f98_270 : ft 98 270 = some (5, 3, 0, .iconst 3, 1) := Fm98 (dk_6 (dk_at s98_9 21 rfl rfl)) rfl
theorem f98_271 : ft 98 271 = some (5, 3, 0, .invokevirtual 125, 3) := Fm98 (dk_182 0 125 (dk_at s98_10 0 rfl rfl)) rfl
theorem f98_274 : ft 98 274 = some (5, 3, 0, .aload_n 0, 1) := Fm98 (dk_42 (dk_at s98_10 3 rfl rfl)) rfl
theorem f98_275 : ft 98 275 = some (5, 3, 0, .getfield 20, 3) := Fm98 (dk_180 0 20 (dk_at s98_10 4 rfl rfl)) rfl
theorem f98_278 : ft 98 278 = some (5, 3, 0, .lload_n 2, 1) := Fm98 (dk_32 (dk_at s98_10 7 rfl rfl)) rfl
theorem f98_279 : ft 98 279 = some (5, 3, 0, .invokevirtual 251, 3) := Fm98 (dk_182 0 251 (dk_at s98_10 8 rfl rfl)) rfl
theorem f98_282 : ft 98 282 = some (5, 3, 0, .new 228, 3) := Fm98 (dk_187 0 228 (dk_at s98_10 11 rfl rfl)) rfl
theorem f98_285 : ft 98 285 = some (5, 3, 0, .dup, 1) := Fm98 (dk_89 (dk_at s98_10 14 rfl rfl)) rfl
theorem f98_286 : ft 98 286 = some (5, 3, 0, .aload_n 0, 1) := Fm98 (dk_42 (dk_at s98_10 15 rfl rfl)) rfl
theorem f98_287 : ft 98 287 = some (5, 3, 0, .getfield 20, 3) := Fm98 (dk_180 0 20 (dk_at s98_10 16 rfl rfl)) rfl
theorem f98_290 : ft 98 290 = some (5, 3, 0, .iload_n 1, 1) := Fm98 (dk_27 (dk_at s98_10 19 rfl rfl)) rfl
theorem f98_291 : ft 98 291 = some (5, 3, 0, .invokespecial 230, 3) := Fm98 (dk_183 0 230 (dk_at s98_10 20 rfl rfl)) rfl
theorem f98_294 : ft 98 294 = some (5, 3, 0, .areturn, 1) := Fm98 (dk_176 (dk_at s98_10 23 rfl rfl)) rfl
theorem q98 {d : Nat} {m : Mem} {a0 : Int} (hd : 0 < d) (hz : TZ m) : le2 (gd (tg m a0 = 5) <| bI (cl (d - 1) 97 [pR a0] m) fun v1 m1 => if v1 = 0 then (nm (vl m1 a0 4) fun v34 => gd (tg m1 v34 = 8) <| nm (vl m1 v34 1) fun v35 => bI (cl (d - 1) 63 [pR a0] m1) fun v2 m2 => if v2 = 34 ∨ v2 = 39 then (nm (vl m2 a0 4) fun v36 => gd (tg m2 v36 = 8) <| bV (cl (d - 1) 130 [pR v36, pI 4] m2) fun m26 => bI (cl (d - 1) 63 [pR a0] m26) fun v27 m27 => bV (cl (d - 1) 68 [pR a0, pR (vl m26 a0 4), pI v27] m27) fun m28 => nw (nx m28) (mal m28 24 2) fun o29 m29 => bV (cl (d - 1) 320 [pR o29, pR (vl m29 a0 4), pI v35] m29) fun m30 => some (.inl (some (pR o29)), m30)) else if v2 = 99 then (bV (cl (d - 1) 64 [pR a0, pR 42] m2) fun m24 => bR (cl (d - 1) 99 [pR a0, pI 99] m24) fun v25 m25 => some (.inl (some (pR v25)), m25)) else if v2 = 102 then (bV (cl (d - 1) 64 [pR a0, pR 36] m2) fun m20 => nm (vl m20 a0 4) fun v37 => gd (tg m20 v37 = 8) <| bV (cl (d - 1) 130 [pR v37, pI 1] m20) fun m21 => nw (nx m21) (mal m21 24 2) fun o22 m22 => bV (cl (d - 1) 320 [pR o22, pR (vl m22 a0 4), pI v35] m22) fun m23 => some (.inl (some (pR o22)), m23)) else if v2 = 108 then (bV (cl (d - 1) 64 [pR a0, pR 40] m2) fun m18 => bR (cl (d - 1) 99 [pR a0, pI 108] m18) fun v19 m19 => some (.inl (some (pR v19)), m19)) else if v2 = 110 then (bV (cl (d - 1) 64 [pR a0, pR 38] m2) fun m14 => nm (vl m14 a0 4) fun v38 => gd (tg m14 v38 = 8) <| bV (cl (d - 1) 130 [pR v38, pI 0] m14) fun m15 => nw (nx m15) (mal m15 24 2) fun o16 m16 => bV (cl (d - 1) 320 [pR o16, pR (vl m16 a0 4), pI v35] m16) fun m17 => some (.inl (some (pR o16)), m17)) else if v2 = 116 then (bV (cl (d - 1) 64 [pR a0, pR 34] m2) fun m10 => nm (vl m10 a0 4) fun v39 => gd (tg m10 v39 = 8) <| bV (cl (d - 1) 130 [pR v39, pI 2] m10) fun m11 => nw (nx m11) (mal m11 24 2) fun o12 m12 => bV (cl (d - 1) 320 [pR o12, pR (vl m12 a0 4), pI v35] m12) fun m13 => some (.inl (some (pR o12)), m13)) else if v2 = 118 then (bV (cl (d - 1) 64 [pR a0, pR 44] m2) fun m8 => bR (cl (d - 1) 99 [pR a0, pI 118] m8) fun v9 m9 => some (.inl (some (pR v9)), m9)) else bL (cl (d - 1) 88 [pR a0] m2) fun v3 m3 => nm (vl m3 a0 4) fun v40 => gd (tg m3 v40 = 8) <| bV (cl (d - 1) 130 [pR v40, pI 3] m3) fun m4 => nm (vl m4 a0 4) fun v41 => gd (tg m4 v41 = 8) <| bV (cl (d - 1) 138 [pR v41, pL v3] m4) fun m5 => nw (nx m5) (mal m5 24 2) fun o6 m6 => bV (cl (d - 1) 320 [pR o6, pR (vl m6 a0 4), pI v35] m6) fun m7 => some (.inl (some (pR o6)), m7)) else nw (nx m1) (mal m1 23 2) fun o31 m31 => bR (cl (d - 1) 82 [pR a0, pI 1] m31) fun v32 m32 => bV (cl (d - 1) 318 [pR o31, pR v32, pI 0] m32) fun m33 => some (.inl (some (pR o31)), m33)) (cl d 98 [pR a0] m) := by
  refine q_in (n := 4) (L := [pR a0, pU, pU, pU]) rfl rfl rfl ?_
  refine r_aln0 (p := 1) f98_0 rfl ?_
  refine le2_gd (fun h1 => ?_)
  refine r_invI (p := 4) f98_1 rfl rfl rfl (Or.inl h1) hd (Nat.le_of_ble_eq_true rfl) rfl rfl rfl (fun _ => rfl) (fun v1 m1 c1 => ?_)
  have hz1 := z_k c1 hz
  refine r_ifeq (t := 21) (p := 7) f98_4 (by decide) rfl rfl ?_ ?_
  · refine r_aln0 (p := 22) f98_21 rfl ?_
    have h2 := k_t1 c1 hz h1 (by decide)
    refine r_gfR (f := 4) (p := 25) f98_22 rfl rfl rfl (Or.inl h2) rfl ?_
    refine r_nmR (fun v34 ev34 => ?_)
    refine le2_gd (fun h3 => ?_)
    refine r_gfI (f := 1) (p := 28) f98_25 rfl rfl rfl (Or.inl h3) rfl ?_
    refine r_nmI (fun v35 ev35 => ?_)
    refine r_isn1 (p := 29) f98_28 rfl rfl ?_
    refine r_aln0 (p := 30) f98_29 rfl ?_
    refine r_invI (p := 33) f98_30 rfl rfl rfl (Or.inl h2) hd (Nat.le_of_ble_eq_true rfl) rfl rfl rfl (fun _ => rfl) (fun v2 m2 c2 => ?_)
    have hz2 := z_k c2 hz1
    refine le2_ite (fun h4 => ?_) (fun h4 => ?_)
    · refine r_lsw (off := 75) (t := 108) f98_33 rfl (by rcases h4 with h | h <;> rw [h] <;> rfl) (by decide) rfl ?_
      refine r_aln0 (p := 109) f98_108 rfl ?_
      have h43 := k_t1 c2 hz1 h2 (by decide)
      refine r_gfR (f := 4) (p := 112) f98_109 rfl rfl rfl (Or.inl h43) rfl ?_
      refine r_nmR (fun v36 ev36 => ?_)
      refine r_iconst (p := 113) f98_112 rfl (pinD rfl rfl) ?_
      refine le2_gd (fun h44 => ?_)
      refine r_invV (p := 116) f98_113 rfl rfl rfl (Or.inl h44) hd (Nat.le_of_ble_eq_true rfl) rfl rfl rfl (fun _ => rfl) (fun m26 c26 => ?_)
      have hz26 := z_k c26 hz2
      refine r_aln0 (p := 117) f98_116 rfl ?_
      refine r_aln0 (p := 118) f98_117 rfl ?_
      have h45 := k_t1 c26 hz2 h43 (by decide)
      refine r_gfR (f := 4) (p := 121) f98_118 rfl rfl rfl (Or.inl h45) rfl ?_
      refine r_aln0 (p := 122) f98_121 rfl ?_
      refine r_invI (p := 125) f98_122 rfl rfl rfl (Or.inl h45) hd (Nat.le_of_ble_eq_true rfl) rfl rfl rfl (fun _ => rfl) (fun v27 m27 c27 => ?_)
      have hz27 := z_k c27 hz26
      have h46 := k_t1 c27 hz26 h45 (by decide)
      refine r_invV (p := 128) f98_125 rfl rfl rfl (Or.inl h46) hd (Nat.le_of_ble_eq_true rfl) rfl rfl rfl (fun _ => rfl) (fun m28 c28 => ?_)
      have hz28 := z_k c28 hz27
      refine r_new (t1 := 24) (f1 := 2) (p := 131) f98_128 rfl rfl rfl rfl rfl (fun o29 m29 h47 k29 => ?_)
      have hz29 := z_k k29 hz28
      refine r_dup (p := 132) f98_131 rfl rfl ?_
      refine r_aln0 (p := 133) f98_132 rfl ?_
      have h48 := k_t1 c28 hz27 h46 (by decide)
      have h49 := k_t1 k29 hz28 h48 (by decide)
      refine r_gfR (f := 4) (p := 136) f98_133 rfl rfl rfl (Or.inl h49) rfl ?_
      refine r_iln1 (p := 137) f98_136 rfl ?_
      refine r_ispV (p := 140) f98_137 rfl rfl rfl (Or.inl h47) hd (Nat.le_of_ble_eq_true rfl) rfl rfl rfl (fun _ => rfl) (fun m30 c30 => ?_)
      have hz30 := z_k c30 hz29
      exact r_aret f98_140
    · refine le2_ite (fun h5 => ?_) (fun h5 => ?_)
      · refine r_lsw (off := 202) (t := 235) f98_33 rfl (by rw [h5]; rfl) (by decide) rfl ?_
        refine r_aln0 (p := 236) f98_235 rfl ?_
        refine r_ldcR (p := 238) f98_236 rfl rfl ?_
        have h41 := k_t1 c2 hz1 h2 (by decide)
        refine r_invV (p := 241) f98_238 rfl rfl rfl (Or.inl h41) hd (Nat.le_of_ble_eq_true rfl) rfl rfl rfl (fun _ => rfl) (fun m24 c24 => ?_)
        have hz24 := z_k c24 hz2
        refine r_aln0 (p := 242) f98_241 rfl ?_
        refine r_bipush (p := 244) f98_242 rfl (pinD rfl rfl) ?_
        have h42 := k_t1 c24 hz2 h41 (by decide)
        refine r_invR (p := 247) f98_244 rfl rfl rfl (Or.inl h42) hd (Nat.le_of_ble_eq_true rfl) rfl rfl rfl (fun _ => rfl) (fun v25 m25 c25 => ?_)
        have hz25 := z_k c25 hz24
        exact r_aret f98_247
      · refine le2_ite (fun h6 => ?_) (fun h6 => ?_)
        · refine r_lsw (off := 135) (t := 168) f98_33 rfl (by rw [h6]; rfl) (by decide) rfl ?_
          refine r_aln0 (p := 169) f98_168 rfl ?_
          refine r_ldcR (p := 171) f98_169 rfl rfl ?_
          have h35 := k_t1 c2 hz1 h2 (by decide)
          refine r_invV (p := 174) f98_171 rfl rfl rfl (Or.inl h35) hd (Nat.le_of_ble_eq_true rfl) rfl rfl rfl (fun _ => rfl) (fun m20 c20 => ?_)
          have hz20 := z_k c20 hz2
          refine r_aln0 (p := 175) f98_174 rfl ?_
          have h36 := k_t1 c20 hz2 h35 (by decide)
          refine r_gfR (f := 4) (p := 178) f98_175 rfl rfl rfl (Or.inl h36) rfl ?_
          refine r_nmR (fun v37 ev37 => ?_)
          refine r_iconst (p := 179) f98_178 rfl (pinD rfl rfl) ?_
          refine le2_gd (fun h37 => ?_)
          refine r_invV (p := 182) f98_179 rfl rfl rfl (Or.inl h37) hd (Nat.le_of_ble_eq_true rfl) rfl rfl rfl (fun _ => rfl) (fun m21 c21 => ?_)
          have hz21 := z_k c21 hz20
          refine r_new (t1 := 24) (f1 := 2) (p := 185) f98_182 rfl rfl rfl rfl rfl (fun o22 m22 h38 k22 => ?_)
          have hz22 := z_k k22 hz21
          refine r_dup (p := 186) f98_185 rfl rfl ?_
          refine r_aln0 (p := 187) f98_186 rfl ?_
          have h39 := k_t1 c21 hz20 h36 (by decide)
          have h40 := k_t1 k22 hz21 h39 (by decide)
          refine r_gfR (f := 4) (p := 190) f98_187 rfl rfl rfl (Or.inl h40) rfl ?_
          refine r_iln1 (p := 191) f98_190 rfl ?_
          refine r_ispV (p := 194) f98_191 rfl rfl rfl (Or.inl h38) hd (Nat.le_of_ble_eq_true rfl) rfl rfl rfl (fun _ => rfl) (fun m23 c23 => ?_)
          have hz23 := z_k c23 hz22
          exact r_aret f98_194
        · refine le2_ite (fun h7 => ?_) (fun h7 => ?_)
          · refine r_lsw (off := 189) (t := 222) f98_33 rfl (by rw [h7]; rfl) (by decide) rfl ?_
            refine r_aln0 (p := 223) f98_222 rfl ?_
            refine r_ldcR (p := 225) f98_223 rfl rfl ?_
            have h33 := k_t1 c2 hz1 h2 (by decide)
            refine r_invV (p := 228) f98_225 rfl rfl rfl (Or.inl h33) hd (Nat.le_of_ble_eq_true rfl) rfl rfl rfl (fun _ => rfl) (fun m18 c18 => ?_)
            have hz18 := z_k c18 hz2
            refine r_aln0 (p := 229) f98_228 rfl ?_
            refine r_bipush (p := 231) f98_229 rfl (pinD rfl rfl) ?_
            have h34 := k_t1 c18 hz2 h33 (by decide)
            refine r_invR (p := 234) f98_231 rfl rfl rfl (Or.inl h34) hd (Nat.le_of_ble_eq_true rfl) rfl rfl rfl (fun _ => rfl) (fun v19 m19 c19 => ?_)
            have hz19 := z_k c19 hz18
            exact r_aret f98_234
          · refine le2_ite (fun h8 => ?_) (fun h8 => ?_)
            · refine r_lsw (off := 162) (t := 195) f98_33 rfl (by rw [h8]; rfl) (by decide) rfl ?_
              refine r_aln0 (p := 196) f98_195 rfl ?_
              refine r_ldcR (p := 198) f98_196 rfl rfl ?_
              have h27 := k_t1 c2 hz1 h2 (by decide)
              refine r_invV (p := 201) f98_198 rfl rfl rfl (Or.inl h27) hd (Nat.le_of_ble_eq_true rfl) rfl rfl rfl (fun _ => rfl) (fun m14 c14 => ?_)
              have hz14 := z_k c14 hz2
              refine r_aln0 (p := 202) f98_201 rfl ?_
              have h28 := k_t1 c14 hz2 h27 (by decide)
              refine r_gfR (f := 4) (p := 205) f98_202 rfl rfl rfl (Or.inl h28) rfl ?_
              refine r_nmR (fun v38 ev38 => ?_)
              refine r_iconst (p := 206) f98_205 rfl (pinD rfl rfl) ?_
              refine le2_gd (fun h29 => ?_)
              refine r_invV (p := 209) f98_206 rfl rfl rfl (Or.inl h29) hd (Nat.le_of_ble_eq_true rfl) rfl rfl rfl (fun _ => rfl) (fun m15 c15 => ?_)
              have hz15 := z_k c15 hz14
              refine r_new (t1 := 24) (f1 := 2) (p := 212) f98_209 rfl rfl rfl rfl rfl (fun o16 m16 h30 k16 => ?_)
              have hz16 := z_k k16 hz15
              refine r_dup (p := 213) f98_212 rfl rfl ?_
              refine r_aln0 (p := 214) f98_213 rfl ?_
              have h31 := k_t1 c15 hz14 h28 (by decide)
              have h32 := k_t1 k16 hz15 h31 (by decide)
              refine r_gfR (f := 4) (p := 217) f98_214 rfl rfl rfl (Or.inl h32) rfl ?_
              refine r_iln1 (p := 218) f98_217 rfl ?_
              refine r_ispV (p := 221) f98_218 rfl rfl rfl (Or.inl h30) hd (Nat.le_of_ble_eq_true rfl) rfl rfl rfl (fun _ => rfl) (fun m17 c17 => ?_)
              have hz17 := z_k c17 hz16
              exact r_aret f98_221
            · refine le2_ite (fun h9 => ?_) (fun h9 => ?_)
              · refine r_lsw (off := 108) (t := 141) f98_33 rfl (by rw [h9]; rfl) (by decide) rfl ?_
                refine r_aln0 (p := 142) f98_141 rfl ?_
                refine r_ldcR (p := 144) f98_142 rfl rfl ?_
                have h21 := k_t1 c2 hz1 h2 (by decide)
                refine r_invV (p := 147) f98_144 rfl rfl rfl (Or.inl h21) hd (Nat.le_of_ble_eq_true rfl) rfl rfl rfl (fun _ => rfl) (fun m10 c10 => ?_)
                have hz10 := z_k c10 hz2
                refine r_aln0 (p := 148) f98_147 rfl ?_
                have h22 := k_t1 c10 hz2 h21 (by decide)
                refine r_gfR (f := 4) (p := 151) f98_148 rfl rfl rfl (Or.inl h22) rfl ?_
                refine r_nmR (fun v39 ev39 => ?_)
                refine r_iconst (p := 152) f98_151 rfl (pinD rfl rfl) ?_
                refine le2_gd (fun h23 => ?_)
                refine r_invV (p := 155) f98_152 rfl rfl rfl (Or.inl h23) hd (Nat.le_of_ble_eq_true rfl) rfl rfl rfl (fun _ => rfl) (fun m11 c11 => ?_)
                have hz11 := z_k c11 hz10
                refine r_new (t1 := 24) (f1 := 2) (p := 158) f98_155 rfl rfl rfl rfl rfl (fun o12 m12 h24 k12 => ?_)
                have hz12 := z_k k12 hz11
                refine r_dup (p := 159) f98_158 rfl rfl ?_
                refine r_aln0 (p := 160) f98_159 rfl ?_
                have h25 := k_t1 c11 hz10 h22 (by decide)
                have h26 := k_t1 k12 hz11 h25 (by decide)
                refine r_gfR (f := 4) (p := 163) f98_160 rfl rfl rfl (Or.inl h26) rfl ?_
                refine r_iln1 (p := 164) f98_163 rfl ?_
                refine r_ispV (p := 167) f98_164 rfl rfl rfl (Or.inl h24) hd (Nat.le_of_ble_eq_true rfl) rfl rfl rfl (fun _ => rfl) (fun m13 c13 => ?_)
                have hz13 := z_k c13 hz12
                exact r_aret f98_167
              · refine le2_ite (fun h10 => ?_) (fun h10 => ?_)
                · refine r_lsw (off := 215) (t := 248) f98_33 rfl (by rw [h10]; rfl) (by decide) rfl ?_
                  refine r_aln0 (p := 249) f98_248 rfl ?_
                  refine r_ldcR (p := 251) f98_249 rfl rfl ?_
                  have h19 := k_t1 c2 hz1 h2 (by decide)
                  refine r_invV (p := 254) f98_251 rfl rfl rfl (Or.inl h19) hd (Nat.le_of_ble_eq_true rfl) rfl rfl rfl (fun _ => rfl) (fun m8 c8 => ?_)
                  have hz8 := z_k c8 hz2
                  refine r_aln0 (p := 255) f98_254 rfl ?_
                  refine r_bipush (p := 257) f98_255 rfl (pinD rfl rfl) ?_
                  have h20 := k_t1 c8 hz2 h19 (by decide)
                  refine r_invR (p := 260) f98_257 rfl rfl rfl (Or.inl h20) hd (Nat.le_of_ble_eq_true rfl) rfl rfl rfl (fun _ => rfl) (fun v9 m9 c9 => ?_)
                  have hz9 := z_k c9 hz8
                  exact r_aret f98_260
                · refine r_lsw (off := 228) (t := 261) f98_33 rfl (by show Op.lookupswitch.offset [(34, 75), (39, 75), (99, 202), (102, 135), (108, 189), (110, 162), (116, 108), (118, 215)] 228 _ = 228; rw [Op.lookupswitch.offset_cons, if_neg (by omega), Op.lookupswitch.offset_cons, if_neg (by omega), Op.lookupswitch.offset_cons, if_neg (by omega), Op.lookupswitch.offset_cons, if_neg (by omega), Op.lookupswitch.offset_cons, if_neg (by omega), Op.lookupswitch.offset_cons, if_neg (by omega), Op.lookupswitch.offset_cons, if_neg (by omega), Op.lookupswitch.offset_cons, if_neg (by omega), Op.lookupswitch.offset_nil]) (by decide) rfl ?_
                  refine r_aln0 (p := 262) f98_261 rfl ?_
                  have h11 := k_t1 c2 hz1 h2 (by decide)
                  refine r_invL (p := 265) f98_262 rfl rfl rfl (Or.inl h11) hd (Nat.le_of_ble_eq_true rfl) rfl rfl rfl (fun _ => rfl) (fun v3 m3 c3 => ?_)
                  have hz3 := z_k c3 hz2
                  refine r_lsn2 (p := 266) f98_265 rfl rfl ?_
                  refine r_aln0 (p := 267) f98_266 rfl ?_
                  have h12 := k_t1 c3 hz2 h11 (by decide)
                  refine r_gfR (f := 4) (p := 270) f98_267 rfl rfl rfl (Or.inl h12) rfl ?_
                  refine r_nmR (fun v40 ev40 => ?_)
                  refine r_iconst (p := 271) f98_270 rfl (pinD rfl rfl) ?_
                  refine le2_gd (fun h13 => ?_)
                  refine r_invV (p := 274) f98_271 rfl rfl rfl (Or.inl h13) hd (Nat.le_of_ble_eq_true rfl) rfl rfl rfl (fun _ => rfl) (fun m4 c4 => ?_)
                  have hz4 := z_k c4 hz3
                  refine r_aln0 (p := 275) f98_274 rfl ?_
                  have h14 := k_t1 c4 hz3 h12 (by decide)
                  refine r_gfR (f := 4) (p := 278) f98_275 rfl rfl rfl (Or.inl h14) rfl ?_
                  refine r_nmR (fun v41 ev41 => ?_)
                  refine r_lln2 (p := 279) f98_278 rfl ?_
                  refine le2_gd (fun h15 => ?_)
                  refine r_invV (p := 282) f98_279 rfl rfl rfl (Or.inl h15) hd (Nat.le_of_ble_eq_true rfl) rfl rfl rfl (fun _ => rfl) (fun m5 c5 => ?_)
                  have hz5 := z_k c5 hz4
                  refine r_new (t1 := 24) (f1 := 2) (p := 285) f98_282 rfl rfl rfl rfl rfl (fun o6 m6 h16 k6 => ?_)
                  have hz6 := z_k k6 hz5
                  refine r_dup (p := 286) f98_285 rfl rfl ?_
                  refine r_aln0 (p := 287) f98_286 rfl ?_
                  have h17 := k_t1 c5 hz4 h14 (by decide)
                  have h18 := k_t1 k6 hz5 h17 (by decide)
                  refine r_gfR (f := 4) (p := 290) f98_287 rfl rfl rfl (Or.inl h18) rfl ?_
                  refine r_iln1 (p := 291) f98_290 rfl ?_
                  refine r_ispV (p := 294) f98_291 rfl rfl rfl (Or.inl h16) hd (Nat.le_of_ble_eq_true rfl) rfl rfl rfl (fun _ => rfl) (fun m7 c7 => ?_)
                  have hz7 := z_k c7 hz6
                  exact r_aret f98_294
  · refine r_new (t1 := 23) (f1 := 2) (p := 10) f98_7 rfl rfl rfl rfl rfl (fun o31 m31 h50 k31 => ?_)
    have hz31 := z_k k31 hz1
    refine r_dup (p := 11) f98_10 rfl rfl ?_
    refine r_aln0 (p := 12) f98_11 rfl ?_
    refine r_iconst (p := 13) f98_12 rfl (pinD rfl rfl) ?_
    have h51 := k_t1 c1 hz h1 (by decide)
    have h52 := k_t1 k31 hz1 h51 (by decide)
    refine r_invR (p := 16) f98_13 rfl rfl rfl (Or.inl h52) hd (Nat.le_of_ble_eq_true rfl) rfl rfl rfl (fun _ => rfl) (fun v32 m32 c32 => ?_)
    have hz32 := z_k c32 hz31
    refine r_iconst (p := 17) f98_16 rfl (pinD rfl rfl) ?_
    have h53 := k_t1 c32 hz31 h50 (by decide)
    refine r_ispV (p := 20) f98_17 rfl rfl rfl (Or.inl h53) hd (Nat.le_of_ble_eq_true rfl) rfl rfl rfl (fun _ => rfl) (fun m33 c33 => ?_)
    have hz33 := z_k c33 hz32
    exact r_aret f98_20
/-! 99 PathStore$Compiler.function (I)LPathStore$Operand; -/
def w99_3 : List UInt8 := [167, 0, 4, 3, 183, 0, 217, 77, 42, 182, 0, 46, 42, 16, 41, 182, 0, 117, 44, 176]
abbrev u99_3 : List UInt8 := w99_3 ++ []
def w99_2 : List UInt8 := [42, 42, 182, 0, 199, 182, 0, 32, 187, 0, 215, 89, 42, 3, 182, 0, 36, 27, 16, 99, 160, 0, 7, 4]
abbrev u99_2 : List UInt8 := w99_2 ++ u99_3
def w99_1 : List UInt8 := [182, 0, 46, 27, 16, 108, 160, 0, 18, 187, 0, 253, 89, 42, 182, 0, 207, 183, 0, 255, 77, 167, 0, 35]
abbrev u99_1 : List UInt8 := w99_1 ++ u99_2
def w99_0 : List UInt8 := [42, 42, 182, 0, 28, 16, 40, 160, 0, 7, 4, 167, 0, 4, 3, 182, 0, 32, 42, 182, 0, 104, 42]
abbrev u99_0 : List UInt8 := w99_0 ++ u99_1
theorem s99_0 : (prog_4_method_23_code).data.toList.drop 0 = u99_0 := by decide +kernel
theorem s99_1 : (prog_4_method_23_code).data.toList.drop 23 = u99_1 := dk_seg s99_0 23 rfl rfl
theorem s99_2 : (prog_4_method_23_code).data.toList.drop 47 = u99_2 := dk_seg s99_1 24 rfl rfl
theorem s99_3 : (prog_4_method_23_code).data.toList.drop 71 = u99_3 := dk_seg s99_2 24 rfl rfl
theorem Fm99 {pc len : Nat} {i : Instr} (h : decode (prog_4_method_23_code) pc = .ok (i, len)) (hl : len = ilen i len) : ft 99 pc = some (5, 3, 0, i, len) := ft_mk rfl h hl
theorem f99_0 : ft 99 0 = some (5, 3, 0, .aload_n 0, 1) := Fm99 (dk_42 (dk_at s99_0 0 rfl rfl)) rfl
theorem f99_1 : ft 99 1 = some (5, 3, 0, .aload_n 0, 1) := Fm99 (dk_42 (dk_at s99_0 1 rfl rfl)) rfl
theorem f99_2 : ft 99 2 = some (5, 3, 0, .invokevirtual 28, 3) := Fm99 (dk_182 0 28 (dk_at s99_0 2 rfl rfl)) rfl
theorem f99_5 : ft 99 5 = some (5, 3, 0, .bipush 40, 2) := Fm99 (dk_16 40 (dk_at s99_0 5 rfl rfl)) rfl
theorem f99_7 : ft 99 7 = some (5, 3, 0, .if_icmp .ne 7, 3) := Fm99 (dk_160 0 7 (dk_at s99_0 7 rfl rfl)) rfl
theorem f99_10 : ft 99 10 = some (5, 3, 0, .iconst 1, 1) := Fm99 (dk_4 (dk_at s99_0 10 rfl rfl)) rfl
theorem f99_11 : ft 99 11 = some (5, 3, 0, .goto 4, 3) := Fm99 (dk_167 0 4 (dk_at s99_0 11 rfl rfl)) rfl
theorem f99_14 : ft 99 14 = some (5, 3, 0, .iconst 0, 1) := Fm99 (dk_3 (dk_at s99_0 14 rfl rfl)) rfl
theorem f99_15 : ft 99 15 = some (5, 3, 0, .invokevirtual 32, 3) := Fm99 (dk_182 0 32 (dk_at s99_0 15 rfl rfl)) rfl
theorem f99_18 : ft 99 18 = some (5, 3, 0, .aload_n 0, 1) := Fm99 (dk_42 (dk_at s99_0 18 rfl rfl)) rfl
theorem f99_19 : ft 99 19 = some (5, 3, 0, .invokevirtual 104, 3) := Fm99 (dk_182 0 104 (dk_at s99_0 19 rfl rfl)) rfl
theorem f99_22 : ft 99 22 = some (5, 3, 0, .aload_n 0, 1) := Fm99 (dk_42 (dk_at s99_0 22 rfl rfl)) rfl
theorem f99_23 : ft 99 23 = some (5, 3, 0, .invokevirtual 46, 3) := Fm99 (dk_182 0 46 (dk_at s99_1 0 rfl rfl)) rfl
theorem f99_26 : ft 99 26 = some (5, 3, 0, .iload_n 1, 1) := Fm99 (dk_27 (dk_at s99_1 3 rfl rfl)) rfl
theorem f99_27 : ft 99 27 = some (5, 3, 0, .bipush 108, 2) := Fm99 (dk_16 108 (dk_at s99_1 4 rfl rfl)) rfl
theorem f99_29 : ft 99 29 = some (5, 3, 0, .if_icmp .ne 18, 3) := Fm99 (dk_160 0 18 (dk_at s99_1 6 rfl rfl)) rfl
theorem f99_32 : ft 99 32 = some (5, 3, 0, .new 253, 3) := Fm99 (dk_187 0 253 (dk_at s99_1 9 rfl rfl)) rfl
theorem f99_35 : ft 99 35 = some (5, 3, 0, .dup, 1) := Fm99 (dk_89 (dk_at s99_1 12 rfl rfl)) rfl
theorem f99_36 : ft 99 36 = some (5, 3, 0, .aload_n 0, 1) := Fm99 (dk_42 (dk_at s99_1 13 rfl rfl)) rfl
theorem f99_37 : ft 99 37 = some (5, 3, 0, .invokevirtual 207, 3) := Fm99 (dk_182 0 207 (dk_at s99_1 14 rfl rfl)) rfl
theorem f99_40 : ft 99 40 = some (5, 3, 0, .invokespecial 255, 3) := Fm99 (dk_183 0 255 (dk_at s99_1 17 rfl rfl)) rfl
theorem f99_43 : ft 99 43 = some (5, 3, 0, .astore_n 2, 1) := Fm99 (dk_77 (dk_at s99_1 20 rfl rfl)) rfl
theorem f99_44 : ft 99 44 = some (5, 3, 0, .goto 35, 3) := Fm99 (dk_167 0 35 (dk_at s99_1 21 rfl rfl)) rfl
theorem f99_47 : ft 99 47 = some (5, 3, 0, .aload_n 0, 1) := Fm99 (dk_42 (dk_at s99_2 0 rfl rfl)) rfl
theorem f99_48 : ft 99 48 = some (5, 3, 0, .aload_n 0, 1) := Fm99 (dk_42 (dk_at s99_2 1 rfl rfl)) rfl
theorem f99_49 : ft 99 49 = some (5, 3, 0, .invokevirtual 199, 3) := Fm99 (dk_182 0 199 (dk_at s99_2 2 rfl rfl)) rfl
theorem f99_52 : ft 99 52 = some (5, 3, 0, .invokevirtual 32, 3) := Fm99 (dk_182 0 32 (dk_at s99_2 5 rfl rfl)) rfl
theorem f99_55 : ft 99 55 = some (5, 3, 0, .new 215, 3) := Fm99 (dk_187 0 215 (dk_at s99_2 8 rfl rfl)) rfl
theorem f99_58 : ft 99 58 = some (5, 3, 0, .dup, 1) := Fm99 (dk_89 (dk_at s99_2 11 rfl rfl)) rfl
theorem f99_59 : ft 99 59 = some (5, 3, 0, .aload_n 0, 1) := Fm99 (dk_42 (dk_at s99_2 12 rfl rfl)) rfl
theorem f99_60 : ft 99 60 = some (5, 3, 0, .iconst 0, 1) := Fm99 (dk_3 (dk_at s99_2 13 rfl rfl)) rfl
theorem f99_61 : ft 99 61 = some (5, 3, 0, .invokevirtual 36, 3) := Fm99 (dk_182 0 36 (dk_at s99_2 14 rfl rfl)) rfl
theorem f99_64 : ft 99 64 = some (5, 3, 0, .iload_n 1, 1) := Fm99 (dk_27 (dk_at s99_2 17 rfl rfl)) rfl
theorem f99_65 : ft 99 65 = some (5, 3, 0, .bipush 99, 2) := Fm99 (dk_16 99 (dk_at s99_2 18 rfl rfl)) rfl
theorem f99_67 : ft 99 67 = some (5, 3, 0, .if_icmp .ne 7, 3) := Fm99 (dk_160 0 7 (dk_at s99_2 20 rfl rfl)) rfl
theorem f99_70 : ft 99 70 = some (5, 3, 0, .iconst 1, 1) := Fm99 (dk_4 (dk_at s99_2 23 rfl rfl)) rfl
theorem f99_71 : ft 99 71 = some (5, 3, 0, .goto 4, 3) := Fm99 (dk_167 0 4 (dk_at s99_3 0 rfl rfl)) rfl
theorem f99_74 : ft 99 74 = some (5, 3, 0, .iconst 0, 1) := Fm99 (dk_3 (dk_at s99_3 3 rfl rfl)) rfl
theorem f99_75 : ft 99 75 = some (5, 3, 0, .invokespecial 217, 3) := Fm99 (dk_183 0 217 (dk_at s99_3 4 rfl rfl)) rfl
theorem f99_78 : ft 99 78 = some (5, 3, 0, .astore_n 2, 1) := Fm99 (dk_77 (dk_at s99_3 7 rfl rfl)) rfl
theorem f99_79 : ft 99 79 = some (5, 3, 0, .aload_n 0, 1) := Fm99 (dk_42 (dk_at s99_3 8 rfl rfl)) rfl
theorem f99_80 : ft 99 80 = some (5, 3, 0, .invokevirtual 46, 3) := Fm99 (dk_182 0 46 (dk_at s99_3 9 rfl rfl)) rfl
theorem f99_83 : ft 99 83 = some (5, 3, 0, .aload_n 0, 1) := Fm99 (dk_42 (dk_at s99_3 12 rfl rfl)) rfl
theorem f99_84 : ft 99 84 = some (5, 3, 0, .bipush 41, 2) := Fm99 (dk_16 41 (dk_at s99_3 13 rfl rfl)) rfl
theorem f99_86 : ft 99 86 = some (5, 3, 0, .invokevirtual 117, 3) := Fm99 (dk_182 0 117 (dk_at s99_3 15 rfl rfl)) rfl
theorem f99_89 : ft 99 89 = some (5, 3, 0, .aload_n 2, 1) := Fm99 (dk_44 (dk_at s99_3 18 rfl rfl)) rfl
theorem f99_90 : ft 99 90 = some (5, 3, 0, .areturn, 1) := Fm99 (dk_176 (dk_at s99_3 19 rfl rfl)) rfl
theorem q99 {d : Nat} {m : Mem} {a0 a1 : Int} (hd : 0 < d) (hz : TZ m) : le2 (gd (tg m a0 = 5) <| bI (cl (d - 1) 63 [pR a0] m) fun v1 m1 => if v1 = 40 then (rn d 99 15 [pR a0, pI a1, pU] [pI 1, pR a0] m1) else rn d 99 15 [pR a0, pI a1, pU] [pI 0, pR a0] m1) (cl d 99 [pR a0, pI a1] m) := by
  refine q_in (n := 3) (L := [pR a0, pI a1, pU]) rfl rfl rfl ?_
  refine r_aln0 (p := 1) f99_0 rfl ?_
  refine r_aln0 (p := 2) f99_1 rfl ?_
  refine le2_gd (fun h1 => ?_)
  refine r_invI (p := 5) f99_2 rfl rfl rfl (Or.inl h1) hd (Nat.le_of_ble_eq_true rfl) rfl rfl rfl (fun _ => rfl) (fun v1 m1 c1 => ?_)
  have hz1 := z_k c1 hz
  refine r_bipush (p := 7) f99_5 rfl (pinD rfl rfl) ?_
  refine r_icne (t := 14) (p := 10) f99_7 (by decide) rfl rfl ?_ ?_
  · refine r_iconst (p := 11) f99_10 rfl (pinD rfl rfl) ?_
    refine r_goto (p := 15) f99_11 (by decide) rfl ?_
    exact le2_refl _
  · refine r_iconst (p := 15) f99_14 rfl (pinD rfl rfl) ?_
    exact le2_refl _
theorem q99_15 {d : Nat} {m : Mem} {a0 a1 s1 s0 : Int} (hd : 0 < d) (hz : TZ m) : le2 (gd (tg m s0 = 5) <| bV (cl (d - 1) 66 [pR s0, pI s1] m) fun m1 => gd (tg m1 a0 = 5) <| bV (cl (d - 1) 86 [pR a0] m1) fun m2 => bV (cl (d - 1) 62 [pR a0] m2) fun m3 => if a1 = 108 then (nw (nx m3) (mal m3 25 1) fun o10 m10 => bR (cl (d - 1) 98 [pR a0] m10) fun v11 m11 => bV (cl (d - 1) 322 [pR o10, pR v11] m11) fun m12 => rn d 99 79 [pR a0, pI a1, pR o10] [] m12) else bI (cl (d - 1) 97 [pR a0] m3) fun v4 m4 => bV (cl (d - 1) 66 [pR a0, pI v4] m4) fun m5 => nw (nx m5) (mal m5 23 2) fun o6 m6 => bR (cl (d - 1) 82 [pR a0, pI 0] m6) fun v7 m7 => if a1 = 99 then (bV (cl (d - 1) 318 [pR o6, pR v7, pI 1] m7) fun m9 => rn d 99 79 [pR a0, pI a1, pR o6] [] m9) else bV (cl (d - 1) 318 [pR o6, pR v7, pI 0] m7) fun m8 => rn d 99 79 [pR a0, pI a1, pR o6] [] m8) (rn d 99 15 [pR a0, pI a1, pU] [pI s1, pR s0] m) := by
  refine le2_gd (fun h1 => ?_)
  refine r_invV (p := 18) f99_15 rfl rfl rfl (Or.inl h1) hd (Nat.le_of_ble_eq_true rfl) rfl rfl rfl (fun _ => rfl) (fun m1 c1 => ?_)
  have hz1 := z_k c1 hz
  refine r_aln0 (p := 19) f99_18 rfl ?_
  refine le2_gd (fun h2 => ?_)
  refine r_invV (p := 22) f99_19 rfl rfl rfl (Or.inl h2) hd (Nat.le_of_ble_eq_true rfl) rfl rfl rfl (fun _ => rfl) (fun m2 c2 => ?_)
  have hz2 := z_k c2 hz1
  refine r_aln0 (p := 23) f99_22 rfl ?_
  have h3 := k_t1 c2 hz1 h2 (by decide)
  refine r_invV (p := 26) f99_23 rfl rfl rfl (Or.inl h3) hd (Nat.le_of_ble_eq_true rfl) rfl rfl rfl (fun _ => rfl) (fun m3 c3 => ?_)
  have hz3 := z_k c3 hz2
  refine r_iln1 (p := 27) f99_26 rfl ?_
  refine r_bipush (p := 29) f99_27 rfl (pinD rfl rfl) ?_
  refine r_icne (t := 47) (p := 32) f99_29 (by decide) rfl rfl ?_ ?_
  · refine r_new (t1 := 25) (f1 := 1) (p := 35) f99_32 rfl rfl rfl rfl rfl (fun o10 m10 h11 k10 => ?_)
    have hz10 := z_k k10 hz3
    refine r_dup (p := 36) f99_35 rfl rfl ?_
    refine r_aln0 (p := 37) f99_36 rfl ?_
    have h12 := k_t1 c3 hz2 h3 (by decide)
    have h13 := k_t1 k10 hz3 h12 (by decide)
    refine r_invR (p := 40) f99_37 rfl rfl rfl (Or.inl h13) hd (Nat.le_of_ble_eq_true rfl) rfl rfl rfl (fun _ => rfl) (fun v11 m11 c11 => ?_)
    have hz11 := z_k c11 hz10
    have h14 := k_t1 c11 hz10 h11 (by decide)
    refine r_ispV (p := 43) f99_40 rfl rfl rfl (Or.inl h14) hd (Nat.le_of_ble_eq_true rfl) rfl rfl rfl (fun _ => rfl) (fun m12 c12 => ?_)
    have hz12 := z_k c12 hz11
    refine r_asn2 (p := 44) f99_43 rfl rfl ?_
    refine r_goto (p := 79) f99_44 (by decide) rfl ?_
    exact le2_refl _
  · refine r_aln0 (p := 48) f99_47 rfl ?_
    refine r_aln0 (p := 49) f99_48 rfl ?_
    have h4 := k_t1 c3 hz2 h3 (by decide)
    refine r_invI (p := 52) f99_49 rfl rfl rfl (Or.inl h4) hd (Nat.le_of_ble_eq_true rfl) rfl rfl rfl (fun _ => rfl) (fun v4 m4 c4 => ?_)
    have hz4 := z_k c4 hz3
    have h5 := k_t1 c4 hz3 h4 (by decide)
    refine r_invV (p := 55) f99_52 rfl rfl rfl (Or.inl h5) hd (Nat.le_of_ble_eq_true rfl) rfl rfl rfl (fun _ => rfl) (fun m5 c5 => ?_)
    have hz5 := z_k c5 hz4
    refine r_new (t1 := 23) (f1 := 2) (p := 58) f99_55 rfl rfl rfl rfl rfl (fun o6 m6 h6 k6 => ?_)
    have hz6 := z_k k6 hz5
    refine r_dup (p := 59) f99_58 rfl rfl ?_
    refine r_aln0 (p := 60) f99_59 rfl ?_
    refine r_iconst (p := 61) f99_60 rfl (pinD rfl rfl) ?_
    have h7 := k_t1 c5 hz4 h5 (by decide)
    have h8 := k_t1 k6 hz5 h7 (by decide)
    refine r_invR (p := 64) f99_61 rfl rfl rfl (Or.inl h8) hd (Nat.le_of_ble_eq_true rfl) rfl rfl rfl (fun _ => rfl) (fun v7 m7 c7 => ?_)
    have hz7 := z_k c7 hz6
    refine r_iln1 (p := 65) f99_64 rfl ?_
    refine r_bipush (p := 67) f99_65 rfl (pinD rfl rfl) ?_
    refine r_icne (t := 74) (p := 70) f99_67 (by decide) rfl rfl ?_ ?_
    · refine r_iconst (p := 71) f99_70 rfl (pinD rfl rfl) ?_
      refine r_goto (p := 75) f99_71 (by decide) rfl ?_
      have h10 := k_t1 c7 hz6 h6 (by decide)
      refine r_ispV (p := 78) f99_75 rfl rfl rfl (Or.inl h10) hd (Nat.le_of_ble_eq_true rfl) rfl rfl rfl (fun _ => rfl) (fun m9 c9 => ?_)
      have hz9 := z_k c9 hz7
      refine r_asn2 (p := 79) f99_78 rfl rfl ?_
      exact le2_refl _
    · refine r_iconst (p := 75) f99_74 rfl (pinD rfl rfl) ?_
      have h9 := k_t1 c7 hz6 h6 (by decide)
      refine r_ispV (p := 78) f99_75 rfl rfl rfl (Or.inl h9) hd (Nat.le_of_ble_eq_true rfl) rfl rfl rfl (fun _ => rfl) (fun m8 c8 => ?_)
      have hz8 := z_k c8 hz7
      refine r_asn2 (p := 79) f99_78 rfl rfl ?_
      exact le2_refl _
theorem q99_79 {d : Nat} {m : Mem} {a0 a1 a2 : Int} (hd : 0 < d) (hz : TZ m) : le2 (gd (tg m a0 = 5) <| bV (cl (d - 1) 62 [pR a0] m) fun m1 => bV (cl (d - 1) 89 [pR a0, pI 41] m1) fun m2 => some (.inl (some (pR a2)), m2)) (rn d 99 79 [pR a0, pI a1, pR a2] [] m) := by
  refine r_aln0 (p := 80) f99_79 rfl ?_
  refine le2_gd (fun h1 => ?_)
  refine r_invV (p := 83) f99_80 rfl rfl rfl (Or.inl h1) hd (Nat.le_of_ble_eq_true rfl) rfl rfl rfl (fun _ => rfl) (fun m1 c1 => ?_)
  have hz1 := z_k c1 hz
  refine r_aln0 (p := 84) f99_83 rfl ?_
  refine r_bipush (p := 86) f99_84 rfl (pinD rfl rfl) ?_
  have h2 := k_t1 c1 hz h1 (by decide)
  refine r_invV (p := 89) f99_86 rfl rfl rfl (Or.inl h2) hd (Nat.le_of_ble_eq_true rfl) rfl rfl rfl (fun _ => rfl) (fun m2 c2 => ?_)
  have hz2 := z_k c2 hz1
  refine r_aln2 (p := 90) f99_89 rfl ?_
  exact r_aret f99_90
/-! 100 PathStore$Compiler.compared (LPathStore$Operand;)LPathStore$Test; -/
def w100_1 : List UInt8 := [183, 0, 225, 176]
abbrev u100_1 : List UInt8 := w100_1 ++ []
def w100_0 : List UInt8 := [42, 182, 0, 46, 42, 182, 0, 220, 61, 42, 182, 0, 46, 187, 0, 223, 89, 28, 43, 42, 182, 0, 207]
abbrev u100_0 : List UInt8 := w100_0 ++ u100_1
theorem s100_0 : (prog_4_method_20_code).data.toList.drop 0 = u100_0 := by decide +kernel
theorem s100_1 : (prog_4_method_20_code).data.toList.drop 23 = u100_1 := dk_seg s100_0 23 rfl rfl
theorem Fm100 {pc len : Nat} {i : Instr} (h : decode (prog_4_method_20_code) pc = .ok (i, len)) (hl : len = ilen i len) : ft 100 pc = some (5, 3, 0, i, len) := ft_mk rfl h hl
theorem f100_0 : ft 100 0 = some (5, 3, 0, .aload_n 0, 1) := Fm100 (dk_42 (dk_at s100_0 0 rfl rfl)) rfl
theorem f100_1 : ft 100 1 = some (5, 3, 0, .invokevirtual 46, 3) := Fm100 (dk_182 0 46 (dk_at s100_0 1 rfl rfl)) rfl
theorem f100_4 : ft 100 4 = some (5, 3, 0, .aload_n 0, 1) := Fm100 (dk_42 (dk_at s100_0 4 rfl rfl)) rfl
theorem f100_5 : ft 100 5 = some (5, 3, 0, .invokevirtual 220, 3) := Fm100 (dk_182 0 220 (dk_at s100_0 5 rfl rfl)) rfl
theorem f100_8 : ft 100 8 = some (5, 3, 0, .istore_n 2, 1) := Fm100 (dk_61 (dk_at s100_0 8 rfl rfl)) rfl
theorem f100_9 : ft 100 9 = some (5, 3, 0, .aload_n 0, 1) := Fm100 (dk_42 (dk_at s100_0 9 rfl rfl)) rfl
theorem f100_10 : ft 100 10 = some (5, 3, 0, .invokevirtual 46, 3) := Fm100 (dk_182 0 46 (dk_at s100_0 10 rfl rfl)) rfl
theorem f100_13 : ft 100 13 = some (5, 3, 0, .new 223, 3) := Fm100 (dk_187 0 223 (dk_at s100_0 13 rfl rfl)) rfl
theorem f100_16 : ft 100 16 = some (5, 3, 0, .dup, 1) := Fm100 (dk_89 (dk_at s100_0 16 rfl rfl)) rfl
theorem f100_17 : ft 100 17 = some (5, 3, 0, .iload_n 2, 1) := Fm100 (dk_28 (dk_at s100_0 17 rfl rfl)) rfl
theorem f100_18 : ft 100 18 = some (5, 3, 0, .aload_n 1, 1) := Fm100 (dk_43 (dk_at s100_0 18 rfl rfl)) rfl
theorem f100_19 : ft 100 19 = some (5, 3, 0, .aload_n 0, 1) := Fm100 (dk_42 (dk_at s100_0 19 rfl rfl)) rfl
theorem f100_20 : ft 100 20 = some (5, 3, 0, .invokevirtual 207, 3) := Fm100 (dk_182 0 207 (dk_at s100_0 20 rfl rfl)) rfl
theorem f100_23 : ft 100 23 = some (5, 3, 0, .invokespecial 225, 3) := Fm100 (dk_183 0 225 (dk_at s100_1 0 rfl rfl)) rfl
theorem f100_26 : ft 100 26 = some (5, 3, 0, .areturn, 1) := Fm100 (dk_176 (dk_at s100_1 3 rfl rfl)) rfl
theorem q100 {d : Nat} {m : Mem} {a0 a1 : Int} (hd : 0 < d) (hz : TZ m) : le2 (gd (tg m a0 = 5) <| bV (cl (d - 1) 62 [pR a0] m) fun m1 => bI (cl (d - 1) 101 [pR a0] m1) fun v2 m2 => bV (cl (d - 1) 62 [pR a0] m2) fun m3 => nw (nx m3) (mal m3 26 5) fun o4 m4 => bR (cl (d - 1) 98 [pR a0] m4) fun v5 m5 => bV (cl (d - 1) 324 [pR o4, pI v2, pR a1, pR v5] m5) fun m6 => some (.inl (some (pR o4)), m6)) (cl d 100 [pR a0, pR a1] m) := by
  refine q_in (n := 3) (L := [pR a0, pR a1, pU]) rfl rfl rfl ?_
  refine r_aln0 (p := 1) f100_0 rfl ?_
  refine le2_gd (fun h1 => ?_)
  refine r_invV (p := 4) f100_1 rfl rfl rfl (Or.inl h1) hd (Nat.le_of_ble_eq_true rfl) rfl rfl rfl (fun _ => rfl) (fun m1 c1 => ?_)
  have hz1 := z_k c1 hz
  refine r_aln0 (p := 5) f100_4 rfl ?_
  have h2 := k_t1 c1 hz h1 (by decide)
  refine r_invI (p := 8) f100_5 rfl rfl rfl (Or.inl h2) hd (Nat.le_of_ble_eq_true rfl) rfl rfl rfl (fun _ => rfl) (fun v2 m2 c2 => ?_)
  have hz2 := z_k c2 hz1
  refine r_isn2 (p := 9) f100_8 rfl rfl ?_
  refine r_aln0 (p := 10) f100_9 rfl ?_
  have h3 := k_t1 c2 hz1 h2 (by decide)
  refine r_invV (p := 13) f100_10 rfl rfl rfl (Or.inl h3) hd (Nat.le_of_ble_eq_true rfl) rfl rfl rfl (fun _ => rfl) (fun m3 c3 => ?_)
  have hz3 := z_k c3 hz2
  refine r_new (t1 := 26) (f1 := 5) (p := 16) f100_13 rfl rfl rfl rfl rfl (fun o4 m4 h4 k4 => ?_)
  have hz4 := z_k k4 hz3
  refine r_dup (p := 17) f100_16 rfl rfl ?_
  refine r_iln2 (p := 18) f100_17 rfl ?_
  refine r_aln1 (p := 19) f100_18 rfl ?_
  refine r_aln0 (p := 20) f100_19 rfl ?_
  have h5 := k_t1 c3 hz2 h3 (by decide)
  have h6 := k_t1 k4 hz3 h5 (by decide)
  refine r_invR (p := 23) f100_20 rfl rfl rfl (Or.inl h6) hd (Nat.le_of_ble_eq_true rfl) rfl rfl rfl (fun _ => rfl) (fun v5 m5 c5 => ?_)
  have hz5 := z_k c5 hz4
  have h7 := k_t1 c5 hz4 h4 (by decide)
  refine r_ispV (p := 26) f100_23 rfl rfl rfl (Or.inl h7) hd (Nat.le_of_ble_eq_true rfl) rfl rfl rfl (fun _ => rfl) (fun m6 c6 => ?_)
  have hz6 := z_k c6 hz5
  exact r_aret f100_26
/-! 101 PathStore$Compiler.operator ()I -/
def w101_5 : List UInt8 := [28, 153, 0, 7, 4, 167, 0, 4, 3, 96, 172]
abbrev u101_5 : List UInt8 := w101_5 ++ []
def w101_4 : List UInt8 := [153, 0, 13, 42, 89, 180, 0, 40, 4, 96, 181, 0, 40, 27, 16, 60, 160, 0, 7, 5, 167, 0, 4, 7]
abbrev u101_4 : List UInt8 := w101_4 ++ u101_5
def w101_3 : List UInt8 := [3, 167, 0, 4, 4, 172, 42, 182, 0, 28, 16, 61, 160, 0, 7, 4, 167, 0, 4, 3, 61, 28]
abbrev u101_3 : List UInt8 := w101_3 ++ u101_4
def w101_2 : List UInt8 := [27, 16, 61, 159, 0, 9, 27, 16, 33, 160, 0, 21, 42, 16, 61, 182, 0, 52, 27, 16, 61, 160, 0, 7]
abbrev u101_2 : List UInt8 := w101_2 ++ u101_3
def w101_1 : List UInt8 := [27, 16, 62, 160, 0, 7, 4, 167, 0, 4, 3, 182, 0, 32, 42, 89, 180, 0, 40, 4, 96, 181, 0, 40]
abbrev u101_1 : List UInt8 := w101_1 ++ u101_2
def w101_0 : List UInt8 := [42, 182, 0, 28, 60, 42, 27, 16, 61, 159, 0, 21, 27, 16, 33, 159, 0, 15, 27, 16, 60, 159, 0, 9]
abbrev u101_0 : List UInt8 := w101_0 ++ u101_1
theorem s101_0 : (prog_4_method_21_code).data.toList.drop 0 = u101_0 := by decide +kernel
theorem s101_1 : (prog_4_method_21_code).data.toList.drop 24 = u101_1 := dk_seg s101_0 24 rfl rfl
theorem s101_2 : (prog_4_method_21_code).data.toList.drop 48 = u101_2 := dk_seg s101_1 24 rfl rfl
theorem s101_3 : (prog_4_method_21_code).data.toList.drop 72 = u101_3 := dk_seg s101_2 24 rfl rfl
theorem s101_4 : (prog_4_method_21_code).data.toList.drop 94 = u101_4 := dk_seg s101_3 22 rfl rfl
theorem s101_5 : (prog_4_method_21_code).data.toList.drop 118 = u101_5 := dk_seg s101_4 24 rfl rfl
theorem Fm101 {pc len : Nat} {i : Instr} (h : decode (prog_4_method_21_code) pc = .ok (i, len)) (hl : len = ilen i len) : ft 101 pc = some (5, 1, 0, i, len) := ft_mk rfl h hl
theorem f101_0 : ft 101 0 = some (5, 1, 0, .aload_n 0, 1) := Fm101 (dk_42 (dk_at s101_0 0 rfl rfl)) rfl
theorem f101_1 : ft 101 1 = some (5, 1, 0, .invokevirtual 28, 3) := Fm101 (dk_182 0 28 (dk_at s101_0 1 rfl rfl)) rfl
theorem f101_4 : ft 101 4 = some (5, 1, 0, .istore_n 1, 1) := Fm101 (dk_60 (dk_at s101_0 4 rfl rfl)) rfl
theorem f101_5 : ft 101 5 = some (5, 1, 0, .aload_n 0, 1) := Fm101 (dk_42 (dk_at s101_0 5 rfl rfl)) rfl
theorem f101_6 : ft 101 6 = some (5, 1, 0, .iload_n 1, 1) := Fm101 (dk_27 (dk_at s101_0 6 rfl rfl)) rfl
theorem f101_7 : ft 101 7 = some (5, 1, 0, .bipush 61, 2) := Fm101 (dk_16 61 (dk_at s101_0 7 rfl rfl)) rfl
theorem f101_9 : ft 101 9 = some (5, 1, 0, .if_icmp .eq 21, 3) := Fm101 (dk_159 0 21 (dk_at s101_0 9 rfl rfl)) rfl
theorem f101_12 : ft 101 12 = some (5, 1, 0, .iload_n 1, 1) := Fm101 (dk_27 (dk_at s101_0 12 rfl rfl)) rfl
theorem f101_13 : ft 101 13 = some (5, 1, 0, .bipush 33, 2) := Fm101 (dk_16 33 (dk_at s101_0 13 rfl rfl)) rfl
theorem f101_15 : ft 101 15 = some (5, 1, 0, .if_icmp .eq 15, 3) := Fm101 (dk_159 0 15 (dk_at s101_0 15 rfl rfl)) rfl
theorem f101_18 : ft 101 18 = some (5, 1, 0, .iload_n 1, 1) := Fm101 (dk_27 (dk_at s101_0 18 rfl rfl)) rfl
theorem f101_19 : ft 101 19 = some (5, 1, 0, .bipush 60, 2) := Fm101 (dk_16 60 (dk_at s101_0 19 rfl rfl)) rfl
theorem f101_21 : ft 101 21 = some (5, 1, 0, .if_icmp .eq 9, 3) := Fm101 (dk_159 0 9 (dk_at s101_0 21 rfl rfl)) rfl
theorem f101_24 : ft 101 24 = some (5, 1, 0, .iload_n 1, 1) := Fm101 (dk_27 (dk_at s101_1 0 rfl rfl)) rfl
theorem f101_25 : ft 101 25 = some (5, 1, 0, .bipush 62, 2) := Fm101 (dk_16 62 (dk_at s101_1 1 rfl rfl)) rfl
theorem f101_27 : ft 101 27 = some (5, 1, 0, .if_icmp .ne 7, 3) := Fm101 (dk_160 0 7 (dk_at s101_1 3 rfl rfl)) rfl
theorem f101_30 : ft 101 30 = some (5, 1, 0, .iconst 1, 1) := Fm101 (dk_4 (dk_at s101_1 6 rfl rfl)) rfl
theorem f101_31 : ft 101 31 = some (5, 1, 0, .goto 4, 3) := Fm101 (dk_167 0 4 (dk_at s101_1 7 rfl rfl)) rfl
theorem f101_34 : ft 101 34 = some (5, 1, 0, .iconst 0, 1) := Fm101 (dk_3 (dk_at s101_1 10 rfl rfl)) rfl
theorem f101_35 : ft 101 35 = some (5, 1, 0, .invokevirtual 32, 3) := Fm101 (dk_182 0 32 (dk_at s101_1 11 rfl rfl)) rfl
theorem f101_38 : ft 101 38 = some (5, 1, 0, .aload_n 0, 1) := Fm101 (dk_42 (dk_at s101_1 14 rfl rfl)) rfl
theorem f101_39 : ft 101 39 = some (5, 1, 0, .dup, 1) := Fm101 (dk_89 (dk_at s101_1 15 rfl rfl)) rfl
theorem f101_40 : ft 101 40 = some (5, 1, 0, .getfield 40, 3) := Fm101 (dk_180 0 40 (dk_at s101_1 16 rfl rfl)) rfl
theorem f101_43 : ft 101 43 = some (5, 1, 0, .iconst 1, 1) := Fm101 (dk_4 (dk_at s101_1 19 rfl rfl)) rfl
theorem f101_44 : ft 101 44 = some (5, 1, 0, .iadd, 1) := Fm101 (dk_96 (dk_at s101_1 20 rfl rfl)) rfl
theorem f101_45 : ft 101 45 = some (5, 1, 0, .putfield 40, 3) := Fm101 (dk_181 0 40 (dk_at s101_1 21 rfl rfl)) rfl
theorem f101_48 : ft 101 48 = some (5, 1, 0, .iload_n 1, 1) := Fm101 (dk_27 (dk_at s101_2 0 rfl rfl)) rfl
theorem f101_49 : ft 101 49 = some (5, 1, 0, .bipush 61, 2) := Fm101 (dk_16 61 (dk_at s101_2 1 rfl rfl)) rfl
theorem f101_51 : ft 101 51 = some (5, 1, 0, .if_icmp .eq 9, 3) := Fm101 (dk_159 0 9 (dk_at s101_2 3 rfl rfl)) rfl
theorem f101_54 : ft 101 54 = some (5, 1, 0, .iload_n 1, 1) := Fm101 (dk_27 (dk_at s101_2 6 rfl rfl)) rfl
theorem f101_55 : ft 101 55 = some (5, 1, 0, .bipush 33, 2) := Fm101 (dk_16 33 (dk_at s101_2 7 rfl rfl)) rfl
theorem f101_57 : ft 101 57 = some (5, 1, 0, .if_icmp .ne 21, 3) := Fm101 (dk_160 0 21 (dk_at s101_2 9 rfl rfl)) rfl
theorem f101_60 : ft 101 60 = some (5, 1, 0, .aload_n 0, 1) := Fm101 (dk_42 (dk_at s101_2 12 rfl rfl)) rfl
theorem f101_61 : ft 101 61 = some (5, 1, 0, .bipush 61, 2) := Fm101 (dk_16 61 (dk_at s101_2 13 rfl rfl)) rfl
theorem f101_63 : ft 101 63 = some (5, 1, 0, .invokevirtual 52, 3) := Fm101 (dk_182 0 52 (dk_at s101_2 15 rfl rfl)) rfl
theorem f101_66 : ft 101 66 = some (5, 1, 0, .iload_n 1, 1) := Fm101 (dk_27 (dk_at s101_2 18 rfl rfl)) rfl
theorem f101_67 : ft 101 67 = some (5, 1, 0, .bipush 61, 2) := Fm101 (dk_16 61 (dk_at s101_2 19 rfl rfl)) rfl
theorem f101_69 : ft 101 69 = some (5, 1, 0, .if_icmp .ne 7, 3) := Fm101 (dk_160 0 7 (dk_at s101_2 21 rfl rfl)) rfl
theorem f101_72 : ft 101 72 = some (5, 1, 0, .iconst 0, 1) := Fm101 (dk_3 (dk_at s101_3 0 rfl rfl)) rfl
theorem f101_73 : ft 101 73 = some (5, 1, 0, .goto 4, 3) := Fm101 (dk_167 0 4 (dk_at s101_3 1 rfl rfl)) rfl
theorem f101_76 : ft 101 76 = some (5, 1, 0, .iconst 1, 1) := Fm101 (dk_4 (dk_at s101_3 4 rfl rfl)) rfl
theorem f101_77 : ft 101 77 = some (5, 1, 0, .ireturn, 1) := Fm101 (dk_172 (dk_at s101_3 5 rfl rfl)) rfl
theorem f101_78 : ft 101 78 = some (5, 1, 0, .aload_n 0, 1) := Fm101 (dk_42 (dk_at s101_3 6 rfl rfl)) rfl
theorem f101_79 : ft 101 79 = some (5, 1, 0, .invokevirtual 28, 3) := Fm101 (dk_182 0 28 (dk_at s101_3 7 rfl rfl)) rfl
theorem f101_82 : ft 101 82 = some (5, 1, 0, .bipush 61, 2) := Fm101 (dk_16 61 (dk_at s101_3 10 rfl rfl)) rfl
theorem f101_84 : ft 101 84 = some (5, 1, 0, .if_icmp .ne 7, 3) := Fm101 (dk_160 0 7 (dk_at s101_3 12 rfl rfl)) rfl
theorem f101_87 : ft 101 87 = some (5, 1, 0, .iconst 1, 1) := Fm101 (dk_4 (dk_at s101_3 15 rfl rfl)) rfl
theorem f101_88 : ft 101 88 = some (5, 1, 0, .goto 4, 3) := Fm101 (dk_167 0 4 (dk_at s101_3 16 rfl rfl)) rfl
theorem f101_91 : ft 101 91 = some (5, 1, 0, .iconst 0, 1) := Fm101 (dk_3 (dk_at s101_3 19 rfl rfl)) rfl
theorem f101_92 : ft 101 92 = some (5, 1, 0, .istore_n 2, 1) := Fm101 (dk_61 (dk_at s101_3 20 rfl rfl)) rfl
theorem f101_93 : ft 101 93 = some (5, 1, 0, .iload_n 2, 1) := Fm101 (dk_28 (dk_at s101_3 21 rfl rfl)) rfl
theorem f101_94 : ft 101 94 = some (5, 1, 0, .ifCond .eq 13, 3) := Fm101 (dk_153 0 13 (dk_at s101_4 0 rfl rfl)) rfl
theorem f101_97 : ft 101 97 = some (5, 1, 0, .aload_n 0, 1) := Fm101 (dk_42 (dk_at s101_4 3 rfl rfl)) rfl
theorem f101_98 : ft 101 98 = some (5, 1, 0, .dup, 1) := Fm101 (dk_89 (dk_at s101_4 4 rfl rfl)) rfl
theorem f101_99 : ft 101 99 = some (5, 1, 0, .getfield 40, 3) := Fm101 (dk_180 0 40 (dk_at s101_4 5 rfl rfl)) rfl
theorem f101_102 : ft 101 102 = some (5, 1, 0, .iconst 1, 1) := Fm101 (dk_4 (dk_at s101_4 8 rfl rfl)) rfl
theorem f101_103 : ft 101 103 = some (5, 1, 0, .iadd, 1) := Fm101 (dk_96 (dk_at s101_4 9 rfl rfl)) rfl
theorem f101_104 : ft 101 104 = some (5, 1, 0, .putfield 40, 3) := Fm101 (dk_181 0 40 (dk_at s101_4 10 rfl rfl)) rfl
theorem f101_107 : ft 101 107 = some (5, 1, 0, .iload_n 1, 1) := Fm101 (dk_27 (dk_at s101_4 13 rfl rfl)) rfl
theorem f101_108 : ft 101 108 = some (5, 1, 0, .bipush 60, 2) := Fm101 (dk_16 60 (dk_at s101_4 14 rfl rfl)) rfl
theorem f101_110 : ft 101 110 = some (5, 1, 0, .if_icmp .ne 7, 3) := Fm101 (dk_160 0 7 (dk_at s101_4 16 rfl rfl)) rfl
theorem f101_113 : ft 101 113 = some (5, 1, 0, .iconst 2, 1) := Fm101 (dk_5 (dk_at s101_4 19 rfl rfl)) rfl
theorem f101_114 : ft 101 114 = some (5, 1, 0, .goto 4, 3) := Fm101 (dk_167 0 4 (dk_at s101_4 20 rfl rfl)) rfl
theorem f101_117 : ft 101 117 = some (5, 1, 0, .iconst 4, 1) := Fm101 (dk_7 (dk_at s101_4 23 rfl rfl)) rfl
theorem f101_118 : ft 101 118 = some (5, 1, 0, .iload_n 2, 1) := Fm101 (dk_28 (dk_at s101_5 0 rfl rfl)) rfl
theorem f101_119 : ft 101 119 = some (5, 1, 0, .ifCond .eq 7, 3) := Fm101 (dk_153 0 7 (dk_at s101_5 1 rfl rfl)) rfl
theorem f101_122 : ft 101 122 = some (5, 1, 0, .iconst 1, 1) := Fm101 (dk_4 (dk_at s101_5 4 rfl rfl)) rfl
theorem f101_123 : ft 101 123 = some (5, 1, 0, .goto 4, 3) := Fm101 (dk_167 0 4 (dk_at s101_5 5 rfl rfl)) rfl
theorem f101_126 : ft 101 126 = some (5, 1, 0, .iconst 0, 1) := Fm101 (dk_3 (dk_at s101_5 8 rfl rfl)) rfl
theorem f101_127 : ft 101 127 = some (5, 1, 0, .iadd, 1) := Fm101 (dk_96 (dk_at s101_5 9 rfl rfl)) rfl
theorem f101_128 : ft 101 128 = some (5, 1, 0, .ireturn, 1) := Fm101 (dk_172 (dk_at s101_5 10 rfl rfl)) rfl
theorem q101 {d : Nat} {m : Mem} {a0 : Int} (hd : 0 < d) (hz : TZ m) : le2 (gd (tg m a0 = 5) <| bI (cl (d - 1) 63 [pR a0] m) fun v1 m1 => if v1 = 61 then (rn d 101 35 [pR a0, pI v1, pU] [pI 1, pR a0] m1) else if v1 = 33 then (rn d 101 35 [pR a0, pI v1, pU] [pI 1, pR a0] m1) else if v1 = 60 then (rn d 101 35 [pR a0, pI v1, pU] [pI 1, pR a0] m1) else if v1 = 62 then (rn d 101 35 [pR a0, pI v1, pU] [pI 1, pR a0] m1) else rn d 101 35 [pR a0, pI v1, pU] [pI 0, pR a0] m1) (cl d 101 [pR a0] m) := by
  refine q_in (n := 3) (L := [pR a0, pU, pU]) rfl rfl rfl ?_
  refine r_aln0 (p := 1) f101_0 rfl ?_
  refine le2_gd (fun h1 => ?_)
  refine r_invI (p := 4) f101_1 rfl rfl rfl (Or.inl h1) hd (Nat.le_of_ble_eq_true rfl) rfl rfl rfl (fun _ => rfl) (fun v1 m1 c1 => ?_)
  have hz1 := z_k c1 hz
  refine r_isn1 (p := 5) f101_4 rfl rfl ?_
  refine r_aln0 (p := 6) f101_5 rfl ?_
  refine r_iln1 (p := 7) f101_6 rfl ?_
  refine r_bipush (p := 9) f101_7 rfl (pinD rfl rfl) ?_
  refine r_iceq (t := 30) (p := 12) f101_9 (by decide) rfl rfl ?_ ?_
  · refine r_iconst (p := 31) f101_30 rfl (pinD rfl rfl) ?_
    refine r_goto (p := 35) f101_31 (by decide) rfl ?_
    exact le2_refl _
  · refine r_iln1 (p := 13) f101_12 rfl ?_
    refine r_bipush (p := 15) f101_13 rfl (pinD rfl rfl) ?_
    refine r_iceq (t := 30) (p := 18) f101_15 (by decide) rfl rfl ?_ ?_
    · refine r_iconst (p := 31) f101_30 rfl (pinD rfl rfl) ?_
      refine r_goto (p := 35) f101_31 (by decide) rfl ?_
      exact le2_refl _
    · refine r_iln1 (p := 19) f101_18 rfl ?_
      refine r_bipush (p := 21) f101_19 rfl (pinD rfl rfl) ?_
      refine r_iceq (t := 30) (p := 24) f101_21 (by decide) rfl rfl ?_ ?_
      · refine r_iconst (p := 31) f101_30 rfl (pinD rfl rfl) ?_
        refine r_goto (p := 35) f101_31 (by decide) rfl ?_
        exact le2_refl _
      · refine r_iln1 (p := 25) f101_24 rfl ?_
        refine r_bipush (p := 27) f101_25 rfl (pinD rfl rfl) ?_
        refine r_icne (t := 34) (p := 30) f101_27 (by decide) rfl rfl ?_ ?_
        · refine r_iconst (p := 31) f101_30 rfl (pinD rfl rfl) ?_
          refine r_goto (p := 35) f101_31 (by decide) rfl ?_
          exact le2_refl _
        · refine r_iconst (p := 35) f101_34 rfl (pinD rfl rfl) ?_
          exact le2_refl _
theorem q101_35 {d : Nat} {m : Mem} {a0 a1 s1 s0 : Int} (hd : 0 < d) (hz : TZ m) : le2 (gd (tg m s0 = 5) <| bV (cl (d - 1) 66 [pR s0, pI s1] m) fun m1 => gd (tg m1 a0 = 5) <| if a1 = 61 then (rn d 101 60 [pR a0, pI a1, pU] [] (mst m1 a0 2 (w32 ((vl m1 a0 2) + 1)))) else if a1 = 33 then (rn d 101 60 [pR a0, pI a1, pU] [] (mst m1 a0 2 (w32 ((vl m1 a0 2) + 1)))) else bI (cl (d - 1) 63 [pR a0] (mst m1 a0 2 (w32 ((vl m1 a0 2) + 1)))) fun v2 m2 => if v2 = 61 then (if (1 : Int) = 0 then (rn d 101 107 [pR a0, pI a1, pI 1] [] m2) else rn d 101 107 [pR a0, pI a1, pI 1] [] (mst m2 a0 2 (w32 ((vl m2 a0 2) + 1)))) else if (0 : Int) = 0 then (rn d 101 107 [pR a0, pI a1, pI 0] [] m2) else rn d 101 107 [pR a0, pI a1, pI 0] [] (mst m2 a0 2 (w32 ((vl m2 a0 2) + 1)))) (rn d 101 35 [pR a0, pI a1, pU] [pI s1, pR s0] m) := by
  refine le2_gd (fun h1 => ?_)
  refine r_invV (p := 38) f101_35 rfl rfl rfl (Or.inl h1) hd (Nat.le_of_ble_eq_true rfl) rfl rfl rfl (fun _ => rfl) (fun m1 c1 => ?_)
  have hz1 := z_k c1 hz
  refine r_aln0 (p := 39) f101_38 rfl ?_
  refine r_dup (p := 40) f101_39 rfl rfl ?_
  refine le2_gd (fun h2 => ?_)
  refine r_gfI (f := 2) (p := 43) f101_40 rfl rfl rfl (Or.inl h2) rfl ?_
  refine r_iconst (p := 44) f101_43 rfl (pinD rfl rfl) ?_
  refine r_iadd (p := 45) f101_44 rfl ?_
  refine r_pfI (f := 2) (p := 48) f101_45 rfl rfl rfl (by decide) (by decide) (Or.inl h2) rfl ?_
  refine r_iln1 (p := 49) f101_48 rfl ?_
  refine r_bipush (p := 51) f101_49 rfl (pinD rfl rfl) ?_
  refine r_iceq (t := 60) (p := 54) f101_51 (by decide) rfl rfl ?_ ?_
  · exact le2_refl _
  · refine r_iln1 (p := 55) f101_54 rfl ?_
    refine r_bipush (p := 57) f101_55 rfl (pinD rfl rfl) ?_
    refine r_icne (t := 78) (p := 60) f101_57 (by decide) rfl rfl ?_ ?_
    · exact le2_refl _
    · refine r_aln0 (p := 79) f101_78 rfl ?_
      refine r_invI (p := 82) f101_79 rfl rfl rfl (Or.inl h2) hd (Nat.le_of_ble_eq_true rfl) rfl rfl rfl (fun _ => rfl) (fun v2 m2 c2 => ?_)
      have hz2 := z_k c2 hz1
      refine r_bipush (p := 84) f101_82 rfl (pinD rfl rfl) ?_
      refine r_icne (t := 91) (p := 87) f101_84 (by decide) rfl rfl ?_ ?_
      · refine r_iconst (p := 88) f101_87 rfl (pinD rfl rfl) ?_
        refine r_goto (p := 92) f101_88 (by decide) rfl ?_
        refine r_isn2 (p := 93) f101_92 rfl rfl ?_
        refine r_iln2 (p := 94) f101_93 rfl ?_
        refine r_ifeq (t := 107) (p := 97) f101_94 (by decide) rfl rfl ?_ ?_
        · exact le2_refl _
        · refine r_aln0 (p := 98) f101_97 rfl ?_
          refine r_dup (p := 99) f101_98 rfl rfl ?_
          have h4 := k_t1 c2 hz1 h2 (by decide)
          refine r_gfI (f := 2) (p := 102) f101_99 rfl rfl rfl (Or.inl h4) rfl ?_
          refine r_iconst (p := 103) f101_102 rfl (pinD rfl rfl) ?_
          refine r_iadd (p := 104) f101_103 rfl ?_
          refine r_pfI (f := 2) (p := 107) f101_104 rfl rfl rfl (by decide) (by decide) (Or.inl h4) rfl ?_
          exact le2_refl _
      · refine r_iconst (p := 92) f101_91 rfl (pinD rfl rfl) ?_
        refine r_isn2 (p := 93) f101_92 rfl rfl ?_
        refine r_iln2 (p := 94) f101_93 rfl ?_
        refine r_ifeq (t := 107) (p := 97) f101_94 (by decide) rfl rfl ?_ ?_
        · exact le2_refl _
        · refine r_aln0 (p := 98) f101_97 rfl ?_
          refine r_dup (p := 99) f101_98 rfl rfl ?_
          have h3 := k_t1 c2 hz1 h2 (by decide)
          refine r_gfI (f := 2) (p := 102) f101_99 rfl rfl rfl (Or.inl h3) rfl ?_
          refine r_iconst (p := 103) f101_102 rfl (pinD rfl rfl) ?_
          refine r_iadd (p := 104) f101_103 rfl ?_
          refine r_pfI (f := 2) (p := 107) f101_104 rfl rfl rfl (by decide) (by decide) (Or.inl h3) rfl ?_
          exact le2_refl _
theorem q101_60 {d : Nat} {m : Mem} {a0 a1 : Int} (hd : 0 < d) (hz : TZ m) : le2 (gd (tg m a0 = 5) <| bV (cl (d - 1) 65 [pR a0, pI 61] m) fun m1 => if a1 = 61 then (some (.inl (some (pI 0)), m1)) else some (.inl (some (pI 1)), m1)) (rn d 101 60 [pR a0, pI a1, pU] [] m) := by
  refine r_aln0 (p := 61) f101_60 rfl ?_
  refine r_bipush (p := 63) f101_61 rfl (pinD rfl rfl) ?_
  refine le2_gd (fun h1 => ?_)
  refine r_invV (p := 66) f101_63 rfl rfl rfl (Or.inl h1) hd (Nat.le_of_ble_eq_true rfl) rfl rfl rfl (fun _ => rfl) (fun m1 c1 => ?_)
  have hz1 := z_k c1 hz
  refine r_iln1 (p := 67) f101_66 rfl ?_
  refine r_bipush (p := 69) f101_67 rfl (pinD rfl rfl) ?_
  refine r_icne (t := 76) (p := 72) f101_69 (by decide) rfl rfl ?_ ?_
  · refine r_iconst (p := 73) f101_72 rfl (pinD rfl rfl) ?_
    refine r_goto (p := 77) f101_73 (by decide) rfl ?_
    exact r_iret1 f101_77
  · refine r_iconst (p := 77) f101_76 rfl (pinD rfl rfl) ?_
    exact r_iret1 f101_77
theorem q101_107 {d : Nat} {m : Mem} {a0 a1 a2 : Int} (hz : TZ m) : le2 (if a1 = 60 then (if a2 = 0 then (some (.inl (some (pI (w32 (2 + 0)))), m)) else some (.inl (some (pI (w32 (2 + 1)))), m)) else if a2 = 0 then (some (.inl (some (pI (w32 (4 + 0)))), m)) else some (.inl (some (pI (w32 (4 + 1)))), m)) (rn d 101 107 [pR a0, pI a1, pI a2] [] m) := by
  refine r_iln1 (p := 108) f101_107 rfl ?_
  refine r_bipush (p := 110) f101_108 rfl (pinD rfl rfl) ?_
  refine r_icne (t := 117) (p := 113) f101_110 (by decide) rfl rfl ?_ ?_
  · refine r_iconst (p := 114) f101_113 rfl (pinD rfl rfl) ?_
    refine r_goto (p := 118) f101_114 (by decide) rfl ?_
    refine r_iln2 (p := 119) f101_118 rfl ?_
    refine r_ifeq (t := 126) (p := 122) f101_119 (by decide) rfl rfl ?_ ?_
    · refine r_iconst (p := 127) f101_126 rfl (pinD rfl rfl) ?_
      refine r_iadd (p := 128) f101_127 rfl ?_
      exact r_iret1 f101_128
    · refine r_iconst (p := 123) f101_122 rfl (pinD rfl rfl) ?_
      refine r_goto (p := 127) f101_123 (by decide) rfl ?_
      refine r_iadd (p := 128) f101_127 rfl ?_
      exact r_iret1 f101_128
  · refine r_iconst (p := 118) f101_117 rfl (pinD rfl rfl) ?_
    refine r_iln2 (p := 119) f101_118 rfl ?_
    refine r_ifeq (t := 126) (p := 122) f101_119 (by decide) rfl rfl ?_ ?_
    · refine r_iconst (p := 127) f101_126 rfl (pinD rfl rfl) ?_
      refine r_iadd (p := 128) f101_127 rfl ?_
      exact r_iret1 f101_128
    · refine r_iconst (p := 123) f101_122 rfl (pinD rfl rfl) ?_
      refine r_goto (p := 127) f101_123 (by decide) rfl ?_
      refine r_iadd (p := 128) f101_127 rfl ?_
      exact r_iret1 f101_128
/-! 102 PathStore$Compiler.number ()Z -/
def w102_1 : List UInt8 := [172]
abbrev u102_1 : List UInt8 := w102_1 ++ []
def w102_0 : List UInt8 := [42, 182, 0, 28, 184, 0, 128, 154, 0, 12, 42, 182, 0, 28, 16, 45, 160, 0, 7, 4, 167, 0, 4, 3]
abbrev u102_0 : List UInt8 := w102_0 ++ u102_1
theorem s102_0 : (prog_4_method_12_code).data.toList.drop 0 = u102_0 := by decide +kernel
theorem s102_1 : (prog_4_method_12_code).data.toList.drop 24 = u102_1 := dk_seg s102_0 24 rfl rfl
theorem Fm102 {pc len : Nat} {i : Instr} (h : decode (prog_4_method_12_code) pc = .ok (i, len)) (hl : len = ilen i len) : ft 102 pc = some (5, 4, 0, i, len) := ft_mk rfl h hl
theorem f102_0 : ft 102 0 = some (5, 4, 0, .aload_n 0, 1) := Fm102 (dk_42 (dk_at s102_0 0 rfl rfl)) rfl
theorem f102_1 : ft 102 1 = some (5, 4, 0, .invokevirtual 28, 3) := Fm102 (dk_182 0 28 (dk_at s102_0 1 rfl rfl)) rfl
theorem f102_4 : ft 102 4 = some (5, 4, 0, .invokestatic 128, 3) := Fm102 (dk_184 0 128 (dk_at s102_0 4 rfl rfl)) rfl
theorem f102_7 : ft 102 7 = some (5, 4, 0, .ifCond .ne 12, 3) := Fm102 (dk_154 0 12 (dk_at s102_0 7 rfl rfl)) rfl
theorem f102_10 : ft 102 10 = some (5, 4, 0, .aload_n 0, 1) := Fm102 (dk_42 (dk_at s102_0 10 rfl rfl)) rfl
theorem f102_11 : ft 102 11 = some (5, 4, 0, .invokevirtual 28, 3) := Fm102 (dk_182 0 28 (dk_at s102_0 11 rfl rfl)) rfl
theorem f102_14 : ft 102 14 = some (5, 4, 0, .bipush 45, 2) := Fm102 (dk_16 45 (dk_at s102_0 14 rfl rfl)) rfl
theorem f102_16 : ft 102 16 = some (5, 4, 0, .if_icmp .ne 7, 3) := Fm102 (dk_160 0 7 (dk_at s102_0 16 rfl rfl)) rfl
theorem f102_19 : ft 102 19 = some (5, 4, 0, .iconst 1, 1) := Fm102 (dk_4 (dk_at s102_0 19 rfl rfl)) rfl
theorem f102_20 : ft 102 20 = some (5, 4, 0, .goto 4, 3) := Fm102 (dk_167 0 4 (dk_at s102_0 20 rfl rfl)) rfl
theorem f102_23 : ft 102 23 = some (5, 4, 0, .iconst 0, 1) := Fm102 (dk_3 (dk_at s102_0 23 rfl rfl)) rfl
theorem f102_24 : ft 102 24 = some (5, 4, 0, .ireturn, 1) := Fm102 (dk_172 (dk_at s102_1 0 rfl rfl)) rfl
theorem q102 {d : Nat} {m : Mem} {a0 : Int} (hd : 0 < d) (hz : TZ m) : le2 (gd (tg m a0 = 5) <| bI (cl (d - 1) 63 [pR a0] m) fun v1 m1 => bI (cl (d - 1) 73 [pI v1] m1) fun v2 m2 => if v2 = 0 then (bI (cl (d - 1) 63 [pR a0] m2) fun v3 m3 => if v3 = 45 then (some (.inl (some (pI 1)), m3)) else some (.inl (some (pI 0)), m3)) else some (.inl (some (pI 1)), m2)) (cl d 102 [pR a0] m) := by
  refine q_in (n := 1) (L := [pR a0]) rfl rfl rfl ?_
  refine r_aln0 (p := 1) f102_0 rfl ?_
  refine le2_gd (fun h1 => ?_)
  refine r_invI (p := 4) f102_1 rfl rfl rfl (Or.inl h1) hd (Nat.le_of_ble_eq_true rfl) rfl rfl rfl (fun _ => rfl) (fun v1 m1 c1 => ?_)
  have hz1 := z_k c1 hz
  refine r_istI (p := 7) f102_4 rfl rfl rfl hd (Nat.le_of_ble_eq_true rfl) rfl rfl rfl (fun _ => rfl) (fun v2 m2 c2 => ?_)
  have hz2 := z_k c2 hz1
  refine r_ifne (t := 19) (p := 10) f102_7 (by decide) rfl rfl ?_ ?_
  · refine r_aln0 (p := 11) f102_10 rfl ?_
    have h2 := k_t1 c1 hz h1 (by decide)
    have h3 := k_t1 c2 hz1 h2 (by decide)
    refine r_invI (p := 14) f102_11 rfl rfl rfl (Or.inl h3) hd (Nat.le_of_ble_eq_true rfl) rfl rfl rfl (fun _ => rfl) (fun v3 m3 c3 => ?_)
    have hz3 := z_k c3 hz2
    refine r_bipush (p := 16) f102_14 rfl (pinD rfl rfl) ?_
    refine r_icne (t := 23) (p := 19) f102_16 (by decide) rfl rfl ?_ ?_
    · refine r_iconst (p := 20) f102_19 rfl (pinD rfl rfl) ?_
      refine r_goto (p := 24) f102_20 (by decide) rfl ?_
      exact r_iret4 f102_24 (by decide)
    · refine r_iconst (p := 24) f102_23 rfl (pinD rfl rfl) ?_
      exact r_iret4 f102_24 (by decide)
  · refine r_iconst (p := 20) f102_19 rfl (pinD rfl rfl) ?_
    refine r_goto (p := 24) f102_20 (by decide) rfl ?_
    exact r_iret4 f102_24 (by decide)
