/-! what methods do, written by wip/D-67560w/tools/gen_parts.py -/
set_option maxRecDepth 100000
set_option maxHeartbeats 4000000
/-! 152 PathStore$Disk.<init> ()V -/
def w152_2 : List UInt8 := [16, 64, 189, 0, 29, 181, 0, 31, 177]
abbrev u152_2 : List UInt8 := w152_2 ++ []
def w152_1 : List UInt8 := [188, 8, 181, 0, 18, 42, 16, 64, 188, 10, 181, 0, 21, 42, 17, 6, 64, 188, 4, 181, 0, 25, 42]
abbrev u152_1 : List UInt8 := w152_1 ++ u152_2
def w152_0 : List UInt8 := [42, 183, 0, 1, 42, 18, 9, 188, 8, 181, 0, 10, 42, 17, 2, 224, 188, 8, 181, 0, 14, 42, 18, 17]
abbrev u152_0 : List UInt8 := w152_0 ++ u152_1
theorem s152_0 : (prog_5_method_1_code).data.toList.drop 0 = u152_0 := by decide +kernel
theorem s152_1 : (prog_5_method_1_code).data.toList.drop 24 = u152_1 := dk_seg s152_0 24 rfl rfl
theorem s152_2 : (prog_5_method_1_code).data.toList.drop 47 = u152_2 := dk_seg s152_1 23 rfl rfl
theorem Fm152 {pc len : Nat} {i : Instr} (h : decode (prog_5_method_1_code) pc = .ok (i, len)) (hl : len = ilen i len) : ft 152 pc = some (9, 0, 1, i, len) := ft_mk rfl h hl
theorem f152_0 : ft 152 0 = some (9, 0, 1, .aload_n 0, 1) := Fm152 (dk_42 (dk_at s152_0 0 rfl rfl)) rfl
theorem f152_1 : ft 152 1 = some (9, 0, 1, .invokespecial 1, 3) := Fm152 (dk_183 0 1 (dk_at s152_0 1 rfl rfl)) rfl
theorem f152_4 : ft 152 4 = some (9, 0, 1, .aload_n 0, 1) := Fm152 (dk_42 (dk_at s152_0 4 rfl rfl)) rfl
theorem f152_5 : ft 152 5 = some (9, 0, 1, .ldc 9, 2) := Fm152 (dk_18 9 (dk_at s152_0 5 rfl rfl)) rfl
theorem f152_7 : ft 152 7 = some (9, 0, 1, .newarray .byte, 2) := Fm152 (dk_188_8 (dk_at s152_0 7 rfl rfl)) rfl
theorem f152_9 : ft 152 9 = some (9, 0, 1, .putfield 10, 3) := Fm152 (dk_181 0 10 (dk_at s152_0 9 rfl rfl)) rfl
theorem f152_12 : ft 152 12 = some (9, 0, 1, .aload_n 0, 1) := Fm152 (dk_42 (dk_at s152_0 12 rfl rfl)) rfl
theorem f152_13 : ft 152 13 = some (9, 0, 1, .sipush 736, 3) := Fm152 (dk_17 2 224 (dk_at s152_0 13 rfl rfl)) rfl
theorem f152_16 : ft 152 16 = some (9, 0, 1, .newarray .byte, 2) := Fm152 (dk_188_8 (dk_at s152_0 16 rfl rfl)) rfl
theorem f152_18 : ft 152 18 = some (9, 0, 1, .putfield 14, 3) := Fm152 (dk_181 0 14 (dk_at s152_0 18 rfl rfl)) rfl
theorem f152_21 : ft 152 21 = some (9, 0, 1, .aload_n 0, 1) := Fm152 (dk_42 (dk_at s152_0 21 rfl rfl)) rfl
theorem f152_22 : ft 152 22 = some (9, 0, 1, .ldc 17, 2) := Fm152 (dk_18 17 (dk_at s152_0 22 rfl rfl)) rfl
theorem f152_24 : ft 152 24 = some (9, 0, 1, .newarray .byte, 2) := Fm152 (dk_188_8 (dk_at s152_1 0 rfl rfl)) rfl
theorem f152_26 : ft 152 26 = some (9, 0, 1, .putfield 18, 3) := Fm152 (dk_181 0 18 (dk_at s152_1 2 rfl rfl)) rfl
theorem f152_29 : ft 152 29 = some (9, 0, 1, .aload_n 0, 1) := Fm152 (dk_42 (dk_at s152_1 5 rfl rfl)) rfl
theorem f152_30 : ft 152 30 = some (9, 0, 1, .bipush 64, 2) := Fm152 (dk_16 64 (dk_at s152_1 6 rfl rfl)) rfl
theorem f152_32 : ft 152 32 = some (9, 0, 1, .newarray .int, 2) := Fm152 (dk_188_10 (dk_at s152_1 8 rfl rfl)) rfl
theorem f152_34 : ft 152 34 = some (9, 0, 1, .putfield 21, 3) := Fm152 (dk_181 0 21 (dk_at s152_1 10 rfl rfl)) rfl
theorem f152_37 : ft 152 37 = some (9, 0, 1, .aload_n 0, 1) := Fm152 (dk_42 (dk_at s152_1 13 rfl rfl)) rfl
theorem f152_38 : ft 152 38 = some (9, 0, 1, .sipush 1600, 3) := Fm152 (dk_17 6 64 (dk_at s152_1 14 rfl rfl)) rfl
theorem f152_41 : ft 152 41 = some (9, 0, 1, .newarray .boolean, 2) := Fm152 (dk_188_4 (dk_at s152_1 17 rfl rfl)) rfl
theorem f152_43 : ft 152 43 = some (9, 0, 1, .putfield 25, 3) := Fm152 (dk_181 0 25 (dk_at s152_1 19 rfl rfl)) rfl
theorem f152_46 : ft 152 46 = some (9, 0, 1, .aload_n 0, 1) := Fm152 (dk_42 (dk_at s152_1 22 rfl rfl)) rfl
theorem f152_47 : ft 152 47 = some (9, 0, 1, .bipush 64, 2) := Fm152 (dk_16 64 (dk_at s152_2 0 rfl rfl)) rfl
theorem f152_49 : ft 152 49 = some (9, 0, 1, .anewarray 29, 3) := Fm152 (dk_189 0 29 (dk_at s152_2 2 rfl rfl)) rfl
theorem f152_52 : ft 152 52 = some (9, 0, 1, .putfield 31, 3) := Fm152 (dk_181 0 31 (dk_at s152_2 5 rfl rfl)) rfl
theorem f152_55 : ft 152 55 = some (9, 0, 1, .return_, 1) := Fm152 (dk_177 (dk_at s152_2 8 rfl rfl)) rfl
theorem q152 {d : Nat} {m : Mem} {a0 : Int} (hz : TZ m) : le2 (gd (tg m a0 = 9) <| nw (nx m) (mal m 153103 1177600) fun o1 m1 => nw (nx (mst m1 a0 0 o1)) (mal (mst m1 a0 0 o1) 153103 736) fun o2 m2 => nw (nx (mst m2 a0 1 o2)) (mal (mst m2 a0 1 o2) 153103 47104) fun o3 m3 => nw (nx (mst m3 a0 2 o3)) (mal (mst m3 a0 2 o3) 153101 64) fun o4 m4 => nw (nx (mst m4 a0 3 o4)) (mal (mst m4 a0 3 o4) 153105 1600) fun o5 m5 => nw (nx (mst m5 a0 5 o5)) (mal (mst m5 a0 5 o5) 153114 64) fun o6 m6 => some (.inl none, (mst m6 a0 7 o6))) (cl d 152 [pR a0] m) := by
  refine q_in (n := 1) (L := [pR a0]) rfl rfl rfl ?_
  refine r_aln0 (p := 1) f152_0 rfl ?_
  refine le2_gd (fun h1 => ?_)
  refine r_objinit (p := 4) f152_1 rfl rfl (dj1 (fun x => 0 < x ∧ x < 100) h1 (by decide)) (Nat.le_of_ble_eq_true rfl) ?_
  refine r_aln0 (p := 5) f152_4 rfl ?_
  refine r_ldcI (p := 7) f152_5 rfl rfl (pinD rfl rfl) ?_
  refine r_newa (t1 := 153103) (p := 9) f152_7 rfl rfl (pinE rfl rfl) rfl rfl (fun o1 m1 h2 k1 => ?_)
  have hz1 := z_k k1 hz
  have h3 := k_t1 k1 hz h1 (by decide)
  refine r_pfR (f := 0) (p := 12) f152_9 rfl rfl rfl (by decide) (by decide) (Or.inl h3) rfl ?_
  refine r_aln0 (p := 13) f152_12 rfl ?_
  refine r_sipush (p := 16) f152_13 rfl (pinD rfl rfl) ?_
  refine r_newa (t1 := 153103) (p := 18) f152_16 rfl rfl (pinE rfl rfl) rfl rfl (fun o2 m2 h4 k2 => ?_)
  have hz2 := z_k k2 hz1
  have h5 := k_t1 k2 hz1 h3 (by decide)
  refine r_pfR (f := 1) (p := 21) f152_18 rfl rfl rfl (by decide) (by decide) (Or.inl h5) rfl ?_
  refine r_aln0 (p := 22) f152_21 rfl ?_
  refine r_ldcI (p := 24) f152_22 rfl rfl (pinD rfl rfl) ?_
  refine r_newa (t1 := 153103) (p := 26) f152_24 rfl rfl (pinE rfl rfl) rfl rfl (fun o3 m3 h6 k3 => ?_)
  have hz3 := z_k k3 hz2
  have h7 := k_t1 k3 hz2 h5 (by decide)
  refine r_pfR (f := 2) (p := 29) f152_26 rfl rfl rfl (by decide) (by decide) (Or.inl h7) rfl ?_
  refine r_aln0 (p := 30) f152_29 rfl ?_
  refine r_bipush (p := 32) f152_30 rfl (pinD rfl rfl) ?_
  refine r_newa (t1 := 153101) (p := 34) f152_32 rfl rfl (pinE rfl rfl) rfl rfl (fun o4 m4 h8 k4 => ?_)
  have hz4 := z_k k4 hz3
  have h9 := k_t1 k4 hz3 h7 (by decide)
  refine r_pfR (f := 3) (p := 37) f152_34 rfl rfl rfl (by decide) (by decide) (Or.inl h9) rfl ?_
  refine r_aln0 (p := 38) f152_37 rfl ?_
  refine r_sipush (p := 41) f152_38 rfl (pinD rfl rfl) ?_
  refine r_newa (t1 := 153105) (p := 43) f152_41 rfl rfl (pinE rfl rfl) rfl rfl (fun o5 m5 h10 k5 => ?_)
  have hz5 := z_k k5 hz4
  have h11 := k_t1 k5 hz4 h9 (by decide)
  refine r_pfR (f := 5) (p := 46) f152_43 rfl rfl rfl (by decide) (by decide) (Or.inl h11) rfl ?_
  refine r_aln0 (p := 47) f152_46 rfl ?_
  refine r_bipush (p := 49) f152_47 rfl (pinD rfl rfl) ?_
  refine r_anewa (t1 := 153114) (p := 52) f152_49 rfl rfl (pinE rfl rfl) rfl rfl (fun o6 m6 h12 k6 => ?_)
  have hz6 := z_k k6 hz5
  have h13 := k_t1 k6 hz5 h11 (by decide)
  refine r_pfR (f := 7) (p := 55) f152_52 rfl rfl rfl (by decide) (by decide) (Or.inl h13) rfl ?_
  exact r_ret f152_55
/-! 153 PathStore$Disk.begin ()V -/
def w153_1 : List UInt8 := [180, 0, 25, 3, 4, 84, 42, 180, 0, 25, 4, 4, 84, 42, 3, 181, 0, 47, 42, 3, 181, 0, 100, 177]
abbrev u153_1 : List UInt8 := w153_1 ++ []
def w153_0 : List UInt8 := [5, 60, 27, 17, 6, 64, 162, 0, 16, 42, 180, 0, 25, 27, 3, 84, 132, 1, 1, 167, 255, 239, 42]
abbrev u153_0 : List UInt8 := w153_0 ++ u153_1
theorem s153_0 : (prog_5_method_14_code).data.toList.drop 0 = u153_0 := by decide +kernel
theorem s153_1 : (prog_5_method_14_code).data.toList.drop 23 = u153_1 := dk_seg s153_0 23 rfl rfl
theorem Fm153 {pc len : Nat} {i : Instr} (h : decode (prog_5_method_14_code) pc = .ok (i, len)) (hl : len = ilen i len) : ft 153 pc = some (9, 0, 0, i, len) := ft_mk rfl h hl
theorem f153_0 : ft 153 0 = some (9, 0, 0, .iconst 2, 1) := Fm153 (dk_5 (dk_at s153_0 0 rfl rfl)) rfl
theorem f153_1 : ft 153 1 = some (9, 0, 0, .istore_n 1, 1) := Fm153 (dk_60 (dk_at s153_0 1 rfl rfl)) rfl
theorem f153_2 : ft 153 2 = some (9, 0, 0, .iload_n 1, 1) := Fm153 (dk_27 (dk_at s153_0 2 rfl rfl)) rfl
theorem f153_3 : ft 153 3 = some (9, 0, 0, .sipush 1600, 3) := Fm153 (dk_17 6 64 (dk_at s153_0 3 rfl rfl)) rfl
theorem f153_6 : ft 153 6 = some (9, 0, 0, .if_icmp .ge 16, 3) := Fm153 (dk_162 0 16 (dk_at s153_0 6 rfl rfl)) rfl
theorem f153_9 : ft 153 9 = some (9, 0, 0, .aload_n 0, 1) := Fm153 (dk_42 (dk_at s153_0 9 rfl rfl)) rfl
theorem f153_10 : ft 153 10 = some (9, 0, 0, .getfield 25, 3) := Fm153 (dk_180 0 25 (dk_at s153_0 10 rfl rfl)) rfl
theorem f153_13 : ft 153 13 = some (9, 0, 0, .iload_n 1, 1) := Fm153 (dk_27 (dk_at s153_0 13 rfl rfl)) rfl
theorem f153_14 : ft 153 14 = some (9, 0, 0, .iconst 0, 1) := Fm153 (dk_3 (dk_at s153_0 14 rfl rfl)) rfl
theorem f153_15 : ft 153 15 = some (9, 0, 0, .bastore, 1) := Fm153 (dk_84 (dk_at s153_0 15 rfl rfl)) rfl
theorem f153_16 : ft 153 16 = some (9, 0, 0, .iinc 1 1, 3) := Fm153 (dk_132 1 1 (dk_at s153_0 16 rfl rfl)) rfl
theorem f153_19 : ft 153 19 = some (9, 0, 0, .goto (-17), 3) := Fm153 (dk_167 255 239 (dk_at s153_0 19 rfl rfl)) rfl
theorem f153_22 : ft 153 22 = some (9, 0, 0, .aload_n 0, 1) := Fm153 (dk_42 (dk_at s153_0 22 rfl rfl)) rfl
theorem f153_23 : ft 153 23 = some (9, 0, 0, .getfield 25, 3) := Fm153 (dk_180 0 25 (dk_at s153_1 0 rfl rfl)) rfl
theorem f153_26 : ft 153 26 = some (9, 0, 0, .iconst 0, 1) := Fm153 (dk_3 (dk_at s153_1 3 rfl rfl)) rfl
theorem f153_27 : ft 153 27 = some (9, 0, 0, .iconst 1, 1) := Fm153 (dk_4 (dk_at s153_1 4 rfl rfl)) rfl
theorem f153_28 : ft 153 28 = some (9, 0, 0, .bastore, 1) := Fm153 (dk_84 (dk_at s153_1 5 rfl rfl)) rfl
theorem f153_29 : ft 153 29 = some (9, 0, 0, .aload_n 0, 1) := Fm153 (dk_42 (dk_at s153_1 6 rfl rfl)) rfl
theorem f153_30 : ft 153 30 = some (9, 0, 0, .getfield 25, 3) := Fm153 (dk_180 0 25 (dk_at s153_1 7 rfl rfl)) rfl
theorem f153_33 : ft 153 33 = some (9, 0, 0, .iconst 1, 1) := Fm153 (dk_4 (dk_at s153_1 10 rfl rfl)) rfl
theorem f153_34 : ft 153 34 = some (9, 0, 0, .iconst 1, 1) := Fm153 (dk_4 (dk_at s153_1 11 rfl rfl)) rfl
theorem f153_35 : ft 153 35 = some (9, 0, 0, .bastore, 1) := Fm153 (dk_84 (dk_at s153_1 12 rfl rfl)) rfl
theorem f153_36 : ft 153 36 = some (9, 0, 0, .aload_n 0, 1) := Fm153 (dk_42 (dk_at s153_1 13 rfl rfl)) rfl
theorem f153_37 : ft 153 37 = some (9, 0, 0, .iconst 0, 1) := Fm153 (dk_3 (dk_at s153_1 14 rfl rfl)) rfl
theorem f153_38 : ft 153 38 = some (9, 0, 0, .putfield 47, 3) := Fm153 (dk_181 0 47 (dk_at s153_1 15 rfl rfl)) rfl
theorem f153_41 : ft 153 41 = some (9, 0, 0, .aload_n 0, 1) := Fm153 (dk_42 (dk_at s153_1 18 rfl rfl)) rfl
theorem f153_42 : ft 153 42 = some (9, 0, 0, .iconst 0, 1) := Fm153 (dk_3 (dk_at s153_1 19 rfl rfl)) rfl
theorem f153_43 : ft 153 43 = some (9, 0, 0, .putfield 100, 3) := Fm153 (dk_181 0 100 (dk_at s153_1 20 rfl rfl)) rfl
theorem f153_46 : ft 153 46 = some (9, 0, 0, .return_, 1) := Fm153 (dk_177 (dk_at s153_1 23 rfl rfl)) rfl
theorem q153 {d : Nat} {m : Mem} {a0 : Int} (hz : TZ m) : le2 (rn d 153 2 [pR a0, pI 2] [] m) (cl d 153 [pR a0] m) := by
  refine q_in (n := 2) (L := [pR a0, pU]) rfl rfl rfl ?_
  refine r_iconst (p := 1) f153_0 rfl (pinD rfl rfl) ?_
  refine r_isn1 (p := 2) f153_1 rfl rfl ?_
  exact le2_refl _
theorem q153_2 {d : Nat} {m : Mem} {a0 a1 : Int} (hz : TZ m) : le2 (if a1 < 1600 then (gd (tg m a0 = 9) <| nm (vl m a0 5) fun v1 => gd (tg m v1 = 153105) <| gd ((0 : Int) ≤ a1 ∧ a1 < ln m v1) <| rn d 153 2 [pR a0, pI (w32 (a1 + 1))] [] (mst m v1 a1 0)) else gd (tg m a0 = 9) <| nm (vl m a0 5) fun v2 => gd (tg m v2 = 153105) <| gd ((0 : Int) ≤ 0 ∧ 0 < ln m v2) <| gd ((0 : Int) ≤ 1 ∧ 1 < ln m v2) <| some (.inl none, (mst (mst (mst (mst m v2 0 1) v2 1 1) a0 4 0) a0 8 0))) (rn d 153 2 [pR a0, pI a1] [] m) := by
  refine r_iln1 (p := 3) f153_2 rfl ?_
  refine r_sipush (p := 6) f153_3 rfl (pinD rfl rfl) ?_
  refine r_icge (t := 22) (p := 9) f153_6 (by decide) rfl rfl ?_ ?_
  · refine r_aln0 (p := 10) f153_9 rfl ?_
    refine le2_gd (fun h5 => ?_)
    refine r_gfR (f := 5) (p := 13) f153_10 rfl rfl rfl (Or.inl h5) rfl ?_
    refine r_nmR (fun v1 ev1 => ?_)
    refine r_iln1 (p := 14) f153_13 rfl ?_
    refine r_iconst (p := 15) f153_14 rfl (pinD rfl rfl) ?_
    refine le2_gd (fun h6 => ?_)
    refine le2_gd (fun h7 => ?_)
    refine r_bastoreZ (p := 16) f153_15 rfl (dj1 (fun x => 1000 ≤ x ∧ x % 1000 = 105 ∧ Nat.testBit (eM 153) (bix x 0) = true) h6 (by decide)) h7 (by decide) ?_
    refine r_iinc1 (p := 19) f153_16 rfl rfl ?_
    refine r_goto (p := 2) f153_19 (by decide) rfl ?_
    exact le2_refl _
  · refine r_aln0 (p := 23) f153_22 rfl ?_
    refine le2_gd (fun h1 => ?_)
    refine r_gfR (f := 5) (p := 26) f153_23 rfl rfl rfl (Or.inl h1) rfl ?_
    refine r_nmR (fun v2 ev2 => ?_)
    refine r_iconst (p := 27) f153_26 rfl (pinD rfl rfl) ?_
    refine r_iconst (p := 28) f153_27 rfl (pinD rfl rfl) ?_
    refine le2_gd (fun h2 => ?_)
    refine le2_gd (fun h3 => ?_)
    refine r_bastoreZ (p := 29) f153_28 rfl (dj1 (fun x => 1000 ≤ x ∧ x % 1000 = 105 ∧ Nat.testBit (eM 153) (bix x 0) = true) h2 (by decide)) h3 (by decide) ?_
    refine r_aln0 (p := 30) f153_29 rfl ?_
    refine r_gfR (f := 5) (p := 33) f153_30 rfl rfl rfl (Or.inl h1) (Eq.trans (sk_o (ne_oa (dj1 (fun x => x < 100) h1 (by decide)) (dj1 (fun x => ¬ x < 100) h2 (by decide)))) ev2.symm) ?_
    refine r_iconst (p := 34) f153_33 rfl (pinD rfl rfl) ?_
    refine r_iconst (p := 35) f153_34 rfl (pinD rfl rfl) ?_
    refine le2_gd (fun h4 => ?_)
    refine r_bastoreZ (p := 36) f153_35 rfl (dj1 (fun x => 1000 ≤ x ∧ x % 1000 = 105 ∧ Nat.testBit (eM 153) (bix x 0) = true) h2 (by decide)) h4 (by decide) ?_
    refine r_aln0 (p := 37) f153_36 rfl ?_
    refine r_iconst (p := 38) f153_37 rfl (pinD rfl rfl) ?_
    refine r_pfI (f := 4) (p := 41) f153_38 rfl rfl rfl (by decide) (by decide) (Or.inl h1) rfl ?_
    refine r_aln0 (p := 42) f153_41 rfl ?_
    refine r_iconst (p := 43) f153_42 rfl (pinD rfl rfl) ?_
    refine r_pfI (f := 8) (p := 46) f153_43 rfl rfl rfl (by decide) (by decide) (Or.inl h1) rfl ?_
    exact r_ret f153_46
/-! 154 PathStore$Disk.commit (IIII)V -/
def w154_7 : List UInt8 := [177]
abbrev u154_7 : List UInt8 := w154_7 ++ []
def w154_6 : List UInt8 := [4, 126, 17, 2, 224, 104, 21, 4, 5, 160, 0, 9, 17, 1, 112, 167, 0, 6, 17, 2, 224, 184, 0, 50]
abbrev u154_6 : List UInt8 := w154_6 ++ u154_7
def w154_5 : List UInt8 := [42, 16, 7, 29, 182, 0, 60, 42, 180, 0, 14, 184, 0, 43, 42, 180, 0, 14, 3, 42, 180, 0, 10, 27]
abbrev u154_5 : List UInt8 := w154_5 ++ u154_6
def w154_4 : List UInt8 := [182, 0, 56, 42, 4, 27, 16, 16, 122, 182, 0, 60, 42, 6, 27, 182, 0, 60, 42, 8, 28, 182, 0, 60]
abbrev u154_4 : List UInt8 := w154_4 ++ u154_5
def w154_3 : List UInt8 := [184, 0, 50, 132, 6, 1, 167, 255, 215, 21, 4, 153, 0, 9, 21, 4, 4, 160, 0, 4, 177, 42, 7]
abbrev u154_3 : List UInt8 := w154_3 ++ u154_4
def w154_2 : List UInt8 := [17, 2, 224, 104, 42, 180, 0, 10, 42, 180, 0, 21, 21, 6, 46, 17, 2, 224, 104, 17, 2, 224]
abbrev u154_2 : List UInt8 := w154_2 ++ u154_3
def w154_1 : List UInt8 := [42, 180, 0, 47, 54, 5, 3, 54, 6, 21, 6, 21, 5, 162, 0, 40, 42, 180, 0, 18, 21, 6]
abbrev u154_1 : List UInt8 := w154_1 ++ u154_2
def w154_0 : List UInt8 := [21, 4, 154, 0, 7, 3, 167, 0, 22, 21, 4, 4, 160, 0, 12, 42, 180, 0, 47, 5, 108, 167, 0, 7]
abbrev u154_0 : List UInt8 := w154_0 ++ u154_1
theorem s154_0 : (prog_5_method_27_code).data.toList.drop 0 = u154_0 := by decide +kernel
theorem s154_1 : (prog_5_method_27_code).data.toList.drop 24 = u154_1 := dk_seg s154_0 24 rfl rfl
theorem s154_2 : (prog_5_method_27_code).data.toList.drop 46 = u154_2 := dk_seg s154_1 22 rfl rfl
theorem s154_3 : (prog_5_method_27_code).data.toList.drop 68 = u154_3 := dk_seg s154_2 22 rfl rfl
theorem s154_4 : (prog_5_method_27_code).data.toList.drop 91 = u154_4 := dk_seg s154_3 23 rfl rfl
theorem s154_5 : (prog_5_method_27_code).data.toList.drop 115 = u154_5 := dk_seg s154_4 24 rfl rfl
theorem s154_6 : (prog_5_method_27_code).data.toList.drop 139 = u154_6 := dk_seg s154_5 24 rfl rfl
theorem s154_7 : (prog_5_method_27_code).data.toList.drop 163 = u154_7 := dk_seg s154_6 24 rfl rfl
theorem Fm154 {pc len : Nat} {i : Instr} (h : decode (prog_5_method_27_code) pc = .ok (i, len)) (hl : len = ilen i len) : ft 154 pc = some (9, 0, 0, i, len) := ft_mk rfl h hl
theorem f154_0 : ft 154 0 = some (9, 0, 0, .iload 4, 2) := Fm154 (dk_21 4 (dk_at s154_0 0 rfl rfl)) rfl
theorem f154_2 : ft 154 2 = some (9, 0, 0, .ifCond .ne 7, 3) := Fm154 (dk_154 0 7 (dk_at s154_0 2 rfl rfl)) rfl
theorem f154_5 : ft 154 5 = some (9, 0, 0, .iconst 0, 1) := Fm154 (dk_3 (dk_at s154_0 5 rfl rfl)) rfl
theorem f154_6 : ft 154 6 = some (9, 0, 0, .goto 22, 3) := Fm154 (dk_167 0 22 (dk_at s154_0 6 rfl rfl)) rfl
theorem f154_9 : ft 154 9 = some (9, 0, 0, .iload 4, 2) := Fm154 (dk_21 4 (dk_at s154_0 9 rfl rfl)) rfl
theorem f154_11 : ft 154 11 = some (9, 0, 0, .iconst 1, 1) := Fm154 (dk_4 (dk_at s154_0 11 rfl rfl)) rfl
theorem f154_12 : ft 154 12 = some (9, 0, 0, .if_icmp .ne 12, 3) := Fm154 (dk_160 0 12 (dk_at s154_0 12 rfl rfl)) rfl
theorem f154_15 : ft 154 15 = some (9, 0, 0, .aload_n 0, 1) := Fm154 (dk_42 (dk_at s154_0 15 rfl rfl)) rfl
theorem f154_16 : ft 154 16 = some (9, 0, 0, .getfield 47, 3) := Fm154 (dk_180 0 47 (dk_at s154_0 16 rfl rfl)) rfl
theorem f154_19 : ft 154 19 = some (9, 0, 0, .iconst 2, 1) := Fm154 (dk_5 (dk_at s154_0 19 rfl rfl)) rfl
theorem f154_20 : ft 154 20 = some (9, 0, 0, .idiv, 1) := Fm154 (dk_108 (dk_at s154_0 20 rfl rfl)) rfl
theorem f154_21 : ft 154 21 = some (9, 0, 0, .goto 7, 3) := Fm154 (dk_167 0 7 (dk_at s154_0 21 rfl rfl)) rfl
theorem f154_24 : ft 154 24 = some (9, 0, 0, .aload_n 0, 1) := Fm154 (dk_42 (dk_at s154_1 0 rfl rfl)) rfl
theorem f154_25 : ft 154 25 = some (9, 0, 0, .getfield 47, 3) := Fm154 (dk_180 0 47 (dk_at s154_1 1 rfl rfl)) rfl
theorem f154_28 : ft 154 28 = some (9, 0, 0, .istore 5, 2) := Fm154 (dk_54 5 (dk_at s154_1 4 rfl rfl)) rfl
theorem f154_30 : ft 154 30 = some (9, 0, 0, .iconst 0, 1) := Fm154 (dk_3 (dk_at s154_1 6 rfl rfl)) rfl
theorem f154_31 : ft 154 31 = some (9, 0, 0, .istore 6, 2) := Fm154 (dk_54 6 (dk_at s154_1 7 rfl rfl)) rfl
theorem f154_33 : ft 154 33 = some (9, 0, 0, .iload 6, 2) := Fm154 (dk_21 6 (dk_at s154_1 9 rfl rfl)) rfl
theorem f154_35 : ft 154 35 = some (9, 0, 0, .iload 5, 2) := Fm154 (dk_21 5 (dk_at s154_1 11 rfl rfl)) rfl
theorem f154_37 : ft 154 37 = some (9, 0, 0, .if_icmp .ge 40, 3) := Fm154 (dk_162 0 40 (dk_at s154_1 13 rfl rfl)) rfl
theorem f154_40 : ft 154 40 = some (9, 0, 0, .aload_n 0, 1) := Fm154 (dk_42 (dk_at s154_1 16 rfl rfl)) rfl
theorem f154_41 : ft 154 41 = some (9, 0, 0, .getfield 18, 3) := Fm154 (dk_180 0 18 (dk_at s154_1 17 rfl rfl)) rfl
theorem f154_44 : ft 154 44 = some (9, 0, 0, .iload 6, 2) := Fm154 (dk_21 6 (dk_at s154_1 20 rfl rfl)) rfl
theorem f154_46 : ft 154 46 = some (9, 0, 0, .sipush 736, 3) := Fm154 (dk_17 2 224 (dk_at s154_2 0 rfl rfl)) rfl
theorem f154_49 : ft 154 49 = some (9, 0, 0, .imul, 1) := Fm154 (dk_104 (dk_at s154_2 3 rfl rfl)) rfl
theorem f154_50 : ft 154 50 = some (9, 0, 0, .aload_n 0, 1) := Fm154 (dk_42 (dk_at s154_2 4 rfl rfl)) rfl
theorem f154_51 : ft 154 51 = some (9, 0, 0, .getfield 10, 3) := Fm154 (dk_180 0 10 (dk_at s154_2 5 rfl rfl)) rfl
theorem f154_54 : ft 154 54 = some (9, 0, 0, .aload_n 0, 1) := Fm154 (dk_42 (dk_at s154_2 8 rfl rfl)) rfl
theorem f154_55 : ft 154 55 = some (9, 0, 0, .getfield 21, 3) := Fm154 (dk_180 0 21 (dk_at s154_2 9 rfl rfl)) rfl
theorem f154_58 : ft 154 58 = some (9, 0, 0, .iload 6, 2) := Fm154 (dk_21 6 (dk_at s154_2 12 rfl rfl)) rfl
theorem f154_60 : ft 154 60 = some (9, 0, 0, .iaload, 1) := Fm154 (dk_46 (dk_at s154_2 14 rfl rfl)) rfl
theorem f154_61 : ft 154 61 = some (9, 0, 0, .sipush 736, 3) := Fm154 (dk_17 2 224 (dk_at s154_2 15 rfl rfl)) rfl
theorem f154_64 : ft 154 64 = some (9, 0, 0, .imul, 1) := Fm154 (dk_104 (dk_at s154_2 18 rfl rfl)) rfl
theorem f154_65 : ft 154 65 = some (9, 0, 0, .sipush 736, 3) := Fm154 (dk_17 2 224 (dk_at s154_2 19 rfl rfl)) rfl
theorem f154_68 : ft 154 68 = some (9, 0, 0, .invokestatic 50, 3) := Fm154 (dk_184 0 50 (dk_at s154_3 0 rfl rfl)) rfl
theorem f154_71 : ft 154 71 = some (9, 0, 0, .iinc 6 1, 3) := Fm154 (dk_132 6 1 (dk_at s154_3 3 rfl rfl)) rfl
theorem f154_74 : ft 154 74 = some (9, 0, 0, .goto (-41), 3) := Fm154 (dk_167 255 215 (dk_at s154_3 6 rfl rfl)) rfl
theorem f154_77 : ft 154 77 = some (9, 0, 0, .iload 4, 2) := Fm154 (dk_21 4 (dk_at s154_3 9 rfl rfl)) rfl
theorem f154_79 : ft 154 79 = some (9, 0, 0, .ifCond .eq 9, 3) := Fm154 (dk_153 0 9 (dk_at s154_3 11 rfl rfl)) rfl
theorem f154_82 : ft 154 82 = some (9, 0, 0, .iload 4, 2) := Fm154 (dk_21 4 (dk_at s154_3 14 rfl rfl)) rfl
theorem f154_84 : ft 154 84 = some (9, 0, 0, .iconst 1, 1) := Fm154 (dk_4 (dk_at s154_3 16 rfl rfl)) rfl
theorem f154_85 : ft 154 85 = some (9, 0, 0, .if_icmp .ne 4, 3) := Fm154 (dk_160 0 4 (dk_at s154_3 17 rfl rfl)) rfl
theorem f154_88 : ft 154 88 = some (9, 0, 0, .return_, 1) := Fm154 (dk_177 (dk_at s154_3 20 rfl rfl)) rfl
theorem f154_89 : ft 154 89 = some (9, 0, 0, .aload_n 0, 1) := Fm154 (dk_42 (dk_at s154_3 21 rfl rfl)) rfl
theorem f154_90 : ft 154 90 = some (9, 0, 0, .iconst 4, 1) := Fm154 (dk_7 (dk_at s154_3 22 rfl rfl)) rfl
theorem f154_91 : ft 154 91 = some (9, 0, 0, .invokevirtual 56, 3) := Fm154 (dk_182 0 56 (dk_at s154_4 0 rfl rfl)) rfl
theorem f154_94 : ft 154 94 = some (9, 0, 0, .aload_n 0, 1) := Fm154 (dk_42 (dk_at s154_4 3 rfl rfl)) rfl
theorem f154_95 : ft 154 95 = some (9, 0, 0, .iconst 1, 1) := Fm154 (dk_4 (dk_at s154_4 4 rfl rfl)) rfl
theorem f154_96 : ft 154 96 = some (9, 0, 0, .iload_n 1, 1) := Fm154 (dk_27 (dk_at s154_4 5 rfl rfl)) rfl
theorem f154_97 : ft 154 97 = some (9, 0, 0, .bipush 16, 2) := Fm154 (dk_16 16 (dk_at s154_4 6 rfl rfl)) rfl
theorem f154_99 : ft 154 99 = some (9, 0, 0, .ishr, 1) := Fm154 (dk_122 (dk_at s154_4 8 rfl rfl)) rfl
theorem f154_100 : ft 154 100 = some (9, 0, 0, .invokevirtual 60, 3) := Fm154 (dk_182 0 60 (dk_at s154_4 9 rfl rfl)) rfl
theorem f154_103 : ft 154 103 = some (9, 0, 0, .aload_n 0, 1) := Fm154 (dk_42 (dk_at s154_4 12 rfl rfl)) rfl
theorem f154_104 : ft 154 104 = some (9, 0, 0, .iconst 3, 1) := Fm154 (dk_6 (dk_at s154_4 13 rfl rfl)) rfl
theorem f154_105 : ft 154 105 = some (9, 0, 0, .iload_n 1, 1) := Fm154 (dk_27 (dk_at s154_4 14 rfl rfl)) rfl
theorem f154_106 : ft 154 106 = some (9, 0, 0, .invokevirtual 60, 3) := Fm154 (dk_182 0 60 (dk_at s154_4 15 rfl rfl)) rfl
theorem f154_109 : ft 154 109 = some (9, 0, 0, .aload_n 0, 1) := Fm154 (dk_42 (dk_at s154_4 18 rfl rfl)) rfl
theorem f154_110 : ft 154 110 = some (9, 0, 0, .iconst 5, 1) := Fm154 (dk_8 (dk_at s154_4 19 rfl rfl)) rfl
theorem f154_111 : ft 154 111 = some (9, 0, 0, .iload_n 2, 1) := Fm154 (dk_28 (dk_at s154_4 20 rfl rfl)) rfl
theorem f154_112 : ft 154 112 = some (9, 0, 0, .invokevirtual 60, 3) := Fm154 (dk_182 0 60 (dk_at s154_4 21 rfl rfl)) rfl
theorem f154_115 : ft 154 115 = some (9, 0, 0, .aload_n 0, 1) := Fm154 (dk_42 (dk_at s154_5 0 rfl rfl)) rfl
theorem f154_116 : ft 154 116 = some (9, 0, 0, .bipush 7, 2) := Fm154 (dk_16 7 (dk_at s154_5 1 rfl rfl)) rfl
theorem f154_118 : ft 154 118 = some (9, 0, 0, .iload_n 3, 1) := Fm154 (dk_29 (dk_at s154_5 3 rfl rfl)) rfl
theorem f154_119 : ft 154 119 = some (9, 0, 0, .invokevirtual 60, 3) := Fm154 (dk_182 0 60 (dk_at s154_5 4 rfl rfl)) rfl
theorem f154_122 : ft 154 122 = some (9, 0, 0, .aload_n 0, 1) := Fm154 (dk_42 (dk_at s154_5 7 rfl rfl)) rfl
theorem f154_123 : ft 154 123 = some (9, 0, 0, .getfield 14, 3) := Fm154 (dk_180 0 14 (dk_at s154_5 8 rfl rfl)) rfl
theorem f154_126 : ft 154 126 = some (9, 0, 0, .invokestatic 43, 3) := Fm154 (dk_184 0 43 (dk_at s154_5 11 rfl rfl)) rfl
theorem f154_129 : ft 154 129 = some (9, 0, 0, .aload_n 0, 1) := Fm154 (dk_42 (dk_at s154_5 14 rfl rfl)) rfl
theorem f154_130 : ft 154 130 = some (9, 0, 0, .getfield 14, 3) := Fm154 (dk_180 0 14 (dk_at s154_5 15 rfl rfl)) rfl
theorem f154_133 : ft 154 133 = some (9, 0, 0, .iconst 0, 1) := Fm154 (dk_3 (dk_at s154_5 18 rfl rfl)) rfl
theorem f154_134 : ft 154 134 = some (9, 0, 0, .aload_n 0, 1) := Fm154 (dk_42 (dk_at s154_5 19 rfl rfl)) rfl
theorem f154_135 : ft 154 135 = some (9, 0, 0, .getfield 10, 3) := Fm154 (dk_180 0 10 (dk_at s154_5 20 rfl rfl)) rfl
theorem f154_138 : ft 154 138 = some (9, 0, 0, .iload_n 1, 1) := Fm154 (dk_27 (dk_at s154_5 23 rfl rfl)) rfl
theorem f154_139 : ft 154 139 = some (9, 0, 0, .iconst 1, 1) := Fm154 (dk_4 (dk_at s154_6 0 rfl rfl)) rfl
theorem f154_140 : ft 154 140 = some (9, 0, 0, .iand, 1) := Fm154 (dk_126 (dk_at s154_6 1 rfl rfl)) rfl
theorem f154_141 : ft 154 141 = some (9, 0, 0, .sipush 736, 3) := Fm154 (dk_17 2 224 (dk_at s154_6 2 rfl rfl)) rfl
theorem f154_144 : ft 154 144 = some (9, 0, 0, .imul, 1) := Fm154 (dk_104 (dk_at s154_6 5 rfl rfl)) rfl
theorem f154_145 : ft 154 145 = some (9, 0, 0, .iload 4, 2) := Fm154 (dk_21 4 (dk_at s154_6 6 rfl rfl)) rfl
theorem f154_147 : ft 154 147 = some (9, 0, 0, .iconst 2, 1) := Fm154 (dk_5 (dk_at s154_6 8 rfl rfl)) rfl
theorem f154_148 : ft 154 148 = some (9, 0, 0, .if_icmp .ne 9, 3) := Fm154 (dk_160 0 9 (dk_at s154_6 9 rfl rfl)) rfl
theorem f154_151 : ft 154 151 = some (9, 0, 0, .sipush 368, 3) := Fm154 (dk_17 1 112 (dk_at s154_6 12 rfl rfl)) rfl
theorem f154_154 : ft 154 154 = some (9, 0, 0, .goto 6, 3) := Fm154 (dk_167 0 6 (dk_at s154_6 15 rfl rfl)) rfl
theorem f154_157 : ft 154 157 = some (9, 0, 0, .sipush 736, 3) := Fm154 (dk_17 2 224 (dk_at s154_6 18 rfl rfl)) rfl
theorem f154_160 : ft 154 160 = some (9, 0, 0, .invokestatic 50, 3) := Fm154 (dk_184 0 50 (dk_at s154_6 21 rfl rfl)) rfl
theorem f154_163 : ft 154 163 = some (9, 0, 0, .return_, 1) := Fm154 (dk_177 (dk_at s154_7 0 rfl rfl)) rfl
theorem q154 {d : Nat} {m : Mem} {a0 a1 a2 a3 a4 : Int} (hz : TZ m) : le2 (if a4 = 0 then (rn d 154 33 [pR a0, pI a1, pI a2, pI a3, pI a4, pI 0, pI 0] [] m) else if a4 = 1 then (gd (tg m a0 = 9) <| rn d 154 33 [pR a0, pI a1, pI a2, pI a3, pI a4, pI (w32 ((vl m a0 4).tdiv 2)), pI 0] [] m) else gd (tg m a0 = 9) <| rn d 154 33 [pR a0, pI a1, pI a2, pI a3, pI a4, pI (vl m a0 4), pI 0] [] m) (cl d 154 [pR a0, pI a1, pI a2, pI a3, pI a4] m) := by
  refine q_in (n := 7) (L := [pR a0, pI a1, pI a2, pI a3, pI a4, pU, pU]) rfl rfl rfl ?_
  refine r_ilw4 (p := 2) f154_0 rfl ?_
  refine r_ifne (t := 9) (p := 5) f154_2 (by decide) rfl rfl ?_ ?_
  · refine r_iconst (p := 6) f154_5 rfl (pinD rfl rfl) ?_
    refine r_goto (p := 28) f154_6 (by decide) rfl ?_
    refine r_isw5 (p := 30) f154_28 rfl rfl ?_
    refine r_iconst (p := 31) f154_30 rfl (pinD rfl rfl) ?_
    refine r_isw6 (p := 33) f154_31 rfl rfl ?_
    exact le2_refl _
  · refine r_ilw4 (p := 11) f154_9 rfl ?_
    refine r_iconst (p := 12) f154_11 rfl (pinD rfl rfl) ?_
    refine r_icne (t := 24) (p := 15) f154_12 (by decide) rfl rfl ?_ ?_
    · refine r_aln0 (p := 16) f154_15 rfl ?_
      refine le2_gd (fun h2 => ?_)
      refine r_gfI (f := 4) (p := 19) f154_16 rfl rfl rfl (Or.inl h2) rfl ?_
      refine r_iconst (p := 20) f154_19 rfl (pinD rfl rfl) ?_
      refine r_idiv (p := 21) f154_20 rfl (by decide) ?_
      refine r_goto (p := 28) f154_21 (by decide) rfl ?_
      refine r_isw5 (p := 30) f154_28 rfl rfl ?_
      refine r_iconst (p := 31) f154_30 rfl (pinD rfl rfl) ?_
      refine r_isw6 (p := 33) f154_31 rfl rfl ?_
      exact le2_refl _
    · refine r_aln0 (p := 25) f154_24 rfl ?_
      refine le2_gd (fun h1 => ?_)
      refine r_gfI (f := 4) (p := 28) f154_25 rfl rfl rfl (Or.inl h1) rfl ?_
      refine r_isw5 (p := 30) f154_28 rfl rfl ?_
      refine r_iconst (p := 31) f154_30 rfl (pinD rfl rfl) ?_
      refine r_isw6 (p := 33) f154_31 rfl rfl ?_
      exact le2_refl _
theorem q154_33 {d : Nat} {m : Mem} {a0 a1 a2 a3 a4 a5 a6 : Int} (hd : 0 < d) (hz : TZ m) : le2 (if a6 < a5 then (gd (tg m a0 = 9) <| nm (vl m a0 2) fun v7 => nm (w32 (a6 * 736)) fun v8 => nm (vl m a0 0) fun v9 => nm (vl m a0 3) fun v10 => gd (tg m v10 = 153101) <| gd ((0 : Int) ≤ a6 ∧ a6 < ln m v10) <| nm (w32 ((vl m v10 a6) * 736)) fun v11 => gd (tg m v7 = 153103) <| gd (tg m v9 = 153103) <| gd ((0 : Int) ≤ 736 ∧ (0 : Int) ≤ v8 ∧ (0 : Int) ≤ v11 ∧ v8 + 736 ≤ ln m v7 ∧ v11 + 736 ≤ ln m v9) <| rn d 154 33 [pR a0, pI a1, pI a2, pI a3, pI a4, pI a5, pI (w32 (a6 + 1))] [] (mcp m v7 v8 v9 v11 736)) else if a4 = 0 then (some (.inl none, m)) else if a4 = 1 then (some (.inl none, m)) else gd (tg m a0 = 9) <| bV (cl (d - 1) 155 [pR a0, pI 4] m) fun m1 => bV (cl (d - 1) 156 [pR a0, pI 1, pI (pShr a1 16)] m1) fun m2 => bV (cl (d - 1) 156 [pR a0, pI 3, pI a1] m2) fun m3 => bV (cl (d - 1) 156 [pR a0, pI 5, pI a2] m3) fun m4 => bV (cl (d - 1) 156 [pR a0, pI 7, pI a3] m4) fun m5 => bV (cl (d - 1) 157 [pR (vl m5 a0 1)] m5) fun m6 => nm (vl m6 a0 1) fun v12 => nm (vl m6 a0 0) fun v13 => nm (w32 ((pAnd a1 1) * 736)) fun v14 => if a4 = 2 then (gd (tg m6 v12 = 153103) <| gd (tg m6 v13 = 153103) <| gd ((0 : Int) ≤ 368 ∧ (0 : Int) ≤ 0 ∧ (0 : Int) ≤ v14 ∧ 0 + 368 ≤ ln m6 v12 ∧ v14 + 368 ≤ ln m6 v13) <| some (.inl none, (mcp m6 v12 0 v13 v14 368))) else gd (tg m6 v12 = 153103) <| gd (tg m6 v13 = 153103) <| gd ((0 : Int) ≤ 736 ∧ (0 : Int) ≤ 0 ∧ (0 : Int) ≤ v14 ∧ 0 + 736 ≤ ln m6 v12 ∧ v14 + 736 ≤ ln m6 v13) <| some (.inl none, (mcp m6 v12 0 v13 v14 736))) (rn d 154 33 [pR a0, pI a1, pI a2, pI a3, pI a4, pI a5, pI a6] [] m) := by
  refine r_ilw6 (p := 35) f154_33 rfl ?_
  refine r_ilw5 (p := 37) f154_35 rfl ?_
  refine r_icge (t := 77) (p := 40) f154_37 (by decide) rfl rfl ?_ ?_
  · refine r_aln0 (p := 41) f154_40 rfl ?_
    refine le2_gd (fun h14 => ?_)
    refine r_gfR (f := 2) (p := 44) f154_41 rfl rfl rfl (Or.inl h14) rfl ?_
    refine r_nmR (fun v7 ev7 => ?_)
    refine r_ilw6 (p := 46) f154_44 rfl ?_
    refine r_sipush (p := 49) f154_46 rfl (pinD rfl rfl) ?_
    refine r_imul (p := 50) f154_49 rfl ?_
    refine r_nmI (fun v8 ev8 => ?_)
    refine r_aln0 (p := 51) f154_50 rfl ?_
    refine r_gfR (f := 0) (p := 54) f154_51 rfl rfl rfl (Or.inl h14) rfl ?_
    refine r_nmR (fun v9 ev9 => ?_)
    refine r_aln0 (p := 55) f154_54 rfl ?_
    refine r_gfR (f := 3) (p := 58) f154_55 rfl rfl rfl (Or.inl h14) rfl ?_
    refine r_nmR (fun v10 ev10 => ?_)
    refine r_ilw6 (p := 60) f154_58 rfl ?_
    refine le2_gd (fun h15 => ?_)
    refine le2_gd (fun h16 => ?_)
    refine r_iaload (p := 61) f154_60 rfl (dj1 (fun x => x % 1000 = 101) h15 (by decide)) h16 rfl ?_
    refine r_sipush (p := 64) f154_61 rfl (pinD rfl rfl) ?_
    refine r_imul (p := 65) f154_64 rfl ?_
    refine r_nmI (fun v11 ev11 => ?_)
    refine r_sipush (p := 68) f154_65 rfl (pinD rfl rfl) ?_
    refine le2_gd (fun h17 => ?_)
    refine le2_gd (fun h18 => ?_)
    refine le2_gd (fun h19 => ?_)
    refine r_acopy (el := 103) (p := 71) f154_68 rfl rfl h19 (dj1 (fun x => 1000 ≤ x ∧ x % 1000 = 103) h17 (by decide)) (dj1 (fun x => 1000 ≤ x ∧ x % 1000 = 103 ∧ Nat.testBit (eM 154) (bix x 0) = true) h18 (by decide)) (by decide) (Nat.le_of_ble_eq_true rfl) ?_
    refine r_iinc6 (p := 74) f154_71 rfl rfl ?_
    refine r_goto (p := 33) f154_74 (by decide) rfl ?_
    exact le2_refl _
  · refine r_ilw4 (p := 79) f154_77 rfl ?_
    refine r_ifeq (t := 88) (p := 82) f154_79 (by decide) rfl rfl ?_ ?_
    · exact r_ret f154_88
    · refine r_ilw4 (p := 84) f154_82 rfl ?_
      refine r_iconst (p := 85) f154_84 rfl (pinD rfl rfl) ?_
      refine r_icne (t := 89) (p := 88) f154_85 (by decide) rfl rfl ?_ ?_
      · exact r_ret f154_88
      · refine r_aln0 (p := 90) f154_89 rfl ?_
        refine r_iconst (p := 91) f154_90 rfl (pinD rfl rfl) ?_
        refine le2_gd (fun h1 => ?_)
        refine r_invV (p := 94) f154_91 rfl rfl rfl (Or.inl h1) hd (Nat.le_of_ble_eq_true rfl) rfl rfl rfl (fun _ => rfl) (fun m1 c1 => ?_)
        have hz1 := z_k c1 hz
        refine r_aln0 (p := 95) f154_94 rfl ?_
        refine r_iconst (p := 96) f154_95 rfl (pinD rfl rfl) ?_
        refine r_iln1 (p := 97) f154_96 rfl ?_
        refine r_bipush (p := 99) f154_97 rfl (pinD rfl rfl) ?_
        refine r_ishr (p := 100) f154_99 rfl ?_
        have h2 := k_t1 c1 hz h1 (by decide)
        refine r_invV (p := 103) f154_100 rfl rfl rfl (Or.inl h2) hd (Nat.le_of_ble_eq_true rfl) rfl rfl rfl (fun _ => rfl) (fun m2 c2 => ?_)
        have hz2 := z_k c2 hz1
        refine r_aln0 (p := 104) f154_103 rfl ?_
        refine r_iconst (p := 105) f154_104 rfl (pinD rfl rfl) ?_
        refine r_iln1 (p := 106) f154_105 rfl ?_
        have h3 := k_t1 c2 hz1 h2 (by decide)
        refine r_invV (p := 109) f154_106 rfl rfl rfl (Or.inl h3) hd (Nat.le_of_ble_eq_true rfl) rfl rfl rfl (fun _ => rfl) (fun m3 c3 => ?_)
        have hz3 := z_k c3 hz2
        refine r_aln0 (p := 110) f154_109 rfl ?_
        refine r_iconst (p := 111) f154_110 rfl (pinD rfl rfl) ?_
        refine r_iln2 (p := 112) f154_111 rfl ?_
        have h4 := k_t1 c3 hz2 h3 (by decide)
        refine r_invV (p := 115) f154_112 rfl rfl rfl (Or.inl h4) hd (Nat.le_of_ble_eq_true rfl) rfl rfl rfl (fun _ => rfl) (fun m4 c4 => ?_)
        have hz4 := z_k c4 hz3
        refine r_aln0 (p := 116) f154_115 rfl ?_
        refine r_bipush (p := 118) f154_116 rfl (pinD rfl rfl) ?_
        refine r_iln3 (p := 119) f154_118 rfl ?_
        have h5 := k_t1 c4 hz3 h4 (by decide)
        refine r_invV (p := 122) f154_119 rfl rfl rfl (Or.inl h5) hd (Nat.le_of_ble_eq_true rfl) rfl rfl rfl (fun _ => rfl) (fun m5 c5 => ?_)
        have hz5 := z_k c5 hz4
        refine r_aln0 (p := 123) f154_122 rfl ?_
        have h6 := k_t1 c5 hz4 h5 (by decide)
        refine r_gfR (f := 1) (p := 126) f154_123 rfl rfl rfl (Or.inl h6) rfl ?_
        refine r_istV (p := 129) f154_126 rfl rfl rfl hd (Nat.le_of_ble_eq_true rfl) rfl rfl rfl (fun _ => rfl) (fun m6 c6 => ?_)
        have hz6 := z_k c6 hz5
        refine r_aln0 (p := 130) f154_129 rfl ?_
        have h7 := k_t1 c6 hz5 h6 (by decide)
        refine r_gfR (f := 1) (p := 133) f154_130 rfl rfl rfl (Or.inl h7) rfl ?_
        refine r_nmR (fun v12 ev12 => ?_)
        refine r_iconst (p := 134) f154_133 rfl (pinD rfl rfl) ?_
        refine r_aln0 (p := 135) f154_134 rfl ?_
        refine r_gfR (f := 0) (p := 138) f154_135 rfl rfl rfl (Or.inl h7) rfl ?_
        refine r_nmR (fun v13 ev13 => ?_)
        refine r_iln1 (p := 139) f154_138 rfl ?_
        refine r_iconst (p := 140) f154_139 rfl (pinD rfl rfl) ?_
        refine r_iand (p := 141) f154_140 rfl ?_
        refine r_sipush (p := 144) f154_141 rfl (pinD rfl rfl) ?_
        refine r_imul (p := 145) f154_144 rfl ?_
        refine r_nmI (fun v14 ev14 => ?_)
        refine r_ilw4 (p := 147) f154_145 rfl ?_
        refine r_iconst (p := 148) f154_147 rfl (pinD rfl rfl) ?_
        refine r_icne (t := 157) (p := 151) f154_148 (by decide) rfl rfl ?_ ?_
        · refine r_sipush (p := 154) f154_151 rfl (pinD rfl rfl) ?_
          refine r_goto (p := 160) f154_154 (by decide) rfl ?_
          refine le2_gd (fun h11 => ?_)
          refine le2_gd (fun h12 => ?_)
          refine le2_gd (fun h13 => ?_)
          refine r_acopy (el := 103) (p := 163) f154_160 rfl rfl h13 (dj1 (fun x => 1000 ≤ x ∧ x % 1000 = 103) h11 (by decide)) (dj1 (fun x => 1000 ≤ x ∧ x % 1000 = 103 ∧ Nat.testBit (eM 154) (bix x 0) = true) h12 (by decide)) (by decide) (Nat.le_of_ble_eq_true rfl) ?_
          exact r_ret f154_163
        · refine r_sipush (p := 160) f154_157 rfl (pinD rfl rfl) ?_
          refine le2_gd (fun h8 => ?_)
          refine le2_gd (fun h9 => ?_)
          refine le2_gd (fun h10 => ?_)
          refine r_acopy (el := 103) (p := 163) f154_160 rfl rfl h10 (dj1 (fun x => 1000 ≤ x ∧ x % 1000 = 103) h8 (by decide)) (dj1 (fun x => 1000 ≤ x ∧ x % 1000 = 103 ∧ Nat.testBit (eM 154) (bix x 0) = true) h9 (by decide)) (by decide) (Nat.le_of_ble_eq_true rfl) ?_
          exact r_ret f154_163
/-! 155 PathStore$Disk.blank (I)V -/
def w155_1 : List UInt8 := [180, 0, 14, 3, 27, 145, 84, 177]
abbrev u155_1 : List UInt8 := w155_1 ++ []
def w155_0 : List UInt8 := [3, 61, 28, 17, 2, 224, 162, 0, 16, 42, 180, 0, 14, 28, 3, 84, 132, 2, 1, 167, 255, 239, 42]
abbrev u155_0 : List UInt8 := w155_0 ++ u155_1
theorem s155_0 : (prog_5_method_7_code).data.toList.drop 0 = u155_0 := by decide +kernel
theorem s155_1 : (prog_5_method_7_code).data.toList.drop 23 = u155_1 := dk_seg s155_0 23 rfl rfl
theorem Fm155 {pc len : Nat} {i : Instr} (h : decode (prog_5_method_7_code) pc = .ok (i, len)) (hl : len = ilen i len) : ft 155 pc = some (9, 0, 0, i, len) := ft_mk rfl h hl
theorem f155_0 : ft 155 0 = some (9, 0, 0, .iconst 0, 1) := Fm155 (dk_3 (dk_at s155_0 0 rfl rfl)) rfl
theorem f155_1 : ft 155 1 = some (9, 0, 0, .istore_n 2, 1) := Fm155 (dk_61 (dk_at s155_0 1 rfl rfl)) rfl
theorem f155_2 : ft 155 2 = some (9, 0, 0, .iload_n 2, 1) := Fm155 (dk_28 (dk_at s155_0 2 rfl rfl)) rfl
theorem f155_3 : ft 155 3 = some (9, 0, 0, .sipush 736, 3) := Fm155 (dk_17 2 224 (dk_at s155_0 3 rfl rfl)) rfl
theorem f155_6 : ft 155 6 = some (9, 0, 0, .if_icmp .ge 16, 3) := Fm155 (dk_162 0 16 (dk_at s155_0 6 rfl rfl)) rfl
theorem f155_9 : ft 155 9 = some (9, 0, 0, .aload_n 0, 1) := Fm155 (dk_42 (dk_at s155_0 9 rfl rfl)) rfl
theorem f155_10 : ft 155 10 = some (9, 0, 0, .getfield 14, 3) := Fm155 (dk_180 0 14 (dk_at s155_0 10 rfl rfl)) rfl
theorem f155_13 : ft 155 13 = some (9, 0, 0, .iload_n 2, 1) := Fm155 (dk_28 (dk_at s155_0 13 rfl rfl)) rfl
theorem f155_14 : ft 155 14 = some (9, 0, 0, .iconst 0, 1) := Fm155 (dk_3 (dk_at s155_0 14 rfl rfl)) rfl
theorem f155_15 : ft 155 15 = some (9, 0, 0, .bastore, 1) := Fm155 (dk_84 (dk_at s155_0 15 rfl rfl)) rfl
theorem f155_16 : ft 155 16 = some (9, 0, 0, .iinc 2 1, 3) := Fm155 (dk_132 2 1 (dk_at s155_0 16 rfl rfl)) rfl
theorem f155_19 : ft 155 19 = some (9, 0, 0, .goto (-17), 3) := Fm155 (dk_167 255 239 (dk_at s155_0 19 rfl rfl)) rfl
theorem f155_22 : ft 155 22 = some (9, 0, 0, .aload_n 0, 1) := Fm155 (dk_42 (dk_at s155_0 22 rfl rfl)) rfl
theorem f155_23 : ft 155 23 = some (9, 0, 0, .getfield 14, 3) := Fm155 (dk_180 0 14 (dk_at s155_1 0 rfl rfl)) rfl
theorem f155_26 : ft 155 26 = some (9, 0, 0, .iconst 0, 1) := Fm155 (dk_3 (dk_at s155_1 3 rfl rfl)) rfl
theorem f155_27 : ft 155 27 = some (9, 0, 0, .iload_n 1, 1) := Fm155 (dk_27 (dk_at s155_1 4 rfl rfl)) rfl
theorem f155_28 : ft 155 28 = some (9, 0, 0, .i2b, 1) := Fm155 (dk_145 (dk_at s155_1 5 rfl rfl)) rfl
theorem f155_29 : ft 155 29 = some (9, 0, 0, .bastore, 1) := Fm155 (dk_84 (dk_at s155_1 6 rfl rfl)) rfl
theorem f155_30 : ft 155 30 = some (9, 0, 0, .return_, 1) := Fm155 (dk_177 (dk_at s155_1 7 rfl rfl)) rfl
theorem q155 {d : Nat} {m : Mem} {a0 a1 : Int} (hz : TZ m) : le2 (rn d 155 2 [pR a0, pI a1, pI 0] [] m) (cl d 155 [pR a0, pI a1] m) := by
  refine q_in (n := 3) (L := [pR a0, pI a1, pU]) rfl rfl rfl ?_
  refine r_iconst (p := 1) f155_0 rfl (pinD rfl rfl) ?_
  refine r_isn2 (p := 2) f155_1 rfl rfl ?_
  exact le2_refl _
theorem q155_2 {d : Nat} {m : Mem} {a0 a1 a2 : Int} (hz : TZ m) : le2 (if a2 < 736 then (gd (tg m a0 = 9) <| nm (vl m a0 1) fun v1 => gd (tg m v1 = 153103) <| gd ((0 : Int) ≤ a2 ∧ a2 < ln m v1) <| rn d 155 2 [pR a0, pI a1, pI (w32 (a2 + 1))] [] (mst m v1 a2 (w8 0))) else gd (tg m a0 = 9) <| nm (vl m a0 1) fun v2 => gd (tg m v2 = 153103) <| gd ((0 : Int) ≤ 0 ∧ 0 < ln m v2) <| some (.inl none, (mst m v2 0 (w8 (w8 a1))))) (rn d 155 2 [pR a0, pI a1, pI a2] [] m) := by
  refine r_iln2 (p := 3) f155_2 rfl ?_
  refine r_sipush (p := 6) f155_3 rfl (pinD rfl rfl) ?_
  refine r_icge (t := 22) (p := 9) f155_6 (by decide) rfl rfl ?_ ?_
  · refine r_aln0 (p := 10) f155_9 rfl ?_
    refine le2_gd (fun h4 => ?_)
    refine r_gfR (f := 1) (p := 13) f155_10 rfl rfl rfl (Or.inl h4) rfl ?_
    refine r_nmR (fun v1 ev1 => ?_)
    refine r_iln2 (p := 14) f155_13 rfl ?_
    refine r_iconst (p := 15) f155_14 rfl (pinD rfl rfl) ?_
    refine le2_gd (fun h5 => ?_)
    refine le2_gd (fun h6 => ?_)
    refine r_bastore (p := 16) f155_15 rfl (dj1 (fun x => 1000 ≤ x ∧ x % 1000 = 103 ∧ Nat.testBit (eM 155) (bix x 0) = true) h5 (by decide)) h6 ?_
    refine r_iinc2 (p := 19) f155_16 rfl rfl ?_
    refine r_goto (p := 2) f155_19 (by decide) rfl ?_
    exact le2_refl _
  · refine r_aln0 (p := 23) f155_22 rfl ?_
    refine le2_gd (fun h1 => ?_)
    refine r_gfR (f := 1) (p := 26) f155_23 rfl rfl rfl (Or.inl h1) rfl ?_
    refine r_nmR (fun v2 ev2 => ?_)
    refine r_iconst (p := 27) f155_26 rfl (pinD rfl rfl) ?_
    refine r_iln1 (p := 28) f155_27 rfl ?_
    refine r_i2b (p := 29) f155_28 rfl ?_
    refine le2_gd (fun h2 => ?_)
    refine le2_gd (fun h3 => ?_)
    refine r_bastore (p := 30) f155_29 rfl (dj1 (fun x => 1000 ≤ x ∧ x % 1000 = 103 ∧ Nat.testBit (eM 155) (bix x 0) = true) h2 (by decide)) h3 ?_
    exact r_ret f155_30
/-! 156 PathStore$Disk.set (II)V -/
def w156_0 : List UInt8 := [42, 180, 0, 14, 27, 28, 16, 8, 122, 145, 84, 42, 180, 0, 14, 27, 4, 96, 28, 145, 84, 177]
abbrev u156_0 : List UInt8 := w156_0 ++ []
theorem s156_0 : (prog_5_method_6_code).data.toList.drop 0 = u156_0 := by decide +kernel
theorem Fm156 {pc len : Nat} {i : Instr} (h : decode (prog_5_method_6_code) pc = .ok (i, len)) (hl : len = ilen i len) : ft 156 pc = some (9, 0, 0, i, len) := ft_mk rfl h hl
theorem f156_0 : ft 156 0 = some (9, 0, 0, .aload_n 0, 1) := Fm156 (dk_42 (dk_at s156_0 0 rfl rfl)) rfl
theorem f156_1 : ft 156 1 = some (9, 0, 0, .getfield 14, 3) := Fm156 (dk_180 0 14 (dk_at s156_0 1 rfl rfl)) rfl
theorem f156_4 : ft 156 4 = some (9, 0, 0, .iload_n 1, 1) := Fm156 (dk_27 (dk_at s156_0 4 rfl rfl)) rfl
theorem f156_5 : ft 156 5 = some (9, 0, 0, .iload_n 2, 1) := Fm156 (dk_28 (dk_at s156_0 5 rfl rfl)) rfl
theorem f156_6 : ft 156 6 = some (9, 0, 0, .bipush 8, 2) := Fm156 (dk_16 8 (dk_at s156_0 6 rfl rfl)) rfl
theorem f156_8 : ft 156 8 = some (9, 0, 0, .ishr, 1) := Fm156 (dk_122 (dk_at s156_0 8 rfl rfl)) rfl
theorem f156_9 : ft 156 9 = some (9, 0, 0, .i2b, 1) := Fm156 (dk_145 (dk_at s156_0 9 rfl rfl)) rfl
theorem f156_10 : ft 156 10 = some (9, 0, 0, .bastore, 1) := Fm156 (dk_84 (dk_at s156_0 10 rfl rfl)) rfl
theorem f156_11 : ft 156 11 = some (9, 0, 0, .aload_n 0, 1) := Fm156 (dk_42 (dk_at s156_0 11 rfl rfl)) rfl
theorem f156_12 : ft 156 12 = some (9, 0, 0, .getfield 14, 3) := Fm156 (dk_180 0 14 (dk_at s156_0 12 rfl rfl)) rfl
theorem f156_15 : ft 156 15 = some (9, 0, 0, .iload_n 1, 1) := Fm156 (dk_27 (dk_at s156_0 15 rfl rfl)) rfl
theorem f156_16 : ft 156 16 = some (9, 0, 0, .iconst 1, 1) := Fm156 (dk_4 (dk_at s156_0 16 rfl rfl)) rfl
theorem f156_17 : ft 156 17 = some (9, 0, 0, .iadd, 1) := Fm156 (dk_96 (dk_at s156_0 17 rfl rfl)) rfl
theorem f156_18 : ft 156 18 = some (9, 0, 0, .iload_n 2, 1) := Fm156 (dk_28 (dk_at s156_0 18 rfl rfl)) rfl
theorem f156_19 : ft 156 19 = some (9, 0, 0, .i2b, 1) := Fm156 (dk_145 (dk_at s156_0 19 rfl rfl)) rfl
theorem f156_20 : ft 156 20 = some (9, 0, 0, .bastore, 1) := Fm156 (dk_84 (dk_at s156_0 20 rfl rfl)) rfl
theorem f156_21 : ft 156 21 = some (9, 0, 0, .return_, 1) := Fm156 (dk_177 (dk_at s156_0 21 rfl rfl)) rfl
theorem q156 {d : Nat} {m : Mem} {a0 a1 a2 : Int} (hz : TZ m) : le2 (gd (tg m a0 = 9) <| nm (vl m a0 1) fun v1 => gd (tg m v1 = 153103) <| gd ((0 : Int) ≤ a1 ∧ a1 < ln m v1) <| nm (w32 (a1 + 1)) fun v2 => gd ((0 : Int) ≤ v2 ∧ v2 < ln m v1) <| some (.inl none, (mst (mst m v1 a1 (w8 (w8 (pShr a2 8)))) v1 v2 (w8 (w8 a2))))) (cl d 156 [pR a0, pI a1, pI a2] m) := by
  refine q_in (n := 3) (L := [pR a0, pI a1, pI a2]) rfl rfl rfl ?_
  refine r_aln0 (p := 1) f156_0 rfl ?_
  refine le2_gd (fun h1 => ?_)
  refine r_gfR (f := 1) (p := 4) f156_1 rfl rfl rfl (Or.inl h1) rfl ?_
  refine r_nmR (fun v1 ev1 => ?_)
  refine r_iln1 (p := 5) f156_4 rfl ?_
  refine r_iln2 (p := 6) f156_5 rfl ?_
  refine r_bipush (p := 8) f156_6 rfl (pinD rfl rfl) ?_
  refine r_ishr (p := 9) f156_8 rfl ?_
  refine r_i2b (p := 10) f156_9 rfl ?_
  refine le2_gd (fun h2 => ?_)
  refine le2_gd (fun h3 => ?_)
  refine r_bastore (p := 11) f156_10 rfl (dj1 (fun x => 1000 ≤ x ∧ x % 1000 = 103 ∧ Nat.testBit (eM 156) (bix x 0) = true) h2 (by decide)) h3 ?_
  refine r_aln0 (p := 12) f156_11 rfl ?_
  refine r_gfR (f := 1) (p := 15) f156_12 rfl rfl rfl (Or.inl h1) (Eq.trans (sk_o (ne_oa (dj1 (fun x => x < 100) h1 (by decide)) (dj1 (fun x => ¬ x < 100) h2 (by decide)))) ev1.symm) ?_
  refine r_iln1 (p := 16) f156_15 rfl ?_
  refine r_iconst (p := 17) f156_16 rfl (pinD rfl rfl) ?_
  refine r_iadd (p := 18) f156_17 rfl ?_
  refine r_nmI (fun v2 ev2 => ?_)
  refine r_iln2 (p := 19) f156_18 rfl ?_
  refine r_i2b (p := 20) f156_19 rfl ?_
  refine le2_gd (fun h4 => ?_)
  refine r_bastore (p := 21) f156_20 rfl (dj1 (fun x => 1000 ≤ x ∧ x % 1000 = 103 ∧ Nat.testBit (eM 156) (bix x 0) = true) h2 (by decide)) h4 ?_
  exact r_ret f156_21
/-! 157 PathStore$Disk.seal ([B)V -/
def w157_1 : List UInt8 := [28, 104, 100, 122, 145, 84, 132, 2, 1, 167, 255, 231, 177]
abbrev u157_1 : List UInt8 := w157_1 ++ []
def w157_0 : List UInt8 := [42, 3, 184, 0, 35, 60, 3, 61, 28, 7, 162, 0, 26, 42, 17, 2, 220, 28, 96, 27, 16, 24, 16, 8]
abbrev u157_0 : List UInt8 := w157_0 ++ u157_1
theorem s157_0 : (prog_5_method_3_code).data.toList.drop 0 = u157_0 := by decide +kernel
theorem s157_1 : (prog_5_method_3_code).data.toList.drop 24 = u157_1 := dk_seg s157_0 24 rfl rfl
theorem Fm157 {pc len : Nat} {i : Instr} (h : decode (prog_5_method_3_code) pc = .ok (i, len)) (hl : len = ilen i len) : ft 157 pc = some (9, 0, 0, i, len) := ft_mk rfl h hl
theorem f157_0 : ft 157 0 = some (9, 0, 0, .aload_n 0, 1) := Fm157 (dk_42 (dk_at s157_0 0 rfl rfl)) rfl
theorem f157_1 : ft 157 1 = some (9, 0, 0, .iconst 0, 1) := Fm157 (dk_3 (dk_at s157_0 1 rfl rfl)) rfl
theorem f157_2 : ft 157 2 = some (9, 0, 0, .invokestatic 35, 3) := Fm157 (dk_184 0 35 (dk_at s157_0 2 rfl rfl)) rfl
theorem f157_5 : ft 157 5 = some (9, 0, 0, .istore_n 1, 1) := Fm157 (dk_60 (dk_at s157_0 5 rfl rfl)) rfl
theorem f157_6 : ft 157 6 = some (9, 0, 0, .iconst 0, 1) := Fm157 (dk_3 (dk_at s157_0 6 rfl rfl)) rfl
theorem f157_7 : ft 157 7 = some (9, 0, 0, .istore_n 2, 1) := Fm157 (dk_61 (dk_at s157_0 7 rfl rfl)) rfl
theorem f157_8 : ft 157 8 = some (9, 0, 0, .iload_n 2, 1) := Fm157 (dk_28 (dk_at s157_0 8 rfl rfl)) rfl
theorem f157_9 : ft 157 9 = some (9, 0, 0, .iconst 4, 1) := Fm157 (dk_7 (dk_at s157_0 9 rfl rfl)) rfl
theorem f157_10 : ft 157 10 = some (9, 0, 0, .if_icmp .ge 26, 3) := Fm157 (dk_162 0 26 (dk_at s157_0 10 rfl rfl)) rfl
theorem f157_13 : ft 157 13 = some (9, 0, 0, .aload_n 0, 1) := Fm157 (dk_42 (dk_at s157_0 13 rfl rfl)) rfl
theorem f157_14 : ft 157 14 = some (9, 0, 0, .sipush 732, 3) := Fm157 (dk_17 2 220 (dk_at s157_0 14 rfl rfl)) rfl
theorem f157_17 : ft 157 17 = some (9, 0, 0, .iload_n 2, 1) := Fm157 (dk_28 (dk_at s157_0 17 rfl rfl)) rfl
theorem f157_18 : ft 157 18 = some (9, 0, 0, .iadd, 1) := Fm157 (dk_96 (dk_at s157_0 18 rfl rfl)) rfl
theorem f157_19 : ft 157 19 = some (9, 0, 0, .iload_n 1, 1) := Fm157 (dk_27 (dk_at s157_0 19 rfl rfl)) rfl
theorem f157_20 : ft 157 20 = some (9, 0, 0, .bipush 24, 2) := Fm157 (dk_16 24 (dk_at s157_0 20 rfl rfl)) rfl
theorem f157_22 : ft 157 22 = some (9, 0, 0, .bipush 8, 2) := Fm157 (dk_16 8 (dk_at s157_0 22 rfl rfl)) rfl
theorem f157_24 : ft 157 24 = some (9, 0, 0, .iload_n 2, 1) := Fm157 (dk_28 (dk_at s157_1 0 rfl rfl)) rfl
theorem f157_25 : ft 157 25 = some (9, 0, 0, .imul, 1) := Fm157 (dk_104 (dk_at s157_1 1 rfl rfl)) rfl
theorem f157_26 : ft 157 26 = some (9, 0, 0, .isub, 1) := Fm157 (dk_100 (dk_at s157_1 2 rfl rfl)) rfl
theorem f157_27 : ft 157 27 = some (9, 0, 0, .ishr, 1) := Fm157 (dk_122 (dk_at s157_1 3 rfl rfl)) rfl
theorem f157_28 : ft 157 28 = some (9, 0, 0, .i2b, 1) := Fm157 (dk_145 (dk_at s157_1 4 rfl rfl)) rfl
theorem f157_29 : ft 157 29 = some (9, 0, 0, .bastore, 1) := Fm157 (dk_84 (dk_at s157_1 5 rfl rfl)) rfl
theorem f157_30 : ft 157 30 = some (9, 0, 0, .iinc 2 1, 3) := Fm157 (dk_132 2 1 (dk_at s157_1 6 rfl rfl)) rfl
theorem f157_33 : ft 157 33 = some (9, 0, 0, .goto (-25), 3) := Fm157 (dk_167 255 231 (dk_at s157_1 9 rfl rfl)) rfl
theorem f157_36 : ft 157 36 = some (9, 0, 0, .return_, 1) := Fm157 (dk_177 (dk_at s157_1 12 rfl rfl)) rfl
theorem q157 {d : Nat} {m : Mem} {a0 : Int} (hd : 0 < d) (hz : TZ m) : le2 (bI (cl (d - 1) 158 [pR a0, pI 0] m) fun v1 m1 => rn d 157 8 [pR a0, pI v1, pI 0] [] m1) (cl d 157 [pR a0] m) := by
  refine q_in (n := 3) (L := [pR a0, pU, pU]) rfl rfl rfl ?_
  refine r_aln0 (p := 1) f157_0 rfl ?_
  refine r_iconst (p := 2) f157_1 rfl (pinD rfl rfl) ?_
  refine r_istI (p := 5) f157_2 rfl rfl rfl hd (Nat.le_of_ble_eq_true rfl) rfl rfl rfl (fun _ => rfl) (fun v1 m1 c1 => ?_)
  have hz1 := z_k c1 hz
  refine r_isn1 (p := 6) f157_5 rfl rfl ?_
  refine r_iconst (p := 7) f157_6 rfl (pinD rfl rfl) ?_
  refine r_isn2 (p := 8) f157_7 rfl rfl ?_
  exact le2_refl _
theorem q157_8 {d : Nat} {m : Mem} {a0 a1 a2 : Int} (hz : TZ m) : le2 (if a2 < 4 then (nm (w32 (732 + a2)) fun v1 => gd (tg m a0 = 153103) <| gd ((0 : Int) ≤ v1 ∧ v1 < ln m a0) <| rn d 157 8 [pR a0, pI a1, pI (w32 (a2 + 1))] [] (mst m a0 v1 (w8 (w8 (pShr a1 (w32 (24 - (w32 (8 * a2))))))))) else some (.inl none, m)) (rn d 157 8 [pR a0, pI a1, pI a2] [] m) := by
  refine r_iln2 (p := 9) f157_8 rfl ?_
  refine r_iconst (p := 10) f157_9 rfl (pinD rfl rfl) ?_
  refine r_icge (t := 36) (p := 13) f157_10 (by decide) rfl rfl ?_ ?_
  · refine r_aln0 (p := 14) f157_13 rfl ?_
    refine r_sipush (p := 17) f157_14 rfl (pinD rfl rfl) ?_
    refine r_iln2 (p := 18) f157_17 rfl ?_
    refine r_iadd (p := 19) f157_18 rfl ?_
    refine r_nmI (fun v1 ev1 => ?_)
    refine r_iln1 (p := 20) f157_19 rfl ?_
    refine r_bipush (p := 22) f157_20 rfl (pinD rfl rfl) ?_
    refine r_bipush (p := 24) f157_22 rfl (pinD rfl rfl) ?_
    refine r_iln2 (p := 25) f157_24 rfl ?_
    refine r_imul (p := 26) f157_25 rfl ?_
    refine r_isub (p := 27) f157_26 rfl ?_
    refine r_ishr (p := 28) f157_27 rfl ?_
    refine r_i2b (p := 29) f157_28 rfl ?_
    refine le2_gd (fun h1 => ?_)
    refine le2_gd (fun h2 => ?_)
    refine r_bastore (p := 30) f157_29 rfl (dj1 (fun x => 1000 ≤ x ∧ x % 1000 = 103 ∧ Nat.testBit (eM 157) (bix x 0) = true) h1 (by decide)) h2 ?_
    refine r_iinc2 (p := 33) f157_30 rfl rfl ?_
    refine r_goto (p := 8) f157_33 (by decide) rfl ?_
    exact le2_refl _
  · exact r_ret f157_36
/-! 158 PathStore$Disk.sum ([BI)I -/
def w158_1 : List UInt8 := [132, 3, 1, 167, 255, 235, 28, 172]
abbrev u158_1 : List UInt8 := w158_1 ++ []
def w158_0 : List UInt8 := [16, 17, 61, 3, 62, 29, 17, 2, 220, 162, 0, 20, 16, 31, 28, 104, 42, 27, 29, 96, 51, 96, 61]
abbrev u158_0 : List UInt8 := w158_0 ++ u158_1
theorem s158_0 : (prog_5_method_2_code).data.toList.drop 0 = u158_0 := by decide +kernel
theorem s158_1 : (prog_5_method_2_code).data.toList.drop 23 = u158_1 := dk_seg s158_0 23 rfl rfl
theorem Fm158 {pc len : Nat} {i : Instr} (h : decode (prog_5_method_2_code) pc = .ok (i, len)) (hl : len = ilen i len) : ft 158 pc = some (9, 1, 0, i, len) := ft_mk rfl h hl
theorem f158_0 : ft 158 0 = some (9, 1, 0, .bipush 17, 2) := Fm158 (dk_16 17 (dk_at s158_0 0 rfl rfl)) rfl
theorem f158_2 : ft 158 2 = some (9, 1, 0, .istore_n 2, 1) := Fm158 (dk_61 (dk_at s158_0 2 rfl rfl)) rfl
theorem f158_3 : ft 158 3 = some (9, 1, 0, .iconst 0, 1) := Fm158 (dk_3 (dk_at s158_0 3 rfl rfl)) rfl
theorem f158_4 : ft 158 4 = some (9, 1, 0, .istore_n 3, 1) := Fm158 (dk_62 (dk_at s158_0 4 rfl rfl)) rfl
theorem f158_5 : ft 158 5 = some (9, 1, 0, .iload_n 3, 1) := Fm158 (dk_29 (dk_at s158_0 5 rfl rfl)) rfl
theorem f158_6 : ft 158 6 = some (9, 1, 0, .sipush 732, 3) := Fm158 (dk_17 2 220 (dk_at s158_0 6 rfl rfl)) rfl
theorem f158_9 : ft 158 9 = some (9, 1, 0, .if_icmp .ge 20, 3) := Fm158 (dk_162 0 20 (dk_at s158_0 9 rfl rfl)) rfl
theorem f158_12 : ft 158 12 = some (9, 1, 0, .bipush 31, 2) := Fm158 (dk_16 31 (dk_at s158_0 12 rfl rfl)) rfl
theorem f158_14 : ft 158 14 = some (9, 1, 0, .iload_n 2, 1) := Fm158 (dk_28 (dk_at s158_0 14 rfl rfl)) rfl
theorem f158_15 : ft 158 15 = some (9, 1, 0, .imul, 1) := Fm158 (dk_104 (dk_at s158_0 15 rfl rfl)) rfl
theorem f158_16 : ft 158 16 = some (9, 1, 0, .aload_n 0, 1) := Fm158 (dk_42 (dk_at s158_0 16 rfl rfl)) rfl
theorem f158_17 : ft 158 17 = some (9, 1, 0, .iload_n 1, 1) := Fm158 (dk_27 (dk_at s158_0 17 rfl rfl)) rfl
theorem f158_18 : ft 158 18 = some (9, 1, 0, .iload_n 3, 1) := Fm158 (dk_29 (dk_at s158_0 18 rfl rfl)) rfl
theorem f158_19 : ft 158 19 = some (9, 1, 0, .iadd, 1) := Fm158 (dk_96 (dk_at s158_0 19 rfl rfl)) rfl
theorem f158_20 : ft 158 20 = some (9, 1, 0, .baload, 1) := Fm158 (dk_51 (dk_at s158_0 20 rfl rfl)) rfl
theorem f158_21 : ft 158 21 = some (9, 1, 0, .iadd, 1) := Fm158 (dk_96 (dk_at s158_0 21 rfl rfl)) rfl
theorem f158_22 : ft 158 22 = some (9, 1, 0, .istore_n 2, 1) := Fm158 (dk_61 (dk_at s158_0 22 rfl rfl)) rfl
theorem f158_23 : ft 158 23 = some (9, 1, 0, .iinc 3 1, 3) := Fm158 (dk_132 3 1 (dk_at s158_1 0 rfl rfl)) rfl
theorem f158_26 : ft 158 26 = some (9, 1, 0, .goto (-21), 3) := Fm158 (dk_167 255 235 (dk_at s158_1 3 rfl rfl)) rfl
theorem f158_29 : ft 158 29 = some (9, 1, 0, .iload_n 2, 1) := Fm158 (dk_28 (dk_at s158_1 6 rfl rfl)) rfl
theorem f158_30 : ft 158 30 = some (9, 1, 0, .ireturn, 1) := Fm158 (dk_172 (dk_at s158_1 7 rfl rfl)) rfl
theorem q158 {d : Nat} {m : Mem} {a0 a1 : Int} (hz : TZ m) : le2 (rn d 158 5 [pR a0, pI a1, pI 17, pI 0] [] m) (cl d 158 [pR a0, pI a1] m) := by
  refine q_in (n := 4) (L := [pR a0, pI a1, pU, pU]) rfl rfl rfl ?_
  refine r_bipush (p := 2) f158_0 rfl (pinD rfl rfl) ?_
  refine r_isn2 (p := 3) f158_2 rfl rfl ?_
  refine r_iconst (p := 4) f158_3 rfl (pinD rfl rfl) ?_
  refine r_isn3 (p := 5) f158_4 rfl rfl ?_
  exact le2_refl _
theorem q158_5 {d : Nat} {m : Mem} {a0 a1 a2 a3 : Int} (hz : TZ m) : le2 (if a3 < 732 then (nm (w32 (a1 + a3)) fun v1 => gd (tg m a0 = 153103) <| gd ((0 : Int) ≤ v1 ∧ v1 < ln m a0) <| rn d 158 5 [pR a0, pI a1, pI (w32 ((w32 (31 * a2)) + (vl m a0 v1))), pI (w32 (a3 + 1))] [] m) else some (.inl (some (pI a2)), m)) (rn d 158 5 [pR a0, pI a1, pI a2, pI a3] [] m) := by
  refine r_iln3 (p := 6) f158_5 rfl ?_
  refine r_sipush (p := 9) f158_6 rfl (pinD rfl rfl) ?_
  refine r_icge (t := 29) (p := 12) f158_9 (by decide) rfl rfl ?_ ?_
  · refine r_bipush (p := 14) f158_12 rfl (pinD rfl rfl) ?_
    refine r_iln2 (p := 15) f158_14 rfl ?_
    refine r_imul (p := 16) f158_15 rfl ?_
    refine r_aln0 (p := 17) f158_16 rfl ?_
    refine r_iln1 (p := 18) f158_17 rfl ?_
    refine r_iln3 (p := 19) f158_18 rfl ?_
    refine r_iadd (p := 20) f158_19 rfl ?_
    refine r_nmI (fun v1 ev1 => ?_)
    refine le2_gd (fun h1 => ?_)
    refine le2_gd (fun h2 => ?_)
    refine r_baload (p := 21) f158_20 rfl (dj1 (fun x => x % 1000 = 103 ∨ x % 1000 = 105) h1 (by decide)) h2 rfl ?_
    refine r_iadd (p := 22) f158_21 rfl ?_
    refine r_isn2 (p := 23) f158_22 rfl rfl ?_
    refine r_iinc3 (p := 26) f158_23 rfl rfl ?_
    refine r_goto (p := 5) f158_26 (by decide) rfl ?_
    exact le2_refl _
  · refine r_iln2 (p := 30) f158_29 rfl ?_
    exact r_iret1 f158_30
/-! 159 PathStore$Disk.header (I)Z -/
def w159_1 : List UInt8 := [167, 0, 4, 3, 172]
abbrev u159_1 : List UInt8 := w159_1 ++ []
def w159_0 : List UInt8 := [42, 180, 0, 10, 27, 17, 2, 224, 104, 51, 7, 160, 0, 15, 42, 27, 182, 0, 145, 153, 0, 7, 4]
abbrev u159_0 : List UInt8 := w159_0 ++ u159_1
theorem s159_0 : (prog_5_method_28_code).data.toList.drop 0 = u159_0 := by decide +kernel
theorem s159_1 : (prog_5_method_28_code).data.toList.drop 23 = u159_1 := dk_seg s159_0 23 rfl rfl
theorem Fm159 {pc len : Nat} {i : Instr} (h : decode (prog_5_method_28_code) pc = .ok (i, len)) (hl : len = ilen i len) : ft 159 pc = some (9, 4, 0, i, len) := ft_mk rfl h hl
theorem f159_0 : ft 159 0 = some (9, 4, 0, .aload_n 0, 1) := Fm159 (dk_42 (dk_at s159_0 0 rfl rfl)) rfl
theorem f159_1 : ft 159 1 = some (9, 4, 0, .getfield 10, 3) := Fm159 (dk_180 0 10 (dk_at s159_0 1 rfl rfl)) rfl
theorem f159_4 : ft 159 4 = some (9, 4, 0, .iload_n 1, 1) := Fm159 (dk_27 (dk_at s159_0 4 rfl rfl)) rfl
theorem f159_5 : ft 159 5 = some (9, 4, 0, .sipush 736, 3) := Fm159 (dk_17 2 224 (dk_at s159_0 5 rfl rfl)) rfl
theorem f159_8 : ft 159 8 = some (9, 4, 0, .imul, 1) := Fm159 (dk_104 (dk_at s159_0 8 rfl rfl)) rfl
theorem f159_9 : ft 159 9 = some (9, 4, 0, .baload, 1) := Fm159 (dk_51 (dk_at s159_0 9 rfl rfl)) rfl
theorem f159_10 : ft 159 10 = some (9, 4, 0, .iconst 4, 1) := Fm159 (dk_7 (dk_at s159_0 10 rfl rfl)) rfl
theorem f159_11 : ft 159 11 = some (9, 4, 0, .if_icmp .ne 15, 3) := Fm159 (dk_160 0 15 (dk_at s159_0 11 rfl rfl)) rfl
theorem f159_14 : ft 159 14 = some (9, 4, 0, .aload_n 0, 1) := Fm159 (dk_42 (dk_at s159_0 14 rfl rfl)) rfl
theorem f159_15 : ft 159 15 = some (9, 4, 0, .iload_n 1, 1) := Fm159 (dk_27 (dk_at s159_0 15 rfl rfl)) rfl
theorem f159_16 : ft 159 16 = some (9, 4, 0, .invokevirtual 145, 3) := Fm159 (dk_182 0 145 (dk_at s159_0 16 rfl rfl)) rfl
theorem f159_19 : ft 159 19 = some (9, 4, 0, .ifCond .eq 7, 3) := Fm159 (dk_153 0 7 (dk_at s159_0 19 rfl rfl)) rfl
theorem f159_22 : ft 159 22 = some (9, 4, 0, .iconst 1, 1) := Fm159 (dk_4 (dk_at s159_0 22 rfl rfl)) rfl
theorem f159_23 : ft 159 23 = some (9, 4, 0, .goto 4, 3) := Fm159 (dk_167 0 4 (dk_at s159_1 0 rfl rfl)) rfl
theorem f159_26 : ft 159 26 = some (9, 4, 0, .iconst 0, 1) := Fm159 (dk_3 (dk_at s159_1 3 rfl rfl)) rfl
theorem f159_27 : ft 159 27 = some (9, 4, 0, .ireturn, 1) := Fm159 (dk_172 (dk_at s159_1 4 rfl rfl)) rfl
theorem q159 {d : Nat} {m : Mem} {a0 a1 : Int} (hd : 0 < d) (hz : TZ m) : le2 (gd (tg m a0 = 9) <| nm (vl m a0 0) fun v2 => nm (w32 (a1 * 736)) fun v3 => gd (tg m v2 = 153103) <| gd ((0 : Int) ≤ v3 ∧ v3 < ln m v2) <| if (vl m v2 v3) = 4 then (bI (cl (d - 1) 160 [pR a0, pI a1] m) fun v1 m1 => if v1 = 0 then (some (.inl (some (pI 0)), m1)) else some (.inl (some (pI 1)), m1)) else some (.inl (some (pI 0)), m)) (cl d 159 [pR a0, pI a1] m) := by
  refine q_in (n := 2) (L := [pR a0, pI a1]) rfl rfl rfl ?_
  refine r_aln0 (p := 1) f159_0 rfl ?_
  refine le2_gd (fun h1 => ?_)
  refine r_gfR (f := 0) (p := 4) f159_1 rfl rfl rfl (Or.inl h1) rfl ?_
  refine r_nmR (fun v2 ev2 => ?_)
  refine r_iln1 (p := 5) f159_4 rfl ?_
  refine r_sipush (p := 8) f159_5 rfl (pinD rfl rfl) ?_
  refine r_imul (p := 9) f159_8 rfl ?_
  refine r_nmI (fun v3 ev3 => ?_)
  refine le2_gd (fun h2 => ?_)
  refine le2_gd (fun h3 => ?_)
  refine r_baload (p := 10) f159_9 rfl (dj1 (fun x => x % 1000 = 103 ∨ x % 1000 = 105) h2 (by decide)) h3 rfl ?_
  refine r_iconst (p := 11) f159_10 rfl (pinD rfl rfl) ?_
  refine r_icne (t := 26) (p := 14) f159_11 (by decide) rfl rfl ?_ ?_
  · refine r_aln0 (p := 15) f159_14 rfl ?_
    refine r_iln1 (p := 16) f159_15 rfl ?_
    refine r_invI (p := 19) f159_16 rfl rfl rfl (Or.inl h1) hd (Nat.le_of_ble_eq_true rfl) rfl rfl rfl (fun _ => rfl) (fun v1 m1 c1 => ?_)
    have hz1 := z_k c1 hz
    refine r_ifeq (t := 26) (p := 22) f159_19 (by decide) rfl rfl ?_ ?_
    · refine r_iconst (p := 27) f159_26 rfl (pinD rfl rfl) ?_
      exact r_iret4 f159_27 (by decide)
    · refine r_iconst (p := 23) f159_22 rfl (pinD rfl rfl) ?_
      refine r_goto (p := 27) f159_23 (by decide) rfl ?_
      exact r_iret4 f159_27 (by decide)
  · refine r_iconst (p := 27) f159_26 rfl (pinD rfl rfl) ?_
    exact r_iret4 f159_27 (by decide)
/-! 160 PathStore$Disk.sealed (I)Z -/
def w160_2 : List UInt8 := [159, 0, 5, 3, 172, 132, 3, 1, 167, 255, 215, 4, 172]
abbrev u160_2 : List UInt8 := w160_2 ++ []
def w160_1 : List UInt8 := [27, 17, 2, 224, 104, 17, 2, 224, 96, 7, 100, 29, 96, 51, 28, 16, 24, 16, 8, 29, 104, 100, 122, 145]
abbrev u160_1 : List UInt8 := w160_1 ++ u160_2
def w160_0 : List UInt8 := [42, 180, 0, 10, 27, 17, 2, 224, 104, 184, 0, 35, 61, 3, 62, 29, 7, 162, 0, 42, 42, 180, 0, 10]
abbrev u160_0 : List UInt8 := w160_0 ++ u160_1
theorem s160_0 : (prog_5_method_4_code).data.toList.drop 0 = u160_0 := by decide +kernel
theorem s160_1 : (prog_5_method_4_code).data.toList.drop 24 = u160_1 := dk_seg s160_0 24 rfl rfl
theorem s160_2 : (prog_5_method_4_code).data.toList.drop 48 = u160_2 := dk_seg s160_1 24 rfl rfl
theorem Fm160 {pc len : Nat} {i : Instr} (h : decode (prog_5_method_4_code) pc = .ok (i, len)) (hl : len = ilen i len) : ft 160 pc = some (9, 4, 0, i, len) := ft_mk rfl h hl
theorem f160_0 : ft 160 0 = some (9, 4, 0, .aload_n 0, 1) := Fm160 (dk_42 (dk_at s160_0 0 rfl rfl)) rfl
theorem f160_1 : ft 160 1 = some (9, 4, 0, .getfield 10, 3) := Fm160 (dk_180 0 10 (dk_at s160_0 1 rfl rfl)) rfl
theorem f160_4 : ft 160 4 = some (9, 4, 0, .iload_n 1, 1) := Fm160 (dk_27 (dk_at s160_0 4 rfl rfl)) rfl
theorem f160_5 : ft 160 5 = some (9, 4, 0, .sipush 736, 3) := Fm160 (dk_17 2 224 (dk_at s160_0 5 rfl rfl)) rfl
theorem f160_8 : ft 160 8 = some (9, 4, 0, .imul, 1) := Fm160 (dk_104 (dk_at s160_0 8 rfl rfl)) rfl
theorem f160_9 : ft 160 9 = some (9, 4, 0, .invokestatic 35, 3) := Fm160 (dk_184 0 35 (dk_at s160_0 9 rfl rfl)) rfl
theorem f160_12 : ft 160 12 = some (9, 4, 0, .istore_n 2, 1) := Fm160 (dk_61 (dk_at s160_0 12 rfl rfl)) rfl
theorem f160_13 : ft 160 13 = some (9, 4, 0, .iconst 0, 1) := Fm160 (dk_3 (dk_at s160_0 13 rfl rfl)) rfl
theorem f160_14 : ft 160 14 = some (9, 4, 0, .istore_n 3, 1) := Fm160 (dk_62 (dk_at s160_0 14 rfl rfl)) rfl
theorem f160_15 : ft 160 15 = some (9, 4, 0, .iload_n 3, 1) := Fm160 (dk_29 (dk_at s160_0 15 rfl rfl)) rfl
theorem f160_16 : ft 160 16 = some (9, 4, 0, .iconst 4, 1) := Fm160 (dk_7 (dk_at s160_0 16 rfl rfl)) rfl
theorem f160_17 : ft 160 17 = some (9, 4, 0, .if_icmp .ge 42, 3) := Fm160 (dk_162 0 42 (dk_at s160_0 17 rfl rfl)) rfl
theorem f160_20 : ft 160 20 = some (9, 4, 0, .aload_n 0, 1) := Fm160 (dk_42 (dk_at s160_0 20 rfl rfl)) rfl
theorem f160_21 : ft 160 21 = some (9, 4, 0, .getfield 10, 3) := Fm160 (dk_180 0 10 (dk_at s160_0 21 rfl rfl)) rfl
theorem f160_24 : ft 160 24 = some (9, 4, 0, .iload_n 1, 1) := Fm160 (dk_27 (dk_at s160_1 0 rfl rfl)) rfl
theorem f160_25 : ft 160 25 = some (9, 4, 0, .sipush 736, 3) := Fm160 (dk_17 2 224 (dk_at s160_1 1 rfl rfl)) rfl
theorem f160_28 : ft 160 28 = some (9, 4, 0, .imul, 1) := Fm160 (dk_104 (dk_at s160_1 4 rfl rfl)) rfl
theorem f160_29 : ft 160 29 = some (9, 4, 0, .sipush 736, 3) := Fm160 (dk_17 2 224 (dk_at s160_1 5 rfl rfl)) rfl
theorem f160_32 : ft 160 32 = some (9, 4, 0, .iadd, 1) := Fm160 (dk_96 (dk_at s160_1 8 rfl rfl)) rfl
theorem f160_33 : ft 160 33 = some (9, 4, 0, .iconst 4, 1) := Fm160 (dk_7 (dk_at s160_1 9 rfl rfl)) rfl
theorem f160_34 : ft 160 34 = some (9, 4, 0, .isub, 1) := Fm160 (dk_100 (dk_at s160_1 10 rfl rfl)) rfl
theorem f160_35 : ft 160 35 = some (9, 4, 0, .iload_n 3, 1) := Fm160 (dk_29 (dk_at s160_1 11 rfl rfl)) rfl
theorem f160_36 : ft 160 36 = some (9, 4, 0, .iadd, 1) := Fm160 (dk_96 (dk_at s160_1 12 rfl rfl)) rfl
theorem f160_37 : ft 160 37 = some (9, 4, 0, .baload, 1) := Fm160 (dk_51 (dk_at s160_1 13 rfl rfl)) rfl
theorem f160_38 : ft 160 38 = some (9, 4, 0, .iload_n 2, 1) := Fm160 (dk_28 (dk_at s160_1 14 rfl rfl)) rfl
theorem f160_39 : ft 160 39 = some (9, 4, 0, .bipush 24, 2) := Fm160 (dk_16 24 (dk_at s160_1 15 rfl rfl)) rfl
theorem f160_41 : ft 160 41 = some (9, 4, 0, .bipush 8, 2) := Fm160 (dk_16 8 (dk_at s160_1 17 rfl rfl)) rfl
theorem f160_43 : ft 160 43 = some (9, 4, 0, .iload_n 3, 1) := Fm160 (dk_29 (dk_at s160_1 19 rfl rfl)) rfl
theorem f160_44 : ft 160 44 = some (9, 4, 0, .imul, 1) := Fm160 (dk_104 (dk_at s160_1 20 rfl rfl)) rfl
theorem f160_45 : ft 160 45 = some (9, 4, 0, .isub, 1) := Fm160 (dk_100 (dk_at s160_1 21 rfl rfl)) rfl
theorem f160_46 : ft 160 46 = some (9, 4, 0, .ishr, 1) := Fm160 (dk_122 (dk_at s160_1 22 rfl rfl)) rfl
theorem f160_47 : ft 160 47 = some (9, 4, 0, .i2b, 1) := Fm160 (dk_145 (dk_at s160_1 23 rfl rfl)) rfl
theorem f160_48 : ft 160 48 = some (9, 4, 0, .if_icmp .eq 5, 3) := Fm160 (dk_159 0 5 (dk_at s160_2 0 rfl rfl)) rfl
theorem f160_51 : ft 160 51 = some (9, 4, 0, .iconst 0, 1) := Fm160 (dk_3 (dk_at s160_2 3 rfl rfl)) rfl
theorem f160_52 : ft 160 52 = some (9, 4, 0, .ireturn, 1) := Fm160 (dk_172 (dk_at s160_2 4 rfl rfl)) rfl
theorem f160_53 : ft 160 53 = some (9, 4, 0, .iinc 3 1, 3) := Fm160 (dk_132 3 1 (dk_at s160_2 5 rfl rfl)) rfl
theorem f160_56 : ft 160 56 = some (9, 4, 0, .goto (-41), 3) := Fm160 (dk_167 255 215 (dk_at s160_2 8 rfl rfl)) rfl
theorem f160_59 : ft 160 59 = some (9, 4, 0, .iconst 1, 1) := Fm160 (dk_4 (dk_at s160_2 11 rfl rfl)) rfl
theorem f160_60 : ft 160 60 = some (9, 4, 0, .ireturn, 1) := Fm160 (dk_172 (dk_at s160_2 12 rfl rfl)) rfl
theorem q160 {d : Nat} {m : Mem} {a0 a1 : Int} (hd : 0 < d) (hz : TZ m) : le2 (gd (tg m a0 = 9) <| bI (cl (d - 1) 158 [pR (vl m a0 0), pI (w32 (a1 * 736))] m) fun v1 m1 => rn d 160 15 [pR a0, pI a1, pI v1, pI 0] [] m1) (cl d 160 [pR a0, pI a1] m) := by
  refine q_in (n := 4) (L := [pR a0, pI a1, pU, pU]) rfl rfl rfl ?_
  refine r_aln0 (p := 1) f160_0 rfl ?_
  refine le2_gd (fun h1 => ?_)
  refine r_gfR (f := 0) (p := 4) f160_1 rfl rfl rfl (Or.inl h1) rfl ?_
  refine r_iln1 (p := 5) f160_4 rfl ?_
  refine r_sipush (p := 8) f160_5 rfl (pinD rfl rfl) ?_
  refine r_imul (p := 9) f160_8 rfl ?_
  refine r_istI (p := 12) f160_9 rfl rfl rfl hd (Nat.le_of_ble_eq_true rfl) rfl rfl rfl (fun _ => rfl) (fun v1 m1 c1 => ?_)
  have hz1 := z_k c1 hz
  refine r_isn2 (p := 13) f160_12 rfl rfl ?_
  refine r_iconst (p := 14) f160_13 rfl (pinD rfl rfl) ?_
  refine r_isn3 (p := 15) f160_14 rfl rfl ?_
  exact le2_refl _
theorem q160_15 {d : Nat} {m : Mem} {a0 a1 a2 a3 : Int} (hz : TZ m) : le2 (if a3 < 4 then (gd (tg m a0 = 9) <| nm (vl m a0 0) fun v1 => nm (w32 ((w32 ((w32 ((w32 (a1 * 736)) + 736)) - 4)) + a3)) fun v2 => gd (tg m v1 = 153103) <| gd ((0 : Int) ≤ v2 ∧ v2 < ln m v1) <| if (vl m v1 v2) = (w8 (pShr a2 (w32 (24 - (w32 (8 * a3)))))) then (rn d 160 15 [pR a0, pI a1, pI a2, pI (w32 (a3 + 1))] [] m) else some (.inl (some (pI 0)), m)) else some (.inl (some (pI 1)), m)) (rn d 160 15 [pR a0, pI a1, pI a2, pI a3] [] m) := by
  refine r_iln3 (p := 16) f160_15 rfl ?_
  refine r_iconst (p := 17) f160_16 rfl (pinD rfl rfl) ?_
  refine r_icge (t := 59) (p := 20) f160_17 (by decide) rfl rfl ?_ ?_
  · refine r_aln0 (p := 21) f160_20 rfl ?_
    refine le2_gd (fun h1 => ?_)
    refine r_gfR (f := 0) (p := 24) f160_21 rfl rfl rfl (Or.inl h1) rfl ?_
    refine r_nmR (fun v1 ev1 => ?_)
    refine r_iln1 (p := 25) f160_24 rfl ?_
    refine r_sipush (p := 28) f160_25 rfl (pinD rfl rfl) ?_
    refine r_imul (p := 29) f160_28 rfl ?_
    refine r_sipush (p := 32) f160_29 rfl (pinD rfl rfl) ?_
    refine r_iadd (p := 33) f160_32 rfl ?_
    refine r_iconst (p := 34) f160_33 rfl (pinD rfl rfl) ?_
    refine r_isub (p := 35) f160_34 rfl ?_
    refine r_iln3 (p := 36) f160_35 rfl ?_
    refine r_iadd (p := 37) f160_36 rfl ?_
    refine r_nmI (fun v2 ev2 => ?_)
    refine le2_gd (fun h2 => ?_)
    refine le2_gd (fun h3 => ?_)
    refine r_baload (p := 38) f160_37 rfl (dj1 (fun x => x % 1000 = 103 ∨ x % 1000 = 105) h2 (by decide)) h3 rfl ?_
    refine r_iln2 (p := 39) f160_38 rfl ?_
    refine r_bipush (p := 41) f160_39 rfl (pinD rfl rfl) ?_
    refine r_bipush (p := 43) f160_41 rfl (pinD rfl rfl) ?_
    refine r_iln3 (p := 44) f160_43 rfl ?_
    refine r_imul (p := 45) f160_44 rfl ?_
    refine r_isub (p := 46) f160_45 rfl ?_
    refine r_ishr (p := 47) f160_46 rfl ?_
    refine r_i2b (p := 48) f160_47 rfl ?_
    refine r_iceq (t := 53) (p := 51) f160_48 (by decide) rfl rfl ?_ ?_
    · refine r_iinc3 (p := 56) f160_53 rfl rfl ?_
      refine r_goto (p := 15) f160_56 (by decide) rfl ?_
      exact le2_refl _
    · refine r_iconst (p := 52) f160_51 rfl (pinD rfl rfl) ?_
      exact r_iret4 f160_52 (by decide)
  · refine r_iconst (p := 60) f160_59 rfl (pinD rfl rfl) ?_
    exact r_iret4 f160_60 (by decide)
/-! 161 PathStore$Disk.sequence (I)I -/
def w161_0 : List UInt8 := [42, 27, 4, 182, 0, 74, 16, 16, 120, 42, 27, 6, 182, 0, 74, 128, 172]
abbrev u161_0 : List UInt8 := w161_0 ++ []
theorem s161_0 : (prog_5_method_29_code).data.toList.drop 0 = u161_0 := by decide +kernel
theorem Fm161 {pc len : Nat} {i : Instr} (h : decode (prog_5_method_29_code) pc = .ok (i, len)) (hl : len = ilen i len) : ft 161 pc = some (9, 1, 0, i, len) := ft_mk rfl h hl
theorem f161_0 : ft 161 0 = some (9, 1, 0, .aload_n 0, 1) := Fm161 (dk_42 (dk_at s161_0 0 rfl rfl)) rfl
theorem f161_1 : ft 161 1 = some (9, 1, 0, .iload_n 1, 1) := Fm161 (dk_27 (dk_at s161_0 1 rfl rfl)) rfl
theorem f161_2 : ft 161 2 = some (9, 1, 0, .iconst 1, 1) := Fm161 (dk_4 (dk_at s161_0 2 rfl rfl)) rfl
theorem f161_3 : ft 161 3 = some (9, 1, 0, .invokevirtual 74, 3) := Fm161 (dk_182 0 74 (dk_at s161_0 3 rfl rfl)) rfl
theorem f161_6 : ft 161 6 = some (9, 1, 0, .bipush 16, 2) := Fm161 (dk_16 16 (dk_at s161_0 6 rfl rfl)) rfl
theorem f161_8 : ft 161 8 = some (9, 1, 0, .ishl, 1) := Fm161 (dk_120 (dk_at s161_0 8 rfl rfl)) rfl
theorem f161_9 : ft 161 9 = some (9, 1, 0, .aload_n 0, 1) := Fm161 (dk_42 (dk_at s161_0 9 rfl rfl)) rfl
theorem f161_10 : ft 161 10 = some (9, 1, 0, .iload_n 1, 1) := Fm161 (dk_27 (dk_at s161_0 10 rfl rfl)) rfl
theorem f161_11 : ft 161 11 = some (9, 1, 0, .iconst 3, 1) := Fm161 (dk_6 (dk_at s161_0 11 rfl rfl)) rfl
theorem f161_12 : ft 161 12 = some (9, 1, 0, .invokevirtual 74, 3) := Fm161 (dk_182 0 74 (dk_at s161_0 12 rfl rfl)) rfl
theorem f161_15 : ft 161 15 = some (9, 1, 0, .ior, 1) := Fm161 (dk_128 (dk_at s161_0 15 rfl rfl)) rfl
theorem f161_16 : ft 161 16 = some (9, 1, 0, .ireturn, 1) := Fm161 (dk_172 (dk_at s161_0 16 rfl rfl)) rfl
theorem q161 {d : Nat} {m : Mem} {a0 a1 : Int} (hd : 0 < d) (hz : TZ m) : le2 (gd (tg m a0 = 9) <| bI (cl (d - 1) 162 [pR a0, pI a1, pI 1] m) fun v1 m1 => bI (cl (d - 1) 162 [pR a0, pI a1, pI 3] m1) fun v2 m2 => some (.inl (some (pI (pOr (pShl v1 16) v2))), m2)) (cl d 161 [pR a0, pI a1] m) := by
  refine q_in (n := 2) (L := [pR a0, pI a1]) rfl rfl rfl ?_
  refine r_aln0 (p := 1) f161_0 rfl ?_
  refine r_iln1 (p := 2) f161_1 rfl ?_
  refine r_iconst (p := 3) f161_2 rfl (pinD rfl rfl) ?_
  refine le2_gd (fun h1 => ?_)
  refine r_invI (p := 6) f161_3 rfl rfl rfl (Or.inl h1) hd (Nat.le_of_ble_eq_true rfl) rfl rfl rfl (fun _ => rfl) (fun v1 m1 c1 => ?_)
  have hz1 := z_k c1 hz
  refine r_bipush (p := 8) f161_6 rfl (pinD rfl rfl) ?_
  refine r_ishl (p := 9) f161_8 rfl ?_
  refine r_aln0 (p := 10) f161_9 rfl ?_
  refine r_iln1 (p := 11) f161_10 rfl ?_
  refine r_iconst (p := 12) f161_11 rfl (pinD rfl rfl) ?_
  have h2 := k_t1 c1 hz h1 (by decide)
  refine r_invI (p := 15) f161_12 rfl rfl rfl (Or.inl h2) hd (Nat.le_of_ble_eq_true rfl) rfl rfl rfl (fun _ => rfl) (fun v2 m2 c2 => ?_)
  have hz2 := z_k c2 hz1
  refine r_ior (p := 16) f161_15 rfl ?_
  exact r_iret1 f161_16
/-! 162 PathStore$Disk.two (II)I -/
def w162_1 : List UInt8 := [17, 2, 224, 104, 28, 96, 4, 96, 51, 17, 0, 255, 126, 128, 172]
abbrev u162_1 : List UInt8 := w162_1 ++ []
def w162_0 : List UInt8 := [42, 180, 0, 10, 27, 17, 2, 224, 104, 28, 96, 51, 17, 0, 255, 126, 16, 8, 120, 42, 180, 0, 10, 27]
abbrev u162_0 : List UInt8 := w162_0 ++ u162_1
theorem s162_0 : (prog_5_method_5_code).data.toList.drop 0 = u162_0 := by decide +kernel
theorem s162_1 : (prog_5_method_5_code).data.toList.drop 24 = u162_1 := dk_seg s162_0 24 rfl rfl
theorem Fm162 {pc len : Nat} {i : Instr} (h : decode (prog_5_method_5_code) pc = .ok (i, len)) (hl : len = ilen i len) : ft 162 pc = some (9, 1, 0, i, len) := ft_mk rfl h hl
theorem f162_0 : ft 162 0 = some (9, 1, 0, .aload_n 0, 1) := Fm162 (dk_42 (dk_at s162_0 0 rfl rfl)) rfl
theorem f162_1 : ft 162 1 = some (9, 1, 0, .getfield 10, 3) := Fm162 (dk_180 0 10 (dk_at s162_0 1 rfl rfl)) rfl
theorem f162_4 : ft 162 4 = some (9, 1, 0, .iload_n 1, 1) := Fm162 (dk_27 (dk_at s162_0 4 rfl rfl)) rfl
theorem f162_5 : ft 162 5 = some (9, 1, 0, .sipush 736, 3) := Fm162 (dk_17 2 224 (dk_at s162_0 5 rfl rfl)) rfl
theorem f162_8 : ft 162 8 = some (9, 1, 0, .imul, 1) := Fm162 (dk_104 (dk_at s162_0 8 rfl rfl)) rfl
theorem f162_9 : ft 162 9 = some (9, 1, 0, .iload_n 2, 1) := Fm162 (dk_28 (dk_at s162_0 9 rfl rfl)) rfl
theorem f162_10 : ft 162 10 = some (9, 1, 0, .iadd, 1) := Fm162 (dk_96 (dk_at s162_0 10 rfl rfl)) rfl
theorem f162_11 : ft 162 11 = some (9, 1, 0, .baload, 1) := Fm162 (dk_51 (dk_at s162_0 11 rfl rfl)) rfl
theorem f162_12 : ft 162 12 = some (9, 1, 0, .sipush 255, 3) := Fm162 (dk_17 0 255 (dk_at s162_0 12 rfl rfl)) rfl
theorem f162_15 : ft 162 15 = some (9, 1, 0, .iand, 1) := Fm162 (dk_126 (dk_at s162_0 15 rfl rfl)) rfl
theorem f162_16 : ft 162 16 = some (9, 1, 0, .bipush 8, 2) := Fm162 (dk_16 8 (dk_at s162_0 16 rfl rfl)) rfl
theorem f162_18 : ft 162 18 = some (9, 1, 0, .ishl, 1) := Fm162 (dk_120 (dk_at s162_0 18 rfl rfl)) rfl
theorem f162_19 : ft 162 19 = some (9, 1, 0, .aload_n 0, 1) := Fm162 (dk_42 (dk_at s162_0 19 rfl rfl)) rfl
theorem f162_20 : ft 162 20 = some (9, 1, 0, .getfield 10, 3) := Fm162 (dk_180 0 10 (dk_at s162_0 20 rfl rfl)) rfl
theorem f162_23 : ft 162 23 = some (9, 1, 0, .iload_n 1, 1) := Fm162 (dk_27 (dk_at s162_0 23 rfl rfl)) rfl
theorem f162_24 : ft 162 24 = some (9, 1, 0, .sipush 736, 3) := Fm162 (dk_17 2 224 (dk_at s162_1 0 rfl rfl)) rfl
theorem f162_27 : ft 162 27 = some (9, 1, 0, .imul, 1) := Fm162 (dk_104 (dk_at s162_1 3 rfl rfl)) rfl
theorem f162_28 : ft 162 28 = some (9, 1, 0, .iload_n 2, 1) := Fm162 (dk_28 (dk_at s162_1 4 rfl rfl)) rfl
theorem f162_29 : ft 162 29 = some (9, 1, 0, .iadd, 1) := Fm162 (dk_96 (dk_at s162_1 5 rfl rfl)) rfl
theorem f162_30 : ft 162 30 = some (9, 1, 0, .iconst 1, 1) := Fm162 (dk_4 (dk_at s162_1 6 rfl rfl)) rfl
theorem f162_31 : ft 162 31 = some (9, 1, 0, .iadd, 1) := Fm162 (dk_96 (dk_at s162_1 7 rfl rfl)) rfl
theorem f162_32 : ft 162 32 = some (9, 1, 0, .baload, 1) := Fm162 (dk_51 (dk_at s162_1 8 rfl rfl)) rfl
theorem f162_33 : ft 162 33 = some (9, 1, 0, .sipush 255, 3) := Fm162 (dk_17 0 255 (dk_at s162_1 9 rfl rfl)) rfl
theorem f162_36 : ft 162 36 = some (9, 1, 0, .iand, 1) := Fm162 (dk_126 (dk_at s162_1 12 rfl rfl)) rfl
theorem f162_37 : ft 162 37 = some (9, 1, 0, .ior, 1) := Fm162 (dk_128 (dk_at s162_1 13 rfl rfl)) rfl
theorem f162_38 : ft 162 38 = some (9, 1, 0, .ireturn, 1) := Fm162 (dk_172 (dk_at s162_1 14 rfl rfl)) rfl
theorem q162 {d : Nat} {m : Mem} {a0 a1 a2 : Int} (hz : TZ m) : le2 (gd (tg m a0 = 9) <| nm (vl m a0 0) fun v1 => nm (w32 ((w32 (a1 * 736)) + a2)) fun v2 => gd (tg m v1 = 153103) <| gd ((0 : Int) ≤ v2 ∧ v2 < ln m v1) <| nm (w32 ((w32 ((w32 (a1 * 736)) + a2)) + 1)) fun v3 => gd ((0 : Int) ≤ v3 ∧ v3 < ln m v1) <| some (.inl (some (pI (pOr (pShl (pAnd (vl m v1 v2) 255) 8) (pAnd (vl m v1 v3) 255)))), m)) (cl d 162 [pR a0, pI a1, pI a2] m) := by
  refine q_in (n := 3) (L := [pR a0, pI a1, pI a2]) rfl rfl rfl ?_
  refine r_aln0 (p := 1) f162_0 rfl ?_
  refine le2_gd (fun h1 => ?_)
  refine r_gfR (f := 0) (p := 4) f162_1 rfl rfl rfl (Or.inl h1) rfl ?_
  refine r_nmR (fun v1 ev1 => ?_)
  refine r_iln1 (p := 5) f162_4 rfl ?_
  refine r_sipush (p := 8) f162_5 rfl (pinD rfl rfl) ?_
  refine r_imul (p := 9) f162_8 rfl ?_
  refine r_iln2 (p := 10) f162_9 rfl ?_
  refine r_iadd (p := 11) f162_10 rfl ?_
  refine r_nmI (fun v2 ev2 => ?_)
  refine le2_gd (fun h2 => ?_)
  refine le2_gd (fun h3 => ?_)
  refine r_baload (p := 12) f162_11 rfl (dj1 (fun x => x % 1000 = 103 ∨ x % 1000 = 105) h2 (by decide)) h3 rfl ?_
  refine r_sipush (p := 15) f162_12 rfl (pinD rfl rfl) ?_
  refine r_iand (p := 16) f162_15 rfl ?_
  refine r_bipush (p := 18) f162_16 rfl (pinD rfl rfl) ?_
  refine r_ishl (p := 19) f162_18 rfl ?_
  refine r_aln0 (p := 20) f162_19 rfl ?_
  refine r_gfR (f := 0) (p := 23) f162_20 rfl rfl rfl (Or.inl h1) ev1.symm ?_
  refine r_iln1 (p := 24) f162_23 rfl ?_
  refine r_sipush (p := 27) f162_24 rfl (pinD rfl rfl) ?_
  refine r_imul (p := 28) f162_27 rfl ?_
  refine r_iln2 (p := 29) f162_28 rfl ?_
  refine r_iadd (p := 30) f162_29 rfl ?_
  refine r_iconst (p := 31) f162_30 rfl (pinD rfl rfl) ?_
  refine r_iadd (p := 32) f162_31 rfl ?_
  refine r_nmI (fun v3 ev3 => ?_)
  refine le2_gd (fun h4 => ?_)
  refine r_baload (p := 33) f162_32 rfl (dj1 (fun x => x % 1000 = 103 ∨ x % 1000 = 105) h2 (by decide)) h4 rfl ?_
  refine r_sipush (p := 36) f162_33 rfl (pinD rfl rfl) ?_
  refine r_iand (p := 37) f162_36 rfl ?_
  refine r_ior (p := 38) f162_37 rfl ?_
  exact r_iret1 f162_38
/-! 163 PathStore$Disk.root (I)I -/
def w163_0 : List UInt8 := [42, 27, 8, 182, 0, 74, 172]
abbrev u163_0 : List UInt8 := w163_0 ++ []
theorem s163_0 : (prog_5_method_30_code).data.toList.drop 0 = u163_0 := by decide +kernel
theorem Fm163 {pc len : Nat} {i : Instr} (h : decode (prog_5_method_30_code) pc = .ok (i, len)) (hl : len = ilen i len) : ft 163 pc = some (9, 1, 0, i, len) := ft_mk rfl h hl
theorem f163_0 : ft 163 0 = some (9, 1, 0, .aload_n 0, 1) := Fm163 (dk_42 (dk_at s163_0 0 rfl rfl)) rfl
theorem f163_1 : ft 163 1 = some (9, 1, 0, .iload_n 1, 1) := Fm163 (dk_27 (dk_at s163_0 1 rfl rfl)) rfl
theorem f163_2 : ft 163 2 = some (9, 1, 0, .iconst 5, 1) := Fm163 (dk_8 (dk_at s163_0 2 rfl rfl)) rfl
theorem f163_3 : ft 163 3 = some (9, 1, 0, .invokevirtual 74, 3) := Fm163 (dk_182 0 74 (dk_at s163_0 3 rfl rfl)) rfl
theorem f163_6 : ft 163 6 = some (9, 1, 0, .ireturn, 1) := Fm163 (dk_172 (dk_at s163_0 6 rfl rfl)) rfl
theorem q163 {d : Nat} {m : Mem} {a0 a1 : Int} (hd : 0 < d) (hz : TZ m) : le2 (gd (tg m a0 = 9) <| bI (cl (d - 1) 162 [pR a0, pI a1, pI 5] m) fun v1 m1 => some (.inl (some (pI v1)), m1)) (cl d 163 [pR a0, pI a1] m) := by
  refine q_in (n := 2) (L := [pR a0, pI a1]) rfl rfl rfl ?_
  refine r_aln0 (p := 1) f163_0 rfl ?_
  refine r_iln1 (p := 2) f163_1 rfl ?_
  refine r_iconst (p := 3) f163_2 rfl (pinD rfl rfl) ?_
  refine le2_gd (fun h1 => ?_)
  refine r_invI (p := 6) f163_3 rfl rfl rfl (Or.inl h1) hd (Nat.le_of_ble_eq_true rfl) rfl rfl rfl (fun _ => rfl) (fun v1 m1 c1 => ?_)
  have hz1 := z_k c1 hz
  exact r_iret1 f163_6
/-! 164 PathStore$Disk.count (I)I -/
def w164_0 : List UInt8 := [42, 27, 16, 7, 182, 0, 74, 172]
abbrev u164_0 : List UInt8 := w164_0 ++ []
theorem s164_0 : (prog_5_method_31_code).data.toList.drop 0 = u164_0 := by decide +kernel
theorem Fm164 {pc len : Nat} {i : Instr} (h : decode (prog_5_method_31_code) pc = .ok (i, len)) (hl : len = ilen i len) : ft 164 pc = some (9, 1, 0, i, len) := ft_mk rfl h hl
theorem f164_0 : ft 164 0 = some (9, 1, 0, .aload_n 0, 1) := Fm164 (dk_42 (dk_at s164_0 0 rfl rfl)) rfl
theorem f164_1 : ft 164 1 = some (9, 1, 0, .iload_n 1, 1) := Fm164 (dk_27 (dk_at s164_0 1 rfl rfl)) rfl
theorem f164_2 : ft 164 2 = some (9, 1, 0, .bipush 7, 2) := Fm164 (dk_16 7 (dk_at s164_0 2 rfl rfl)) rfl
theorem f164_4 : ft 164 4 = some (9, 1, 0, .invokevirtual 74, 3) := Fm164 (dk_182 0 74 (dk_at s164_0 4 rfl rfl)) rfl
theorem f164_7 : ft 164 7 = some (9, 1, 0, .ireturn, 1) := Fm164 (dk_172 (dk_at s164_0 7 rfl rfl)) rfl
theorem q164 {d : Nat} {m : Mem} {a0 a1 : Int} (hd : 0 < d) (hz : TZ m) : le2 (gd (tg m a0 = 9) <| bI (cl (d - 1) 162 [pR a0, pI a1, pI 7] m) fun v1 m1 => some (.inl (some (pI v1)), m1)) (cl d 164 [pR a0, pI a1] m) := by
  refine q_in (n := 2) (L := [pR a0, pI a1]) rfl rfl rfl ?_
  refine r_aln0 (p := 1) f164_0 rfl ?_
  refine r_iln1 (p := 2) f164_1 rfl ?_
  refine r_bipush (p := 4) f164_2 rfl (pinD rfl rfl) ?_
  refine le2_gd (fun h1 => ?_)
  refine r_invI (p := 7) f164_4 rfl rfl rfl (Or.inl h1) hd (Nat.le_of_ble_eq_true rfl) rfl rfl rfl (fun _ => rfl) (fun v1 m1 c1 => ?_)
  have hz1 := z_k c1 hz
  exact r_iret1 f164_7
/-! 165 PathStore$Disk.find (II)I -/
def w165_3 : List UInt8 := [167, 0, 4, 3, 172, 42, 29, 21, 4, 182, 0, 110, 62, 167, 255, 175, 3, 172]
abbrev u165_3 : List UInt8 := w165_3 ++ []
def w165_2 : List UInt8 := [51, 5, 160, 0, 26, 42, 29, 21, 4, 182, 0, 107, 28, 160, 0, 13, 42, 29, 21, 4, 182, 0, 110]
abbrev u165_2 : List UInt8 := w165_2 ++ u165_3
def w165_1 : List UInt8 := [21, 4, 182, 0, 107, 28, 164, 0, 9, 132, 4, 255, 167, 255, 237, 42, 180, 0, 10, 29, 17, 2, 224, 104]
abbrev u165_1 : List UInt8 := w165_1 ++ u165_2
def w165_0 : List UInt8 := [27, 62, 29, 153, 0, 83, 42, 29, 4, 182, 0, 74, 4, 100, 54, 4, 21, 4, 158, 0, 20, 42, 29]
abbrev u165_0 : List UInt8 := w165_0 ++ u165_1
theorem s165_0 : (prog_5_method_16_code).data.toList.drop 0 = u165_0 := by decide +kernel
theorem s165_1 : (prog_5_method_16_code).data.toList.drop 23 = u165_1 := dk_seg s165_0 23 rfl rfl
theorem s165_2 : (prog_5_method_16_code).data.toList.drop 47 = u165_2 := dk_seg s165_1 24 rfl rfl
theorem s165_3 : (prog_5_method_16_code).data.toList.drop 70 = u165_3 := dk_seg s165_2 23 rfl rfl
theorem Fm165 {pc len : Nat} {i : Instr} (h : decode (prog_5_method_16_code) pc = .ok (i, len)) (hl : len = ilen i len) : ft 165 pc = some (9, 1, 0, i, len) := ft_mk rfl h hl
theorem f165_0 : ft 165 0 = some (9, 1, 0, .iload_n 1, 1) := Fm165 (dk_27 (dk_at s165_0 0 rfl rfl)) rfl
theorem f165_1 : ft 165 1 = some (9, 1, 0, .istore_n 3, 1) := Fm165 (dk_62 (dk_at s165_0 1 rfl rfl)) rfl
theorem f165_2 : ft 165 2 = some (9, 1, 0, .iload_n 3, 1) := Fm165 (dk_29 (dk_at s165_0 2 rfl rfl)) rfl
theorem f165_3 : ft 165 3 = some (9, 1, 0, .ifCond .eq 83, 3) := Fm165 (dk_153 0 83 (dk_at s165_0 3 rfl rfl)) rfl
theorem f165_6 : ft 165 6 = some (9, 1, 0, .aload_n 0, 1) := Fm165 (dk_42 (dk_at s165_0 6 rfl rfl)) rfl
theorem f165_7 : ft 165 7 = some (9, 1, 0, .iload_n 3, 1) := Fm165 (dk_29 (dk_at s165_0 7 rfl rfl)) rfl
theorem f165_8 : ft 165 8 = some (9, 1, 0, .iconst 1, 1) := Fm165 (dk_4 (dk_at s165_0 8 rfl rfl)) rfl
theorem f165_9 : ft 165 9 = some (9, 1, 0, .invokevirtual 74, 3) := Fm165 (dk_182 0 74 (dk_at s165_0 9 rfl rfl)) rfl
theorem f165_12 : ft 165 12 = some (9, 1, 0, .iconst 1, 1) := Fm165 (dk_4 (dk_at s165_0 12 rfl rfl)) rfl
theorem f165_13 : ft 165 13 = some (9, 1, 0, .isub, 1) := Fm165 (dk_100 (dk_at s165_0 13 rfl rfl)) rfl
theorem f165_14 : ft 165 14 = some (9, 1, 0, .istore 4, 2) := Fm165 (dk_54 4 (dk_at s165_0 14 rfl rfl)) rfl
theorem f165_16 : ft 165 16 = some (9, 1, 0, .iload 4, 2) := Fm165 (dk_21 4 (dk_at s165_0 16 rfl rfl)) rfl
theorem f165_18 : ft 165 18 = some (9, 1, 0, .ifCond .le 20, 3) := Fm165 (dk_158 0 20 (dk_at s165_0 18 rfl rfl)) rfl
theorem f165_21 : ft 165 21 = some (9, 1, 0, .aload_n 0, 1) := Fm165 (dk_42 (dk_at s165_0 21 rfl rfl)) rfl
theorem f165_22 : ft 165 22 = some (9, 1, 0, .iload_n 3, 1) := Fm165 (dk_29 (dk_at s165_0 22 rfl rfl)) rfl
theorem f165_23 : ft 165 23 = some (9, 1, 0, .iload 4, 2) := Fm165 (dk_21 4 (dk_at s165_1 0 rfl rfl)) rfl
theorem f165_25 : ft 165 25 = some (9, 1, 0, .invokevirtual 107, 3) := Fm165 (dk_182 0 107 (dk_at s165_1 2 rfl rfl)) rfl
theorem f165_28 : ft 165 28 = some (9, 1, 0, .iload_n 2, 1) := Fm165 (dk_28 (dk_at s165_1 5 rfl rfl)) rfl
theorem f165_29 : ft 165 29 = some (9, 1, 0, .if_icmp .le 9, 3) := Fm165 (dk_164 0 9 (dk_at s165_1 6 rfl rfl)) rfl
theorem f165_32 : ft 165 32 = some (9, 1, 0, .iinc 4 (-1), 3) := Fm165 (dk_132 4 255 (dk_at s165_1 9 rfl rfl)) rfl
theorem f165_35 : ft 165 35 = some (9, 1, 0, .goto (-19), 3) := Fm165 (dk_167 255 237 (dk_at s165_1 12 rfl rfl)) rfl
theorem f165_38 : ft 165 38 = some (9, 1, 0, .aload_n 0, 1) := Fm165 (dk_42 (dk_at s165_1 15 rfl rfl)) rfl
theorem f165_39 : ft 165 39 = some (9, 1, 0, .getfield 10, 3) := Fm165 (dk_180 0 10 (dk_at s165_1 16 rfl rfl)) rfl
theorem f165_42 : ft 165 42 = some (9, 1, 0, .iload_n 3, 1) := Fm165 (dk_29 (dk_at s165_1 19 rfl rfl)) rfl
theorem f165_43 : ft 165 43 = some (9, 1, 0, .sipush 736, 3) := Fm165 (dk_17 2 224 (dk_at s165_1 20 rfl rfl)) rfl
theorem f165_46 : ft 165 46 = some (9, 1, 0, .imul, 1) := Fm165 (dk_104 (dk_at s165_1 23 rfl rfl)) rfl
theorem f165_47 : ft 165 47 = some (9, 1, 0, .baload, 1) := Fm165 (dk_51 (dk_at s165_2 0 rfl rfl)) rfl
theorem f165_48 : ft 165 48 = some (9, 1, 0, .iconst 2, 1) := Fm165 (dk_5 (dk_at s165_2 1 rfl rfl)) rfl
theorem f165_49 : ft 165 49 = some (9, 1, 0, .if_icmp .ne 26, 3) := Fm165 (dk_160 0 26 (dk_at s165_2 2 rfl rfl)) rfl
theorem f165_52 : ft 165 52 = some (9, 1, 0, .aload_n 0, 1) := Fm165 (dk_42 (dk_at s165_2 5 rfl rfl)) rfl
theorem f165_53 : ft 165 53 = some (9, 1, 0, .iload_n 3, 1) := Fm165 (dk_29 (dk_at s165_2 6 rfl rfl)) rfl
theorem f165_54 : ft 165 54 = some (9, 1, 0, .iload 4, 2) := Fm165 (dk_21 4 (dk_at s165_2 7 rfl rfl)) rfl
theorem f165_56 : ft 165 56 = some (9, 1, 0, .invokevirtual 107, 3) := Fm165 (dk_182 0 107 (dk_at s165_2 9 rfl rfl)) rfl
theorem f165_59 : ft 165 59 = some (9, 1, 0, .iload_n 2, 1) := Fm165 (dk_28 (dk_at s165_2 12 rfl rfl)) rfl
theorem f165_60 : ft 165 60 = some (9, 1, 0, .if_icmp .ne 13, 3) := Fm165 (dk_160 0 13 (dk_at s165_2 13 rfl rfl)) rfl
theorem f165_63 : ft 165 63 = some (9, 1, 0, .aload_n 0, 1) := Fm165 (dk_42 (dk_at s165_2 16 rfl rfl)) rfl
theorem f165_64 : ft 165 64 = some (9, 1, 0, .iload_n 3, 1) := Fm165 (dk_29 (dk_at s165_2 17 rfl rfl)) rfl
theorem f165_65 : ft 165 65 = some (9, 1, 0, .iload 4, 2) := Fm165 (dk_21 4 (dk_at s165_2 18 rfl rfl)) rfl
theorem f165_67 : ft 165 67 = some (9, 1, 0, .invokevirtual 110, 3) := Fm165 (dk_182 0 110 (dk_at s165_2 20 rfl rfl)) rfl
theorem f165_70 : ft 165 70 = some (9, 1, 0, .goto 4, 3) := Fm165 (dk_167 0 4 (dk_at s165_3 0 rfl rfl)) rfl
theorem f165_73 : ft 165 73 = some (9, 1, 0, .iconst 0, 1) := Fm165 (dk_3 (dk_at s165_3 3 rfl rfl)) rfl
theorem f165_74 : ft 165 74 = some (9, 1, 0, .ireturn, 1) := Fm165 (dk_172 (dk_at s165_3 4 rfl rfl)) rfl
theorem f165_75 : ft 165 75 = some (9, 1, 0, .aload_n 0, 1) := Fm165 (dk_42 (dk_at s165_3 5 rfl rfl)) rfl
theorem f165_76 : ft 165 76 = some (9, 1, 0, .iload_n 3, 1) := Fm165 (dk_29 (dk_at s165_3 6 rfl rfl)) rfl
theorem f165_77 : ft 165 77 = some (9, 1, 0, .iload 4, 2) := Fm165 (dk_21 4 (dk_at s165_3 7 rfl rfl)) rfl
theorem f165_79 : ft 165 79 = some (9, 1, 0, .invokevirtual 110, 3) := Fm165 (dk_182 0 110 (dk_at s165_3 9 rfl rfl)) rfl
theorem f165_82 : ft 165 82 = some (9, 1, 0, .istore_n 3, 1) := Fm165 (dk_62 (dk_at s165_3 12 rfl rfl)) rfl
theorem f165_83 : ft 165 83 = some (9, 1, 0, .goto (-81), 3) := Fm165 (dk_167 255 175 (dk_at s165_3 13 rfl rfl)) rfl
theorem f165_86 : ft 165 86 = some (9, 1, 0, .iconst 0, 1) := Fm165 (dk_3 (dk_at s165_3 16 rfl rfl)) rfl
theorem f165_87 : ft 165 87 = some (9, 1, 0, .ireturn, 1) := Fm165 (dk_172 (dk_at s165_3 17 rfl rfl)) rfl
theorem q165 {d : Nat} {m : Mem} {a0 a1 a2 : Int} (hz : TZ m) : le2 (rn d 165 2 [pR a0, pI a1, pI a2, pI a1, pU] [] m) (cl d 165 [pR a0, pI a1, pI a2] m) := by
  refine q_in (n := 5) (L := [pR a0, pI a1, pI a2, pU, pU]) rfl rfl rfl ?_
  refine r_iln1 (p := 1) f165_0 rfl ?_
  refine r_isn3 (p := 2) f165_1 rfl rfl ?_
  exact le2_refl _
theorem q165_2 {d : Nat} {m : Mem} {a0 a1 a2 a3 : Int} {z4 : PV} (hd : 0 < d) (hz : TZ m) (hcz4 : cat z4 = 1) : le2 (if a3 = 0 then (some (.inl (some (pI 0)), m)) else gd (tg m a0 = 9) <| bI (cl (d - 1) 162 [pR a0, pI a3, pI 1] m) fun v1 m1 => rn d 165 16 [pR a0, pI a1, pI a2, pI a3, pI (w32 (v1 - 1))] [] m1) (rn d 165 2 [pR a0, pI a1, pI a2, pI a3, z4] [] m) := by
  refine r_iln3 (p := 3) f165_2 rfl ?_
  refine r_ifeq (t := 86) (p := 6) f165_3 (by decide) rfl rfl ?_ ?_
  · refine r_iconst (p := 87) f165_86 rfl (pinD rfl rfl) ?_
    exact r_iret1 f165_87
  · refine r_aln0 (p := 7) f165_6 rfl ?_
    refine r_iln3 (p := 8) f165_7 rfl ?_
    refine r_iconst (p := 9) f165_8 rfl (pinD rfl rfl) ?_
    refine le2_gd (fun h1 => ?_)
    refine r_invI (p := 12) f165_9 rfl rfl rfl (Or.inl h1) hd (Nat.le_of_ble_eq_true rfl) rfl rfl rfl (fun _ => rfl) (fun v1 m1 c1 => ?_)
    have hz1 := z_k c1 hz
    refine r_iconst (p := 13) f165_12 rfl (pinD rfl rfl) ?_
    refine r_isub (p := 14) f165_13 rfl ?_
    refine r_isw4 (p := 16) f165_14 rfl rfl ?_
    exact le2_refl _
theorem q165_16 {d : Nat} {m : Mem} {a0 a1 a2 a3 a4 : Int} (hd : 0 < d) (hz : TZ m) : le2 (if 0 < a4 then (gd (tg m a0 = 9) <| bI (cl (d - 1) 166 [pR a0, pI a3, pI a4] m) fun v1 m1 => if a2 < v1 then (rn d 165 16 [pR a0, pI a1, pI a2, pI a3, pI (w32 (a4 + (-1)))] [] m1) else rn d 165 38 [pR a0, pI a1, pI a2, pI a3, pI a4] [] m1) else rn d 165 38 [pR a0, pI a1, pI a2, pI a3, pI a4] [] m) (rn d 165 16 [pR a0, pI a1, pI a2, pI a3, pI a4] [] m) := by
  refine r_ilw4 (p := 18) f165_16 rfl ?_
  refine r_ifle (t := 38) (p := 21) f165_18 (by decide) rfl rfl ?_ ?_
  · refine r_aln0 (p := 22) f165_21 rfl ?_
    refine r_iln3 (p := 23) f165_22 rfl ?_
    refine r_ilw4 (p := 25) f165_23 rfl ?_
    refine le2_gd (fun h1 => ?_)
    refine r_invI (p := 28) f165_25 rfl rfl rfl (Or.inl h1) hd (Nat.le_of_ble_eq_true rfl) rfl rfl rfl (fun _ => rfl) (fun v1 m1 c1 => ?_)
    have hz1 := z_k c1 hz
    refine r_iln2 (p := 29) f165_28 rfl ?_
    refine r_icle (t := 38) (p := 32) f165_29 (by decide) rfl rfl ?_ ?_
    · refine r_iinc4 (p := 35) f165_32 rfl rfl ?_
      refine r_goto (p := 16) f165_35 (by decide) rfl ?_
      exact le2_refl _
    · exact le2_refl _
  · exact le2_refl _
theorem q165_38 {d : Nat} {m : Mem} {a0 a1 a2 a3 a4 : Int} (hd : 0 < d) (hz : TZ m) : le2 (gd (tg m a0 = 9) <| nm (vl m a0 0) fun v4 => nm (w32 (a3 * 736)) fun v5 => gd (tg m v4 = 153103) <| gd ((0 : Int) ≤ v5 ∧ v5 < ln m v4) <| if (vl m v4 v5) = 2 then (bI (cl (d - 1) 166 [pR a0, pI a3, pI a4] m) fun v2 m2 => if v2 = a2 then (bI (cl (d - 1) 167 [pR a0, pI a3, pI a4] m2) fun v3 m3 => some (.inl (some (pI v3)), m3)) else some (.inl (some (pI 0)), m2)) else bI (cl (d - 1) 167 [pR a0, pI a3, pI a4] m) fun v1 m1 => rn d 165 2 [pR a0, pI a1, pI a2, pI v1, pI a4] [] m1) (rn d 165 38 [pR a0, pI a1, pI a2, pI a3, pI a4] [] m) := by
  refine r_aln0 (p := 39) f165_38 rfl ?_
  refine le2_gd (fun h1 => ?_)
  refine r_gfR (f := 0) (p := 42) f165_39 rfl rfl rfl (Or.inl h1) rfl ?_
  refine r_nmR (fun v4 ev4 => ?_)
  refine r_iln3 (p := 43) f165_42 rfl ?_
  refine r_sipush (p := 46) f165_43 rfl (pinD rfl rfl) ?_
  refine r_imul (p := 47) f165_46 rfl ?_
  refine r_nmI (fun v5 ev5 => ?_)
  refine le2_gd (fun h2 => ?_)
  refine le2_gd (fun h3 => ?_)
  refine r_baload (p := 48) f165_47 rfl (dj1 (fun x => x % 1000 = 103 ∨ x % 1000 = 105) h2 (by decide)) h3 rfl ?_
  refine r_iconst (p := 49) f165_48 rfl (pinD rfl rfl) ?_
  refine r_icne (t := 75) (p := 52) f165_49 (by decide) rfl rfl ?_ ?_
  · refine r_aln0 (p := 53) f165_52 rfl ?_
    refine r_iln3 (p := 54) f165_53 rfl ?_
    refine r_ilw4 (p := 56) f165_54 rfl ?_
    refine r_invI (p := 59) f165_56 rfl rfl rfl (Or.inl h1) hd (Nat.le_of_ble_eq_true rfl) rfl rfl rfl (fun _ => rfl) (fun v2 m2 c2 => ?_)
    have hz2 := z_k c2 hz
    refine r_iln2 (p := 60) f165_59 rfl ?_
    refine r_icne (t := 73) (p := 63) f165_60 (by decide) rfl rfl ?_ ?_
    · refine r_aln0 (p := 64) f165_63 rfl ?_
      refine r_iln3 (p := 65) f165_64 rfl ?_
      refine r_ilw4 (p := 67) f165_65 rfl ?_
      have h4 := k_t1 c2 hz h1 (by decide)
      refine r_invI (p := 70) f165_67 rfl rfl rfl (Or.inl h4) hd (Nat.le_of_ble_eq_true rfl) rfl rfl rfl (fun _ => rfl) (fun v3 m3 c3 => ?_)
      have hz3 := z_k c3 hz2
      refine r_goto (p := 74) f165_70 (by decide) rfl ?_
      exact r_iret1 f165_74
    · refine r_iconst (p := 74) f165_73 rfl (pinD rfl rfl) ?_
      exact r_iret1 f165_74
  · refine r_aln0 (p := 76) f165_75 rfl ?_
    refine r_iln3 (p := 77) f165_76 rfl ?_
    refine r_ilw4 (p := 79) f165_77 rfl ?_
    refine r_invI (p := 82) f165_79 rfl rfl rfl (Or.inl h1) hd (Nat.le_of_ble_eq_true rfl) rfl rfl rfl (fun _ => rfl) (fun v1 m1 c1 => ?_)
    have hz1 := z_k c1 hz
    refine r_isn3 (p := 83) f165_82 rfl rfl ?_
    refine r_goto (p := 2) f165_83 (by decide) rfl ?_
    exact le2_refl _
/-! 166 PathStore$Disk.key (II)I -/
def w166_0 : List UInt8 := [42, 27, 6, 7, 28, 104, 96, 182, 0, 74, 172]
abbrev u166_0 : List UInt8 := w166_0 ++ []
theorem s166_0 : (prog_5_method_19_code).data.toList.drop 0 = u166_0 := by decide +kernel
theorem Fm166 {pc len : Nat} {i : Instr} (h : decode (prog_5_method_19_code) pc = .ok (i, len)) (hl : len = ilen i len) : ft 166 pc = some (9, 1, 0, i, len) := ft_mk rfl h hl
theorem f166_0 : ft 166 0 = some (9, 1, 0, .aload_n 0, 1) := Fm166 (dk_42 (dk_at s166_0 0 rfl rfl)) rfl
theorem f166_1 : ft 166 1 = some (9, 1, 0, .iload_n 1, 1) := Fm166 (dk_27 (dk_at s166_0 1 rfl rfl)) rfl
theorem f166_2 : ft 166 2 = some (9, 1, 0, .iconst 3, 1) := Fm166 (dk_6 (dk_at s166_0 2 rfl rfl)) rfl
theorem f166_3 : ft 166 3 = some (9, 1, 0, .iconst 4, 1) := Fm166 (dk_7 (dk_at s166_0 3 rfl rfl)) rfl
theorem f166_4 : ft 166 4 = some (9, 1, 0, .iload_n 2, 1) := Fm166 (dk_28 (dk_at s166_0 4 rfl rfl)) rfl
theorem f166_5 : ft 166 5 = some (9, 1, 0, .imul, 1) := Fm166 (dk_104 (dk_at s166_0 5 rfl rfl)) rfl
theorem f166_6 : ft 166 6 = some (9, 1, 0, .iadd, 1) := Fm166 (dk_96 (dk_at s166_0 6 rfl rfl)) rfl
theorem f166_7 : ft 166 7 = some (9, 1, 0, .invokevirtual 74, 3) := Fm166 (dk_182 0 74 (dk_at s166_0 7 rfl rfl)) rfl
theorem f166_10 : ft 166 10 = some (9, 1, 0, .ireturn, 1) := Fm166 (dk_172 (dk_at s166_0 10 rfl rfl)) rfl
theorem q166 {d : Nat} {m : Mem} {a0 a1 a2 : Int} (hd : 0 < d) (hz : TZ m) : le2 (gd (tg m a0 = 9) <| bI (cl (d - 1) 162 [pR a0, pI a1, pI (w32 (3 + (w32 (4 * a2))))] m) fun v1 m1 => some (.inl (some (pI v1)), m1)) (cl d 166 [pR a0, pI a1, pI a2] m) := by
  refine q_in (n := 3) (L := [pR a0, pI a1, pI a2]) rfl rfl rfl ?_
  refine r_aln0 (p := 1) f166_0 rfl ?_
  refine r_iln1 (p := 2) f166_1 rfl ?_
  refine r_iconst (p := 3) f166_2 rfl (pinD rfl rfl) ?_
  refine r_iconst (p := 4) f166_3 rfl (pinD rfl rfl) ?_
  refine r_iln2 (p := 5) f166_4 rfl ?_
  refine r_imul (p := 6) f166_5 rfl ?_
  refine r_iadd (p := 7) f166_6 rfl ?_
  refine le2_gd (fun h1 => ?_)
  refine r_invI (p := 10) f166_7 rfl rfl rfl (Or.inl h1) hd (Nat.le_of_ble_eq_true rfl) rfl rfl rfl (fun _ => rfl) (fun v1 m1 c1 => ?_)
  have hz1 := z_k c1 hz
  exact r_iret1 f166_10
/-! 167 PathStore$Disk.child (II)I -/
def w167_0 : List UInt8 := [42, 27, 8, 7, 28, 104, 96, 182, 0, 74, 172]
abbrev u167_0 : List UInt8 := w167_0 ++ []
theorem s167_0 : (prog_5_method_20_code).data.toList.drop 0 = u167_0 := by decide +kernel
theorem Fm167 {pc len : Nat} {i : Instr} (h : decode (prog_5_method_20_code) pc = .ok (i, len)) (hl : len = ilen i len) : ft 167 pc = some (9, 1, 0, i, len) := ft_mk rfl h hl
theorem f167_0 : ft 167 0 = some (9, 1, 0, .aload_n 0, 1) := Fm167 (dk_42 (dk_at s167_0 0 rfl rfl)) rfl
theorem f167_1 : ft 167 1 = some (9, 1, 0, .iload_n 1, 1) := Fm167 (dk_27 (dk_at s167_0 1 rfl rfl)) rfl
theorem f167_2 : ft 167 2 = some (9, 1, 0, .iconst 5, 1) := Fm167 (dk_8 (dk_at s167_0 2 rfl rfl)) rfl
theorem f167_3 : ft 167 3 = some (9, 1, 0, .iconst 4, 1) := Fm167 (dk_7 (dk_at s167_0 3 rfl rfl)) rfl
theorem f167_4 : ft 167 4 = some (9, 1, 0, .iload_n 2, 1) := Fm167 (dk_28 (dk_at s167_0 4 rfl rfl)) rfl
theorem f167_5 : ft 167 5 = some (9, 1, 0, .imul, 1) := Fm167 (dk_104 (dk_at s167_0 5 rfl rfl)) rfl
theorem f167_6 : ft 167 6 = some (9, 1, 0, .iadd, 1) := Fm167 (dk_96 (dk_at s167_0 6 rfl rfl)) rfl
theorem f167_7 : ft 167 7 = some (9, 1, 0, .invokevirtual 74, 3) := Fm167 (dk_182 0 74 (dk_at s167_0 7 rfl rfl)) rfl
theorem f167_10 : ft 167 10 = some (9, 1, 0, .ireturn, 1) := Fm167 (dk_172 (dk_at s167_0 10 rfl rfl)) rfl
theorem q167 {d : Nat} {m : Mem} {a0 a1 a2 : Int} (hd : 0 < d) (hz : TZ m) : le2 (gd (tg m a0 = 9) <| bI (cl (d - 1) 162 [pR a0, pI a1, pI (w32 (5 + (w32 (4 * a2))))] m) fun v1 m1 => some (.inl (some (pI v1)), m1)) (cl d 167 [pR a0, pI a1, pI a2] m) := by
  refine q_in (n := 3) (L := [pR a0, pI a1, pI a2]) rfl rfl rfl ?_
  refine r_aln0 (p := 1) f167_0 rfl ?_
  refine r_iln1 (p := 2) f167_1 rfl ?_
  refine r_iconst (p := 3) f167_2 rfl (pinD rfl rfl) ?_
  refine r_iconst (p := 4) f167_3 rfl (pinD rfl rfl) ?_
  refine r_iln2 (p := 5) f167_4 rfl ?_
  refine r_imul (p := 6) f167_5 rfl ?_
  refine r_iadd (p := 7) f167_6 rfl ?_
  refine le2_gd (fun h1 => ?_)
  refine r_invI (p := 10) f167_7 rfl rfl rfl (Or.inl h1) hd (Nat.le_of_ble_eq_true rfl) rfl rfl rfl (fun _ => rfl) (fun v1 m1 c1 => ?_)
  have hz1 := z_k c1 hz
  exact r_iret1 f167_10
/-! 168 PathStore$Disk.mark (I)V -/
def w168_2 : List UInt8 := [162, 0, 23, 42, 42, 27, 8, 7, 28, 104, 96, 182, 0, 74, 182, 0, 97, 132, 2, 1, 167, 255, 229, 177]
abbrev u168_2 : List UInt8 := w168_2 ++ []
def w168_1 : List UInt8 := [180, 0, 10, 27, 17, 2, 224, 104, 51, 4, 160, 0, 4, 177, 3, 61, 28, 42, 27, 4, 182, 0, 74]
abbrev u168_1 : List UInt8 := w168_1 ++ u168_2
def w168_0 : List UInt8 := [27, 153, 0, 12, 42, 180, 0, 25, 27, 51, 153, 0, 4, 177, 42, 180, 0, 25, 27, 4, 84, 42]
abbrev u168_0 : List UInt8 := w168_0 ++ u168_1
theorem s168_0 : (prog_5_method_13_code).data.toList.drop 0 = u168_0 := by decide +kernel
theorem s168_1 : (prog_5_method_13_code).data.toList.drop 22 = u168_1 := dk_seg s168_0 22 rfl rfl
theorem s168_2 : (prog_5_method_13_code).data.toList.drop 45 = u168_2 := dk_seg s168_1 23 rfl rfl
theorem Fm168 {pc len : Nat} {i : Instr} (h : decode (prog_5_method_13_code) pc = .ok (i, len)) (hl : len = ilen i len) : ft 168 pc = some (9, 0, 0, i, len) := ft_mk rfl h hl
theorem f168_0 : ft 168 0 = some (9, 0, 0, .iload_n 1, 1) := Fm168 (dk_27 (dk_at s168_0 0 rfl rfl)) rfl
theorem f168_1 : ft 168 1 = some (9, 0, 0, .ifCond .eq 12, 3) := Fm168 (dk_153 0 12 (dk_at s168_0 1 rfl rfl)) rfl
theorem f168_4 : ft 168 4 = some (9, 0, 0, .aload_n 0, 1) := Fm168 (dk_42 (dk_at s168_0 4 rfl rfl)) rfl
theorem f168_5 : ft 168 5 = some (9, 0, 0, .getfield 25, 3) := Fm168 (dk_180 0 25 (dk_at s168_0 5 rfl rfl)) rfl
theorem f168_8 : ft 168 8 = some (9, 0, 0, .iload_n 1, 1) := Fm168 (dk_27 (dk_at s168_0 8 rfl rfl)) rfl
theorem f168_9 : ft 168 9 = some (9, 0, 0, .baload, 1) := Fm168 (dk_51 (dk_at s168_0 9 rfl rfl)) rfl
theorem f168_10 : ft 168 10 = some (9, 0, 0, .ifCond .eq 4, 3) := Fm168 (dk_153 0 4 (dk_at s168_0 10 rfl rfl)) rfl
theorem f168_13 : ft 168 13 = some (9, 0, 0, .return_, 1) := Fm168 (dk_177 (dk_at s168_0 13 rfl rfl)) rfl
theorem f168_14 : ft 168 14 = some (9, 0, 0, .aload_n 0, 1) := Fm168 (dk_42 (dk_at s168_0 14 rfl rfl)) rfl
theorem f168_15 : ft 168 15 = some (9, 0, 0, .getfield 25, 3) := Fm168 (dk_180 0 25 (dk_at s168_0 15 rfl rfl)) rfl
theorem f168_18 : ft 168 18 = some (9, 0, 0, .iload_n 1, 1) := Fm168 (dk_27 (dk_at s168_0 18 rfl rfl)) rfl
theorem f168_19 : ft 168 19 = some (9, 0, 0, .iconst 1, 1) := Fm168 (dk_4 (dk_at s168_0 19 rfl rfl)) rfl
theorem f168_20 : ft 168 20 = some (9, 0, 0, .bastore, 1) := Fm168 (dk_84 (dk_at s168_0 20 rfl rfl)) rfl
theorem f168_21 : ft 168 21 = some (9, 0, 0, .aload_n 0, 1) := Fm168 (dk_42 (dk_at s168_0 21 rfl rfl)) rfl
theorem f168_22 : ft 168 22 = some (9, 0, 0, .getfield 10, 3) := Fm168 (dk_180 0 10 (dk_at s168_1 0 rfl rfl)) rfl
theorem f168_25 : ft 168 25 = some (9, 0, 0, .iload_n 1, 1) := Fm168 (dk_27 (dk_at s168_1 3 rfl rfl)) rfl
theorem f168_26 : ft 168 26 = some (9, 0, 0, .sipush 736, 3) := Fm168 (dk_17 2 224 (dk_at s168_1 4 rfl rfl)) rfl
theorem f168_29 : ft 168 29 = some (9, 0, 0, .imul, 1) := Fm168 (dk_104 (dk_at s168_1 7 rfl rfl)) rfl
theorem f168_30 : ft 168 30 = some (9, 0, 0, .baload, 1) := Fm168 (dk_51 (dk_at s168_1 8 rfl rfl)) rfl
theorem f168_31 : ft 168 31 = some (9, 0, 0, .iconst 1, 1) := Fm168 (dk_4 (dk_at s168_1 9 rfl rfl)) rfl
theorem f168_32 : ft 168 32 = some (9, 0, 0, .if_icmp .ne 4, 3) := Fm168 (dk_160 0 4 (dk_at s168_1 10 rfl rfl)) rfl
theorem f168_35 : ft 168 35 = some (9, 0, 0, .return_, 1) := Fm168 (dk_177 (dk_at s168_1 13 rfl rfl)) rfl
theorem f168_36 : ft 168 36 = some (9, 0, 0, .iconst 0, 1) := Fm168 (dk_3 (dk_at s168_1 14 rfl rfl)) rfl
theorem f168_37 : ft 168 37 = some (9, 0, 0, .istore_n 2, 1) := Fm168 (dk_61 (dk_at s168_1 15 rfl rfl)) rfl
theorem f168_38 : ft 168 38 = some (9, 0, 0, .iload_n 2, 1) := Fm168 (dk_28 (dk_at s168_1 16 rfl rfl)) rfl
theorem f168_39 : ft 168 39 = some (9, 0, 0, .aload_n 0, 1) := Fm168 (dk_42 (dk_at s168_1 17 rfl rfl)) rfl
theorem f168_40 : ft 168 40 = some (9, 0, 0, .iload_n 1, 1) := Fm168 (dk_27 (dk_at s168_1 18 rfl rfl)) rfl
theorem f168_41 : ft 168 41 = some (9, 0, 0, .iconst 1, 1) := Fm168 (dk_4 (dk_at s168_1 19 rfl rfl)) rfl
theorem f168_42 : ft 168 42 = some (9, 0, 0, .invokevirtual 74, 3) := Fm168 (dk_182 0 74 (dk_at s168_1 20 rfl rfl)) rfl
theorem f168_45 : ft 168 45 = some (9, 0, 0, .if_icmp .ge 23, 3) := Fm168 (dk_162 0 23 (dk_at s168_2 0 rfl rfl)) rfl
theorem f168_48 : ft 168 48 = some (9, 0, 0, .aload_n 0, 1) := Fm168 (dk_42 (dk_at s168_2 3 rfl rfl)) rfl
theorem f168_49 : ft 168 49 = some (9, 0, 0, .aload_n 0, 1) := Fm168 (dk_42 (dk_at s168_2 4 rfl rfl)) rfl
theorem f168_50 : ft 168 50 = some (9, 0, 0, .iload_n 1, 1) := Fm168 (dk_27 (dk_at s168_2 5 rfl rfl)) rfl
theorem f168_51 : ft 168 51 = some (9, 0, 0, .iconst 5, 1) := Fm168 (dk_8 (dk_at s168_2 6 rfl rfl)) rfl
theorem f168_52 : ft 168 52 = some (9, 0, 0, .iconst 4, 1) := Fm168 (dk_7 (dk_at s168_2 7 rfl rfl)) rfl
theorem f168_53 : ft 168 53 = some (9, 0, 0, .iload_n 2, 1) := Fm168 (dk_28 (dk_at s168_2 8 rfl rfl)) rfl
theorem f168_54 : ft 168 54 = some (9, 0, 0, .imul, 1) := Fm168 (dk_104 (dk_at s168_2 9 rfl rfl)) rfl
theorem f168_55 : ft 168 55 = some (9, 0, 0, .iadd, 1) := Fm168 (dk_96 (dk_at s168_2 10 rfl rfl)) rfl
theorem f168_56 : ft 168 56 = some (9, 0, 0, .invokevirtual 74, 3) := Fm168 (dk_182 0 74 (dk_at s168_2 11 rfl rfl)) rfl
theorem f168_59 : ft 168 59 = some (9, 0, 0, .invokevirtual 97, 3) := Fm168 (dk_182 0 97 (dk_at s168_2 14 rfl rfl)) rfl
theorem f168_62 : ft 168 62 = some (9, 0, 0, .iinc 2 1, 3) := Fm168 (dk_132 2 1 (dk_at s168_2 17 rfl rfl)) rfl
theorem f168_65 : ft 168 65 = some (9, 0, 0, .goto (-27), 3) := Fm168 (dk_167 255 229 (dk_at s168_2 20 rfl rfl)) rfl
theorem f168_68 : ft 168 68 = some (9, 0, 0, .return_, 1) := Fm168 (dk_177 (dk_at s168_2 23 rfl rfl)) rfl
theorem q168 {d : Nat} {m : Mem} {a0 a1 : Int} (hz : TZ m) : le2 (if a1 = 0 then (some (.inl none, m)) else gd (tg m a0 = 9) <| nm (vl m a0 5) fun v1 => gd (tg m v1 = 153105) <| gd ((0 : Int) ≤ a1 ∧ a1 < ln m v1) <| if (vl m v1 a1) = 0 then (nm (vl m a0 0) fun v2 => nm (w32 (a1 * 736)) fun v3 => gd (tg m v2 = 153103) <| gd ((0 : Int) ≤ v3 ∧ v3 < ln m v2) <| if (vl m v2 v3) = 1 then (some (.inl none, (mst m v1 a1 1))) else rn d 168 38 [pR a0, pI a1, pI 0] [] (mst m v1 a1 1)) else some (.inl none, m)) (cl d 168 [pR a0, pI a1] m) := by
  refine q_in (n := 3) (L := [pR a0, pI a1, pU]) rfl rfl rfl ?_
  refine r_iln1 (p := 1) f168_0 rfl ?_
  refine r_ifeq (t := 13) (p := 4) f168_1 (by decide) rfl rfl ?_ ?_
  · exact r_ret f168_13
  · refine r_aln0 (p := 5) f168_4 rfl ?_
    refine le2_gd (fun h1 => ?_)
    refine r_gfR (f := 5) (p := 8) f168_5 rfl rfl rfl (Or.inl h1) rfl ?_
    refine r_nmR (fun v1 ev1 => ?_)
    refine r_iln1 (p := 9) f168_8 rfl ?_
    refine le2_gd (fun h2 => ?_)
    refine le2_gd (fun h3 => ?_)
    refine r_baload (p := 10) f168_9 rfl (dj1 (fun x => x % 1000 = 103 ∨ x % 1000 = 105) h2 (by decide)) h3 rfl ?_
    refine r_ifeq (t := 14) (p := 13) f168_10 (by decide) rfl rfl ?_ ?_
    · refine r_aln0 (p := 15) f168_14 rfl ?_
      refine r_gfR (f := 5) (p := 18) f168_15 rfl rfl rfl (Or.inl h1) ev1.symm ?_
      refine r_iln1 (p := 19) f168_18 rfl ?_
      refine r_iconst (p := 20) f168_19 rfl (pinD rfl rfl) ?_
      refine r_bastoreZ (p := 21) f168_20 rfl (dj1 (fun x => 1000 ≤ x ∧ x % 1000 = 105 ∧ Nat.testBit (eM 168) (bix x 0) = true) h2 (by decide)) h3 (by decide) ?_
      refine r_aln0 (p := 22) f168_21 rfl ?_
      refine r_gfR (f := 0) (p := 25) f168_22 rfl rfl rfl (Or.inl h1) (sk_o (ne_oa (dj1 (fun x => x < 100) h1 (by decide)) (dj1 (fun x => ¬ x < 100) h2 (by decide)))) ?_
      refine r_nmR (fun v2 ev2 => ?_)
      refine r_iln1 (p := 26) f168_25 rfl ?_
      refine r_sipush (p := 29) f168_26 rfl (pinD rfl rfl) ?_
      refine r_imul (p := 30) f168_29 rfl ?_
      refine r_nmI (fun v3 ev3 => ?_)
      refine le2_gd (fun h4 => ?_)
      refine le2_gd (fun h5 => ?_)
      refine r_baload (p := 31) f168_30 rfl (dj1 (fun x => x % 1000 = 103 ∨ x % 1000 = 105) h4 (by decide)) h5 (sk_o (neP (fun x => x = 153103) h4 (dj1 (fun x => ¬ (x = 153103)) h2 (by decide)))) ?_
      refine r_iconst (p := 32) f168_31 rfl (pinD rfl rfl) ?_
      refine r_icne (t := 36) (p := 35) f168_32 (by decide) rfl rfl ?_ ?_
      · exact r_ret f168_35
      · refine r_iconst (p := 37) f168_36 rfl (pinD rfl rfl) ?_
        refine r_isn2 (p := 38) f168_37 rfl rfl ?_
        exact le2_refl _
    · exact r_ret f168_13
theorem q168_38 {d : Nat} {m : Mem} {a0 a1 a2 : Int} (hd : 0 < d) (hz : TZ m) : le2 (gd (tg m a0 = 9) <| bI (cl (d - 1) 162 [pR a0, pI a1, pI 1] m) fun v1 m1 => if a2 < v1 then (bI (cl (d - 1) 162 [pR a0, pI a1, pI (w32 (5 + (w32 (4 * a2))))] m1) fun v2 m2 => bV (cl (d - 1) 168 [pR a0, pI v2] m2) fun m3 => rn d 168 38 [pR a0, pI a1, pI (w32 (a2 + 1))] [] m3) else some (.inl none, m1)) (rn d 168 38 [pR a0, pI a1, pI a2] [] m) := by
  refine r_iln2 (p := 39) f168_38 rfl ?_
  refine r_aln0 (p := 40) f168_39 rfl ?_
  refine r_iln1 (p := 41) f168_40 rfl ?_
  refine r_iconst (p := 42) f168_41 rfl (pinD rfl rfl) ?_
  refine le2_gd (fun h1 => ?_)
  refine r_invI (p := 45) f168_42 rfl rfl rfl (Or.inl h1) hd (Nat.le_of_ble_eq_true rfl) rfl rfl rfl (fun _ => rfl) (fun v1 m1 c1 => ?_)
  have hz1 := z_k c1 hz
  refine r_icge (t := 68) (p := 48) f168_45 (by decide) rfl rfl ?_ ?_
  · refine r_aln0 (p := 49) f168_48 rfl ?_
    refine r_aln0 (p := 50) f168_49 rfl ?_
    refine r_iln1 (p := 51) f168_50 rfl ?_
    refine r_iconst (p := 52) f168_51 rfl (pinD rfl rfl) ?_
    refine r_iconst (p := 53) f168_52 rfl (pinD rfl rfl) ?_
    refine r_iln2 (p := 54) f168_53 rfl ?_
    refine r_imul (p := 55) f168_54 rfl ?_
    refine r_iadd (p := 56) f168_55 rfl ?_
    have h2 := k_t1 c1 hz h1 (by decide)
    refine r_invI (p := 59) f168_56 rfl rfl rfl (Or.inl h2) hd (Nat.le_of_ble_eq_true rfl) rfl rfl rfl (fun _ => rfl) (fun v2 m2 c2 => ?_)
    have hz2 := z_k c2 hz1
    have h3 := k_t1 c2 hz1 h2 (by decide)
    refine r_invV (p := 62) f168_59 rfl rfl rfl (Or.inl h3) hd (Nat.le_of_ble_eq_true rfl) rfl rfl rfl (fun _ => rfl) (fun m3 c3 => ?_)
    have hz3 := z_k c3 hz2
    refine r_iinc2 (p := 65) f168_62 rfl rfl ?_
    refine r_goto (p := 38) f168_65 (by decide) rfl ?_
    exact le2_refl _
  · exact r_ret f168_68
/-! 169 PathStore$Disk.document (LPathStore$Row;II)I -/
def w169_2 : List UInt8 := [172]
abbrev u169_2 : List UInt8 := w169_2 ++ []
def w169_1 : List UInt8 := [6, 21, 4, 96, 43, 180, 0, 64, 28, 21, 4, 96, 51, 84, 132, 4, 1, 167, 255, 229, 42, 182, 0, 67]
abbrev u169_1 : List UInt8 := w169_1 ++ u169_2
def w169_0 : List UInt8 := [42, 4, 182, 0, 56, 42, 4, 29, 182, 0, 60, 3, 54, 4, 21, 4, 29, 162, 0, 27, 42, 180, 0, 14]
abbrev u169_0 : List UInt8 := w169_0 ++ u169_1
theorem s169_0 : (prog_5_method_9_code).data.toList.drop 0 = u169_0 := by decide +kernel
theorem s169_1 : (prog_5_method_9_code).data.toList.drop 24 = u169_1 := dk_seg s169_0 24 rfl rfl
theorem s169_2 : (prog_5_method_9_code).data.toList.drop 48 = u169_2 := dk_seg s169_1 24 rfl rfl
theorem Fm169 {pc len : Nat} {i : Instr} (h : decode (prog_5_method_9_code) pc = .ok (i, len)) (hl : len = ilen i len) : ft 169 pc = some (9, 1, 0, i, len) := ft_mk rfl h hl
theorem f169_0 : ft 169 0 = some (9, 1, 0, .aload_n 0, 1) := Fm169 (dk_42 (dk_at s169_0 0 rfl rfl)) rfl
theorem f169_1 : ft 169 1 = some (9, 1, 0, .iconst 1, 1) := Fm169 (dk_4 (dk_at s169_0 1 rfl rfl)) rfl
theorem f169_2 : ft 169 2 = some (9, 1, 0, .invokevirtual 56, 3) := Fm169 (dk_182 0 56 (dk_at s169_0 2 rfl rfl)) rfl
theorem f169_5 : ft 169 5 = some (9, 1, 0, .aload_n 0, 1) := Fm169 (dk_42 (dk_at s169_0 5 rfl rfl)) rfl
theorem f169_6 : ft 169 6 = some (9, 1, 0, .iconst 1, 1) := Fm169 (dk_4 (dk_at s169_0 6 rfl rfl)) rfl
theorem f169_7 : ft 169 7 = some (9, 1, 0, .iload_n 3, 1) := Fm169 (dk_29 (dk_at s169_0 7 rfl rfl)) rfl
theorem f169_8 : ft 169 8 = some (9, 1, 0, .invokevirtual 60, 3) := Fm169 (dk_182 0 60 (dk_at s169_0 8 rfl rfl)) rfl
theorem f169_11 : ft 169 11 = some (9, 1, 0, .iconst 0, 1) := Fm169 (dk_3 (dk_at s169_0 11 rfl rfl)) rfl
theorem f169_12 : ft 169 12 = some (9, 1, 0, .istore 4, 2) := Fm169 (dk_54 4 (dk_at s169_0 12 rfl rfl)) rfl
theorem f169_14 : ft 169 14 = some (9, 1, 0, .iload 4, 2) := Fm169 (dk_21 4 (dk_at s169_0 14 rfl rfl)) rfl
theorem f169_16 : ft 169 16 = some (9, 1, 0, .iload_n 3, 1) := Fm169 (dk_29 (dk_at s169_0 16 rfl rfl)) rfl
theorem f169_17 : ft 169 17 = some (9, 1, 0, .if_icmp .ge 27, 3) := Fm169 (dk_162 0 27 (dk_at s169_0 17 rfl rfl)) rfl
theorem f169_20 : ft 169 20 = some (9, 1, 0, .aload_n 0, 1) := Fm169 (dk_42 (dk_at s169_0 20 rfl rfl)) rfl
theorem f169_21 : ft 169 21 = some (9, 1, 0, .getfield 14, 3) := Fm169 (dk_180 0 14 (dk_at s169_0 21 rfl rfl)) rfl
theorem f169_24 : ft 169 24 = some (9, 1, 0, .iconst 3, 1) := Fm169 (dk_6 (dk_at s169_1 0 rfl rfl)) rfl
theorem f169_25 : ft 169 25 = some (9, 1, 0, .iload 4, 2) := Fm169 (dk_21 4 (dk_at s169_1 1 rfl rfl)) rfl
theorem f169_27 : ft 169 27 = some (9, 1, 0, .iadd, 1) := Fm169 (dk_96 (dk_at s169_1 3 rfl rfl)) rfl
theorem f169_28 : ft 169 28 = some (9, 1, 0, .aload_n 1, 1) := Fm169 (dk_43 (dk_at s169_1 4 rfl rfl)) rfl
theorem f169_29 : ft 169 29 = some (9, 1, 0, .getfield 64, 3) := Fm169 (dk_180 0 64 (dk_at s169_1 5 rfl rfl)) rfl
theorem f169_32 : ft 169 32 = some (9, 1, 0, .iload_n 2, 1) := Fm169 (dk_28 (dk_at s169_1 8 rfl rfl)) rfl
theorem f169_33 : ft 169 33 = some (9, 1, 0, .iload 4, 2) := Fm169 (dk_21 4 (dk_at s169_1 9 rfl rfl)) rfl
theorem f169_35 : ft 169 35 = some (9, 1, 0, .iadd, 1) := Fm169 (dk_96 (dk_at s169_1 11 rfl rfl)) rfl
theorem f169_36 : ft 169 36 = some (9, 1, 0, .baload, 1) := Fm169 (dk_51 (dk_at s169_1 12 rfl rfl)) rfl
theorem f169_37 : ft 169 37 = some (9, 1, 0, .bastore, 1) := Fm169 (dk_84 (dk_at s169_1 13 rfl rfl)) rfl
theorem f169_38 : ft 169 38 = some (9, 1, 0, .iinc 4 1, 3) := Fm169 (dk_132 4 1 (dk_at s169_1 14 rfl rfl)) rfl
theorem f169_41 : ft 169 41 = some (9, 1, 0, .goto (-27), 3) := Fm169 (dk_167 255 229 (dk_at s169_1 17 rfl rfl)) rfl
theorem f169_44 : ft 169 44 = some (9, 1, 0, .aload_n 0, 1) := Fm169 (dk_42 (dk_at s169_1 20 rfl rfl)) rfl
theorem f169_45 : ft 169 45 = some (9, 1, 0, .invokevirtual 67, 3) := Fm169 (dk_182 0 67 (dk_at s169_1 21 rfl rfl)) rfl
theorem f169_48 : ft 169 48 = some (9, 1, 0, .ireturn, 1) := Fm169 (dk_172 (dk_at s169_2 0 rfl rfl)) rfl
theorem q169 {d : Nat} {m : Mem} {a0 a1 a2 a3 : Int} (hd : 0 < d) (hz : TZ m) : le2 (gd (tg m a0 = 9) <| bV (cl (d - 1) 155 [pR a0, pI 1] m) fun m1 => bV (cl (d - 1) 156 [pR a0, pI 1, pI a3] m1) fun m2 => rn d 169 14 [pR a0, pR a1, pI a2, pI a3, pI 0] [] m2) (cl d 169 [pR a0, pR a1, pI a2, pI a3] m) := by
  refine q_in (n := 5) (L := [pR a0, pR a1, pI a2, pI a3, pU]) rfl rfl rfl ?_
  refine r_aln0 (p := 1) f169_0 rfl ?_
  refine r_iconst (p := 2) f169_1 rfl (pinD rfl rfl) ?_
  refine le2_gd (fun h1 => ?_)
  refine r_invV (p := 5) f169_2 rfl rfl rfl (Or.inl h1) hd (Nat.le_of_ble_eq_true rfl) rfl rfl rfl (fun _ => rfl) (fun m1 c1 => ?_)
  have hz1 := z_k c1 hz
  refine r_aln0 (p := 6) f169_5 rfl ?_
  refine r_iconst (p := 7) f169_6 rfl (pinD rfl rfl) ?_
  refine r_iln3 (p := 8) f169_7 rfl ?_
  have h2 := k_t1 c1 hz h1 (by decide)
  refine r_invV (p := 11) f169_8 rfl rfl rfl (Or.inl h2) hd (Nat.le_of_ble_eq_true rfl) rfl rfl rfl (fun _ => rfl) (fun m2 c2 => ?_)
  have hz2 := z_k c2 hz1
  refine r_iconst (p := 12) f169_11 rfl (pinD rfl rfl) ?_
  refine r_isw4 (p := 14) f169_12 rfl rfl ?_
  exact le2_refl _
theorem q169_14 {d : Nat} {m : Mem} {a0 a1 a2 a3 a4 : Int} (hd : 0 < d) (hz : TZ m) : le2 (if a4 < a3 then (gd (tg m a0 = 9) <| nm (vl m a0 1) fun v2 => nm (w32 (3 + a4)) fun v3 => gd (tg m a1 = 8) <| nm (vl m a1 0) fun v4 => nm (w32 (a2 + a4)) fun v5 => gd (tg m v4 = 130103 ∨ tg m v4 = 132103) <| gd ((0 : Int) ≤ v5 ∧ v5 < ln m v4) <| gd (tg m v2 = 153103) <| gd ((0 : Int) ≤ v3 ∧ v3 < ln m v2) <| rn d 169 14 [pR a0, pR a1, pI a2, pI a3, pI (w32 (a4 + 1))] [] (mst m v2 v3 (w8 (vl m v4 v5)))) else gd (tg m a0 = 9) <| bI (cl (d - 1) 170 [pR a0] m) fun v1 m1 => some (.inl (some (pI v1)), m1)) (rn d 169 14 [pR a0, pR a1, pI a2, pI a3, pI a4] [] m) := by
  refine r_ilw4 (p := 16) f169_14 rfl ?_
  refine r_iln3 (p := 17) f169_16 rfl ?_
  refine r_icge (t := 44) (p := 20) f169_17 (by decide) rfl rfl ?_ ?_
  · refine r_aln0 (p := 21) f169_20 rfl ?_
    refine le2_gd (fun h2 => ?_)
    refine r_gfR (f := 1) (p := 24) f169_21 rfl rfl rfl (Or.inl h2) rfl ?_
    refine r_nmR (fun v2 ev2 => ?_)
    refine r_iconst (p := 25) f169_24 rfl (pinD rfl rfl) ?_
    refine r_ilw4 (p := 27) f169_25 rfl ?_
    refine r_iadd (p := 28) f169_27 rfl ?_
    refine r_nmI (fun v3 ev3 => ?_)
    refine r_aln1 (p := 29) f169_28 rfl ?_
    refine le2_gd (fun h3 => ?_)
    refine r_gfR (f := 0) (p := 32) f169_29 rfl rfl rfl (Or.inl h3) rfl ?_
    refine r_nmR (fun v4 ev4 => ?_)
    refine r_iln2 (p := 33) f169_32 rfl ?_
    refine r_ilw4 (p := 35) f169_33 rfl ?_
    refine r_iadd (p := 36) f169_35 rfl ?_
    refine r_nmI (fun v5 ev5 => ?_)
    refine le2_gd (fun h4 => ?_)
    refine le2_gd (fun h5 => ?_)
    refine r_baload (p := 37) f169_36 rfl (dj2 (fun x => x % 1000 = 103 ∨ x % 1000 = 105) h4 (by decide) (by decide)) h5 rfl ?_
    refine le2_gd (fun h6 => ?_)
    refine le2_gd (fun h7 => ?_)
    refine r_bastore (p := 38) f169_37 rfl (dj1 (fun x => 1000 ≤ x ∧ x % 1000 = 103 ∧ Nat.testBit (eM 169) (bix x 0) = true) h6 (by decide)) h7 ?_
    refine r_iinc4 (p := 41) f169_38 rfl rfl ?_
    refine r_goto (p := 14) f169_41 (by decide) rfl ?_
    exact le2_refl _
  · refine r_aln0 (p := 45) f169_44 rfl ?_
    refine le2_gd (fun h1 => ?_)
    refine r_invI (p := 48) f169_45 rfl rfl rfl (Or.inl h1) hd (Nat.le_of_ble_eq_true rfl) rfl rfl rfl (fun _ => rfl) (fun v1 m1 c1 => ?_)
    have hz1 := z_k c1 hz
    exact r_iret1 f169_48
/-! 170 PathStore$Disk.stage ()I -/
def w170_4 : List UInt8 := [96, 181, 0, 47, 42, 180, 0, 39, 79, 42, 180, 0, 39, 172]
abbrev u170_4 : List UInt8 := w170_4 ++ []
def w170_3 : List UInt8 := [180, 0, 47, 17, 2, 224, 104, 17, 2, 224, 184, 0, 50, 42, 180, 0, 21, 42, 89, 180, 0, 47, 90, 4]
abbrev u170_3 : List UInt8 := w170_3 ++ u170_4
def w170_2 : List UInt8 := [180, 0, 39, 4, 84, 42, 180, 0, 14, 184, 0, 43, 42, 180, 0, 14, 3, 42, 180, 0, 18, 42]
abbrev u170_2 : List UInt8 := w170_2 ++ u170_3
def w170_1 : List UInt8 := [160, 0, 7, 5, 167, 0, 9, 42, 180, 0, 39, 4, 96, 181, 0, 39, 167, 255, 218, 42, 180, 0, 25, 42]
abbrev u170_1 : List UInt8 := w170_1 ++ u170_2
def w170_0 : List UInt8 := [42, 180, 0, 25, 42, 180, 0, 39, 51, 153, 0, 32, 42, 42, 180, 0, 39, 4, 96, 17, 6, 64]
abbrev u170_0 : List UInt8 := w170_0 ++ u170_1
theorem s170_0 : (prog_5_method_8_code).data.toList.drop 0 = u170_0 := by decide +kernel
theorem s170_1 : (prog_5_method_8_code).data.toList.drop 22 = u170_1 := dk_seg s170_0 22 rfl rfl
theorem s170_2 : (prog_5_method_8_code).data.toList.drop 46 = u170_2 := dk_seg s170_1 24 rfl rfl
theorem s170_3 : (prog_5_method_8_code).data.toList.drop 68 = u170_3 := dk_seg s170_2 22 rfl rfl
theorem s170_4 : (prog_5_method_8_code).data.toList.drop 92 = u170_4 := dk_seg s170_3 24 rfl rfl
theorem Fm170 {pc len : Nat} {i : Instr} (h : decode (prog_5_method_8_code) pc = .ok (i, len)) (hl : len = ilen i len) : ft 170 pc = some (9, 1, 0, i, len) := ft_mk rfl h hl
theorem f170_0 : ft 170 0 = some (9, 1, 0, .aload_n 0, 1) := Fm170 (dk_42 (dk_at s170_0 0 rfl rfl)) rfl
theorem f170_1 : ft 170 1 = some (9, 1, 0, .getfield 25, 3) := Fm170 (dk_180 0 25 (dk_at s170_0 1 rfl rfl)) rfl
theorem f170_4 : ft 170 4 = some (9, 1, 0, .aload_n 0, 1) := Fm170 (dk_42 (dk_at s170_0 4 rfl rfl)) rfl
theorem f170_5 : ft 170 5 = some (9, 1, 0, .getfield 39, 3) := Fm170 (dk_180 0 39 (dk_at s170_0 5 rfl rfl)) rfl
theorem f170_8 : ft 170 8 = some (9, 1, 0, .baload, 1) := Fm170 (dk_51 (dk_at s170_0 8 rfl rfl)) rfl
theorem f170_9 : ft 170 9 = some (9, 1, 0, .ifCond .eq 32, 3) := Fm170 (dk_153 0 32 (dk_at s170_0 9 rfl rfl)) rfl
theorem f170_12 : ft 170 12 = some (9, 1, 0, .aload_n 0, 1) := Fm170 (dk_42 (dk_at s170_0 12 rfl rfl)) rfl
theorem f170_13 : ft 170 13 = some (9, 1, 0, .aload_n 0, 1) := Fm170 (dk_42 (dk_at s170_0 13 rfl rfl)) rfl
theorem f170_14 : ft 170 14 = some (9, 1, 0, .getfield 39, 3) := Fm170 (dk_180 0 39 (dk_at s170_0 14 rfl rfl)) rfl
theorem f170_17 : ft 170 17 = some (9, 1, 0, .iconst 1, 1) := Fm170 (dk_4 (dk_at s170_0 17 rfl rfl)) rfl
theorem f170_18 : ft 170 18 = some (9, 1, 0, .iadd, 1) := Fm170 (dk_96 (dk_at s170_0 18 rfl rfl)) rfl
theorem f170_19 : ft 170 19 = some (9, 1, 0, .sipush 1600, 3) := Fm170 (dk_17 6 64 (dk_at s170_0 19 rfl rfl)) rfl
theorem f170_22 : ft 170 22 = some (9, 1, 0, .if_icmp .ne 7, 3) := Fm170 (dk_160 0 7 (dk_at s170_1 0 rfl rfl)) rfl
theorem f170_25 : ft 170 25 = some (9, 1, 0, .iconst 2, 1) := Fm170 (dk_5 (dk_at s170_1 3 rfl rfl)) rfl
theorem f170_26 : ft 170 26 = some (9, 1, 0, .goto 9, 3) := Fm170 (dk_167 0 9 (dk_at s170_1 4 rfl rfl)) rfl
theorem f170_29 : ft 170 29 = some (9, 1, 0, .aload_n 0, 1) := Fm170 (dk_42 (dk_at s170_1 7 rfl rfl)) rfl
theorem f170_30 : ft 170 30 = some (9, 1, 0, .getfield 39, 3) := Fm170 (dk_180 0 39 (dk_at s170_1 8 rfl rfl)) rfl
theorem f170_33 : ft 170 33 = some (9, 1, 0, .iconst 1, 1) := Fm170 (dk_4 (dk_at s170_1 11 rfl rfl)) rfl
theorem f170_34 : ft 170 34 = some (9, 1, 0, .iadd, 1) := Fm170 (dk_96 (dk_at s170_1 12 rfl rfl)) rfl
theorem f170_35 : ft 170 35 = some (9, 1, 0, .putfield 39, 3) := Fm170 (dk_181 0 39 (dk_at s170_1 13 rfl rfl)) rfl
theorem f170_38 : ft 170 38 = some (9, 1, 0, .goto (-38), 3) := Fm170 (dk_167 255 218 (dk_at s170_1 16 rfl rfl)) rfl
theorem f170_41 : ft 170 41 = some (9, 1, 0, .aload_n 0, 1) := Fm170 (dk_42 (dk_at s170_1 19 rfl rfl)) rfl
theorem f170_42 : ft 170 42 = some (9, 1, 0, .getfield 25, 3) := Fm170 (dk_180 0 25 (dk_at s170_1 20 rfl rfl)) rfl
theorem f170_45 : ft 170 45 = some (9, 1, 0, .aload_n 0, 1) := Fm170 (dk_42 (dk_at s170_1 23 rfl rfl)) rfl
theorem f170_46 : ft 170 46 = some (9, 1, 0, .getfield 39, 3) := Fm170 (dk_180 0 39 (dk_at s170_2 0 rfl rfl)) rfl
theorem f170_49 : ft 170 49 = some (9, 1, 0, .iconst 1, 1) := Fm170 (dk_4 (dk_at s170_2 3 rfl rfl)) rfl
theorem f170_50 : ft 170 50 = some (9, 1, 0, .bastore, 1) := Fm170 (dk_84 (dk_at s170_2 4 rfl rfl)) rfl
theorem f170_51 : ft 170 51 = some (9, 1, 0, .aload_n 0, 1) := Fm170 (dk_42 (dk_at s170_2 5 rfl rfl)) rfl
theorem f170_52 : ft 170 52 = some (9, 1, 0, .getfield 14, 3) := Fm170 (dk_180 0 14 (dk_at s170_2 6 rfl rfl)) rfl
theorem f170_55 : ft 170 55 = some (9, 1, 0, .invokestatic 43, 3) := Fm170 (dk_184 0 43 (dk_at s170_2 9 rfl rfl)) rfl
theorem f170_58 : ft 170 58 = some (9, 1, 0, .aload_n 0, 1) := Fm170 (dk_42 (dk_at s170_2 12 rfl rfl)) rfl
theorem f170_59 : ft 170 59 = some (9, 1, 0, .getfield 14, 3) := Fm170 (dk_180 0 14 (dk_at s170_2 13 rfl rfl)) rfl
theorem f170_62 : ft 170 62 = some (9, 1, 0, .iconst 0, 1) := Fm170 (dk_3 (dk_at s170_2 16 rfl rfl)) rfl
theorem f170_63 : ft 170 63 = some (9, 1, 0, .aload_n 0, 1) := Fm170 (dk_42 (dk_at s170_2 17 rfl rfl)) rfl
theorem f170_64 : ft 170 64 = some (9, 1, 0, .getfield 18, 3) := Fm170 (dk_180 0 18 (dk_at s170_2 18 rfl rfl)) rfl
theorem f170_67 : ft 170 67 = some (9, 1, 0, .aload_n 0, 1) := Fm170 (dk_42 (dk_at s170_2 21 rfl rfl)) rfl
theorem f170_68 : ft 170 68 = some (9, 1, 0, .getfield 47, 3) := Fm170 (dk_180 0 47 (dk_at s170_3 0 rfl rfl)) rfl
theorem f170_71 : ft 170 71 = some (9, 1, 0, .sipush 736, 3) := Fm170 (dk_17 2 224 (dk_at s170_3 3 rfl rfl)) rfl
theorem f170_74 : ft 170 74 = some (9, 1, 0, .imul, 1) := Fm170 (dk_104 (dk_at s170_3 6 rfl rfl)) rfl
theorem f170_75 : ft 170 75 = some (9, 1, 0, .sipush 736, 3) := Fm170 (dk_17 2 224 (dk_at s170_3 7 rfl rfl)) rfl
theorem f170_78 : ft 170 78 = some (9, 1, 0, .invokestatic 50, 3) := Fm170 (dk_184 0 50 (dk_at s170_3 10 rfl rfl)) rfl
theorem f170_81 : ft 170 81 = some (9, 1, 0, .aload_n 0, 1) := Fm170 (dk_42 (dk_at s170_3 13 rfl rfl)) rfl
theorem f170_82 : ft 170 82 = some (9, 1, 0, .getfield 21, 3) := Fm170 (dk_180 0 21 (dk_at s170_3 14 rfl rfl)) rfl
theorem f170_85 : ft 170 85 = some (9, 1, 0, .aload_n 0, 1) := Fm170 (dk_42 (dk_at s170_3 17 rfl rfl)) rfl
theorem f170_86 : ft 170 86 = some (9, 1, 0, .dup, 1) := Fm170 (dk_89 (dk_at s170_3 18 rfl rfl)) rfl
theorem f170_87 : ft 170 87 = some (9, 1, 0, .getfield 47, 3) := Fm170 (dk_180 0 47 (dk_at s170_3 19 rfl rfl)) rfl
theorem f170_90 : ft 170 90 = some (9, 1, 0, .dup_x1, 1) := Fm170 (dk_90 (dk_at s170_3 22 rfl rfl)) rfl
theorem f170_91 : ft 170 91 = some (9, 1, 0, .iconst 1, 1) := Fm170 (dk_4 (dk_at s170_3 23 rfl rfl)) rfl
theorem f170_92 : ft 170 92 = some (9, 1, 0, .iadd, 1) := Fm170 (dk_96 (dk_at s170_4 0 rfl rfl)) rfl
theorem f170_93 : ft 170 93 = some (9, 1, 0, .putfield 47, 3) := Fm170 (dk_181 0 47 (dk_at s170_4 1 rfl rfl)) rfl
theorem f170_96 : ft 170 96 = some (9, 1, 0, .aload_n 0, 1) := Fm170 (dk_42 (dk_at s170_4 4 rfl rfl)) rfl
theorem f170_97 : ft 170 97 = some (9, 1, 0, .getfield 39, 3) := Fm170 (dk_180 0 39 (dk_at s170_4 5 rfl rfl)) rfl
theorem f170_100 : ft 170 100 = some (9, 1, 0, .iastore, 1) := Fm170 (dk_79 (dk_at s170_4 8 rfl rfl)) rfl
theorem f170_101 : ft 170 101 = some (9, 1, 0, .aload_n 0, 1) := Fm170 (dk_42 (dk_at s170_4 9 rfl rfl)) rfl
theorem f170_102 : ft 170 102 = some (9, 1, 0, .getfield 39, 3) := Fm170 (dk_180 0 39 (dk_at s170_4 10 rfl rfl)) rfl
theorem f170_105 : ft 170 105 = some (9, 1, 0, .ireturn, 1) := Fm170 (dk_172 (dk_at s170_4 13 rfl rfl)) rfl
theorem q170 {d : Nat} {m : Mem} {a0 : Int} (hz : TZ m) : le2 (rn d 170 0 [pR a0] [] m) (cl d 170 [pR a0] m) := by
  refine q_in (n := 1) (L := [pR a0]) rfl rfl rfl ?_
  exact le2_refl _
theorem q170_0 {d : Nat} {m : Mem} {a0 : Int} (hd : 0 < d) (hz : TZ m) : le2 (gd (tg m a0 = 9) <| nm (vl m a0 5) fun v2 => nm (vl m a0 6) fun v3 => gd (tg m v2 = 153105) <| gd ((0 : Int) ≤ v3 ∧ v3 < ln m v2) <| if (vl m v2 v3) = 0 then (bV (cl (d - 1) 157 [pR (vl m a0 1)] (mst m v2 v3 1)) fun m1 => nm (vl m1 a0 1) fun v4 => nm (vl m1 a0 2) fun v5 => nm (vl m1 a0 4) fun v6 => nm (w32 (v6 * 736)) fun v7 => gd (tg m1 v4 = 153103) <| gd (tg m1 v5 = 153103) <| gd ((0 : Int) ≤ 736 ∧ (0 : Int) ≤ 0 ∧ (0 : Int) ≤ v7 ∧ 0 + 736 ≤ ln m1 v4 ∧ v7 + 736 ≤ ln m1 v5) <| nm (vl m1 a0 3) fun v8 => nm (vl m1 a0 6) fun v9 => gd (tg m1 v8 = 153101) <| gd ((0 : Int) ≤ v6 ∧ v6 < ln m1 v8) <| some (.inl (some (pI v9)), (mst (mst (mcp m1 v4 0 v5 v7 736) a0 4 (w32 (v6 + 1))) v8 v6 v9))) else if (w32 (v3 + 1)) = 1600 then (rn d 170 0 [pR a0] [] (mst m a0 6 2)) else rn d 170 0 [pR a0] [] (mst m a0 6 (w32 (v3 + 1)))) (rn d 170 0 [pR a0] [] m) := by
  refine r_aln0 (p := 1) f170_0 rfl ?_
  refine le2_gd (fun h1 => ?_)
  refine r_gfR (f := 5) (p := 4) f170_1 rfl rfl rfl (Or.inl h1) rfl ?_
  refine r_nmR (fun v2 ev2 => ?_)
  refine r_aln0 (p := 5) f170_4 rfl ?_
  refine r_gfI (f := 6) (p := 8) f170_5 rfl rfl rfl (Or.inl h1) rfl ?_
  refine r_nmI (fun v3 ev3 => ?_)
  refine le2_gd (fun h2 => ?_)
  refine le2_gd (fun h3 => ?_)
  refine r_baload (p := 9) f170_8 rfl (dj1 (fun x => x % 1000 = 103 ∨ x % 1000 = 105) h2 (by decide)) h3 rfl ?_
  refine r_ifeq (t := 41) (p := 12) f170_9 (by decide) rfl rfl ?_ ?_
  · refine r_aln0 (p := 42) f170_41 rfl ?_
    refine r_gfR (f := 5) (p := 45) f170_42 rfl rfl rfl (Or.inl h1) ev2.symm ?_
    refine r_aln0 (p := 46) f170_45 rfl ?_
    refine r_gfI (f := 6) (p := 49) f170_46 rfl rfl rfl (Or.inl h1) ev3.symm ?_
    refine r_iconst (p := 50) f170_49 rfl (pinD rfl rfl) ?_
    refine r_bastoreZ (p := 51) f170_50 rfl (dj1 (fun x => 1000 ≤ x ∧ x % 1000 = 105 ∧ Nat.testBit (eM 170) (bix x 0) = true) h2 (by decide)) h3 (by decide) ?_
    refine r_aln0 (p := 52) f170_51 rfl ?_
    refine r_gfR (f := 1) (p := 55) f170_52 rfl rfl rfl (Or.inl h1) (sk_o (ne_oa (dj1 (fun x => x < 100) h1 (by decide)) (dj1 (fun x => ¬ x < 100) h2 (by decide)))) ?_
    refine r_istV (p := 58) f170_55 rfl rfl rfl hd (Nat.le_of_ble_eq_true rfl) rfl rfl rfl (fun _ => rfl) (fun m1 c1 => ?_)
    have hz1 := z_k c1 hz
    refine r_aln0 (p := 59) f170_58 rfl ?_
    have h4 := k_t1 c1 hz h1 (by decide)
    refine r_gfR (f := 1) (p := 62) f170_59 rfl rfl rfl (Or.inl h4) rfl ?_
    refine r_nmR (fun v4 ev4 => ?_)
    refine r_iconst (p := 63) f170_62 rfl (pinD rfl rfl) ?_
    refine r_aln0 (p := 64) f170_63 rfl ?_
    refine r_gfR (f := 2) (p := 67) f170_64 rfl rfl rfl (Or.inl h4) rfl ?_
    refine r_nmR (fun v5 ev5 => ?_)
    refine r_aln0 (p := 68) f170_67 rfl ?_
    refine r_gfI (f := 4) (p := 71) f170_68 rfl rfl rfl (Or.inl h4) rfl ?_
    refine r_nmI (fun v6 ev6 => ?_)
    refine r_sipush (p := 74) f170_71 rfl (pinD rfl rfl) ?_
    refine r_imul (p := 75) f170_74 rfl ?_
    refine r_nmI (fun v7 ev7 => ?_)
    refine r_sipush (p := 78) f170_75 rfl (pinD rfl rfl) ?_
    refine le2_gd (fun h5 => ?_)
    refine le2_gd (fun h6 => ?_)
    refine le2_gd (fun h7 => ?_)
    refine r_acopy (el := 103) (p := 81) f170_78 rfl rfl h7 (dj1 (fun x => 1000 ≤ x ∧ x % 1000 = 103) h5 (by decide)) (dj1 (fun x => 1000 ≤ x ∧ x % 1000 = 103 ∧ Nat.testBit (eM 170) (bix x 0) = true) h6 (by decide)) (by decide) (Nat.le_of_ble_eq_true rfl) ?_
    refine r_aln0 (p := 82) f170_81 rfl ?_
    refine r_gfR (f := 3) (p := 85) f170_82 rfl rfl rfl (Or.inl h4) (sk_c (ne_oa (dj1 (fun x => x < 100) h4 (by decide)) (dj1 (fun x => ¬ x < 100) h6 (by decide)))) ?_
    refine r_nmR (fun v8 ev8 => ?_)
    refine r_aln0 (p := 86) f170_85 rfl ?_
    refine r_dup (p := 87) f170_86 rfl rfl ?_
    refine r_gfI (f := 4) (p := 90) f170_87 rfl rfl rfl (Or.inl h4) (Eq.trans (sk_c (ne_oa (dj1 (fun x => x < 100) h4 (by decide)) (dj1 (fun x => ¬ x < 100) h6 (by decide)))) ev6.symm) ?_
    refine r_dup_x1 (p := 91) f170_90 rfl rfl rfl ?_
    refine r_iconst (p := 92) f170_91 rfl (pinD rfl rfl) ?_
    refine r_iadd (p := 93) f170_92 rfl ?_
    refine r_pfI (f := 4) (p := 96) f170_93 rfl rfl rfl (by decide) (by decide) (Or.inl h4) rfl ?_
    refine r_aln0 (p := 97) f170_96 rfl ?_
    refine r_gfI (f := 6) (p := 100) f170_97 rfl rfl rfl (Or.inl h4) (Eq.trans (sk_f (by decide)) (sk_c (ne_oa (dj1 (fun x => x < 100) h4 (by decide)) (dj1 (fun x => ¬ x < 100) h6 (by decide))))) ?_
    refine r_nmI (fun v9 ev9 => ?_)
    refine le2_gd (fun h8 => ?_)
    refine le2_gd (fun h9 => ?_)
    refine r_iastore (p := 101) f170_100 rfl (dj1 (fun x => 1000 ≤ x ∧ x % 1000 = 101 ∧ Nat.testBit (eM 170) (bix x 0) = true) h8 (by decide)) h9 ?_
    refine r_aln0 (p := 102) f170_101 rfl ?_
    refine r_gfI (f := 6) (p := 105) f170_102 rfl rfl rfl (Or.inl h4) (Eq.trans (sk_o (ne_oa (dj1 (fun x => x < 100) h4 (by decide)) (dj1 (fun x => ¬ x < 100) h8 (by decide)))) (Eq.trans (sk_f (by decide)) (Eq.trans (sk_c (ne_oa (dj1 (fun x => x < 100) h4 (by decide)) (dj1 (fun x => ¬ x < 100) h6 (by decide)))) ev9.symm))) ?_
    exact r_iret1 f170_105
  · refine r_aln0 (p := 13) f170_12 rfl ?_
    refine r_aln0 (p := 14) f170_13 rfl ?_
    refine r_gfI (f := 6) (p := 17) f170_14 rfl rfl rfl (Or.inl h1) ev3.symm ?_
    refine r_iconst (p := 18) f170_17 rfl (pinD rfl rfl) ?_
    refine r_iadd (p := 19) f170_18 rfl ?_
    refine r_sipush (p := 22) f170_19 rfl (pinD rfl rfl) ?_
    refine r_icne (t := 29) (p := 25) f170_22 (by decide) rfl rfl ?_ ?_
    · refine r_iconst (p := 26) f170_25 rfl (pinD rfl rfl) ?_
      refine r_goto (p := 35) f170_26 (by decide) rfl ?_
      refine r_pfI (f := 6) (p := 38) f170_35 rfl rfl rfl (by decide) (by decide) (Or.inl h1) rfl ?_
      refine r_goto (p := 0) f170_38 (by decide) rfl ?_
      exact le2_refl _
    · refine r_aln0 (p := 30) f170_29 rfl ?_
      refine r_gfI (f := 6) (p := 33) f170_30 rfl rfl rfl (Or.inl h1) ev3.symm ?_
      refine r_iconst (p := 34) f170_33 rfl (pinD rfl rfl) ?_
      refine r_iadd (p := 35) f170_34 rfl ?_
      refine r_pfI (f := 6) (p := 38) f170_35 rfl rfl rfl (by decide) (by decide) (Or.inl h1) rfl ?_
      refine r_goto (p := 0) f170_38 (by decide) rfl ?_
      exact le2_refl _
/-! 171 PathStore$Disk.put (III)I -/
def w171_1 : List UInt8 := [182, 0, 117, 42, 25, 4, 182, 0, 121, 172]
abbrev u171_1 : List UInt8 := w171_1 ++ []
def w171_0 : List UInt8 := [27, 154, 0, 11, 42, 4, 182, 0, 82, 167, 0, 8, 42, 27, 182, 0, 113, 58, 4, 42, 25, 4, 28, 29]
abbrev u171_0 : List UInt8 := w171_0 ++ u171_1
theorem s171_0 : (prog_5_method_21_code).data.toList.drop 0 = u171_0 := by decide +kernel
theorem s171_1 : (prog_5_method_21_code).data.toList.drop 24 = u171_1 := dk_seg s171_0 24 rfl rfl
theorem Fm171 {pc len : Nat} {i : Instr} (h : decode (prog_5_method_21_code) pc = .ok (i, len)) (hl : len = ilen i len) : ft 171 pc = some (9, 1, 0, i, len) := ft_mk rfl h hl
theorem f171_0 : ft 171 0 = some (9, 1, 0, .iload_n 1, 1) := Fm171 (dk_27 (dk_at s171_0 0 rfl rfl)) rfl
theorem f171_1 : ft 171 1 = some (9, 1, 0, .ifCond .ne 11, 3) := Fm171 (dk_154 0 11 (dk_at s171_0 1 rfl rfl)) rfl
theorem f171_4 : ft 171 4 = some (9, 1, 0, .aload_n 0, 1) := Fm171 (dk_42 (dk_at s171_0 4 rfl rfl)) rfl
theorem f171_5 : ft 171 5 = some (9, 1, 0, .iconst 1, 1) := Fm171 (dk_4 (dk_at s171_0 5 rfl rfl)) rfl
theorem f171_6 : ft 171 6 = some (9, 1, 0, .invokevirtual 82, 3) := Fm171 (dk_182 0 82 (dk_at s171_0 6 rfl rfl)) rfl
theorem f171_9 : ft 171 9 = some (9, 1, 0, .goto 8, 3) := Fm171 (dk_167 0 8 (dk_at s171_0 9 rfl rfl)) rfl
theorem f171_12 : ft 171 12 = some (9, 1, 0, .aload_n 0, 1) := Fm171 (dk_42 (dk_at s171_0 12 rfl rfl)) rfl
theorem f171_13 : ft 171 13 = some (9, 1, 0, .iload_n 1, 1) := Fm171 (dk_27 (dk_at s171_0 13 rfl rfl)) rfl
theorem f171_14 : ft 171 14 = some (9, 1, 0, .invokevirtual 113, 3) := Fm171 (dk_182 0 113 (dk_at s171_0 14 rfl rfl)) rfl
theorem f171_17 : ft 171 17 = some (9, 1, 0, .astore 4, 2) := Fm171 (dk_58 4 (dk_at s171_0 17 rfl rfl)) rfl
theorem f171_19 : ft 171 19 = some (9, 1, 0, .aload_n 0, 1) := Fm171 (dk_42 (dk_at s171_0 19 rfl rfl)) rfl
theorem f171_20 : ft 171 20 = some (9, 1, 0, .aload 4, 2) := Fm171 (dk_25 4 (dk_at s171_0 20 rfl rfl)) rfl
theorem f171_22 : ft 171 22 = some (9, 1, 0, .iload_n 2, 1) := Fm171 (dk_28 (dk_at s171_0 22 rfl rfl)) rfl
theorem f171_23 : ft 171 23 = some (9, 1, 0, .iload_n 3, 1) := Fm171 (dk_29 (dk_at s171_0 23 rfl rfl)) rfl
theorem f171_24 : ft 171 24 = some (9, 1, 0, .invokevirtual 117, 3) := Fm171 (dk_182 0 117 (dk_at s171_1 0 rfl rfl)) rfl
theorem f171_27 : ft 171 27 = some (9, 1, 0, .aload_n 0, 1) := Fm171 (dk_42 (dk_at s171_1 3 rfl rfl)) rfl
theorem f171_28 : ft 171 28 = some (9, 1, 0, .aload 4, 2) := Fm171 (dk_25 4 (dk_at s171_1 4 rfl rfl)) rfl
theorem f171_30 : ft 171 30 = some (9, 1, 0, .invokevirtual 121, 3) := Fm171 (dk_182 0 121 (dk_at s171_1 6 rfl rfl)) rfl
theorem f171_33 : ft 171 33 = some (9, 1, 0, .ireturn, 1) := Fm171 (dk_172 (dk_at s171_1 9 rfl rfl)) rfl
theorem q171 {d : Nat} {m : Mem} {a0 a1 a2 a3 : Int} (hd : 0 < d) (hz : TZ m) : le2 (if a1 = 0 then (gd (tg m a0 = 9) <| bR (cl (d - 1) 172 [pR a0, pI 1] m) fun v2 m2 => rn d 171 17 [pR a0, pI a1, pI a2, pI a3, pU] [pR v2] m2) else gd (tg m a0 = 9) <| bR (cl (d - 1) 173 [pR a0, pI a1] m) fun v1 m1 => rn d 171 17 [pR a0, pI a1, pI a2, pI a3, pU] [pR v1] m1) (cl d 171 [pR a0, pI a1, pI a2, pI a3] m) := by
  refine q_in (n := 5) (L := [pR a0, pI a1, pI a2, pI a3, pU]) rfl rfl rfl ?_
  refine r_iln1 (p := 1) f171_0 rfl ?_
  refine r_ifne (t := 12) (p := 4) f171_1 (by decide) rfl rfl ?_ ?_
  · refine r_aln0 (p := 5) f171_4 rfl ?_
    refine r_iconst (p := 6) f171_5 rfl (pinD rfl rfl) ?_
    refine le2_gd (fun h2 => ?_)
    refine r_invR (p := 9) f171_6 rfl rfl rfl (Or.inl h2) hd (Nat.le_of_ble_eq_true rfl) rfl rfl rfl (fun _ => rfl) (fun v2 m2 c2 => ?_)
    have hz2 := z_k c2 hz
    refine r_goto (p := 17) f171_9 (by decide) rfl ?_
    exact le2_refl _
  · refine r_aln0 (p := 13) f171_12 rfl ?_
    refine r_iln1 (p := 14) f171_13 rfl ?_
    refine le2_gd (fun h1 => ?_)
    refine r_invR (p := 17) f171_14 rfl rfl rfl (Or.inl h1) hd (Nat.le_of_ble_eq_true rfl) rfl rfl rfl (fun _ => rfl) (fun v1 m1 c1 => ?_)
    have hz1 := z_k c1 hz
    exact le2_refl _
theorem q171_17 {d : Nat} {m : Mem} {a0 a1 a2 a3 s0 : Int} (hd : 0 < d) (hz : TZ m) : le2 (gd (tg m a0 = 9) <| bV (cl (d - 1) 174 [pR a0, pR s0, pI a2, pI a3] m) fun m1 => bI (cl (d - 1) 177 [pR a0, pR s0] m1) fun v2 m2 => some (.inl (some (pI v2)), m2)) (rn d 171 17 [pR a0, pI a1, pI a2, pI a3, pU] [pR s0] m) := by
  refine r_asw4 (p := 19) f171_17 rfl rfl ?_
  refine r_aln0 (p := 20) f171_19 rfl ?_
  refine r_alw4 (p := 22) f171_20 rfl ?_
  refine r_iln2 (p := 23) f171_22 rfl ?_
  refine r_iln3 (p := 24) f171_23 rfl ?_
  refine le2_gd (fun h1 => ?_)
  refine r_invV (p := 27) f171_24 rfl rfl rfl (Or.inl h1) hd (Nat.le_of_ble_eq_true rfl) rfl rfl rfl (fun _ => rfl) (fun m1 c1 => ?_)
  have hz1 := z_k c1 hz
  refine r_aln0 (p := 28) f171_27 rfl ?_
  refine r_alw4 (p := 30) f171_28 rfl ?_
  have h2 := k_t1 c1 hz h1 (by decide)
  refine r_invI (p := 33) f171_30 rfl rfl rfl (Or.inl h2) hd (Nat.le_of_ble_eq_true rfl) rfl rfl rfl (fun _ => rfl) (fun v2 m2 c2 => ?_)
  have hz2 := z_k c2 hz1
  exact r_iret1 f171_33
/-! 172 PathStore$Disk.fresh (Z)LPathStore$Disk$Node; -/
def w172_2 : List UInt8 := [50, 27, 182, 0, 104, 176]
abbrev u172_2 : List UInt8 := w172_2 ++ []
def w172_1 : List UInt8 := [183, 0, 103, 83, 42, 89, 180, 0, 100, 4, 96, 181, 0, 100, 42, 180, 0, 31, 42, 180, 0, 100, 4, 100]
abbrev u172_1 : List UInt8 := w172_1 ++ u172_2
def w172_0 : List UInt8 := [42, 180, 0, 31, 42, 180, 0, 100, 50, 199, 0, 19, 42, 180, 0, 31, 42, 180, 0, 100, 187, 0, 29, 89]
abbrev u172_0 : List UInt8 := w172_0 ++ u172_1
theorem s172_0 : (prog_5_method_15_code).data.toList.drop 0 = u172_0 := by decide +kernel
theorem s172_1 : (prog_5_method_15_code).data.toList.drop 24 = u172_1 := dk_seg s172_0 24 rfl rfl
theorem s172_2 : (prog_5_method_15_code).data.toList.drop 48 = u172_2 := dk_seg s172_1 24 rfl rfl
theorem Fm172 {pc len : Nat} {i : Instr} (h : decode (prog_5_method_15_code) pc = .ok (i, len)) (hl : len = ilen i len) : ft 172 pc = some (9, 3, 0, i, len) := ft_mk rfl h hl
theorem f172_0 : ft 172 0 = some (9, 3, 0, .aload_n 0, 1) := Fm172 (dk_42 (dk_at s172_0 0 rfl rfl)) rfl
theorem f172_1 : ft 172 1 = some (9, 3, 0, .getfield 31, 3) := Fm172 (dk_180 0 31 (dk_at s172_0 1 rfl rfl)) rfl
theorem f172_4 : ft 172 4 = some (9, 3, 0, .aload_n 0, 1) := Fm172 (dk_42 (dk_at s172_0 4 rfl rfl)) rfl
theorem f172_5 : ft 172 5 = some (9, 3, 0, .getfield 100, 3) := Fm172 (dk_180 0 100 (dk_at s172_0 5 rfl rfl)) rfl
theorem f172_8 : ft 172 8 = some (9, 3, 0, .aaload, 1) := Fm172 (dk_50 (dk_at s172_0 8 rfl rfl)) rfl
theorem f172_9 : ft 172 9 = some (9, 3, 0, .ifnonnull 19, 3) := Fm172 (dk_199 0 19 (dk_at s172_0 9 rfl rfl)) rfl
theorem f172_12 : ft 172 12 = some (9, 3, 0, .aload_n 0, 1) := Fm172 (dk_42 (dk_at s172_0 12 rfl rfl)) rfl
theorem f172_13 : ft 172 13 = some (9, 3, 0, .getfield 31, 3) := Fm172 (dk_180 0 31 (dk_at s172_0 13 rfl rfl)) rfl
theorem f172_16 : ft 172 16 = some (9, 3, 0, .aload_n 0, 1) := Fm172 (dk_42 (dk_at s172_0 16 rfl rfl)) rfl
theorem f172_17 : ft 172 17 = some (9, 3, 0, .getfield 100, 3) := Fm172 (dk_180 0 100 (dk_at s172_0 17 rfl rfl)) rfl
theorem f172_20 : ft 172 20 = some (9, 3, 0, .new 29, 3) := Fm172 (dk_187 0 29 (dk_at s172_0 20 rfl rfl)) rfl
theorem f172_23 : ft 172 23 = some (9, 3, 0, .dup, 1) := Fm172 (dk_89 (dk_at s172_0 23 rfl rfl)) rfl
theorem f172_24 : ft 172 24 = some (9, 3, 0, .invokespecial 103, 3) := Fm172 (dk_183 0 103 (dk_at s172_1 0 rfl rfl)) rfl
theorem f172_27 : ft 172 27 = some (9, 3, 0, .aastore, 1) := Fm172 (dk_83 (dk_at s172_1 3 rfl rfl)) rfl
theorem f172_28 : ft 172 28 = some (9, 3, 0, .aload_n 0, 1) := Fm172 (dk_42 (dk_at s172_1 4 rfl rfl)) rfl
theorem f172_29 : ft 172 29 = some (9, 3, 0, .dup, 1) := Fm172 (dk_89 (dk_at s172_1 5 rfl rfl)) rfl
theorem f172_30 : ft 172 30 = some (9, 3, 0, .getfield 100, 3) := Fm172 (dk_180 0 100 (dk_at s172_1 6 rfl rfl)) rfl
theorem f172_33 : ft 172 33 = some (9, 3, 0, .iconst 1, 1) := Fm172 (dk_4 (dk_at s172_1 9 rfl rfl)) rfl
theorem f172_34 : ft 172 34 = some (9, 3, 0, .iadd, 1) := Fm172 (dk_96 (dk_at s172_1 10 rfl rfl)) rfl
theorem f172_35 : ft 172 35 = some (9, 3, 0, .putfield 100, 3) := Fm172 (dk_181 0 100 (dk_at s172_1 11 rfl rfl)) rfl
theorem f172_38 : ft 172 38 = some (9, 3, 0, .aload_n 0, 1) := Fm172 (dk_42 (dk_at s172_1 14 rfl rfl)) rfl
theorem f172_39 : ft 172 39 = some (9, 3, 0, .getfield 31, 3) := Fm172 (dk_180 0 31 (dk_at s172_1 15 rfl rfl)) rfl
theorem f172_42 : ft 172 42 = some (9, 3, 0, .aload_n 0, 1) := Fm172 (dk_42 (dk_at s172_1 18 rfl rfl)) rfl
theorem f172_43 : ft 172 43 = some (9, 3, 0, .getfield 100, 3) := Fm172 (dk_180 0 100 (dk_at s172_1 19 rfl rfl)) rfl
theorem f172_46 : ft 172 46 = some (9, 3, 0, .iconst 1, 1) := Fm172 (dk_4 (dk_at s172_1 22 rfl rfl)) rfl
theorem f172_47 : ft 172 47 = some (9, 3, 0, .isub, 1) := Fm172 (dk_100 (dk_at s172_1 23 rfl rfl)) rfl
theorem f172_48 : ft 172 48 = some (9, 3, 0, .aaload, 1) := Fm172 (dk_50 (dk_at s172_2 0 rfl rfl)) rfl
theorem f172_49 : ft 172 49 = some (9, 3, 0, .iload_n 1, 1) := Fm172 (dk_27 (dk_at s172_2 1 rfl rfl)) rfl
theorem f172_50 : ft 172 50 = some (9, 3, 0, .invokevirtual 104, 3) := Fm172 (dk_182 0 104 (dk_at s172_2 2 rfl rfl)) rfl
theorem f172_53 : ft 172 53 = some (9, 3, 0, .areturn, 1) := Fm172 (dk_176 (dk_at s172_2 5 rfl rfl)) rfl
theorem q172 {d : Nat} {m : Mem} {a0 a1 : Int} (hd : 0 < d) (hz : TZ m) : le2 (gd (tg m a0 = 9) <| nm (vl m a0 7) fun v3 => nm (vl m a0 8) fun v4 => gd (tg m v3 = 153114) <| gd ((0 : Int) ≤ v4 ∧ v4 < ln m v3) <| if (vl m v3 v4) = 0 then (nw (nx m) (mal m 14 4) fun o1 m1 => bV (cl (d - 1) 297 [pR o1] m1) fun m2 => gd ((0 : Int) ≤ v4 ∧ v4 < ln m2 v3) <| gd (aOk (tg m2 v3 % 1000) (tg m2 o1) = true) <| rn d 172 28 [pR a0, pI a1] [] (mst m2 v3 v4 o1)) else rn d 172 28 [pR a0, pI a1] [] m) (cl d 172 [pR a0, pI a1] m) := by
  refine q_in (n := 2) (L := [pR a0, pI a1]) rfl rfl rfl ?_
  refine r_aln0 (p := 1) f172_0 rfl ?_
  refine le2_gd (fun h1 => ?_)
  refine r_gfR (f := 7) (p := 4) f172_1 rfl rfl rfl (Or.inl h1) rfl ?_
  refine r_nmR (fun v3 ev3 => ?_)
  refine r_aln0 (p := 5) f172_4 rfl ?_
  refine r_gfI (f := 8) (p := 8) f172_5 rfl rfl rfl (Or.inl h1) rfl ?_
  refine r_nmI (fun v4 ev4 => ?_)
  refine le2_gd (fun h2 => ?_)
  refine le2_gd (fun h3 => ?_)
  refine r_aaload (p := 9) f172_8 rfl (dj1 (fun x => 110 < x % 1000 ∧ x % 1000 < 119) h2 (by decide)) h3 rfl ?_
  refine r_ifnonnull (t := 28) (p := 12) f172_9 (by decide) rfl rfl ?_ ?_
  · refine r_aln0 (p := 13) f172_12 rfl ?_
    refine r_gfR (f := 7) (p := 16) f172_13 rfl rfl rfl (Or.inl h1) ev3.symm ?_
    refine r_aln0 (p := 17) f172_16 rfl ?_
    refine r_gfI (f := 8) (p := 20) f172_17 rfl rfl rfl (Or.inl h1) ev4.symm ?_
    refine r_new (t1 := 14) (f1 := 4) (p := 23) f172_20 rfl rfl rfl rfl rfl (fun o1 m1 h4 k1 => ?_)
    have hz1 := z_k k1 hz
    refine r_dup (p := 24) f172_23 rfl rfl ?_
    refine r_ispV (p := 27) f172_24 rfl rfl rfl (Or.inl h4) hd (Nat.le_of_ble_eq_true rfl) rfl rfl rfl (fun _ => rfl) (fun m2 c2 => ?_)
    have hz2 := z_k c2 hz1
    have h5 := k_t1 k1 hz h2 (by decide)
    have h6 := k_t1 c2 hz1 h5 (by decide)
    refine le2_gd (fun h7 => ?_)
    refine le2_gd (fun h8 => ?_)
    refine r_aastore (p := 28) f172_27 rfl (dj1 (fun x => 1000 ≤ x ∧ (110 < x % 1000 ∧ x % 1000 < 119) ∧ Nat.testBit (eM 172) (bix x 0) = true) h6 (by decide)) h7 h8 ?_
    exact le2_refl _
  · exact le2_refl _
theorem q172_28 {d : Nat} {m : Mem} {a0 a1 : Int} (hd : 0 < d) (hz : TZ m) : le2 (gd (tg m a0 = 9) <| nm (w32 ((vl m a0 8) + 1)) fun v2 => nm (vl m a0 7) fun v3 => nm (w32 (v2 - 1)) fun v4 => gd (tg m v3 = 153114) <| gd ((0 : Int) ≤ v4 ∧ v4 < ln m v3) <| nm (vl m v3 v4) fun v5 => gd (tg m v5 = 14) <| bR (cl (d - 1) 298 [pR v5, pI a1] (mst m a0 8 v2)) fun v1 m1 => some (.inl (some (pR v1)), m1)) (rn d 172 28 [pR a0, pI a1] [] m) := by
  refine r_aln0 (p := 29) f172_28 rfl ?_
  refine r_dup (p := 30) f172_29 rfl rfl ?_
  refine le2_gd (fun h1 => ?_)
  refine r_gfI (f := 8) (p := 33) f172_30 rfl rfl rfl (Or.inl h1) rfl ?_
  refine r_iconst (p := 34) f172_33 rfl (pinD rfl rfl) ?_
  refine r_iadd (p := 35) f172_34 rfl ?_
  refine r_nmI (fun v2 ev2 => ?_)
  refine r_pfI (f := 8) (p := 38) f172_35 rfl rfl rfl (by decide) (by decide) (Or.inl h1) rfl ?_
  refine r_aln0 (p := 39) f172_38 rfl ?_
  refine r_gfR (f := 7) (p := 42) f172_39 rfl rfl rfl (Or.inl h1) (sk_f (by decide)) ?_
  refine r_nmR (fun v3 ev3 => ?_)
  refine r_aln0 (p := 43) f172_42 rfl ?_
  refine r_gfI (f := 8) (p := 46) f172_43 rfl rfl rfl (Or.inl h1) sk_s ?_
  refine r_iconst (p := 47) f172_46 rfl (pinD rfl rfl) ?_
  refine r_isub (p := 48) f172_47 rfl ?_
  refine r_nmI (fun v4 ev4 => ?_)
  refine le2_gd (fun h2 => ?_)
  refine le2_gd (fun h3 => ?_)
  refine r_aaload (p := 49) f172_48 rfl (dj1 (fun x => 110 < x % 1000 ∧ x % 1000 < 119) h2 (by decide)) h3 (sk_o (ne_oa (dj1 (fun x => x < 100) h1 (by decide)) (dj1 (fun x => ¬ x < 100) h2 (by decide))).symm) ?_
  refine r_nmR (fun v5 ev5 => ?_)
  refine r_iln1 (p := 50) f172_49 rfl ?_
  refine le2_gd (fun h4 => ?_)
  refine r_invR (p := 53) f172_50 rfl rfl rfl (Or.inl h4) hd (Nat.le_of_ble_eq_true rfl) rfl rfl rfl (fun _ => rfl) (fun v1 m1 c1 => ?_)
  have hz1 := z_k c1 hz
  exact r_aret f172_53
/-! 173 PathStore$Disk.node (I)LPathStore$Disk$Node; -/
def w173_3 : List UInt8 := [182, 0, 74, 79, 132, 3, 1, 167, 255, 213, 44, 176]
abbrev u173_3 : List UInt8 := w173_3 ++ []
def w173_2 : List UInt8 := [29, 42, 27, 6, 7, 29, 104, 96, 182, 0, 74, 79, 44, 180, 0, 90, 29, 42, 27, 8, 7, 29, 104, 96]
abbrev u173_2 : List UInt8 := w173_2 ++ u173_3
def w173_1 : List UInt8 := [44, 42, 27, 4, 182, 0, 74, 181, 0, 86, 3, 62, 29, 44, 180, 0, 86, 162, 0, 41, 44, 180, 0, 87]
abbrev u173_1 : List UInt8 := w173_1 ++ u173_2
def w173_0 : List UInt8 := [42, 42, 180, 0, 10, 27, 17, 2, 224, 104, 51, 5, 160, 0, 7, 4, 167, 0, 4, 3, 182, 0, 82, 77]
abbrev u173_0 : List UInt8 := w173_0 ++ u173_1
theorem s173_0 : (prog_5_method_11_code).data.toList.drop 0 = u173_0 := by decide +kernel
theorem s173_1 : (prog_5_method_11_code).data.toList.drop 24 = u173_1 := dk_seg s173_0 24 rfl rfl
theorem s173_2 : (prog_5_method_11_code).data.toList.drop 48 = u173_2 := dk_seg s173_1 24 rfl rfl
theorem s173_3 : (prog_5_method_11_code).data.toList.drop 72 = u173_3 := dk_seg s173_2 24 rfl rfl
theorem Fm173 {pc len : Nat} {i : Instr} (h : decode (prog_5_method_11_code) pc = .ok (i, len)) (hl : len = ilen i len) : ft 173 pc = some (9, 3, 0, i, len) := ft_mk rfl h hl
theorem f173_0 : ft 173 0 = some (9, 3, 0, .aload_n 0, 1) := Fm173 (dk_42 (dk_at s173_0 0 rfl rfl)) rfl
theorem f173_1 : ft 173 1 = some (9, 3, 0, .aload_n 0, 1) := Fm173 (dk_42 (dk_at s173_0 1 rfl rfl)) rfl
theorem f173_2 : ft 173 2 = some (9, 3, 0, .getfield 10, 3) := Fm173 (dk_180 0 10 (dk_at s173_0 2 rfl rfl)) rfl
theorem f173_5 : ft 173 5 = some (9, 3, 0, .iload_n 1, 1) := Fm173 (dk_27 (dk_at s173_0 5 rfl rfl)) rfl
theorem f173_6 : ft 173 6 = some (9, 3, 0, .sipush 736, 3) := Fm173 (dk_17 2 224 (dk_at s173_0 6 rfl rfl)) rfl
theorem f173_9 : ft 173 9 = some (9, 3, 0, .imul, 1) := Fm173 (dk_104 (dk_at s173_0 9 rfl rfl)) rfl
theorem f173_10 : ft 173 10 = some (9, 3, 0, .baload, 1) := Fm173 (dk_51 (dk_at s173_0 10 rfl rfl)) rfl
theorem f173_11 : ft 173 11 = some (9, 3, 0, .iconst 2, 1) := Fm173 (dk_5 (dk_at s173_0 11 rfl rfl)) rfl
theorem f173_12 : ft 173 12 = some (9, 3, 0, .if_icmp .ne 7, 3) := Fm173 (dk_160 0 7 (dk_at s173_0 12 rfl rfl)) rfl
theorem f173_15 : ft 173 15 = some (9, 3, 0, .iconst 1, 1) := Fm173 (dk_4 (dk_at s173_0 15 rfl rfl)) rfl
theorem f173_16 : ft 173 16 = some (9, 3, 0, .goto 4, 3) := Fm173 (dk_167 0 4 (dk_at s173_0 16 rfl rfl)) rfl
theorem f173_19 : ft 173 19 = some (9, 3, 0, .iconst 0, 1) := Fm173 (dk_3 (dk_at s173_0 19 rfl rfl)) rfl
theorem f173_20 : ft 173 20 = some (9, 3, 0, .invokevirtual 82, 3) := Fm173 (dk_182 0 82 (dk_at s173_0 20 rfl rfl)) rfl
theorem f173_23 : ft 173 23 = some (9, 3, 0, .astore_n 2, 1) := Fm173 (dk_77 (dk_at s173_0 23 rfl rfl)) rfl
theorem f173_24 : ft 173 24 = some (9, 3, 0, .aload_n 2, 1) := Fm173 (dk_44 (dk_at s173_1 0 rfl rfl)) rfl
theorem f173_25 : ft 173 25 = some (9, 3, 0, .aload_n 0, 1) := Fm173 (dk_42 (dk_at s173_1 1 rfl rfl)) rfl
theorem f173_26 : ft 173 26 = some (9, 3, 0, .iload_n 1, 1) := Fm173 (dk_27 (dk_at s173_1 2 rfl rfl)) rfl
theorem f173_27 : ft 173 27 = some (9, 3, 0, .iconst 1, 1) := Fm173 (dk_4 (dk_at s173_1 3 rfl rfl)) rfl
theorem f173_28 : ft 173 28 = some (9, 3, 0, .invokevirtual 74, 3) := Fm173 (dk_182 0 74 (dk_at s173_1 4 rfl rfl)) rfl
theorem f173_31 : ft 173 31 = some (9, 3, 0, .putfield 86, 3) := Fm173 (dk_181 0 86 (dk_at s173_1 7 rfl rfl)) rfl
theorem f173_34 : ft 173 34 = some (9, 3, 0, .iconst 0, 1) := Fm173 (dk_3 (dk_at s173_1 10 rfl rfl)) rfl
theorem f173_35 : ft 173 35 = some (9, 3, 0, .istore_n 3, 1) := Fm173 (dk_62 (dk_at s173_1 11 rfl rfl)) rfl
theorem f173_36 : ft 173 36 = some (9, 3, 0, .iload_n 3, 1) := Fm173 (dk_29 (dk_at s173_1 12 rfl rfl)) rfl
theorem f173_37 : ft 173 37 = some (9, 3, 0, .aload_n 2, 1) := Fm173 (dk_44 (dk_at s173_1 13 rfl rfl)) rfl
theorem f173_38 : ft 173 38 = some (9, 3, 0, .getfield 86, 3) := Fm173 (dk_180 0 86 (dk_at s173_1 14 rfl rfl)) rfl
theorem f173_41 : ft 173 41 = some (9, 3, 0, .if_icmp .ge 41, 3) := Fm173 (dk_162 0 41 (dk_at s173_1 17 rfl rfl)) rfl
theorem f173_44 : ft 173 44 = some (9, 3, 0, .aload_n 2, 1) := Fm173 (dk_44 (dk_at s173_1 20 rfl rfl)) rfl
theorem f173_45 : ft 173 45 = some (9, 3, 0, .getfield 87, 3) := Fm173 (dk_180 0 87 (dk_at s173_1 21 rfl rfl)) rfl
theorem f173_48 : ft 173 48 = some (9, 3, 0, .iload_n 3, 1) := Fm173 (dk_29 (dk_at s173_2 0 rfl rfl)) rfl
theorem f173_49 : ft 173 49 = some (9, 3, 0, .aload_n 0, 1) := Fm173 (dk_42 (dk_at s173_2 1 rfl rfl)) rfl
theorem f173_50 : ft 173 50 = some (9, 3, 0, .iload_n 1, 1) := Fm173 (dk_27 (dk_at s173_2 2 rfl rfl)) rfl
theorem f173_51 : ft 173 51 = some (9, 3, 0, .iconst 3, 1) := Fm173 (dk_6 (dk_at s173_2 3 rfl rfl)) rfl
theorem f173_52 : ft 173 52 = some (9, 3, 0, .iconst 4, 1) := Fm173 (dk_7 (dk_at s173_2 4 rfl rfl)) rfl
theorem f173_53 : ft 173 53 = some (9, 3, 0, .iload_n 3, 1) := Fm173 (dk_29 (dk_at s173_2 5 rfl rfl)) rfl
theorem f173_54 : ft 173 54 = some (9, 3, 0, .imul, 1) := Fm173 (dk_104 (dk_at s173_2 6 rfl rfl)) rfl
theorem f173_55 : ft 173 55 = some (9, 3, 0, .iadd, 1) := Fm173 (dk_96 (dk_at s173_2 7 rfl rfl)) rfl
theorem f173_56 : ft 173 56 = some (9, 3, 0, .invokevirtual 74, 3) := Fm173 (dk_182 0 74 (dk_at s173_2 8 rfl rfl)) rfl
theorem f173_59 : ft 173 59 = some (9, 3, 0, .iastore, 1) := Fm173 (dk_79 (dk_at s173_2 11 rfl rfl)) rfl
theorem f173_60 : ft 173 60 = some (9, 3, 0, .aload_n 2, 1) := Fm173 (dk_44 (dk_at s173_2 12 rfl rfl)) rfl
theorem f173_61 : ft 173 61 = some (9, 3, 0, .getfield 90, 3) := Fm173 (dk_180 0 90 (dk_at s173_2 13 rfl rfl)) rfl
theorem f173_64 : ft 173 64 = some (9, 3, 0, .iload_n 3, 1) := Fm173 (dk_29 (dk_at s173_2 16 rfl rfl)) rfl
theorem f173_65 : ft 173 65 = some (9, 3, 0, .aload_n 0, 1) := Fm173 (dk_42 (dk_at s173_2 17 rfl rfl)) rfl
theorem f173_66 : ft 173 66 = some (9, 3, 0, .iload_n 1, 1) := Fm173 (dk_27 (dk_at s173_2 18 rfl rfl)) rfl
theorem f173_67 : ft 173 67 = some (9, 3, 0, .iconst 5, 1) := Fm173 (dk_8 (dk_at s173_2 19 rfl rfl)) rfl
theorem f173_68 : ft 173 68 = some (9, 3, 0, .iconst 4, 1) := Fm173 (dk_7 (dk_at s173_2 20 rfl rfl)) rfl
theorem f173_69 : ft 173 69 = some (9, 3, 0, .iload_n 3, 1) := Fm173 (dk_29 (dk_at s173_2 21 rfl rfl)) rfl
theorem f173_70 : ft 173 70 = some (9, 3, 0, .imul, 1) := Fm173 (dk_104 (dk_at s173_2 22 rfl rfl)) rfl
theorem f173_71 : ft 173 71 = some (9, 3, 0, .iadd, 1) := Fm173 (dk_96 (dk_at s173_2 23 rfl rfl)) rfl
theorem f173_72 : ft 173 72 = some (9, 3, 0, .invokevirtual 74, 3) := Fm173 (dk_182 0 74 (dk_at s173_3 0 rfl rfl)) rfl
theorem f173_75 : ft 173 75 = some (9, 3, 0, .iastore, 1) := Fm173 (dk_79 (dk_at s173_3 3 rfl rfl)) rfl
theorem f173_76 : ft 173 76 = some (9, 3, 0, .iinc 3 1, 3) := Fm173 (dk_132 3 1 (dk_at s173_3 4 rfl rfl)) rfl
theorem f173_79 : ft 173 79 = some (9, 3, 0, .goto (-43), 3) := Fm173 (dk_167 255 213 (dk_at s173_3 7 rfl rfl)) rfl
theorem f173_82 : ft 173 82 = some (9, 3, 0, .aload_n 2, 1) := Fm173 (dk_44 (dk_at s173_3 10 rfl rfl)) rfl
theorem f173_83 : ft 173 83 = some (9, 3, 0, .areturn, 1) := Fm173 (dk_176 (dk_at s173_3 11 rfl rfl)) rfl
theorem q173 {d : Nat} {m : Mem} {a0 a1 : Int} (hz : TZ m) : le2 (gd (tg m a0 = 9) <| nm (vl m a0 0) fun v1 => nm (w32 (a1 * 736)) fun v2 => gd (tg m v1 = 153103) <| gd ((0 : Int) ≤ v2 ∧ v2 < ln m v1) <| if (vl m v1 v2) = 2 then (rn d 173 20 [pR a0, pI a1, pU, pU] [pI 1, pR a0] m) else rn d 173 20 [pR a0, pI a1, pU, pU] [pI 0, pR a0] m) (cl d 173 [pR a0, pI a1] m) := by
  refine q_in (n := 4) (L := [pR a0, pI a1, pU, pU]) rfl rfl rfl ?_
  refine r_aln0 (p := 1) f173_0 rfl ?_
  refine r_aln0 (p := 2) f173_1 rfl ?_
  refine le2_gd (fun h1 => ?_)
  refine r_gfR (f := 0) (p := 5) f173_2 rfl rfl rfl (Or.inl h1) rfl ?_
  refine r_nmR (fun v1 ev1 => ?_)
  refine r_iln1 (p := 6) f173_5 rfl ?_
  refine r_sipush (p := 9) f173_6 rfl (pinD rfl rfl) ?_
  refine r_imul (p := 10) f173_9 rfl ?_
  refine r_nmI (fun v2 ev2 => ?_)
  refine le2_gd (fun h2 => ?_)
  refine le2_gd (fun h3 => ?_)
  refine r_baload (p := 11) f173_10 rfl (dj1 (fun x => x % 1000 = 103 ∨ x % 1000 = 105) h2 (by decide)) h3 rfl ?_
  refine r_iconst (p := 12) f173_11 rfl (pinD rfl rfl) ?_
  refine r_icne (t := 19) (p := 15) f173_12 (by decide) rfl rfl ?_ ?_
  · refine r_iconst (p := 16) f173_15 rfl (pinD rfl rfl) ?_
    refine r_goto (p := 20) f173_16 (by decide) rfl ?_
    exact le2_refl _
  · refine r_iconst (p := 20) f173_19 rfl (pinD rfl rfl) ?_
    exact le2_refl _
theorem q173_20 {d : Nat} {m : Mem} {a0 a1 s1 s0 : Int} (hd : 0 < d) (hz : TZ m) : le2 (gd (tg m s0 = 9) <| bR (cl (d - 1) 172 [pR s0, pI s1] m) fun v1 m1 => gd (tg m1 a0 = 9) <| bI (cl (d - 1) 162 [pR a0, pI a1, pI 1] m1) fun v2 m2 => gd (tg m2 v1 = 14) <| rn d 173 36 [pR a0, pI a1, pR v1, pI 0] [] (mst m2 v1 3 v2)) (rn d 173 20 [pR a0, pI a1, pU, pU] [pI s1, pR s0] m) := by
  refine le2_gd (fun h1 => ?_)
  refine r_invR (p := 23) f173_20 rfl rfl rfl (Or.inl h1) hd (Nat.le_of_ble_eq_true rfl) rfl rfl rfl (fun _ => rfl) (fun v1 m1 c1 => ?_)
  have hz1 := z_k c1 hz
  refine r_asn2 (p := 24) f173_23 rfl rfl ?_
  refine r_aln2 (p := 25) f173_24 rfl ?_
  refine r_aln0 (p := 26) f173_25 rfl ?_
  refine r_iln1 (p := 27) f173_26 rfl ?_
  refine r_iconst (p := 28) f173_27 rfl (pinD rfl rfl) ?_
  refine le2_gd (fun h2 => ?_)
  refine r_invI (p := 31) f173_28 rfl rfl rfl (Or.inl h2) hd (Nat.le_of_ble_eq_true rfl) rfl rfl rfl (fun _ => rfl) (fun v2 m2 c2 => ?_)
  have hz2 := z_k c2 hz1
  refine le2_gd (fun h3 => ?_)
  refine r_pfI (f := 3) (p := 34) f173_31 rfl rfl rfl (by decide) (by decide) (Or.inl h3) rfl ?_
  refine r_iconst (p := 35) f173_34 rfl (pinD rfl rfl) ?_
  refine r_isn3 (p := 36) f173_35 rfl rfl ?_
  exact le2_refl _
theorem q173_36 {d : Nat} {m : Mem} {a0 a1 a2 a3 : Int} (hd : 0 < d) (hz : TZ m) : le2 (gd (tg m a2 = 14) <| if a3 < (vl m a2 3) then (nm (vl m a2 1) fun v3 => gd (tg m a0 = 9) <| bI (cl (d - 1) 162 [pR a0, pI a1, pI (w32 (3 + (w32 (4 * a3))))] m) fun v1 m1 => gd (tg m1 v3 = 298101) <| gd ((0 : Int) ≤ a3 ∧ a3 < ln m1 v3) <| nm (vl m1 a2 2) fun v4 => bI (cl (d - 1) 162 [pR a0, pI a1, pI (w32 (5 + (w32 (4 * a3))))] (mst m1 v3 a3 v1)) fun v2 m2 => gd (tg m2 v4 = 298101) <| gd ((0 : Int) ≤ a3 ∧ a3 < ln m2 v4) <| rn d 173 36 [pR a0, pI a1, pR a2, pI (w32 (a3 + 1))] [] (mst m2 v4 a3 v2)) else some (.inl (some (pR a2)), m)) (rn d 173 36 [pR a0, pI a1, pR a2, pI a3] [] m) := by
  refine r_iln3 (p := 37) f173_36 rfl ?_
  refine r_aln2 (p := 38) f173_37 rfl ?_
  refine le2_gd (fun h1 => ?_)
  refine r_gfI (f := 3) (p := 41) f173_38 rfl rfl rfl (Or.inl h1) rfl ?_
  refine r_icge (t := 82) (p := 44) f173_41 (by decide) rfl rfl ?_ ?_
  · refine r_aln2 (p := 45) f173_44 rfl ?_
    refine r_gfR (f := 1) (p := 48) f173_45 rfl rfl rfl (Or.inl h1) rfl ?_
    refine r_nmR (fun v3 ev3 => ?_)
    refine r_iln3 (p := 49) f173_48 rfl ?_
    refine r_aln0 (p := 50) f173_49 rfl ?_
    refine r_iln1 (p := 51) f173_50 rfl ?_
    refine r_iconst (p := 52) f173_51 rfl (pinD rfl rfl) ?_
    refine r_iconst (p := 53) f173_52 rfl (pinD rfl rfl) ?_
    refine r_iln3 (p := 54) f173_53 rfl ?_
    refine r_imul (p := 55) f173_54 rfl ?_
    refine r_iadd (p := 56) f173_55 rfl ?_
    refine le2_gd (fun h2 => ?_)
    refine r_invI (p := 59) f173_56 rfl rfl rfl (Or.inl h2) hd (Nat.le_of_ble_eq_true rfl) rfl rfl rfl (fun _ => rfl) (fun v1 m1 c1 => ?_)
    have hz1 := z_k c1 hz
    refine le2_gd (fun h3 => ?_)
    refine le2_gd (fun h4 => ?_)
    refine r_iastore (p := 60) f173_59 rfl (dj1 (fun x => 1000 ≤ x ∧ x % 1000 = 101 ∧ Nat.testBit (eM 173) (bix x 0) = true) h3 (by decide)) h4 ?_
    refine r_aln2 (p := 61) f173_60 rfl ?_
    have h5 := k_t1 c1 hz h1 (by decide)
    refine r_gfR (f := 2) (p := 64) f173_61 rfl rfl rfl (Or.inl h5) (sk_o (ne_oa (dj1 (fun x => x < 100) h5 (by decide)) (dj1 (fun x => ¬ x < 100) h3 (by decide)))) ?_
    refine r_nmR (fun v4 ev4 => ?_)
    refine r_iln3 (p := 65) f173_64 rfl ?_
    refine r_aln0 (p := 66) f173_65 rfl ?_
    refine r_iln1 (p := 67) f173_66 rfl ?_
    refine r_iconst (p := 68) f173_67 rfl (pinD rfl rfl) ?_
    refine r_iconst (p := 69) f173_68 rfl (pinD rfl rfl) ?_
    refine r_iln3 (p := 70) f173_69 rfl ?_
    refine r_imul (p := 71) f173_70 rfl ?_
    refine r_iadd (p := 72) f173_71 rfl ?_
    have h6 := k_t1 c1 hz h2 (by decide)
    refine r_invI (p := 75) f173_72 rfl rfl rfl (Or.inl h6) hd (Nat.le_of_ble_eq_true rfl) rfl rfl rfl (fun _ => rfl) (fun v2 m2 c2 => ?_)
    have hz2 := z_k c2 hz1
    refine le2_gd (fun h7 => ?_)
    refine le2_gd (fun h8 => ?_)
    refine r_iastore (p := 76) f173_75 rfl (dj1 (fun x => 1000 ≤ x ∧ x % 1000 = 101 ∧ Nat.testBit (eM 173) (bix x 0) = true) h7 (by decide)) h8 ?_
    refine r_iinc3 (p := 79) f173_76 rfl rfl ?_
    refine r_goto (p := 36) f173_79 (by decide) rfl ?_
    exact le2_refl _
  · refine r_aln2 (p := 83) f173_82 rfl ?_
    exact r_aret f173_83
/-! 174 PathStore$Disk.insert (LPathStore$Disk$Node;II)V -/
def w174_5 : List UInt8 := [182, 0, 132, 42, 43, 21, 4, 25, 5, 182, 0, 135, 177]
abbrev u174_5 : List UInt8 := w174_5 ++ []
def w174_4 : List UInt8 := [180, 0, 90, 21, 4, 46, 182, 0, 113, 58, 5, 42, 25, 5, 28, 29, 182, 0, 117, 43, 21, 4]
abbrev u174_4 : List UInt8 := w174_4 ++ u174_5
def w174_3 : List UInt8 := [46, 28, 162, 0, 10, 21, 4, 4, 96, 167, 0, 5, 21, 4, 28, 29, 182, 0, 129, 177, 42, 43]
abbrev u174_3 : List UInt8 := w174_3 ++ u174_4
def w174_2 : List UInt8 := [180, 0, 90, 21, 4, 29, 79, 167, 0, 36, 43, 43, 180, 0, 86, 158, 0, 21, 43, 180, 0, 87, 21, 4]
abbrev u174_2 : List UInt8 := w174_2 ++ u174_3
def w174_1 : List UInt8 := [153, 0, 66, 43, 180, 0, 86, 158, 0, 25, 43, 180, 0, 87, 21, 4, 46, 28, 160, 0, 14, 43]
abbrev u174_1 : List UInt8 := w174_1 ++ u174_2
def w174_0 : List UInt8 := [43, 180, 0, 86, 154, 0, 7, 3, 167, 0, 8, 43, 28, 182, 0, 125, 54, 4, 43, 180, 0, 93]
abbrev u174_0 : List UInt8 := w174_0 ++ u174_1
theorem s174_0 : (prog_5_method_22_code).data.toList.drop 0 = u174_0 := by decide +kernel
theorem s174_1 : (prog_5_method_22_code).data.toList.drop 22 = u174_1 := dk_seg s174_0 22 rfl rfl
theorem s174_2 : (prog_5_method_22_code).data.toList.drop 44 = u174_2 := dk_seg s174_1 22 rfl rfl
theorem s174_3 : (prog_5_method_22_code).data.toList.drop 68 = u174_3 := dk_seg s174_2 24 rfl rfl
theorem s174_4 : (prog_5_method_22_code).data.toList.drop 90 = u174_4 := dk_seg s174_3 22 rfl rfl
theorem s174_5 : (prog_5_method_22_code).data.toList.drop 112 = u174_5 := dk_seg s174_4 22 rfl rfl
theorem Fm174 {pc len : Nat} {i : Instr} (h : decode (prog_5_method_22_code) pc = .ok (i, len)) (hl : len = ilen i len) : ft 174 pc = some (9, 0, 0, i, len) := ft_mk rfl h hl
theorem f174_0 : ft 174 0 = some (9, 0, 0, .aload_n 1, 1) := Fm174 (dk_43 (dk_at s174_0 0 rfl rfl)) rfl
theorem f174_1 : ft 174 1 = some (9, 0, 0, .getfield 86, 3) := Fm174 (dk_180 0 86 (dk_at s174_0 1 rfl rfl)) rfl
theorem f174_4 : ft 174 4 = some (9, 0, 0, .ifCond .ne 7, 3) := Fm174 (dk_154 0 7 (dk_at s174_0 4 rfl rfl)) rfl
theorem f174_7 : ft 174 7 = some (9, 0, 0, .iconst 0, 1) := Fm174 (dk_3 (dk_at s174_0 7 rfl rfl)) rfl
theorem f174_8 : ft 174 8 = some (9, 0, 0, .goto 8, 3) := Fm174 (dk_167 0 8 (dk_at s174_0 8 rfl rfl)) rfl
theorem f174_11 : ft 174 11 = some (9, 0, 0, .aload_n 1, 1) := Fm174 (dk_43 (dk_at s174_0 11 rfl rfl)) rfl
theorem f174_12 : ft 174 12 = some (9, 0, 0, .iload_n 2, 1) := Fm174 (dk_28 (dk_at s174_0 12 rfl rfl)) rfl
theorem f174_13 : ft 174 13 = some (9, 0, 0, .invokevirtual 125, 3) := Fm174 (dk_182 0 125 (dk_at s174_0 13 rfl rfl)) rfl
theorem f174_16 : ft 174 16 = some (9, 0, 0, .istore 4, 2) := Fm174 (dk_54 4 (dk_at s174_0 16 rfl rfl)) rfl
theorem f174_18 : ft 174 18 = some (9, 0, 0, .aload_n 1, 1) := Fm174 (dk_43 (dk_at s174_0 18 rfl rfl)) rfl
theorem f174_19 : ft 174 19 = some (9, 0, 0, .getfield 93, 3) := Fm174 (dk_180 0 93 (dk_at s174_0 19 rfl rfl)) rfl
theorem f174_22 : ft 174 22 = some (9, 0, 0, .ifCond .eq 66, 3) := Fm174 (dk_153 0 66 (dk_at s174_1 0 rfl rfl)) rfl
theorem f174_25 : ft 174 25 = some (9, 0, 0, .aload_n 1, 1) := Fm174 (dk_43 (dk_at s174_1 3 rfl rfl)) rfl
theorem f174_26 : ft 174 26 = some (9, 0, 0, .getfield 86, 3) := Fm174 (dk_180 0 86 (dk_at s174_1 4 rfl rfl)) rfl
theorem f174_29 : ft 174 29 = some (9, 0, 0, .ifCond .le 25, 3) := Fm174 (dk_158 0 25 (dk_at s174_1 7 rfl rfl)) rfl
theorem f174_32 : ft 174 32 = some (9, 0, 0, .aload_n 1, 1) := Fm174 (dk_43 (dk_at s174_1 10 rfl rfl)) rfl
theorem f174_33 : ft 174 33 = some (9, 0, 0, .getfield 87, 3) := Fm174 (dk_180 0 87 (dk_at s174_1 11 rfl rfl)) rfl
theorem f174_36 : ft 174 36 = some (9, 0, 0, .iload 4, 2) := Fm174 (dk_21 4 (dk_at s174_1 14 rfl rfl)) rfl
theorem f174_38 : ft 174 38 = some (9, 0, 0, .iaload, 1) := Fm174 (dk_46 (dk_at s174_1 16 rfl rfl)) rfl
theorem f174_39 : ft 174 39 = some (9, 0, 0, .iload_n 2, 1) := Fm174 (dk_28 (dk_at s174_1 17 rfl rfl)) rfl
theorem f174_40 : ft 174 40 = some (9, 0, 0, .if_icmp .ne 14, 3) := Fm174 (dk_160 0 14 (dk_at s174_1 18 rfl rfl)) rfl
theorem f174_43 : ft 174 43 = some (9, 0, 0, .aload_n 1, 1) := Fm174 (dk_43 (dk_at s174_1 21 rfl rfl)) rfl
theorem f174_44 : ft 174 44 = some (9, 0, 0, .getfield 90, 3) := Fm174 (dk_180 0 90 (dk_at s174_2 0 rfl rfl)) rfl
theorem f174_47 : ft 174 47 = some (9, 0, 0, .iload 4, 2) := Fm174 (dk_21 4 (dk_at s174_2 3 rfl rfl)) rfl
theorem f174_49 : ft 174 49 = some (9, 0, 0, .iload_n 3, 1) := Fm174 (dk_29 (dk_at s174_2 5 rfl rfl)) rfl
theorem f174_50 : ft 174 50 = some (9, 0, 0, .iastore, 1) := Fm174 (dk_79 (dk_at s174_2 6 rfl rfl)) rfl
theorem f174_51 : ft 174 51 = some (9, 0, 0, .goto 36, 3) := Fm174 (dk_167 0 36 (dk_at s174_2 7 rfl rfl)) rfl
theorem f174_54 : ft 174 54 = some (9, 0, 0, .aload_n 1, 1) := Fm174 (dk_43 (dk_at s174_2 10 rfl rfl)) rfl
theorem f174_55 : ft 174 55 = some (9, 0, 0, .aload_n 1, 1) := Fm174 (dk_43 (dk_at s174_2 11 rfl rfl)) rfl
theorem f174_56 : ft 174 56 = some (9, 0, 0, .getfield 86, 3) := Fm174 (dk_180 0 86 (dk_at s174_2 12 rfl rfl)) rfl
theorem f174_59 : ft 174 59 = some (9, 0, 0, .ifCond .le 21, 3) := Fm174 (dk_158 0 21 (dk_at s174_2 15 rfl rfl)) rfl
theorem f174_62 : ft 174 62 = some (9, 0, 0, .aload_n 1, 1) := Fm174 (dk_43 (dk_at s174_2 18 rfl rfl)) rfl
theorem f174_63 : ft 174 63 = some (9, 0, 0, .getfield 87, 3) := Fm174 (dk_180 0 87 (dk_at s174_2 19 rfl rfl)) rfl
theorem f174_66 : ft 174 66 = some (9, 0, 0, .iload 4, 2) := Fm174 (dk_21 4 (dk_at s174_2 22 rfl rfl)) rfl
theorem f174_68 : ft 174 68 = some (9, 0, 0, .iaload, 1) := Fm174 (dk_46 (dk_at s174_3 0 rfl rfl)) rfl
theorem f174_69 : ft 174 69 = some (9, 0, 0, .iload_n 2, 1) := Fm174 (dk_28 (dk_at s174_3 1 rfl rfl)) rfl
theorem f174_70 : ft 174 70 = some (9, 0, 0, .if_icmp .ge 10, 3) := Fm174 (dk_162 0 10 (dk_at s174_3 2 rfl rfl)) rfl
theorem f174_73 : ft 174 73 = some (9, 0, 0, .iload 4, 2) := Fm174 (dk_21 4 (dk_at s174_3 5 rfl rfl)) rfl
theorem f174_75 : ft 174 75 = some (9, 0, 0, .iconst 1, 1) := Fm174 (dk_4 (dk_at s174_3 7 rfl rfl)) rfl
theorem f174_76 : ft 174 76 = some (9, 0, 0, .iadd, 1) := Fm174 (dk_96 (dk_at s174_3 8 rfl rfl)) rfl
theorem f174_77 : ft 174 77 = some (9, 0, 0, .goto 5, 3) := Fm174 (dk_167 0 5 (dk_at s174_3 9 rfl rfl)) rfl
theorem f174_80 : ft 174 80 = some (9, 0, 0, .iload 4, 2) := Fm174 (dk_21 4 (dk_at s174_3 12 rfl rfl)) rfl
theorem f174_82 : ft 174 82 = some (9, 0, 0, .iload_n 2, 1) := Fm174 (dk_28 (dk_at s174_3 14 rfl rfl)) rfl
theorem f174_83 : ft 174 83 = some (9, 0, 0, .iload_n 3, 1) := Fm174 (dk_29 (dk_at s174_3 15 rfl rfl)) rfl
theorem f174_84 : ft 174 84 = some (9, 0, 0, .invokevirtual 129, 3) := Fm174 (dk_182 0 129 (dk_at s174_3 16 rfl rfl)) rfl
theorem f174_87 : ft 174 87 = some (9, 0, 0, .return_, 1) := Fm174 (dk_177 (dk_at s174_3 19 rfl rfl)) rfl
theorem f174_88 : ft 174 88 = some (9, 0, 0, .aload_n 0, 1) := Fm174 (dk_42 (dk_at s174_3 20 rfl rfl)) rfl
theorem f174_89 : ft 174 89 = some (9, 0, 0, .aload_n 1, 1) := Fm174 (dk_43 (dk_at s174_3 21 rfl rfl)) rfl
theorem f174_90 : ft 174 90 = some (9, 0, 0, .getfield 90, 3) := Fm174 (dk_180 0 90 (dk_at s174_4 0 rfl rfl)) rfl
theorem f174_93 : ft 174 93 = some (9, 0, 0, .iload 4, 2) := Fm174 (dk_21 4 (dk_at s174_4 3 rfl rfl)) rfl
theorem f174_95 : ft 174 95 = some (9, 0, 0, .iaload, 1) := Fm174 (dk_46 (dk_at s174_4 5 rfl rfl)) rfl
theorem f174_96 : ft 174 96 = some (9, 0, 0, .invokevirtual 113, 3) := Fm174 (dk_182 0 113 (dk_at s174_4 6 rfl rfl)) rfl
theorem f174_99 : ft 174 99 = some (9, 0, 0, .astore 5, 2) := Fm174 (dk_58 5 (dk_at s174_4 9 rfl rfl)) rfl
theorem f174_101 : ft 174 101 = some (9, 0, 0, .aload_n 0, 1) := Fm174 (dk_42 (dk_at s174_4 11 rfl rfl)) rfl
theorem f174_102 : ft 174 102 = some (9, 0, 0, .aload 5, 2) := Fm174 (dk_25 5 (dk_at s174_4 12 rfl rfl)) rfl
theorem f174_104 : ft 174 104 = some (9, 0, 0, .iload_n 2, 1) := Fm174 (dk_28 (dk_at s174_4 14 rfl rfl)) rfl
theorem f174_105 : ft 174 105 = some (9, 0, 0, .iload_n 3, 1) := Fm174 (dk_29 (dk_at s174_4 15 rfl rfl)) rfl
theorem f174_106 : ft 174 106 = some (9, 0, 0, .invokevirtual 117, 3) := Fm174 (dk_182 0 117 (dk_at s174_4 16 rfl rfl)) rfl
theorem f174_109 : ft 174 109 = some (9, 0, 0, .aload_n 1, 1) := Fm174 (dk_43 (dk_at s174_4 19 rfl rfl)) rfl
theorem f174_110 : ft 174 110 = some (9, 0, 0, .iload 4, 2) := Fm174 (dk_21 4 (dk_at s174_4 20 rfl rfl)) rfl
theorem f174_112 : ft 174 112 = some (9, 0, 0, .invokevirtual 132, 3) := Fm174 (dk_182 0 132 (dk_at s174_5 0 rfl rfl)) rfl
theorem f174_115 : ft 174 115 = some (9, 0, 0, .aload_n 0, 1) := Fm174 (dk_42 (dk_at s174_5 3 rfl rfl)) rfl
theorem f174_116 : ft 174 116 = some (9, 0, 0, .aload_n 1, 1) := Fm174 (dk_43 (dk_at s174_5 4 rfl rfl)) rfl
theorem f174_117 : ft 174 117 = some (9, 0, 0, .iload 4, 2) := Fm174 (dk_21 4 (dk_at s174_5 5 rfl rfl)) rfl
theorem f174_119 : ft 174 119 = some (9, 0, 0, .aload 5, 2) := Fm174 (dk_25 5 (dk_at s174_5 7 rfl rfl)) rfl
theorem f174_121 : ft 174 121 = some (9, 0, 0, .invokevirtual 135, 3) := Fm174 (dk_182 0 135 (dk_at s174_5 9 rfl rfl)) rfl
theorem f174_124 : ft 174 124 = some (9, 0, 0, .return_, 1) := Fm174 (dk_177 (dk_at s174_5 12 rfl rfl)) rfl
theorem q174 {d : Nat} {m : Mem} {a0 a1 a2 a3 : Int} (hd : 0 < d) (hz : TZ m) : le2 (gd (tg m a1 = 14) <| if (vl m a1 3) = 0 then (rn d 174 16 [pR a0, pR a1, pI a2, pI a3, pU, pU] [pI 0] m) else bI (cl (d - 1) 299 [pR a1, pI a2] m) fun v1 m1 => rn d 174 16 [pR a0, pR a1, pI a2, pI a3, pU, pU] [pI v1] m1) (cl d 174 [pR a0, pR a1, pI a2, pI a3] m) := by
  refine q_in (n := 6) (L := [pR a0, pR a1, pI a2, pI a3, pU, pU]) rfl rfl rfl ?_
  refine r_aln1 (p := 1) f174_0 rfl ?_
  refine le2_gd (fun h1 => ?_)
  refine r_gfI (f := 3) (p := 4) f174_1 rfl rfl rfl (Or.inl h1) rfl ?_
  refine r_ifne (t := 11) (p := 7) f174_4 (by decide) rfl rfl ?_ ?_
  · refine r_iconst (p := 8) f174_7 rfl (pinD rfl rfl) ?_
    refine r_goto (p := 16) f174_8 (by decide) rfl ?_
    exact le2_refl _
  · refine r_aln1 (p := 12) f174_11 rfl ?_
    refine r_iln2 (p := 13) f174_12 rfl ?_
    refine r_invI (p := 16) f174_13 rfl rfl rfl (Or.inl h1) hd (Nat.le_of_ble_eq_true rfl) rfl rfl rfl (fun _ => rfl) (fun v1 m1 c1 => ?_)
    have hz1 := z_k c1 hz
    exact le2_refl _
theorem q174_16 {d : Nat} {m : Mem} {a0 a1 a2 a3 s0 : Int} (hd : 0 < d) (hz : TZ m) : le2 (gd (tg m a1 = 14) <| if (vl m a1 0) = 0 then (nm (vl m a1 2) fun v5 => gd (tg m v5 = 298101) <| gd ((0 : Int) ≤ s0 ∧ s0 < ln m v5) <| gd (tg m a0 = 9) <| bR (cl (d - 1) 173 [pR a0, pI (vl m v5 s0)] m) fun v1 m1 => bV (cl (d - 1) 174 [pR a0, pR v1, pI a2, pI a3] m1) fun m2 => bV (cl (d - 1) 301 [pR a1, pI s0] m2) fun m3 => bV (cl (d - 1) 175 [pR a0, pR a1, pI s0, pR v1] m3) fun m4 => some (.inl none, m4)) else if 0 < (vl m a1 3) then (nm (vl m a1 1) fun v6 => gd (tg m v6 = 298101) <| gd ((0 : Int) ≤ s0 ∧ s0 < ln m v6) <| if (vl m v6 s0) = a2 then (nm (vl m a1 2) fun v7 => gd (tg m v7 = 298101) <| gd ((0 : Int) ≤ s0 ∧ s0 < ln m v7) <| some (.inl none, (mst m v7 s0 a3))) else rn d 174 54 [pR a0, pR a1, pI a2, pI a3, pI s0, pU] [] m) else rn d 174 54 [pR a0, pR a1, pI a2, pI a3, pI s0, pU] [] m) (rn d 174 16 [pR a0, pR a1, pI a2, pI a3, pU, pU] [pI s0] m) := by
  refine r_isw4 (p := 18) f174_16 rfl rfl ?_
  refine r_aln1 (p := 19) f174_18 rfl ?_
  refine le2_gd (fun h1 => ?_)
  refine r_gfIZ (f := 0) (p := 22) f174_19 rfl rfl rfl (Or.inl h1) rfl ?_
  refine r_ifeq (t := 88) (p := 25) f174_22 (by decide) rfl rfl ?_ ?_
  · refine r_aln0 (p := 89) f174_88 rfl ?_
    refine r_aln1 (p := 90) f174_89 rfl ?_
    refine r_gfR (f := 2) (p := 93) f174_90 rfl rfl rfl (Or.inl h1) rfl ?_
    refine r_nmR (fun v5 ev5 => ?_)
    refine r_ilw4 (p := 95) f174_93 rfl ?_
    refine le2_gd (fun h2 => ?_)
    refine le2_gd (fun h3 => ?_)
    refine r_iaload (p := 96) f174_95 rfl (dj1 (fun x => x % 1000 = 101) h2 (by decide)) h3 rfl ?_
    refine le2_gd (fun h4 => ?_)
    refine r_invR (p := 99) f174_96 rfl rfl rfl (Or.inl h4) hd (Nat.le_of_ble_eq_true rfl) rfl rfl rfl (fun _ => rfl) (fun v1 m1 c1 => ?_)
    have hz1 := z_k c1 hz
    refine r_asw5 (p := 101) f174_99 rfl rfl ?_
    refine r_aln0 (p := 102) f174_101 rfl ?_
    refine r_alw5 (p := 104) f174_102 rfl ?_
    refine r_iln2 (p := 105) f174_104 rfl ?_
    refine r_iln3 (p := 106) f174_105 rfl ?_
    have h5 := k_t1 c1 hz h4 (by decide)
    refine r_invV (p := 109) f174_106 rfl rfl rfl (Or.inl h5) hd (Nat.le_of_ble_eq_true rfl) rfl rfl rfl (fun _ => rfl) (fun m2 c2 => ?_)
    have hz2 := z_k c2 hz1
    refine r_aln1 (p := 110) f174_109 rfl ?_
    refine r_ilw4 (p := 112) f174_110 rfl ?_
    have h6 := k_t1 c1 hz h1 (by decide)
    have h7 := k_t1 c2 hz1 h6 (by decide)
    refine r_invV (p := 115) f174_112 rfl rfl rfl (Or.inl h7) hd (Nat.le_of_ble_eq_true rfl) rfl rfl rfl (fun _ => rfl) (fun m3 c3 => ?_)
    have hz3 := z_k c3 hz2
    refine r_aln0 (p := 116) f174_115 rfl ?_
    refine r_aln1 (p := 117) f174_116 rfl ?_
    refine r_ilw4 (p := 119) f174_117 rfl ?_
    refine r_alw5 (p := 121) f174_119 rfl ?_
    have h8 := k_t1 c2 hz1 h5 (by decide)
    have h9 := k_t1 c3 hz2 h8 (by decide)
    refine r_invV (p := 124) f174_121 rfl rfl rfl (Or.inl h9) hd (Nat.le_of_ble_eq_true rfl) rfl rfl rfl (fun _ => rfl) (fun m4 c4 => ?_)
    have hz4 := z_k c4 hz3
    exact r_ret f174_124
  · refine r_aln1 (p := 26) f174_25 rfl ?_
    refine r_gfI (f := 3) (p := 29) f174_26 rfl rfl rfl (Or.inl h1) rfl ?_
    refine r_ifle (t := 54) (p := 32) f174_29 (by decide) rfl rfl ?_ ?_
    · refine r_aln1 (p := 33) f174_32 rfl ?_
      refine r_gfR (f := 1) (p := 36) f174_33 rfl rfl rfl (Or.inl h1) rfl ?_
      refine r_nmR (fun v6 ev6 => ?_)
      refine r_ilw4 (p := 38) f174_36 rfl ?_
      refine le2_gd (fun h10 => ?_)
      refine le2_gd (fun h11 => ?_)
      refine r_iaload (p := 39) f174_38 rfl (dj1 (fun x => x % 1000 = 101) h10 (by decide)) h11 rfl ?_
      refine r_iln2 (p := 40) f174_39 rfl ?_
      refine r_icne (t := 54) (p := 43) f174_40 (by decide) rfl rfl ?_ ?_
      · refine r_aln1 (p := 44) f174_43 rfl ?_
        refine r_gfR (f := 2) (p := 47) f174_44 rfl rfl rfl (Or.inl h1) rfl ?_
        refine r_nmR (fun v7 ev7 => ?_)
        refine r_ilw4 (p := 49) f174_47 rfl ?_
        refine r_iln3 (p := 50) f174_49 rfl ?_
        refine le2_gd (fun h12 => ?_)
        refine le2_gd (fun h13 => ?_)
        refine r_iastore (p := 51) f174_50 rfl (dj1 (fun x => 1000 ≤ x ∧ x % 1000 = 101 ∧ Nat.testBit (eM 174) (bix x 0) = true) h12 (by decide)) h13 ?_
        refine r_goto (p := 87) f174_51 (by decide) rfl ?_
        exact r_ret f174_87
      · exact le2_refl _
    · exact le2_refl _
theorem q174_54 {d : Nat} {m : Mem} {a0 a1 a2 a3 a4 : Int} (hd : 0 < d) (hz : TZ m) : le2 (gd (tg m a1 = 14) <| if 0 < (vl m a1 3) then (nm (vl m a1 1) fun v4 => gd (tg m v4 = 298101) <| gd ((0 : Int) ≤ a4 ∧ a4 < ln m v4) <| if (vl m v4 a4) < a2 then (bV (cl (d - 1) 300 [pR a1, pI (w32 (a4 + 1)), pI a2, pI a3] m) fun m3 => some (.inl none, m3)) else bV (cl (d - 1) 300 [pR a1, pI a4, pI a2, pI a3] m) fun m2 => some (.inl none, m2)) else bV (cl (d - 1) 300 [pR a1, pI a4, pI a2, pI a3] m) fun m1 => some (.inl none, m1)) (rn d 174 54 [pR a0, pR a1, pI a2, pI a3, pI a4, pU] [] m) := by
  refine r_aln1 (p := 55) f174_54 rfl ?_
  refine r_aln1 (p := 56) f174_55 rfl ?_
  refine le2_gd (fun h1 => ?_)
  refine r_gfI (f := 3) (p := 59) f174_56 rfl rfl rfl (Or.inl h1) rfl ?_
  refine r_ifle (t := 80) (p := 62) f174_59 (by decide) rfl rfl ?_ ?_
  · refine r_aln1 (p := 63) f174_62 rfl ?_
    refine r_gfR (f := 1) (p := 66) f174_63 rfl rfl rfl (Or.inl h1) rfl ?_
    refine r_nmR (fun v4 ev4 => ?_)
    refine r_ilw4 (p := 68) f174_66 rfl ?_
    refine le2_gd (fun h2 => ?_)
    refine le2_gd (fun h3 => ?_)
    refine r_iaload (p := 69) f174_68 rfl (dj1 (fun x => x % 1000 = 101) h2 (by decide)) h3 rfl ?_
    refine r_iln2 (p := 70) f174_69 rfl ?_
    refine r_icge (t := 80) (p := 73) f174_70 (by decide) rfl rfl ?_ ?_
    · refine r_ilw4 (p := 75) f174_73 rfl ?_
      refine r_iconst (p := 76) f174_75 rfl (pinD rfl rfl) ?_
      refine r_iadd (p := 77) f174_76 rfl ?_
      refine r_goto (p := 82) f174_77 (by decide) rfl ?_
      refine r_iln2 (p := 83) f174_82 rfl ?_
      refine r_iln3 (p := 84) f174_83 rfl ?_
      refine r_invV (p := 87) f174_84 rfl rfl rfl (Or.inl h1) hd (Nat.le_of_ble_eq_true rfl) rfl rfl rfl (fun _ => rfl) (fun m3 c3 => ?_)
      have hz3 := z_k c3 hz
      exact r_ret f174_87
    · refine r_ilw4 (p := 82) f174_80 rfl ?_
      refine r_iln2 (p := 83) f174_82 rfl ?_
      refine r_iln3 (p := 84) f174_83 rfl ?_
      refine r_invV (p := 87) f174_84 rfl rfl rfl (Or.inl h1) hd (Nat.le_of_ble_eq_true rfl) rfl rfl rfl (fun _ => rfl) (fun m2 c2 => ?_)
      have hz2 := z_k c2 hz
      exact r_ret f174_87
  · refine r_ilw4 (p := 82) f174_80 rfl ?_
    refine r_iln2 (p := 83) f174_82 rfl ?_
    refine r_iln3 (p := 84) f174_83 rfl ?_
    refine r_invV (p := 87) f174_84 rfl rfl rfl (Or.inl h1) hd (Nat.le_of_ble_eq_true rfl) rfl rfl rfl (fun _ => rfl) (fun m1 c1 => ?_)
    have hz1 := z_k c1 hz
    exact r_ret f174_87
/-! 175 PathStore$Disk.back (LPathStore$Disk$Node;ILPathStore$Disk$Node;)V -/
def w175_5 : List UInt8 := [3, 46, 42, 25, 5, 182, 0, 139, 182, 0, 129, 177]
abbrev u175_5 : List UInt8 := w175_5 ++ []
def w175_4 : List UInt8 := [28, 45, 180, 0, 87, 3, 46, 42, 45, 182, 0, 139, 182, 0, 129, 43, 28, 4, 96, 25, 5, 180, 0, 87]
abbrev u175_4 : List UInt8 := w175_4 ++ u175_5
def w175_3 : List UInt8 := [46, 45, 180, 0, 90, 21, 6, 46, 182, 0, 129, 132, 6, 1, 167, 255, 220, 45, 21, 4, 181, 0, 86, 43]
abbrev u175_3 : List UInt8 := w175_3 ++ u175_4
def w175_2 : List UInt8 := [54, 6, 21, 6, 45, 180, 0, 86, 162, 0, 33, 25, 5, 25, 5, 180, 0, 86, 45, 180, 0, 87, 21, 6]
abbrev u175_2 : List UInt8 := w175_2 ++ u175_3
def w175_1 : List UInt8 := [182, 0, 129, 177, 45, 180, 0, 86, 5, 108, 54, 4, 42, 45, 180, 0, 93, 182, 0, 82, 58, 5, 21, 4]
abbrev u175_1 : List UInt8 := w175_1 ++ u175_2
def w175_0 : List UInt8 := [45, 180, 0, 86, 16, 8, 163, 0, 20, 43, 28, 45, 180, 0, 87, 3, 46, 42, 45, 182, 0, 139]
abbrev u175_0 : List UInt8 := w175_0 ++ u175_1
theorem s175_0 : (prog_5_method_23_code).data.toList.drop 0 = u175_0 := by decide +kernel
theorem s175_1 : (prog_5_method_23_code).data.toList.drop 22 = u175_1 := dk_seg s175_0 22 rfl rfl
theorem s175_2 : (prog_5_method_23_code).data.toList.drop 46 = u175_2 := dk_seg s175_1 24 rfl rfl
theorem s175_3 : (prog_5_method_23_code).data.toList.drop 70 = u175_3 := dk_seg s175_2 24 rfl rfl
theorem s175_4 : (prog_5_method_23_code).data.toList.drop 94 = u175_4 := dk_seg s175_3 24 rfl rfl
theorem s175_5 : (prog_5_method_23_code).data.toList.drop 118 = u175_5 := dk_seg s175_4 24 rfl rfl
theorem Fm175 {pc len : Nat} {i : Instr} (h : decode (prog_5_method_23_code) pc = .ok (i, len)) (hl : len = ilen i len) : ft 175 pc = some (9, 0, 0, i, len) := ft_mk rfl h hl
theorem f175_0 : ft 175 0 = some (9, 0, 0, .aload_n 3, 1) := Fm175 (dk_45 (dk_at s175_0 0 rfl rfl)) rfl
theorem f175_1 : ft 175 1 = some (9, 0, 0, .getfield 86, 3) := Fm175 (dk_180 0 86 (dk_at s175_0 1 rfl rfl)) rfl
theorem f175_4 : ft 175 4 = some (9, 0, 0, .bipush 8, 2) := Fm175 (dk_16 8 (dk_at s175_0 4 rfl rfl)) rfl
theorem f175_6 : ft 175 6 = some (9, 0, 0, .if_icmp .gt 20, 3) := Fm175 (dk_163 0 20 (dk_at s175_0 6 rfl rfl)) rfl
theorem f175_9 : ft 175 9 = some (9, 0, 0, .aload_n 1, 1) := Fm175 (dk_43 (dk_at s175_0 9 rfl rfl)) rfl
theorem f175_10 : ft 175 10 = some (9, 0, 0, .iload_n 2, 1) := Fm175 (dk_28 (dk_at s175_0 10 rfl rfl)) rfl
theorem f175_11 : ft 175 11 = some (9, 0, 0, .aload_n 3, 1) := Fm175 (dk_45 (dk_at s175_0 11 rfl rfl)) rfl
theorem f175_12 : ft 175 12 = some (9, 0, 0, .getfield 87, 3) := Fm175 (dk_180 0 87 (dk_at s175_0 12 rfl rfl)) rfl
theorem f175_15 : ft 175 15 = some (9, 0, 0, .iconst 0, 1) := Fm175 (dk_3 (dk_at s175_0 15 rfl rfl)) rfl
theorem f175_16 : ft 175 16 = some (9, 0, 0, .iaload, 1) := Fm175 (dk_46 (dk_at s175_0 16 rfl rfl)) rfl
theorem f175_17 : ft 175 17 = some (9, 0, 0, .aload_n 0, 1) := Fm175 (dk_42 (dk_at s175_0 17 rfl rfl)) rfl
theorem f175_18 : ft 175 18 = some (9, 0, 0, .aload_n 3, 1) := Fm175 (dk_45 (dk_at s175_0 18 rfl rfl)) rfl
theorem f175_19 : ft 175 19 = some (9, 0, 0, .invokevirtual 139, 3) := Fm175 (dk_182 0 139 (dk_at s175_0 19 rfl rfl)) rfl
theorem f175_22 : ft 175 22 = some (9, 0, 0, .invokevirtual 129, 3) := Fm175 (dk_182 0 129 (dk_at s175_1 0 rfl rfl)) rfl
theorem f175_25 : ft 175 25 = some (9, 0, 0, .return_, 1) := Fm175 (dk_177 (dk_at s175_1 3 rfl rfl)) rfl
theorem f175_26 : ft 175 26 = some (9, 0, 0, .aload_n 3, 1) := Fm175 (dk_45 (dk_at s175_1 4 rfl rfl)) rfl
theorem f175_27 : ft 175 27 = some (9, 0, 0, .getfield 86, 3) := Fm175 (dk_180 0 86 (dk_at s175_1 5 rfl rfl)) rfl
theorem f175_30 : ft 175 30 = some (9, 0, 0, .iconst 2, 1) := Fm175 (dk_5 (dk_at s175_1 8 rfl rfl)) rfl
theorem f175_31 : ft 175 31 = some (9, 0, 0, .idiv, 1) := Fm175 (dk_108 (dk_at s175_1 9 rfl rfl)) rfl
theorem f175_32 : ft 175 32 = some (9, 0, 0, .istore 4, 2) := Fm175 (dk_54 4 (dk_at s175_1 10 rfl rfl)) rfl
theorem f175_34 : ft 175 34 = some (9, 0, 0, .aload_n 0, 1) := Fm175 (dk_42 (dk_at s175_1 12 rfl rfl)) rfl
theorem f175_35 : ft 175 35 = some (9, 0, 0, .aload_n 3, 1) := Fm175 (dk_45 (dk_at s175_1 13 rfl rfl)) rfl
theorem f175_36 : ft 175 36 = some (9, 0, 0, .getfield 93, 3) := Fm175 (dk_180 0 93 (dk_at s175_1 14 rfl rfl)) rfl
theorem f175_39 : ft 175 39 = some (9, 0, 0, .invokevirtual 82, 3) := Fm175 (dk_182 0 82 (dk_at s175_1 17 rfl rfl)) rfl
theorem f175_42 : ft 175 42 = some (9, 0, 0, .astore 5, 2) := Fm175 (dk_58 5 (dk_at s175_1 20 rfl rfl)) rfl
theorem f175_44 : ft 175 44 = some (9, 0, 0, .iload 4, 2) := Fm175 (dk_21 4 (dk_at s175_1 22 rfl rfl)) rfl
theorem f175_46 : ft 175 46 = some (9, 0, 0, .istore 6, 2) := Fm175 (dk_54 6 (dk_at s175_2 0 rfl rfl)) rfl
theorem f175_48 : ft 175 48 = some (9, 0, 0, .iload 6, 2) := Fm175 (dk_21 6 (dk_at s175_2 2 rfl rfl)) rfl
theorem f175_50 : ft 175 50 = some (9, 0, 0, .aload_n 3, 1) := Fm175 (dk_45 (dk_at s175_2 4 rfl rfl)) rfl
theorem f175_51 : ft 175 51 = some (9, 0, 0, .getfield 86, 3) := Fm175 (dk_180 0 86 (dk_at s175_2 5 rfl rfl)) rfl
theorem f175_54 : ft 175 54 = some (9, 0, 0, .if_icmp .ge 33, 3) := Fm175 (dk_162 0 33 (dk_at s175_2 8 rfl rfl)) rfl
theorem f175_57 : ft 175 57 = some (9, 0, 0, .aload 5, 2) := Fm175 (dk_25 5 (dk_at s175_2 11 rfl rfl)) rfl
theorem f175_59 : ft 175 59 = some (9, 0, 0, .aload 5, 2) := Fm175 (dk_25 5 (dk_at s175_2 13 rfl rfl)) rfl
theorem f175_61 : ft 175 61 = some (9, 0, 0, .getfield 86, 3) := Fm175 (dk_180 0 86 (dk_at s175_2 15 rfl rfl)) rfl
theorem f175_64 : ft 175 64 = some (9, 0, 0, .aload_n 3, 1) := Fm175 (dk_45 (dk_at s175_2 18 rfl rfl)) rfl
theorem f175_65 : ft 175 65 = some (9, 0, 0, .getfield 87, 3) := Fm175 (dk_180 0 87 (dk_at s175_2 19 rfl rfl)) rfl
theorem f175_68 : ft 175 68 = some (9, 0, 0, .iload 6, 2) := Fm175 (dk_21 6 (dk_at s175_2 22 rfl rfl)) rfl
theorem f175_70 : ft 175 70 = some (9, 0, 0, .iaload, 1) := Fm175 (dk_46 (dk_at s175_3 0 rfl rfl)) rfl
theorem f175_71 : ft 175 71 = some (9, 0, 0, .aload_n 3, 1) := Fm175 (dk_45 (dk_at s175_3 1 rfl rfl)) rfl
theorem f175_72 : ft 175 72 = some (9, 0, 0, .getfield 90, 3) := Fm175 (dk_180 0 90 (dk_at s175_3 2 rfl rfl)) rfl
theorem f175_75 : ft 175 75 = some (9, 0, 0, .iload 6, 2) := Fm175 (dk_21 6 (dk_at s175_3 5 rfl rfl)) rfl
theorem f175_77 : ft 175 77 = some (9, 0, 0, .iaload, 1) := Fm175 (dk_46 (dk_at s175_3 7 rfl rfl)) rfl
theorem f175_78 : ft 175 78 = some (9, 0, 0, .invokevirtual 129, 3) := Fm175 (dk_182 0 129 (dk_at s175_3 8 rfl rfl)) rfl
theorem f175_81 : ft 175 81 = some (9, 0, 0, .iinc 6 1, 3) := Fm175 (dk_132 6 1 (dk_at s175_3 11 rfl rfl)) rfl
theorem f175_84 : ft 175 84 = some (9, 0, 0, .goto (-36), 3) := Fm175 (dk_167 255 220 (dk_at s175_3 14 rfl rfl)) rfl
theorem f175_87 : ft 175 87 = some (9, 0, 0, .aload_n 3, 1) := Fm175 (dk_45 (dk_at s175_3 17 rfl rfl)) rfl
theorem f175_88 : ft 175 88 = some (9, 0, 0, .iload 4, 2) := Fm175 (dk_21 4 (dk_at s175_3 18 rfl rfl)) rfl
theorem f175_90 : ft 175 90 = some (9, 0, 0, .putfield 86, 3) := Fm175 (dk_181 0 86 (dk_at s175_3 20 rfl rfl)) rfl
theorem f175_93 : ft 175 93 = some (9, 0, 0, .aload_n 1, 1) := Fm175 (dk_43 (dk_at s175_3 23 rfl rfl)) rfl
theorem f175_94 : ft 175 94 = some (9, 0, 0, .iload_n 2, 1) := Fm175 (dk_28 (dk_at s175_4 0 rfl rfl)) rfl
theorem f175_95 : ft 175 95 = some (9, 0, 0, .aload_n 3, 1) := Fm175 (dk_45 (dk_at s175_4 1 rfl rfl)) rfl
theorem f175_96 : ft 175 96 = some (9, 0, 0, .getfield 87, 3) := Fm175 (dk_180 0 87 (dk_at s175_4 2 rfl rfl)) rfl
theorem f175_99 : ft 175 99 = some (9, 0, 0, .iconst 0, 1) := Fm175 (dk_3 (dk_at s175_4 5 rfl rfl)) rfl
theorem f175_100 : ft 175 100 = some (9, 0, 0, .iaload, 1) := Fm175 (dk_46 (dk_at s175_4 6 rfl rfl)) rfl
theorem f175_101 : ft 175 101 = some (9, 0, 0, .aload_n 0, 1) := Fm175 (dk_42 (dk_at s175_4 7 rfl rfl)) rfl
theorem f175_102 : ft 175 102 = some (9, 0, 0, .aload_n 3, 1) := Fm175 (dk_45 (dk_at s175_4 8 rfl rfl)) rfl
theorem f175_103 : ft 175 103 = some (9, 0, 0, .invokevirtual 139, 3) := Fm175 (dk_182 0 139 (dk_at s175_4 9 rfl rfl)) rfl
theorem f175_106 : ft 175 106 = some (9, 0, 0, .invokevirtual 129, 3) := Fm175 (dk_182 0 129 (dk_at s175_4 12 rfl rfl)) rfl
theorem f175_109 : ft 175 109 = some (9, 0, 0, .aload_n 1, 1) := Fm175 (dk_43 (dk_at s175_4 15 rfl rfl)) rfl
theorem f175_110 : ft 175 110 = some (9, 0, 0, .iload_n 2, 1) := Fm175 (dk_28 (dk_at s175_4 16 rfl rfl)) rfl
theorem f175_111 : ft 175 111 = some (9, 0, 0, .iconst 1, 1) := Fm175 (dk_4 (dk_at s175_4 17 rfl rfl)) rfl
theorem f175_112 : ft 175 112 = some (9, 0, 0, .iadd, 1) := Fm175 (dk_96 (dk_at s175_4 18 rfl rfl)) rfl
theorem f175_113 : ft 175 113 = some (9, 0, 0, .aload 5, 2) := Fm175 (dk_25 5 (dk_at s175_4 19 rfl rfl)) rfl
theorem f175_115 : ft 175 115 = some (9, 0, 0, .getfield 87, 3) := Fm175 (dk_180 0 87 (dk_at s175_4 21 rfl rfl)) rfl
theorem f175_118 : ft 175 118 = some (9, 0, 0, .iconst 0, 1) := Fm175 (dk_3 (dk_at s175_5 0 rfl rfl)) rfl
theorem f175_119 : ft 175 119 = some (9, 0, 0, .iaload, 1) := Fm175 (dk_46 (dk_at s175_5 1 rfl rfl)) rfl
theorem f175_120 : ft 175 120 = some (9, 0, 0, .aload_n 0, 1) := Fm175 (dk_42 (dk_at s175_5 2 rfl rfl)) rfl
theorem f175_121 : ft 175 121 = some (9, 0, 0, .aload 5, 2) := Fm175 (dk_25 5 (dk_at s175_5 3 rfl rfl)) rfl
theorem f175_123 : ft 175 123 = some (9, 0, 0, .invokevirtual 139, 3) := Fm175 (dk_182 0 139 (dk_at s175_5 5 rfl rfl)) rfl
theorem f175_126 : ft 175 126 = some (9, 0, 0, .invokevirtual 129, 3) := Fm175 (dk_182 0 129 (dk_at s175_5 8 rfl rfl)) rfl
theorem f175_129 : ft 175 129 = some (9, 0, 0, .return_, 1) := Fm175 (dk_177 (dk_at s175_5 11 rfl rfl)) rfl
theorem q175 {d : Nat} {m : Mem} {a0 a1 a2 a3 : Int} (hd : 0 < d) (hz : TZ m) : le2 (gd (tg m a3 = 14) <| nm (vl m a3 3) fun v4 => if 8 < v4 then (nm (w32 (v4.tdiv 2)) fun v5 => gd (tg m a0 = 9) <| bR (cl (d - 1) 172 [pR a0, pI (vl m a3 0)] m) fun v1 m1 => rn d 175 48 [pR a0, pR a1, pI a2, pR a3, pI v5, pR v1, pI v5] [] m1) else nm (vl m a3 1) fun v6 => gd (tg m v6 = 298101) <| gd ((0 : Int) ≤ 0 ∧ 0 < ln m v6) <| gd (tg m a0 = 9) <| bI (cl (d - 1) 176 [pR a0, pR a3] m) fun v2 m2 => gd (tg m2 a1 = 14) <| bV (cl (d - 1) 300 [pR a1, pI a2, pI (vl m v6 0), pI v2] m2) fun m3 => some (.inl none, m3)) (cl d 175 [pR a0, pR a1, pI a2, pR a3] m) := by
  refine q_in (n := 7) (L := [pR a0, pR a1, pI a2, pR a3, pU, pU, pU]) rfl rfl rfl ?_
  refine r_aln3 (p := 1) f175_0 rfl ?_
  refine le2_gd (fun h1 => ?_)
  refine r_gfI (f := 3) (p := 4) f175_1 rfl rfl rfl (Or.inl h1) rfl ?_
  refine r_nmI (fun v4 ev4 => ?_)
  refine r_bipush (p := 6) f175_4 rfl (pinD rfl rfl) ?_
  refine r_icgt (t := 26) (p := 9) f175_6 (by decide) rfl rfl ?_ ?_
  · refine r_aln3 (p := 27) f175_26 rfl ?_
    refine r_gfI (f := 3) (p := 30) f175_27 rfl rfl rfl (Or.inl h1) ev4.symm ?_
    refine r_iconst (p := 31) f175_30 rfl (pinD rfl rfl) ?_
    refine r_idiv (p := 32) f175_31 rfl (by decide) ?_
    refine r_nmI (fun v5 ev5 => ?_)
    refine r_isw4 (p := 34) f175_32 rfl rfl ?_
    refine r_aln0 (p := 35) f175_34 rfl ?_
    refine r_aln3 (p := 36) f175_35 rfl ?_
    refine r_gfIZ (f := 0) (p := 39) f175_36 rfl rfl rfl (Or.inl h1) rfl ?_
    refine le2_gd (fun h2 => ?_)
    refine r_invR (p := 42) f175_39 rfl rfl rfl (Or.inl h2) hd (Nat.le_of_ble_eq_true rfl) rfl rfl rfl (fun _ => rfl) (fun v1 m1 c1 => ?_)
    have hz1 := z_k c1 hz
    refine r_asw5 (p := 44) f175_42 rfl rfl ?_
    refine r_ilw4 (p := 46) f175_44 rfl ?_
    refine r_isw6 (p := 48) f175_46 rfl rfl ?_
    exact le2_refl _
  · refine r_aln1 (p := 10) f175_9 rfl ?_
    refine r_iln2 (p := 11) f175_10 rfl ?_
    refine r_aln3 (p := 12) f175_11 rfl ?_
    refine r_gfR (f := 1) (p := 15) f175_12 rfl rfl rfl (Or.inl h1) rfl ?_
    refine r_nmR (fun v6 ev6 => ?_)
    refine r_iconst (p := 16) f175_15 rfl (pinD rfl rfl) ?_
    refine le2_gd (fun h3 => ?_)
    refine le2_gd (fun h4 => ?_)
    refine r_iaload (p := 17) f175_16 rfl (dj1 (fun x => x % 1000 = 101) h3 (by decide)) h4 rfl ?_
    refine r_aln0 (p := 18) f175_17 rfl ?_
    refine r_aln3 (p := 19) f175_18 rfl ?_
    refine le2_gd (fun h5 => ?_)
    refine r_invI (p := 22) f175_19 rfl rfl rfl (Or.inl h5) hd (Nat.le_of_ble_eq_true rfl) rfl rfl rfl (fun _ => rfl) (fun v2 m2 c2 => ?_)
    have hz2 := z_k c2 hz
    refine le2_gd (fun h6 => ?_)
    refine r_invV (p := 25) f175_22 rfl rfl rfl (Or.inl h6) hd (Nat.le_of_ble_eq_true rfl) rfl rfl rfl (fun _ => rfl) (fun m3 c3 => ?_)
    have hz3 := z_k c3 hz2
    exact r_ret f175_25
theorem q175_48 {d : Nat} {m : Mem} {a0 a1 a2 a3 a4 a5 a6 : Int} (hd : 0 < d) (hz : TZ m) : le2 (gd (tg m a3 = 14) <| if a6 < (vl m a3 3) then (gd (tg m a5 = 14) <| nm (vl m a3 1) fun v6 => gd (tg m v6 = 298101) <| gd ((0 : Int) ≤ a6 ∧ a6 < ln m v6) <| nm (vl m a3 2) fun v7 => gd (tg m v7 = 298101) <| gd ((0 : Int) ≤ a6 ∧ a6 < ln m v7) <| bV (cl (d - 1) 300 [pR a5, pI (vl m a5 3), pI (vl m v6 a6), pI (vl m v7 a6)] m) fun m5 => rn d 175 48 [pR a0, pR a1, pI a2, pR a3, pI a4, pR a5, pI (w32 (a6 + 1))] [] m5) else nm (vl m a3 1) fun v8 => gd (tg m v8 = 298101) <| gd ((0 : Int) ≤ 0 ∧ 0 < ln m v8) <| gd (tg m a0 = 9) <| bI (cl (d - 1) 176 [pR a0, pR a3] (mst m a3 3 a4)) fun v1 m1 => gd (tg m1 a1 = 14) <| bV (cl (d - 1) 300 [pR a1, pI a2, pI (vl m v8 0), pI v1] m1) fun m2 => gd (tg m2 a5 = 14) <| nm (vl m2 a5 1) fun v9 => gd (tg m2 v9 = 298101) <| gd ((0 : Int) ≤ 0 ∧ 0 < ln m2 v9) <| bI (cl (d - 1) 176 [pR a0, pR a5] m2) fun v3 m3 => bV (cl (d - 1) 300 [pR a1, pI (w32 (a2 + 1)), pI (vl m2 v9 0), pI v3] m3) fun m4 => some (.inl none, m4)) (rn d 175 48 [pR a0, pR a1, pI a2, pR a3, pI a4, pR a5, pI a6] [] m) := by
  refine r_ilw6 (p := 50) f175_48 rfl ?_
  refine r_aln3 (p := 51) f175_50 rfl ?_
  refine le2_gd (fun h1 => ?_)
  refine r_gfI (f := 3) (p := 54) f175_51 rfl rfl rfl (Or.inl h1) rfl ?_
  refine r_icge (t := 87) (p := 57) f175_54 (by decide) rfl rfl ?_ ?_
  · refine r_alw5 (p := 59) f175_57 rfl ?_
    refine r_alw5 (p := 61) f175_59 rfl ?_
    refine le2_gd (fun h13 => ?_)
    refine r_gfI (f := 3) (p := 64) f175_61 rfl rfl rfl (Or.inl h13) rfl ?_
    refine r_aln3 (p := 65) f175_64 rfl ?_
    refine r_gfR (f := 1) (p := 68) f175_65 rfl rfl rfl (Or.inl h1) rfl ?_
    refine r_nmR (fun v6 ev6 => ?_)
    refine r_ilw6 (p := 70) f175_68 rfl ?_
    refine le2_gd (fun h14 => ?_)
    refine le2_gd (fun h15 => ?_)
    refine r_iaload (p := 71) f175_70 rfl (dj1 (fun x => x % 1000 = 101) h14 (by decide)) h15 rfl ?_
    refine r_aln3 (p := 72) f175_71 rfl ?_
    refine r_gfR (f := 2) (p := 75) f175_72 rfl rfl rfl (Or.inl h1) rfl ?_
    refine r_nmR (fun v7 ev7 => ?_)
    refine r_ilw6 (p := 77) f175_75 rfl ?_
    refine le2_gd (fun h16 => ?_)
    refine le2_gd (fun h17 => ?_)
    refine r_iaload (p := 78) f175_77 rfl (dj1 (fun x => x % 1000 = 101) h16 (by decide)) h17 rfl ?_
    refine r_invV (p := 81) f175_78 rfl rfl rfl (Or.inl h13) hd (Nat.le_of_ble_eq_true rfl) rfl rfl rfl (fun _ => rfl) (fun m5 c5 => ?_)
    have hz5 := z_k c5 hz
    refine r_iinc6 (p := 84) f175_81 rfl rfl ?_
    refine r_goto (p := 48) f175_84 (by decide) rfl ?_
    exact le2_refl _
  · refine r_aln3 (p := 88) f175_87 rfl ?_
    refine r_ilw4 (p := 90) f175_88 rfl ?_
    refine r_pfI (f := 3) (p := 93) f175_90 rfl rfl rfl (by decide) (by decide) (Or.inl h1) rfl ?_
    refine r_aln1 (p := 94) f175_93 rfl ?_
    refine r_iln2 (p := 95) f175_94 rfl ?_
    refine r_aln3 (p := 96) f175_95 rfl ?_
    refine r_gfR (f := 1) (p := 99) f175_96 rfl rfl rfl (Or.inl h1) (sk_f (by decide)) ?_
    refine r_nmR (fun v8 ev8 => ?_)
    refine r_iconst (p := 100) f175_99 rfl (pinD rfl rfl) ?_
    refine le2_gd (fun h2 => ?_)
    refine le2_gd (fun h3 => ?_)
    refine r_iaload (p := 101) f175_100 rfl (dj1 (fun x => x % 1000 = 101) h2 (by decide)) h3 (sk_o (ne_oa (dj1 (fun x => x < 100) h1 (by decide)) (dj1 (fun x => ¬ x < 100) h2 (by decide))).symm) ?_
    refine r_aln0 (p := 102) f175_101 rfl ?_
    refine r_aln3 (p := 103) f175_102 rfl ?_
    refine le2_gd (fun h4 => ?_)
    refine r_invI (p := 106) f175_103 rfl rfl rfl (Or.inl h4) hd (Nat.le_of_ble_eq_true rfl) rfl rfl rfl (fun _ => rfl) (fun v1 m1 c1 => ?_)
    have hz1 := z_k c1 hz
    refine le2_gd (fun h5 => ?_)
    refine r_invV (p := 109) f175_106 rfl rfl rfl (Or.inl h5) hd (Nat.le_of_ble_eq_true rfl) rfl rfl rfl (fun _ => rfl) (fun m2 c2 => ?_)
    have hz2 := z_k c2 hz1
    refine r_aln1 (p := 110) f175_109 rfl ?_
    refine r_iln2 (p := 111) f175_110 rfl ?_
    refine r_iconst (p := 112) f175_111 rfl (pinD rfl rfl) ?_
    refine r_iadd (p := 113) f175_112 rfl ?_
    refine r_alw5 (p := 115) f175_113 rfl ?_
    refine le2_gd (fun h6 => ?_)
    refine r_gfR (f := 1) (p := 118) f175_115 rfl rfl rfl (Or.inl h6) rfl ?_
    refine r_nmR (fun v9 ev9 => ?_)
    refine r_iconst (p := 119) f175_118 rfl (pinD rfl rfl) ?_
    refine le2_gd (fun h7 => ?_)
    refine le2_gd (fun h8 => ?_)
    refine r_iaload (p := 120) f175_119 rfl (dj1 (fun x => x % 1000 = 101) h7 (by decide)) h8 rfl ?_
    refine r_aln0 (p := 121) f175_120 rfl ?_
    refine r_alw5 (p := 123) f175_121 rfl ?_
    have h9 := k_t1 c1 hz h4 (by decide)
    have h10 := k_t1 c2 hz1 h9 (by decide)
    refine r_invI (p := 126) f175_123 rfl rfl rfl (Or.inl h10) hd (Nat.le_of_ble_eq_true rfl) rfl rfl rfl (fun _ => rfl) (fun v3 m3 c3 => ?_)
    have hz3 := z_k c3 hz2
    have h11 := k_t1 c2 hz1 h5 (by decide)
    have h12 := k_t1 c3 hz2 h11 (by decide)
    refine r_invV (p := 129) f175_126 rfl rfl rfl (Or.inl h12) hd (Nat.le_of_ble_eq_true rfl) rfl rfl rfl (fun _ => rfl) (fun m4 c4 => ?_)
    have hz4 := z_k c4 hz3
    exact r_ret f175_129
/-! 176 PathStore$Disk.write (LPathStore$Disk$Node;)I -/
def w176_3 : List UInt8 := [167, 255, 215, 42, 182, 0, 67, 172]
abbrev u176_3 : List UInt8 := w176_3 ++ []
def w176_2 : List UInt8 := [46, 182, 0, 60, 42, 8, 7, 28, 104, 96, 43, 180, 0, 90, 28, 46, 182, 0, 60, 132, 2, 1]
abbrev u176_2 : List UInt8 := w176_2 ++ u176_3
def w176_1 : List UInt8 := [182, 0, 60, 3, 61, 28, 43, 180, 0, 86, 162, 0, 39, 42, 6, 7, 28, 104, 96, 43, 180, 0, 87, 28]
abbrev u176_1 : List UInt8 := w176_1 ++ u176_2
def w176_0 : List UInt8 := [42, 43, 180, 0, 93, 153, 0, 7, 5, 167, 0, 4, 6, 182, 0, 56, 42, 4, 43, 180, 0, 86]
abbrev u176_0 : List UInt8 := w176_0 ++ u176_1
theorem s176_0 : (prog_5_method_12_code).data.toList.drop 0 = u176_0 := by decide +kernel
theorem s176_1 : (prog_5_method_12_code).data.toList.drop 22 = u176_1 := dk_seg s176_0 22 rfl rfl
theorem s176_2 : (prog_5_method_12_code).data.toList.drop 46 = u176_2 := dk_seg s176_1 24 rfl rfl
theorem s176_3 : (prog_5_method_12_code).data.toList.drop 68 = u176_3 := dk_seg s176_2 22 rfl rfl
theorem Fm176 {pc len : Nat} {i : Instr} (h : decode (prog_5_method_12_code) pc = .ok (i, len)) (hl : len = ilen i len) : ft 176 pc = some (9, 1, 0, i, len) := ft_mk rfl h hl
theorem f176_0 : ft 176 0 = some (9, 1, 0, .aload_n 0, 1) := Fm176 (dk_42 (dk_at s176_0 0 rfl rfl)) rfl
theorem f176_1 : ft 176 1 = some (9, 1, 0, .aload_n 1, 1) := Fm176 (dk_43 (dk_at s176_0 1 rfl rfl)) rfl
theorem f176_2 : ft 176 2 = some (9, 1, 0, .getfield 93, 3) := Fm176 (dk_180 0 93 (dk_at s176_0 2 rfl rfl)) rfl
theorem f176_5 : ft 176 5 = some (9, 1, 0, .ifCond .eq 7, 3) := Fm176 (dk_153 0 7 (dk_at s176_0 5 rfl rfl)) rfl
theorem f176_8 : ft 176 8 = some (9, 1, 0, .iconst 2, 1) := Fm176 (dk_5 (dk_at s176_0 8 rfl rfl)) rfl
theorem f176_9 : ft 176 9 = some (9, 1, 0, .goto 4, 3) := Fm176 (dk_167 0 4 (dk_at s176_0 9 rfl rfl)) rfl
theorem f176_12 : ft 176 12 = some (9, 1, 0, .iconst 3, 1) := Fm176 (dk_6 (dk_at s176_0 12 rfl rfl)) rfl
theorem f176_13 : ft 176 13 = some (9, 1, 0, .invokevirtual 56, 3) := Fm176 (dk_182 0 56 (dk_at s176_0 13 rfl rfl)) rfl
theorem f176_16 : ft 176 16 = some (9, 1, 0, .aload_n 0, 1) := Fm176 (dk_42 (dk_at s176_0 16 rfl rfl)) rfl
theorem f176_17 : ft 176 17 = some (9, 1, 0, .iconst 1, 1) := Fm176 (dk_4 (dk_at s176_0 17 rfl rfl)) rfl
theorem f176_18 : ft 176 18 = some (9, 1, 0, .aload_n 1, 1) := Fm176 (dk_43 (dk_at s176_0 18 rfl rfl)) rfl
theorem f176_19 : ft 176 19 = some (9, 1, 0, .getfield 86, 3) := Fm176 (dk_180 0 86 (dk_at s176_0 19 rfl rfl)) rfl
theorem f176_22 : ft 176 22 = some (9, 1, 0, .invokevirtual 60, 3) := Fm176 (dk_182 0 60 (dk_at s176_1 0 rfl rfl)) rfl
theorem f176_25 : ft 176 25 = some (9, 1, 0, .iconst 0, 1) := Fm176 (dk_3 (dk_at s176_1 3 rfl rfl)) rfl
theorem f176_26 : ft 176 26 = some (9, 1, 0, .istore_n 2, 1) := Fm176 (dk_61 (dk_at s176_1 4 rfl rfl)) rfl
theorem f176_27 : ft 176 27 = some (9, 1, 0, .iload_n 2, 1) := Fm176 (dk_28 (dk_at s176_1 5 rfl rfl)) rfl
theorem f176_28 : ft 176 28 = some (9, 1, 0, .aload_n 1, 1) := Fm176 (dk_43 (dk_at s176_1 6 rfl rfl)) rfl
theorem f176_29 : ft 176 29 = some (9, 1, 0, .getfield 86, 3) := Fm176 (dk_180 0 86 (dk_at s176_1 7 rfl rfl)) rfl
theorem f176_32 : ft 176 32 = some (9, 1, 0, .if_icmp .ge 39, 3) := Fm176 (dk_162 0 39 (dk_at s176_1 10 rfl rfl)) rfl
theorem f176_35 : ft 176 35 = some (9, 1, 0, .aload_n 0, 1) := Fm176 (dk_42 (dk_at s176_1 13 rfl rfl)) rfl
theorem f176_36 : ft 176 36 = some (9, 1, 0, .iconst 3, 1) := Fm176 (dk_6 (dk_at s176_1 14 rfl rfl)) rfl
theorem f176_37 : ft 176 37 = some (9, 1, 0, .iconst 4, 1) := Fm176 (dk_7 (dk_at s176_1 15 rfl rfl)) rfl
theorem f176_38 : ft 176 38 = some (9, 1, 0, .iload_n 2, 1) := Fm176 (dk_28 (dk_at s176_1 16 rfl rfl)) rfl
theorem f176_39 : ft 176 39 = some (9, 1, 0, .imul, 1) := Fm176 (dk_104 (dk_at s176_1 17 rfl rfl)) rfl
theorem f176_40 : ft 176 40 = some (9, 1, 0, .iadd, 1) := Fm176 (dk_96 (dk_at s176_1 18 rfl rfl)) rfl
theorem f176_41 : ft 176 41 = some (9, 1, 0, .aload_n 1, 1) := Fm176 (dk_43 (dk_at s176_1 19 rfl rfl)) rfl
theorem f176_42 : ft 176 42 = some (9, 1, 0, .getfield 87, 3) := Fm176 (dk_180 0 87 (dk_at s176_1 20 rfl rfl)) rfl
theorem f176_45 : ft 176 45 = some (9, 1, 0, .iload_n 2, 1) := Fm176 (dk_28 (dk_at s176_1 23 rfl rfl)) rfl
theorem f176_46 : ft 176 46 = some (9, 1, 0, .iaload, 1) := Fm176 (dk_46 (dk_at s176_2 0 rfl rfl)) rfl
theorem f176_47 : ft 176 47 = some (9, 1, 0, .invokevirtual 60, 3) := Fm176 (dk_182 0 60 (dk_at s176_2 1 rfl rfl)) rfl
theorem f176_50 : ft 176 50 = some (9, 1, 0, .aload_n 0, 1) := Fm176 (dk_42 (dk_at s176_2 4 rfl rfl)) rfl
theorem f176_51 : ft 176 51 = some (9, 1, 0, .iconst 5, 1) := Fm176 (dk_8 (dk_at s176_2 5 rfl rfl)) rfl
theorem f176_52 : ft 176 52 = some (9, 1, 0, .iconst 4, 1) := Fm176 (dk_7 (dk_at s176_2 6 rfl rfl)) rfl
theorem f176_53 : ft 176 53 = some (9, 1, 0, .iload_n 2, 1) := Fm176 (dk_28 (dk_at s176_2 7 rfl rfl)) rfl
theorem f176_54 : ft 176 54 = some (9, 1, 0, .imul, 1) := Fm176 (dk_104 (dk_at s176_2 8 rfl rfl)) rfl
theorem f176_55 : ft 176 55 = some (9, 1, 0, .iadd, 1) := Fm176 (dk_96 (dk_at s176_2 9 rfl rfl)) rfl
theorem f176_56 : ft 176 56 = some (9, 1, 0, .aload_n 1, 1) := Fm176 (dk_43 (dk_at s176_2 10 rfl rfl)) rfl
theorem f176_57 : ft 176 57 = some (9, 1, 0, .getfield 90, 3) := Fm176 (dk_180 0 90 (dk_at s176_2 11 rfl rfl)) rfl
theorem f176_60 : ft 176 60 = some (9, 1, 0, .iload_n 2, 1) := Fm176 (dk_28 (dk_at s176_2 14 rfl rfl)) rfl
theorem f176_61 : ft 176 61 = some (9, 1, 0, .iaload, 1) := Fm176 (dk_46 (dk_at s176_2 15 rfl rfl)) rfl
theorem f176_62 : ft 176 62 = some (9, 1, 0, .invokevirtual 60, 3) := Fm176 (dk_182 0 60 (dk_at s176_2 16 rfl rfl)) rfl
theorem f176_65 : ft 176 65 = some (9, 1, 0, .iinc 2 1, 3) := Fm176 (dk_132 2 1 (dk_at s176_2 19 rfl rfl)) rfl
theorem f176_68 : ft 176 68 = some (9, 1, 0, .goto (-41), 3) := Fm176 (dk_167 255 215 (dk_at s176_3 0 rfl rfl)) rfl
theorem f176_71 : ft 176 71 = some (9, 1, 0, .aload_n 0, 1) := Fm176 (dk_42 (dk_at s176_3 3 rfl rfl)) rfl
theorem f176_72 : ft 176 72 = some (9, 1, 0, .invokevirtual 67, 3) := Fm176 (dk_182 0 67 (dk_at s176_3 4 rfl rfl)) rfl
theorem f176_75 : ft 176 75 = some (9, 1, 0, .ireturn, 1) := Fm176 (dk_172 (dk_at s176_3 7 rfl rfl)) rfl
theorem q176 {d : Nat} {m : Mem} {a0 a1 : Int} (hz : TZ m) : le2 (gd (tg m a1 = 14) <| if (vl m a1 0) = 0 then (rn d 176 13 [pR a0, pR a1, pU] [pI 3, pR a0] m) else rn d 176 13 [pR a0, pR a1, pU] [pI 2, pR a0] m) (cl d 176 [pR a0, pR a1] m) := by
  refine q_in (n := 3) (L := [pR a0, pR a1, pU]) rfl rfl rfl ?_
  refine r_aln0 (p := 1) f176_0 rfl ?_
  refine r_aln1 (p := 2) f176_1 rfl ?_
  refine le2_gd (fun h1 => ?_)
  refine r_gfIZ (f := 0) (p := 5) f176_2 rfl rfl rfl (Or.inl h1) rfl ?_
  refine r_ifeq (t := 12) (p := 8) f176_5 (by decide) rfl rfl ?_ ?_
  · refine r_iconst (p := 13) f176_12 rfl (pinD rfl rfl) ?_
    exact le2_refl _
  · refine r_iconst (p := 9) f176_8 rfl (pinD rfl rfl) ?_
    refine r_goto (p := 13) f176_9 (by decide) rfl ?_
    exact le2_refl _
theorem q176_13 {d : Nat} {m : Mem} {a0 a1 s1 s0 : Int} (hd : 0 < d) (hz : TZ m) : le2 (gd (tg m s0 = 9) <| bV (cl (d - 1) 155 [pR s0, pI s1] m) fun m1 => gd (tg m1 a1 = 14) <| gd (tg m1 a0 = 9) <| bV (cl (d - 1) 156 [pR a0, pI 1, pI (vl m1 a1 3)] m1) fun m2 => rn d 176 27 [pR a0, pR a1, pI 0] [] m2) (rn d 176 13 [pR a0, pR a1, pU] [pI s1, pR s0] m) := by
  refine le2_gd (fun h1 => ?_)
  refine r_invV (p := 16) f176_13 rfl rfl rfl (Or.inl h1) hd (Nat.le_of_ble_eq_true rfl) rfl rfl rfl (fun _ => rfl) (fun m1 c1 => ?_)
  have hz1 := z_k c1 hz
  refine r_aln0 (p := 17) f176_16 rfl ?_
  refine r_iconst (p := 18) f176_17 rfl (pinD rfl rfl) ?_
  refine r_aln1 (p := 19) f176_18 rfl ?_
  refine le2_gd (fun h2 => ?_)
  refine r_gfI (f := 3) (p := 22) f176_19 rfl rfl rfl (Or.inl h2) rfl ?_
  refine le2_gd (fun h3 => ?_)
  refine r_invV (p := 25) f176_22 rfl rfl rfl (Or.inl h3) hd (Nat.le_of_ble_eq_true rfl) rfl rfl rfl (fun _ => rfl) (fun m2 c2 => ?_)
  have hz2 := z_k c2 hz1
  refine r_iconst (p := 26) f176_25 rfl (pinD rfl rfl) ?_
  refine r_isn2 (p := 27) f176_26 rfl rfl ?_
  exact le2_refl _
theorem q176_27 {d : Nat} {m : Mem} {a0 a1 a2 : Int} (hd : 0 < d) (hz : TZ m) : le2 (gd (tg m a1 = 14) <| if a2 < (vl m a1 3) then (nm (vl m a1 1) fun v4 => gd (tg m v4 = 298101) <| gd ((0 : Int) ≤ a2 ∧ a2 < ln m v4) <| gd (tg m a0 = 9) <| bV (cl (d - 1) 156 [pR a0, pI (w32 (3 + (w32 (4 * a2)))), pI (vl m v4 a2)] m) fun m2 => nm (vl m2 a1 2) fun v5 => gd (tg m2 v5 = 298101) <| gd ((0 : Int) ≤ a2 ∧ a2 < ln m2 v5) <| bV (cl (d - 1) 156 [pR a0, pI (w32 (5 + (w32 (4 * a2)))), pI (vl m2 v5 a2)] m2) fun m3 => rn d 176 27 [pR a0, pR a1, pI (w32 (a2 + 1))] [] m3) else gd (tg m a0 = 9) <| bI (cl (d - 1) 170 [pR a0] m) fun v1 m1 => some (.inl (some (pI v1)), m1)) (rn d 176 27 [pR a0, pR a1, pI a2] [] m) := by
  refine r_iln2 (p := 28) f176_27 rfl ?_
  refine r_aln1 (p := 29) f176_28 rfl ?_
  refine le2_gd (fun h1 => ?_)
  refine r_gfI (f := 3) (p := 32) f176_29 rfl rfl rfl (Or.inl h1) rfl ?_
  refine r_icge (t := 71) (p := 35) f176_32 (by decide) rfl rfl ?_ ?_
  · refine r_aln0 (p := 36) f176_35 rfl ?_
    refine r_iconst (p := 37) f176_36 rfl (pinD rfl rfl) ?_
    refine r_iconst (p := 38) f176_37 rfl (pinD rfl rfl) ?_
    refine r_iln2 (p := 39) f176_38 rfl ?_
    refine r_imul (p := 40) f176_39 rfl ?_
    refine r_iadd (p := 41) f176_40 rfl ?_
    refine r_aln1 (p := 42) f176_41 rfl ?_
    refine r_gfR (f := 1) (p := 45) f176_42 rfl rfl rfl (Or.inl h1) rfl ?_
    refine r_nmR (fun v4 ev4 => ?_)
    refine r_iln2 (p := 46) f176_45 rfl ?_
    refine le2_gd (fun h3 => ?_)
    refine le2_gd (fun h4 => ?_)
    refine r_iaload (p := 47) f176_46 rfl (dj1 (fun x => x % 1000 = 101) h3 (by decide)) h4 rfl ?_
    refine le2_gd (fun h5 => ?_)
    refine r_invV (p := 50) f176_47 rfl rfl rfl (Or.inl h5) hd (Nat.le_of_ble_eq_true rfl) rfl rfl rfl (fun _ => rfl) (fun m2 c2 => ?_)
    have hz2 := z_k c2 hz
    refine r_aln0 (p := 51) f176_50 rfl ?_
    refine r_iconst (p := 52) f176_51 rfl (pinD rfl rfl) ?_
    refine r_iconst (p := 53) f176_52 rfl (pinD rfl rfl) ?_
    refine r_iln2 (p := 54) f176_53 rfl ?_
    refine r_imul (p := 55) f176_54 rfl ?_
    refine r_iadd (p := 56) f176_55 rfl ?_
    refine r_aln1 (p := 57) f176_56 rfl ?_
    have h6 := k_t1 c2 hz h1 (by decide)
    refine r_gfR (f := 2) (p := 60) f176_57 rfl rfl rfl (Or.inl h6) rfl ?_
    refine r_nmR (fun v5 ev5 => ?_)
    refine r_iln2 (p := 61) f176_60 rfl ?_
    refine le2_gd (fun h7 => ?_)
    refine le2_gd (fun h8 => ?_)
    refine r_iaload (p := 62) f176_61 rfl (dj1 (fun x => x % 1000 = 101) h7 (by decide)) h8 rfl ?_
    have h9 := k_t1 c2 hz h5 (by decide)
    refine r_invV (p := 65) f176_62 rfl rfl rfl (Or.inl h9) hd (Nat.le_of_ble_eq_true rfl) rfl rfl rfl (fun _ => rfl) (fun m3 c3 => ?_)
    have hz3 := z_k c3 hz2
    refine r_iinc2 (p := 68) f176_65 rfl rfl ?_
    refine r_goto (p := 27) f176_68 (by decide) rfl ?_
    exact le2_refl _
  · refine r_aln0 (p := 72) f176_71 rfl ?_
    refine le2_gd (fun h2 => ?_)
    refine r_invI (p := 75) f176_72 rfl rfl rfl (Or.inl h2) hd (Nat.le_of_ble_eq_true rfl) rfl rfl rfl (fun _ => rfl) (fun v1 m1 c1 => ?_)
    have hz1 := z_k c1 hz
    exact r_iret1 f176_75
/-! 177 PathStore$Disk.top (LPathStore$Disk$Node;)I -/
def w177_2 : List UInt8 := [182, 0, 139, 172, 42, 3, 182, 0, 82, 77, 42, 44, 3, 43, 182, 0, 135, 42, 44, 182, 0, 139, 172]
abbrev u177_2 : List UInt8 := w177_2 ++ []
def w177_1 : List UInt8 := [154, 0, 20, 43, 180, 0, 86, 4, 160, 0, 12, 43, 180, 0, 90, 3, 46, 167, 0, 8, 42, 43]
abbrev u177_1 : List UInt8 := w177_1 ++ u177_2
def w177_0 : List UInt8 := [43, 180, 0, 86, 154, 0, 5, 3, 172, 43, 180, 0, 86, 16, 8, 163, 0, 33, 43, 180, 0, 93]
abbrev u177_0 : List UInt8 := w177_0 ++ u177_1
theorem s177_0 : (prog_5_method_24_code).data.toList.drop 0 = u177_0 := by decide +kernel
theorem s177_1 : (prog_5_method_24_code).data.toList.drop 22 = u177_1 := dk_seg s177_0 22 rfl rfl
theorem s177_2 : (prog_5_method_24_code).data.toList.drop 44 = u177_2 := dk_seg s177_1 22 rfl rfl
theorem Fm177 {pc len : Nat} {i : Instr} (h : decode (prog_5_method_24_code) pc = .ok (i, len)) (hl : len = ilen i len) : ft 177 pc = some (9, 1, 0, i, len) := ft_mk rfl h hl
theorem f177_0 : ft 177 0 = some (9, 1, 0, .aload_n 1, 1) := Fm177 (dk_43 (dk_at s177_0 0 rfl rfl)) rfl
theorem f177_1 : ft 177 1 = some (9, 1, 0, .getfield 86, 3) := Fm177 (dk_180 0 86 (dk_at s177_0 1 rfl rfl)) rfl
theorem f177_4 : ft 177 4 = some (9, 1, 0, .ifCond .ne 5, 3) := Fm177 (dk_154 0 5 (dk_at s177_0 4 rfl rfl)) rfl
theorem f177_7 : ft 177 7 = some (9, 1, 0, .iconst 0, 1) := Fm177 (dk_3 (dk_at s177_0 7 rfl rfl)) rfl
theorem f177_8 : ft 177 8 = some (9, 1, 0, .ireturn, 1) := Fm177 (dk_172 (dk_at s177_0 8 rfl rfl)) rfl
theorem f177_9 : ft 177 9 = some (9, 1, 0, .aload_n 1, 1) := Fm177 (dk_43 (dk_at s177_0 9 rfl rfl)) rfl
theorem f177_10 : ft 177 10 = some (9, 1, 0, .getfield 86, 3) := Fm177 (dk_180 0 86 (dk_at s177_0 10 rfl rfl)) rfl
theorem f177_13 : ft 177 13 = some (9, 1, 0, .bipush 8, 2) := Fm177 (dk_16 8 (dk_at s177_0 13 rfl rfl)) rfl
theorem f177_15 : ft 177 15 = some (9, 1, 0, .if_icmp .gt 33, 3) := Fm177 (dk_163 0 33 (dk_at s177_0 15 rfl rfl)) rfl
theorem f177_18 : ft 177 18 = some (9, 1, 0, .aload_n 1, 1) := Fm177 (dk_43 (dk_at s177_0 18 rfl rfl)) rfl
theorem f177_19 : ft 177 19 = some (9, 1, 0, .getfield 93, 3) := Fm177 (dk_180 0 93 (dk_at s177_0 19 rfl rfl)) rfl
theorem f177_22 : ft 177 22 = some (9, 1, 0, .ifCond .ne 20, 3) := Fm177 (dk_154 0 20 (dk_at s177_1 0 rfl rfl)) rfl
theorem f177_25 : ft 177 25 = some (9, 1, 0, .aload_n 1, 1) := Fm177 (dk_43 (dk_at s177_1 3 rfl rfl)) rfl
theorem f177_26 : ft 177 26 = some (9, 1, 0, .getfield 86, 3) := Fm177 (dk_180 0 86 (dk_at s177_1 4 rfl rfl)) rfl
theorem f177_29 : ft 177 29 = some (9, 1, 0, .iconst 1, 1) := Fm177 (dk_4 (dk_at s177_1 7 rfl rfl)) rfl
theorem f177_30 : ft 177 30 = some (9, 1, 0, .if_icmp .ne 12, 3) := Fm177 (dk_160 0 12 (dk_at s177_1 8 rfl rfl)) rfl
theorem f177_33 : ft 177 33 = some (9, 1, 0, .aload_n 1, 1) := Fm177 (dk_43 (dk_at s177_1 11 rfl rfl)) rfl
theorem f177_34 : ft 177 34 = some (9, 1, 0, .getfield 90, 3) := Fm177 (dk_180 0 90 (dk_at s177_1 12 rfl rfl)) rfl
theorem f177_37 : ft 177 37 = some (9, 1, 0, .iconst 0, 1) := Fm177 (dk_3 (dk_at s177_1 15 rfl rfl)) rfl
theorem f177_38 : ft 177 38 = some (9, 1, 0, .iaload, 1) := Fm177 (dk_46 (dk_at s177_1 16 rfl rfl)) rfl
theorem f177_39 : ft 177 39 = some (9, 1, 0, .goto 8, 3) := Fm177 (dk_167 0 8 (dk_at s177_1 17 rfl rfl)) rfl
theorem f177_42 : ft 177 42 = some (9, 1, 0, .aload_n 0, 1) := Fm177 (dk_42 (dk_at s177_1 20 rfl rfl)) rfl
theorem f177_43 : ft 177 43 = some (9, 1, 0, .aload_n 1, 1) := Fm177 (dk_43 (dk_at s177_1 21 rfl rfl)) rfl
theorem f177_44 : ft 177 44 = some (9, 1, 0, .invokevirtual 139, 3) := Fm177 (dk_182 0 139 (dk_at s177_2 0 rfl rfl)) rfl
theorem f177_47 : ft 177 47 = some (9, 1, 0, .ireturn, 1) := Fm177 (dk_172 (dk_at s177_2 3 rfl rfl)) rfl
theorem f177_48 : ft 177 48 = some (9, 1, 0, .aload_n 0, 1) := Fm177 (dk_42 (dk_at s177_2 4 rfl rfl)) rfl
theorem f177_49 : ft 177 49 = some (9, 1, 0, .iconst 0, 1) := Fm177 (dk_3 (dk_at s177_2 5 rfl rfl)) rfl
theorem f177_50 : ft 177 50 = some (9, 1, 0, .invokevirtual 82, 3) := Fm177 (dk_182 0 82 (dk_at s177_2 6 rfl rfl)) rfl
theorem f177_53 : ft 177 53 = some (9, 1, 0, .astore_n 2, 1) := Fm177 (dk_77 (dk_at s177_2 9 rfl rfl)) rfl
theorem f177_54 : ft 177 54 = some (9, 1, 0, .aload_n 0, 1) := Fm177 (dk_42 (dk_at s177_2 10 rfl rfl)) rfl
theorem f177_55 : ft 177 55 = some (9, 1, 0, .aload_n 2, 1) := Fm177 (dk_44 (dk_at s177_2 11 rfl rfl)) rfl
theorem f177_56 : ft 177 56 = some (9, 1, 0, .iconst 0, 1) := Fm177 (dk_3 (dk_at s177_2 12 rfl rfl)) rfl
theorem f177_57 : ft 177 57 = some (9, 1, 0, .aload_n 1, 1) := Fm177 (dk_43 (dk_at s177_2 13 rfl rfl)) rfl
theorem f177_58 : ft 177 58 = some (9, 1, 0, .invokevirtual 135, 3) := Fm177 (dk_182 0 135 (dk_at s177_2 14 rfl rfl)) rfl
theorem f177_61 : ft 177 61 = some (9, 1, 0, .aload_n 0, 1) := Fm177 (dk_42 (dk_at s177_2 17 rfl rfl)) rfl
theorem f177_62 : ft 177 62 = some (9, 1, 0, .aload_n 2, 1) := Fm177 (dk_44 (dk_at s177_2 18 rfl rfl)) rfl
theorem f177_63 : ft 177 63 = some (9, 1, 0, .invokevirtual 139, 3) := Fm177 (dk_182 0 139 (dk_at s177_2 19 rfl rfl)) rfl
theorem f177_66 : ft 177 66 = some (9, 1, 0, .ireturn, 1) := Fm177 (dk_172 (dk_at s177_2 22 rfl rfl)) rfl
theorem q177 {d : Nat} {m : Mem} {a0 a1 : Int} (hd : 0 < d) (hz : TZ m) : le2 (gd (tg m a1 = 14) <| nm (vl m a1 3) fun v6 => if v6 = 0 then (some (.inl (some (pI 0)), m)) else if 8 < v6 then (gd (tg m a0 = 9) <| bR (cl (d - 1) 172 [pR a0, pI 0] m) fun v1 m1 => bV (cl (d - 1) 175 [pR a0, pR v1, pI 0, pR a1] m1) fun m2 => bI (cl (d - 1) 176 [pR a0, pR v1] m2) fun v3 m3 => some (.inl (some (pI v3)), m3)) else if (vl m a1 0) = 0 then (if v6 = 1 then (nm (vl m a1 2) fun v7 => gd (tg m v7 = 298101) <| gd ((0 : Int) ≤ 0 ∧ 0 < ln m v7) <| some (.inl (some (pI (vl m v7 0))), m)) else gd (tg m a0 = 9) <| bI (cl (d - 1) 176 [pR a0, pR a1] m) fun v5 m5 => some (.inl (some (pI v5)), m5)) else gd (tg m a0 = 9) <| bI (cl (d - 1) 176 [pR a0, pR a1] m) fun v4 m4 => some (.inl (some (pI v4)), m4)) (cl d 177 [pR a0, pR a1] m) := by
  refine q_in (n := 3) (L := [pR a0, pR a1, pU]) rfl rfl rfl ?_
  refine r_aln1 (p := 1) f177_0 rfl ?_
  refine le2_gd (fun h1 => ?_)
  refine r_gfI (f := 3) (p := 4) f177_1 rfl rfl rfl (Or.inl h1) rfl ?_
  refine r_nmI (fun v6 ev6 => ?_)
  refine r_ifne (t := 9) (p := 7) f177_4 (by decide) rfl rfl ?_ ?_
  · refine r_iconst (p := 8) f177_7 rfl (pinD rfl rfl) ?_
    exact r_iret1 f177_8
  · refine r_aln1 (p := 10) f177_9 rfl ?_
    refine r_gfI (f := 3) (p := 13) f177_10 rfl rfl rfl (Or.inl h1) ev6.symm ?_
    refine r_bipush (p := 15) f177_13 rfl (pinD rfl rfl) ?_
    refine r_icgt (t := 48) (p := 18) f177_15 (by decide) rfl rfl ?_ ?_
    · refine r_aln0 (p := 49) f177_48 rfl ?_
      refine r_iconst (p := 50) f177_49 rfl (pinD rfl rfl) ?_
      refine le2_gd (fun h2 => ?_)
      refine r_invR (p := 53) f177_50 rfl rfl rfl (Or.inl h2) hd (Nat.le_of_ble_eq_true rfl) rfl rfl rfl (fun _ => rfl) (fun v1 m1 c1 => ?_)
      have hz1 := z_k c1 hz
      refine r_asn2 (p := 54) f177_53 rfl rfl ?_
      refine r_aln0 (p := 55) f177_54 rfl ?_
      refine r_aln2 (p := 56) f177_55 rfl ?_
      refine r_iconst (p := 57) f177_56 rfl (pinD rfl rfl) ?_
      refine r_aln1 (p := 58) f177_57 rfl ?_
      have h3 := k_t1 c1 hz h2 (by decide)
      refine r_invV (p := 61) f177_58 rfl rfl rfl (Or.inl h3) hd (Nat.le_of_ble_eq_true rfl) rfl rfl rfl (fun _ => rfl) (fun m2 c2 => ?_)
      have hz2 := z_k c2 hz1
      refine r_aln0 (p := 62) f177_61 rfl ?_
      refine r_aln2 (p := 63) f177_62 rfl ?_
      have h4 := k_t1 c2 hz1 h3 (by decide)
      refine r_invI (p := 66) f177_63 rfl rfl rfl (Or.inl h4) hd (Nat.le_of_ble_eq_true rfl) rfl rfl rfl (fun _ => rfl) (fun v3 m3 c3 => ?_)
      have hz3 := z_k c3 hz2
      exact r_iret1 f177_66
    · refine r_aln1 (p := 19) f177_18 rfl ?_
      refine r_gfIZ (f := 0) (p := 22) f177_19 rfl rfl rfl (Or.inl h1) rfl ?_
      refine r_ifne (t := 42) (p := 25) f177_22 (by decide) rfl rfl ?_ ?_
      · refine r_aln1 (p := 26) f177_25 rfl ?_
        refine r_gfI (f := 3) (p := 29) f177_26 rfl rfl rfl (Or.inl h1) ev6.symm ?_
        refine r_iconst (p := 30) f177_29 rfl (pinD rfl rfl) ?_
        refine r_icne (t := 42) (p := 33) f177_30 (by decide) rfl rfl ?_ ?_
        · refine r_aln1 (p := 34) f177_33 rfl ?_
          refine r_gfR (f := 2) (p := 37) f177_34 rfl rfl rfl (Or.inl h1) rfl ?_
          refine r_nmR (fun v7 ev7 => ?_)
          refine r_iconst (p := 38) f177_37 rfl (pinD rfl rfl) ?_
          refine le2_gd (fun h7 => ?_)
          refine le2_gd (fun h8 => ?_)
          refine r_iaload (p := 39) f177_38 rfl (dj1 (fun x => x % 1000 = 101) h7 (by decide)) h8 rfl ?_
          refine r_goto (p := 47) f177_39 (by decide) rfl ?_
          exact r_iret1 f177_47
        · refine r_aln0 (p := 43) f177_42 rfl ?_
          refine r_aln1 (p := 44) f177_43 rfl ?_
          refine le2_gd (fun h6 => ?_)
          refine r_invI (p := 47) f177_44 rfl rfl rfl (Or.inl h6) hd (Nat.le_of_ble_eq_true rfl) rfl rfl rfl (fun _ => rfl) (fun v5 m5 c5 => ?_)
          have hz5 := z_k c5 hz
          exact r_iret1 f177_47
      · refine r_aln0 (p := 43) f177_42 rfl ?_
        refine r_aln1 (p := 44) f177_43 rfl ?_
        refine le2_gd (fun h5 => ?_)
        refine r_invI (p := 47) f177_44 rfl rfl rfl (Or.inl h5) hd (Nat.le_of_ble_eq_true rfl) rfl rfl rfl (fun _ => rfl) (fun v4 m4 c4 => ?_)
        have hz4 := z_k c4 hz
        exact r_iret1 f177_47
/-! 178 PathStore$Disk.load (ILPathStore$Row;)V -/
def w178_1 : List UInt8 := [182, 0, 78, 177]
abbrev u178_1 : List UInt8 := w178_1 ++ []
def w178_0 : List UInt8 := [44, 3, 181, 0, 71, 44, 42, 180, 0, 10, 27, 17, 2, 224, 104, 6, 96, 42, 27, 4, 182, 0, 74]
abbrev u178_0 : List UInt8 := w178_0 ++ u178_1
theorem s178_0 : (prog_5_method_10_code).data.toList.drop 0 = u178_0 := by decide +kernel
theorem s178_1 : (prog_5_method_10_code).data.toList.drop 23 = u178_1 := dk_seg s178_0 23 rfl rfl
theorem Fm178 {pc len : Nat} {i : Instr} (h : decode (prog_5_method_10_code) pc = .ok (i, len)) (hl : len = ilen i len) : ft 178 pc = some (9, 0, 0, i, len) := ft_mk rfl h hl
theorem f178_0 : ft 178 0 = some (9, 0, 0, .aload_n 2, 1) := Fm178 (dk_44 (dk_at s178_0 0 rfl rfl)) rfl
theorem f178_1 : ft 178 1 = some (9, 0, 0, .iconst 0, 1) := Fm178 (dk_3 (dk_at s178_0 1 rfl rfl)) rfl
theorem f178_2 : ft 178 2 = some (9, 0, 0, .putfield 71, 3) := Fm178 (dk_181 0 71 (dk_at s178_0 2 rfl rfl)) rfl
theorem f178_5 : ft 178 5 = some (9, 0, 0, .aload_n 2, 1) := Fm178 (dk_44 (dk_at s178_0 5 rfl rfl)) rfl
theorem f178_6 : ft 178 6 = some (9, 0, 0, .aload_n 0, 1) := Fm178 (dk_42 (dk_at s178_0 6 rfl rfl)) rfl
theorem f178_7 : ft 178 7 = some (9, 0, 0, .getfield 10, 3) := Fm178 (dk_180 0 10 (dk_at s178_0 7 rfl rfl)) rfl
theorem f178_10 : ft 178 10 = some (9, 0, 0, .iload_n 1, 1) := Fm178 (dk_27 (dk_at s178_0 10 rfl rfl)) rfl
theorem f178_11 : ft 178 11 = some (9, 0, 0, .sipush 736, 3) := Fm178 (dk_17 2 224 (dk_at s178_0 11 rfl rfl)) rfl
theorem f178_14 : ft 178 14 = some (9, 0, 0, .imul, 1) := Fm178 (dk_104 (dk_at s178_0 14 rfl rfl)) rfl
theorem f178_15 : ft 178 15 = some (9, 0, 0, .iconst 3, 1) := Fm178 (dk_6 (dk_at s178_0 15 rfl rfl)) rfl
theorem f178_16 : ft 178 16 = some (9, 0, 0, .iadd, 1) := Fm178 (dk_96 (dk_at s178_0 16 rfl rfl)) rfl
theorem f178_17 : ft 178 17 = some (9, 0, 0, .aload_n 0, 1) := Fm178 (dk_42 (dk_at s178_0 17 rfl rfl)) rfl
theorem f178_18 : ft 178 18 = some (9, 0, 0, .iload_n 1, 1) := Fm178 (dk_27 (dk_at s178_0 18 rfl rfl)) rfl
theorem f178_19 : ft 178 19 = some (9, 0, 0, .iconst 1, 1) := Fm178 (dk_4 (dk_at s178_0 19 rfl rfl)) rfl
theorem f178_20 : ft 178 20 = some (9, 0, 0, .invokevirtual 74, 3) := Fm178 (dk_182 0 74 (dk_at s178_0 20 rfl rfl)) rfl
theorem f178_23 : ft 178 23 = some (9, 0, 0, .invokevirtual 78, 3) := Fm178 (dk_182 0 78 (dk_at s178_1 0 rfl rfl)) rfl
theorem f178_26 : ft 178 26 = some (9, 0, 0, .return_, 1) := Fm178 (dk_177 (dk_at s178_1 3 rfl rfl)) rfl
theorem q178 {d : Nat} {m : Mem} {a0 a1 a2 : Int} (hd : 0 < d) (hz : TZ m) : le2 (gd (tg m a2 = 8) <| gd (tg m a0 = 9) <| bI (cl (d - 1) 162 [pR a0, pI a1, pI 1] (mst m a2 1 0)) fun v1 m1 => bV (cl (d - 1) 143 [pR a2, pR (vl m a0 0), pI (w32 ((w32 (a1 * 736)) + 3)), pI v1] m1) fun m2 => some (.inl none, m2)) (cl d 178 [pR a0, pI a1, pR a2] m) := by
  refine q_in (n := 3) (L := [pR a0, pI a1, pR a2]) rfl rfl rfl ?_
  refine r_aln2 (p := 1) f178_0 rfl ?_
  refine r_iconst (p := 2) f178_1 rfl (pinD rfl rfl) ?_
  refine le2_gd (fun h1 => ?_)
  refine r_pfI (f := 1) (p := 5) f178_2 rfl rfl rfl (by decide) (by decide) (Or.inl h1) rfl ?_
  refine r_aln2 (p := 6) f178_5 rfl ?_
  refine r_aln0 (p := 7) f178_6 rfl ?_
  refine le2_gd (fun h2 => ?_)
  refine r_gfR (f := 0) (p := 10) f178_7 rfl rfl rfl (Or.inl h2) (sk_f (by decide)) ?_
  refine r_iln1 (p := 11) f178_10 rfl ?_
  refine r_sipush (p := 14) f178_11 rfl (pinD rfl rfl) ?_
  refine r_imul (p := 15) f178_14 rfl ?_
  refine r_iconst (p := 16) f178_15 rfl (pinD rfl rfl) ?_
  refine r_iadd (p := 17) f178_16 rfl ?_
  refine r_aln0 (p := 18) f178_17 rfl ?_
  refine r_iln1 (p := 19) f178_18 rfl ?_
  refine r_iconst (p := 20) f178_19 rfl (pinD rfl rfl) ?_
  refine r_invI (p := 23) f178_20 rfl rfl rfl (Or.inl h2) hd (Nat.le_of_ble_eq_true rfl) rfl rfl rfl (fun _ => rfl) (fun v1 m1 c1 => ?_)
  have hz1 := z_k c1 hz
  have h3 := k_t1 c1 hz h1 (by decide)
  refine r_invV (p := 26) f178_23 rfl rfl rfl (Or.inl h3) hd (Nat.le_of_ble_eq_true rfl) rfl rfl rfl (fun _ => rfl) (fun m2 c2 => ?_)
  have hz2 := z_k c2 hz1
  exact r_ret f178_26
/-! 179 PathStore$Disk.out (II)I -/
def w179_0 : List UInt8 := [42, 27, 182, 0, 113, 78, 42, 45, 28, 182, 0, 142, 42, 45, 182, 0, 121, 172]
abbrev u179_0 : List UInt8 := w179_0 ++ []
theorem s179_0 : (prog_5_method_25_code).data.toList.drop 0 = u179_0 := by decide +kernel
theorem Fm179 {pc len : Nat} {i : Instr} (h : decode (prog_5_method_25_code) pc = .ok (i, len)) (hl : len = ilen i len) : ft 179 pc = some (9, 1, 0, i, len) := ft_mk rfl h hl
theorem f179_0 : ft 179 0 = some (9, 1, 0, .aload_n 0, 1) := Fm179 (dk_42 (dk_at s179_0 0 rfl rfl)) rfl
theorem f179_1 : ft 179 1 = some (9, 1, 0, .iload_n 1, 1) := Fm179 (dk_27 (dk_at s179_0 1 rfl rfl)) rfl
theorem f179_2 : ft 179 2 = some (9, 1, 0, .invokevirtual 113, 3) := Fm179 (dk_182 0 113 (dk_at s179_0 2 rfl rfl)) rfl
theorem f179_5 : ft 179 5 = some (9, 1, 0, .astore_n 3, 1) := Fm179 (dk_78 (dk_at s179_0 5 rfl rfl)) rfl
theorem f179_6 : ft 179 6 = some (9, 1, 0, .aload_n 0, 1) := Fm179 (dk_42 (dk_at s179_0 6 rfl rfl)) rfl
theorem f179_7 : ft 179 7 = some (9, 1, 0, .aload_n 3, 1) := Fm179 (dk_45 (dk_at s179_0 7 rfl rfl)) rfl
theorem f179_8 : ft 179 8 = some (9, 1, 0, .iload_n 2, 1) := Fm179 (dk_28 (dk_at s179_0 8 rfl rfl)) rfl
theorem f179_9 : ft 179 9 = some (9, 1, 0, .invokevirtual 142, 3) := Fm179 (dk_182 0 142 (dk_at s179_0 9 rfl rfl)) rfl
theorem f179_12 : ft 179 12 = some (9, 1, 0, .aload_n 0, 1) := Fm179 (dk_42 (dk_at s179_0 12 rfl rfl)) rfl
theorem f179_13 : ft 179 13 = some (9, 1, 0, .aload_n 3, 1) := Fm179 (dk_45 (dk_at s179_0 13 rfl rfl)) rfl
theorem f179_14 : ft 179 14 = some (9, 1, 0, .invokevirtual 121, 3) := Fm179 (dk_182 0 121 (dk_at s179_0 14 rfl rfl)) rfl
theorem f179_17 : ft 179 17 = some (9, 1, 0, .ireturn, 1) := Fm179 (dk_172 (dk_at s179_0 17 rfl rfl)) rfl
theorem q179 {d : Nat} {m : Mem} {a0 a1 a2 : Int} (hd : 0 < d) (hz : TZ m) : le2 (gd (tg m a0 = 9) <| bR (cl (d - 1) 173 [pR a0, pI a1] m) fun v1 m1 => bV (cl (d - 1) 180 [pR a0, pR v1, pI a2] m1) fun m2 => bI (cl (d - 1) 177 [pR a0, pR v1] m2) fun v3 m3 => some (.inl (some (pI v3)), m3)) (cl d 179 [pR a0, pI a1, pI a2] m) := by
  refine q_in (n := 4) (L := [pR a0, pI a1, pI a2, pU]) rfl rfl rfl ?_
  refine r_aln0 (p := 1) f179_0 rfl ?_
  refine r_iln1 (p := 2) f179_1 rfl ?_
  refine le2_gd (fun h1 => ?_)
  refine r_invR (p := 5) f179_2 rfl rfl rfl (Or.inl h1) hd (Nat.le_of_ble_eq_true rfl) rfl rfl rfl (fun _ => rfl) (fun v1 m1 c1 => ?_)
  have hz1 := z_k c1 hz
  refine r_asn3 (p := 6) f179_5 rfl rfl ?_
  refine r_aln0 (p := 7) f179_6 rfl ?_
  refine r_aln3 (p := 8) f179_7 rfl ?_
  refine r_iln2 (p := 9) f179_8 rfl ?_
  have h2 := k_t1 c1 hz h1 (by decide)
  refine r_invV (p := 12) f179_9 rfl rfl rfl (Or.inl h2) hd (Nat.le_of_ble_eq_true rfl) rfl rfl rfl (fun _ => rfl) (fun m2 c2 => ?_)
  have hz2 := z_k c2 hz1
  refine r_aln0 (p := 13) f179_12 rfl ?_
  refine r_aln3 (p := 14) f179_13 rfl ?_
  have h3 := k_t1 c2 hz1 h2 (by decide)
  refine r_invI (p := 17) f179_14 rfl rfl rfl (Or.inl h3) hd (Nat.le_of_ble_eq_true rfl) rfl rfl rfl (fun _ => rfl) (fun v3 m3 c3 => ?_)
  have hz3 := z_k c3 hz2
  exact r_iret1 f179_17
/-! 180 PathStore$Disk.remove (LPathStore$Disk$Node;I)V -/
def w180_10 : List UInt8 := [42, 43, 29, 25, 4, 182, 0, 135, 177]
abbrev u180_10 : List UInt8 := w180_10 ++ []
def w180_9 : List UInt8 := [21, 10, 46, 182, 0, 129, 132, 10, 1, 167, 255, 217, 42, 43, 21, 5, 25, 7, 182, 0, 135, 167, 0, 11]
abbrev u180_9 : List UInt8 := w180_9 ++ u180_10
def w180_8 : List UInt8 := [162, 0, 35, 25, 7, 25, 7, 180, 0, 86, 25, 9, 180, 0, 87, 21, 10, 46, 25, 9, 180, 0, 90]
abbrev u180_8 : List UInt8 := w180_8 ++ u180_9
def w180_7 : List UInt8 := [21, 10, 46, 182, 0, 129, 132, 10, 1, 167, 255, 217, 3, 54, 10, 21, 10, 25, 9, 180, 0, 86]
abbrev u180_7 : List UInt8 := w180_7 ++ u180_8
def w180_6 : List UInt8 := [162, 0, 35, 25, 7, 25, 7, 180, 0, 86, 25, 8, 180, 0, 87, 21, 10, 46, 25, 8, 180, 0, 90]
abbrev u180_6 : List UInt8 := w180_6 ++ u180_7
def w180_5 : List UInt8 := [158, 0, 8, 25, 4, 167, 0, 5, 25, 6, 58, 9, 3, 54, 10, 21, 10, 25, 8, 180, 0, 86]
abbrev u180_5 : List UInt8 := w180_5 ++ u180_6
def w180_4 : List UInt8 := [180, 0, 93, 182, 0, 82, 58, 7, 29, 158, 0, 8, 25, 6, 167, 0, 5, 25, 4, 58, 8, 29]
abbrev u180_4 : List UInt8 := w180_4 ++ u180_5
def w180_3 : List UInt8 := [42, 43, 180, 0, 90, 21, 5, 46, 182, 0, 113, 58, 6, 43, 21, 5, 182, 0, 132, 42, 25, 4]
abbrev u180_3 : List UInt8 := w180_3 ++ u180_4
def w180_2 : List UInt8 := [6, 162, 0, 181, 43, 180, 0, 86, 158, 0, 174, 29, 158, 0, 9, 29, 4, 100, 167, 0, 4, 3, 54, 5]
abbrev u180_2 : List UInt8 := w180_2 ++ u180_3
def w180_1 : List UInt8 := [29, 46, 182, 0, 113, 58, 4, 42, 25, 4, 28, 182, 0, 142, 43, 29, 182, 0, 132, 25, 4, 180, 0, 86]
abbrev u180_1 : List UInt8 := w180_1 ++ u180_2
def w180_0 : List UInt8 := [43, 28, 182, 0, 125, 62, 43, 180, 0, 93, 153, 0, 9, 43, 29, 182, 0, 132, 177, 42, 43, 180, 0, 90]
abbrev u180_0 : List UInt8 := w180_0 ++ u180_1
theorem s180_0 : (prog_5_method_26_code).data.toList.drop 0 = u180_0 := by decide +kernel
theorem s180_1 : (prog_5_method_26_code).data.toList.drop 24 = u180_1 := dk_seg s180_0 24 rfl rfl
theorem s180_2 : (prog_5_method_26_code).data.toList.drop 48 = u180_2 := dk_seg s180_1 24 rfl rfl
theorem s180_3 : (prog_5_method_26_code).data.toList.drop 72 = u180_3 := dk_seg s180_2 24 rfl rfl
theorem s180_4 : (prog_5_method_26_code).data.toList.drop 94 = u180_4 := dk_seg s180_3 22 rfl rfl
theorem s180_5 : (prog_5_method_26_code).data.toList.drop 116 = u180_5 := dk_seg s180_4 22 rfl rfl
theorem s180_6 : (prog_5_method_26_code).data.toList.drop 138 = u180_6 := dk_seg s180_5 22 rfl rfl
theorem s180_7 : (prog_5_method_26_code).data.toList.drop 161 = u180_7 := dk_seg s180_6 23 rfl rfl
theorem s180_8 : (prog_5_method_26_code).data.toList.drop 183 = u180_8 := dk_seg s180_7 22 rfl rfl
theorem s180_9 : (prog_5_method_26_code).data.toList.drop 206 = u180_9 := dk_seg s180_8 23 rfl rfl
theorem s180_10 : (prog_5_method_26_code).data.toList.drop 230 = u180_10 := dk_seg s180_9 24 rfl rfl
theorem Fm180 {pc len : Nat} {i : Instr} (h : decode (prog_5_method_26_code) pc = .ok (i, len)) (hl : len = ilen i len) : ft 180 pc = some (9, 0, 0, i, len) := ft_mk rfl h hl
theorem f180_0 : ft 180 0 = some (9, 0, 0, .aload_n 1, 1) := Fm180 (dk_43 (dk_at s180_0 0 rfl rfl)) rfl
theorem f180_1 : ft 180 1 = some (9, 0, 0, .iload_n 2, 1) := Fm180 (dk_28 (dk_at s180_0 1 rfl rfl)) rfl
theorem f180_2 : ft 180 2 = some (9, 0, 0, .invokevirtual 125, 3) := Fm180 (dk_182 0 125 (dk_at s180_0 2 rfl rfl)) rfl
theorem f180_5 : ft 180 5 = some (9, 0, 0, .istore_n 3, 1) := Fm180 (dk_62 (dk_at s180_0 5 rfl rfl)) rfl
theorem f180_6 : ft 180 6 = some (9, 0, 0, .aload_n 1, 1) := Fm180 (dk_43 (dk_at s180_0 6 rfl rfl)) rfl
theorem f180_7 : ft 180 7 = some (9, 0, 0, .getfield 93, 3) := Fm180 (dk_180 0 93 (dk_at s180_0 7 rfl rfl)) rfl
theorem f180_10 : ft 180 10 = some (9, 0, 0, .ifCond .eq 9, 3) := Fm180 (dk_153 0 9 (dk_at s180_0 10 rfl rfl)) rfl
theorem f180_13 : ft 180 13 = some (9, 0, 0, .aload_n 1, 1) := Fm180 (dk_43 (dk_at s180_0 13 rfl rfl)) rfl
theorem f180_14 : ft 180 14 = some (9, 0, 0, .iload_n 3, 1) := Fm180 (dk_29 (dk_at s180_0 14 rfl rfl)) rfl
theorem f180_15 : ft 180 15 = some (9, 0, 0, .invokevirtual 132, 3) := Fm180 (dk_182 0 132 (dk_at s180_0 15 rfl rfl)) rfl
theorem f180_18 : ft 180 18 = some (9, 0, 0, .return_, 1) := Fm180 (dk_177 (dk_at s180_0 18 rfl rfl)) rfl
theorem f180_19 : ft 180 19 = some (9, 0, 0, .aload_n 0, 1) := Fm180 (dk_42 (dk_at s180_0 19 rfl rfl)) rfl
theorem f180_20 : ft 180 20 = some (9, 0, 0, .aload_n 1, 1) := Fm180 (dk_43 (dk_at s180_0 20 rfl rfl)) rfl
theorem f180_21 : ft 180 21 = some (9, 0, 0, .getfield 90, 3) := Fm180 (dk_180 0 90 (dk_at s180_0 21 rfl rfl)) rfl
theorem f180_24 : ft 180 24 = some (9, 0, 0, .iload_n 3, 1) := Fm180 (dk_29 (dk_at s180_1 0 rfl rfl)) rfl
theorem f180_25 : ft 180 25 = some (9, 0, 0, .iaload, 1) := Fm180 (dk_46 (dk_at s180_1 1 rfl rfl)) rfl
theorem f180_26 : ft 180 26 = some (9, 0, 0, .invokevirtual 113, 3) := Fm180 (dk_182 0 113 (dk_at s180_1 2 rfl rfl)) rfl
theorem f180_29 : ft 180 29 = some (9, 0, 0, .astore 4, 2) := Fm180 (dk_58 4 (dk_at s180_1 5 rfl rfl)) rfl
theorem f180_31 : ft 180 31 = some (9, 0, 0, .aload_n 0, 1) := Fm180 (dk_42 (dk_at s180_1 7 rfl rfl)) rfl
theorem f180_32 : ft 180 32 = some (9, 0, 0, .aload 4, 2) := Fm180 (dk_25 4 (dk_at s180_1 8 rfl rfl)) rfl
theorem f180_34 : ft 180 34 = some (9, 0, 0, .iload_n 2, 1) := Fm180 (dk_28 (dk_at s180_1 10 rfl rfl)) rfl
theorem f180_35 : ft 180 35 = some (9, 0, 0, .invokevirtual 142, 3) := Fm180 (dk_182 0 142 (dk_at s180_1 11 rfl rfl)) rfl
theorem f180_38 : ft 180 38 = some (9, 0, 0, .aload_n 1, 1) := Fm180 (dk_43 (dk_at s180_1 14 rfl rfl)) rfl
theorem f180_39 : ft 180 39 = some (9, 0, 0, .iload_n 3, 1) := Fm180 (dk_29 (dk_at s180_1 15 rfl rfl)) rfl
theorem f180_40 : ft 180 40 = some (9, 0, 0, .invokevirtual 132, 3) := Fm180 (dk_182 0 132 (dk_at s180_1 16 rfl rfl)) rfl
theorem f180_43 : ft 180 43 = some (9, 0, 0, .aload 4, 2) := Fm180 (dk_25 4 (dk_at s180_1 19 rfl rfl)) rfl
theorem f180_45 : ft 180 45 = some (9, 0, 0, .getfield 86, 3) := Fm180 (dk_180 0 86 (dk_at s180_1 21 rfl rfl)) rfl
theorem f180_48 : ft 180 48 = some (9, 0, 0, .iconst 3, 1) := Fm180 (dk_6 (dk_at s180_2 0 rfl rfl)) rfl
theorem f180_49 : ft 180 49 = some (9, 0, 0, .if_icmp .ge 181, 3) := Fm180 (dk_162 0 181 (dk_at s180_2 1 rfl rfl)) rfl
theorem f180_52 : ft 180 52 = some (9, 0, 0, .aload_n 1, 1) := Fm180 (dk_43 (dk_at s180_2 4 rfl rfl)) rfl
theorem f180_53 : ft 180 53 = some (9, 0, 0, .getfield 86, 3) := Fm180 (dk_180 0 86 (dk_at s180_2 5 rfl rfl)) rfl
theorem f180_56 : ft 180 56 = some (9, 0, 0, .ifCond .le 174, 3) := Fm180 (dk_158 0 174 (dk_at s180_2 8 rfl rfl)) rfl
theorem f180_59 : ft 180 59 = some (9, 0, 0, .iload_n 3, 1) := Fm180 (dk_29 (dk_at s180_2 11 rfl rfl)) rfl
theorem f180_60 : ft 180 60 = some (9, 0, 0, .ifCond .le 9, 3) := Fm180 (dk_158 0 9 (dk_at s180_2 12 rfl rfl)) rfl
theorem f180_63 : ft 180 63 = some (9, 0, 0, .iload_n 3, 1) := Fm180 (dk_29 (dk_at s180_2 15 rfl rfl)) rfl
theorem f180_64 : ft 180 64 = some (9, 0, 0, .iconst 1, 1) := Fm180 (dk_4 (dk_at s180_2 16 rfl rfl)) rfl
theorem f180_65 : ft 180 65 = some (9, 0, 0, .isub, 1) := Fm180 (dk_100 (dk_at s180_2 17 rfl rfl)) rfl
theorem f180_66 : ft 180 66 = some (9, 0, 0, .goto 4, 3) := Fm180 (dk_167 0 4 (dk_at s180_2 18 rfl rfl)) rfl
theorem f180_69 : ft 180 69 = some (9, 0, 0, .iconst 0, 1) := Fm180 (dk_3 (dk_at s180_2 21 rfl rfl)) rfl
theorem f180_70 : ft 180 70 = some (9, 0, 0, .istore 5, 2) := Fm180 (dk_54 5 (dk_at s180_2 22 rfl rfl)) rfl
theorem f180_72 : ft 180 72 = some (9, 0, 0, .aload_n 0, 1) := Fm180 (dk_42 (dk_at s180_3 0 rfl rfl)) rfl
theorem f180_73 : ft 180 73 = some (9, 0, 0, .aload_n 1, 1) := Fm180 (dk_43 (dk_at s180_3 1 rfl rfl)) rfl
theorem f180_74 : ft 180 74 = some (9, 0, 0, .getfield 90, 3) := Fm180 (dk_180 0 90 (dk_at s180_3 2 rfl rfl)) rfl
theorem f180_77 : ft 180 77 = some (9, 0, 0, .iload 5, 2) := Fm180 (dk_21 5 (dk_at s180_3 5 rfl rfl)) rfl
theorem f180_79 : ft 180 79 = some (9, 0, 0, .iaload, 1) := Fm180 (dk_46 (dk_at s180_3 7 rfl rfl)) rfl
theorem f180_80 : ft 180 80 = some (9, 0, 0, .invokevirtual 113, 3) := Fm180 (dk_182 0 113 (dk_at s180_3 8 rfl rfl)) rfl
theorem f180_83 : ft 180 83 = some (9, 0, 0, .astore 6, 2) := Fm180 (dk_58 6 (dk_at s180_3 11 rfl rfl)) rfl
theorem f180_85 : ft 180 85 = some (9, 0, 0, .aload_n 1, 1) := Fm180 (dk_43 (dk_at s180_3 13 rfl rfl)) rfl
theorem f180_86 : ft 180 86 = some (9, 0, 0, .iload 5, 2) := Fm180 (dk_21 5 (dk_at s180_3 14 rfl rfl)) rfl
theorem f180_88 : ft 180 88 = some (9, 0, 0, .invokevirtual 132, 3) := Fm180 (dk_182 0 132 (dk_at s180_3 16 rfl rfl)) rfl
theorem f180_91 : ft 180 91 = some (9, 0, 0, .aload_n 0, 1) := Fm180 (dk_42 (dk_at s180_3 19 rfl rfl)) rfl
theorem f180_92 : ft 180 92 = some (9, 0, 0, .aload 4, 2) := Fm180 (dk_25 4 (dk_at s180_3 20 rfl rfl)) rfl
theorem f180_94 : ft 180 94 = some (9, 0, 0, .getfield 93, 3) := Fm180 (dk_180 0 93 (dk_at s180_4 0 rfl rfl)) rfl
theorem f180_97 : ft 180 97 = some (9, 0, 0, .invokevirtual 82, 3) := Fm180 (dk_182 0 82 (dk_at s180_4 3 rfl rfl)) rfl
theorem f180_100 : ft 180 100 = some (9, 0, 0, .astore 7, 2) := Fm180 (dk_58 7 (dk_at s180_4 6 rfl rfl)) rfl
theorem f180_102 : ft 180 102 = some (9, 0, 0, .iload_n 3, 1) := Fm180 (dk_29 (dk_at s180_4 8 rfl rfl)) rfl
theorem f180_103 : ft 180 103 = some (9, 0, 0, .ifCond .le 8, 3) := Fm180 (dk_158 0 8 (dk_at s180_4 9 rfl rfl)) rfl
theorem f180_106 : ft 180 106 = some (9, 0, 0, .aload 6, 2) := Fm180 (dk_25 6 (dk_at s180_4 12 rfl rfl)) rfl
theorem f180_108 : ft 180 108 = some (9, 0, 0, .goto 5, 3) := Fm180 (dk_167 0 5 (dk_at s180_4 14 rfl rfl)) rfl
theorem f180_111 : ft 180 111 = some (9, 0, 0, .aload 4, 2) := Fm180 (dk_25 4 (dk_at s180_4 17 rfl rfl)) rfl
theorem f180_113 : ft 180 113 = some (9, 0, 0, .astore 8, 2) := Fm180 (dk_58 8 (dk_at s180_4 19 rfl rfl)) rfl
theorem f180_115 : ft 180 115 = some (9, 0, 0, .iload_n 3, 1) := Fm180 (dk_29 (dk_at s180_4 21 rfl rfl)) rfl
theorem f180_116 : ft 180 116 = some (9, 0, 0, .ifCond .le 8, 3) := Fm180 (dk_158 0 8 (dk_at s180_5 0 rfl rfl)) rfl
theorem f180_119 : ft 180 119 = some (9, 0, 0, .aload 4, 2) := Fm180 (dk_25 4 (dk_at s180_5 3 rfl rfl)) rfl
theorem f180_121 : ft 180 121 = some (9, 0, 0, .goto 5, 3) := Fm180 (dk_167 0 5 (dk_at s180_5 5 rfl rfl)) rfl
theorem f180_124 : ft 180 124 = some (9, 0, 0, .aload 6, 2) := Fm180 (dk_25 6 (dk_at s180_5 8 rfl rfl)) rfl
theorem f180_126 : ft 180 126 = some (9, 0, 0, .astore 9, 2) := Fm180 (dk_58 9 (dk_at s180_5 10 rfl rfl)) rfl
theorem f180_128 : ft 180 128 = some (9, 0, 0, .iconst 0, 1) := Fm180 (dk_3 (dk_at s180_5 12 rfl rfl)) rfl
theorem f180_129 : ft 180 129 = some (9, 0, 0, .istore 10, 2) := Fm180 (dk_54 10 (dk_at s180_5 13 rfl rfl)) rfl
theorem f180_131 : ft 180 131 = some (9, 0, 0, .iload 10, 2) := Fm180 (dk_21 10 (dk_at s180_5 15 rfl rfl)) rfl
theorem f180_133 : ft 180 133 = some (9, 0, 0, .aload 8, 2) := Fm180 (dk_25 8 (dk_at s180_5 17 rfl rfl)) rfl
theorem f180_135 : ft 180 135 = some (9, 0, 0, .getfield 86, 3) := Fm180 (dk_180 0 86 (dk_at s180_5 19 rfl rfl)) rfl
theorem f180_138 : ft 180 138 = some (9, 0, 0, .if_icmp .ge 35, 3) := Fm180 (dk_162 0 35 (dk_at s180_6 0 rfl rfl)) rfl
theorem f180_141 : ft 180 141 = some (9, 0, 0, .aload 7, 2) := Fm180 (dk_25 7 (dk_at s180_6 3 rfl rfl)) rfl
theorem f180_143 : ft 180 143 = some (9, 0, 0, .aload 7, 2) := Fm180 (dk_25 7 (dk_at s180_6 5 rfl rfl)) rfl
theorem f180_145 : ft 180 145 = some (9, 0, 0, .getfield 86, 3) := Fm180 (dk_180 0 86 (dk_at s180_6 7 rfl rfl)) rfl
theorem f180_148 : ft 180 148 = some (9, 0, 0, .aload 8, 2) := Fm180 (dk_25 8 (dk_at s180_6 10 rfl rfl)) rfl
theorem f180_150 : ft 180 150 = some (9, 0, 0, .getfield 87, 3) := Fm180 (dk_180 0 87 (dk_at s180_6 12 rfl rfl)) rfl
theorem f180_153 : ft 180 153 = some (9, 0, 0, .iload 10, 2) := Fm180 (dk_21 10 (dk_at s180_6 15 rfl rfl)) rfl
theorem f180_155 : ft 180 155 = some (9, 0, 0, .iaload, 1) := Fm180 (dk_46 (dk_at s180_6 17 rfl rfl)) rfl
theorem f180_156 : ft 180 156 = some (9, 0, 0, .aload 8, 2) := Fm180 (dk_25 8 (dk_at s180_6 18 rfl rfl)) rfl
theorem f180_158 : ft 180 158 = some (9, 0, 0, .getfield 90, 3) := Fm180 (dk_180 0 90 (dk_at s180_6 20 rfl rfl)) rfl
theorem f180_161 : ft 180 161 = some (9, 0, 0, .iload 10, 2) := Fm180 (dk_21 10 (dk_at s180_7 0 rfl rfl)) rfl
theorem f180_163 : ft 180 163 = some (9, 0, 0, .iaload, 1) := Fm180 (dk_46 (dk_at s180_7 2 rfl rfl)) rfl
theorem f180_164 : ft 180 164 = some (9, 0, 0, .invokevirtual 129, 3) := Fm180 (dk_182 0 129 (dk_at s180_7 3 rfl rfl)) rfl
theorem f180_167 : ft 180 167 = some (9, 0, 0, .iinc 10 1, 3) := Fm180 (dk_132 10 1 (dk_at s180_7 6 rfl rfl)) rfl
theorem f180_170 : ft 180 170 = some (9, 0, 0, .goto (-39), 3) := Fm180 (dk_167 255 217 (dk_at s180_7 9 rfl rfl)) rfl
theorem f180_173 : ft 180 173 = some (9, 0, 0, .iconst 0, 1) := Fm180 (dk_3 (dk_at s180_7 12 rfl rfl)) rfl
theorem f180_174 : ft 180 174 = some (9, 0, 0, .istore 10, 2) := Fm180 (dk_54 10 (dk_at s180_7 13 rfl rfl)) rfl
theorem f180_176 : ft 180 176 = some (9, 0, 0, .iload 10, 2) := Fm180 (dk_21 10 (dk_at s180_7 15 rfl rfl)) rfl
theorem f180_178 : ft 180 178 = some (9, 0, 0, .aload 9, 2) := Fm180 (dk_25 9 (dk_at s180_7 17 rfl rfl)) rfl
theorem f180_180 : ft 180 180 = some (9, 0, 0, .getfield 86, 3) := Fm180 (dk_180 0 86 (dk_at s180_7 19 rfl rfl)) rfl
theorem f180_183 : ft 180 183 = some (9, 0, 0, .if_icmp .ge 35, 3) := Fm180 (dk_162 0 35 (dk_at s180_8 0 rfl rfl)) rfl
theorem f180_186 : ft 180 186 = some (9, 0, 0, .aload 7, 2) := Fm180 (dk_25 7 (dk_at s180_8 3 rfl rfl)) rfl
theorem f180_188 : ft 180 188 = some (9, 0, 0, .aload 7, 2) := Fm180 (dk_25 7 (dk_at s180_8 5 rfl rfl)) rfl
theorem f180_190 : ft 180 190 = some (9, 0, 0, .getfield 86, 3) := Fm180 (dk_180 0 86 (dk_at s180_8 7 rfl rfl)) rfl
theorem f180_193 : ft 180 193 = some (9, 0, 0, .aload 9, 2) := Fm180 (dk_25 9 (dk_at s180_8 10 rfl rfl)) rfl
theorem f180_195 : ft 180 195 = some (9, 0, 0, .getfield 87, 3) := Fm180 (dk_180 0 87 (dk_at s180_8 12 rfl rfl)) rfl
theorem f180_198 : ft 180 198 = some (9, 0, 0, .iload 10, 2) := Fm180 (dk_21 10 (dk_at s180_8 15 rfl rfl)) rfl
theorem f180_200 : ft 180 200 = some (9, 0, 0, .iaload, 1) := Fm180 (dk_46 (dk_at s180_8 17 rfl rfl)) rfl
theorem f180_201 : ft 180 201 = some (9, 0, 0, .aload 9, 2) := Fm180 (dk_25 9 (dk_at s180_8 18 rfl rfl)) rfl
theorem f180_203 : ft 180 203 = some (9, 0, 0, .getfield 90, 3) := Fm180 (dk_180 0 90 (dk_at s180_8 20 rfl rfl)) rfl
theorem f180_206 : ft 180 206 = some (9, 0, 0, .iload 10, 2) := Fm180 (dk_21 10 (dk_at s180_9 0 rfl rfl)) rfl
theorem f180_208 : ft 180 208 = some (9, 0, 0, .iaload, 1) := Fm180 (dk_46 (dk_at s180_9 2 rfl rfl)) rfl
theorem f180_209 : ft 180 209 = some (9, 0, 0, .invokevirtual 129, 3) := Fm180 (dk_182 0 129 (dk_at s180_9 3 rfl rfl)) rfl
theorem f180_212 : ft 180 212 = some (9, 0, 0, .iinc 10 1, 3) := Fm180 (dk_132 10 1 (dk_at s180_9 6 rfl rfl)) rfl
theorem f180_215 : ft 180 215 = some (9, 0, 0, .goto (-39), 3) := Fm180 (dk_167 255 217 (dk_at s180_9 9 rfl rfl)) rfl
theorem f180_218 : ft 180 218 = some (9, 0, 0, .aload_n 0, 1) := Fm180 (dk_42 (dk_at s180_9 12 rfl rfl)) rfl
theorem f180_219 : ft 180 219 = some (9, 0, 0, .aload_n 1, 1) := Fm180 (dk_43 (dk_at s180_9 13 rfl rfl)) rfl
theorem f180_220 : ft 180 220 = some (9, 0, 0, .iload 5, 2) := Fm180 (dk_21 5 (dk_at s180_9 14 rfl rfl)) rfl
theorem f180_222 : ft 180 222 = some (9, 0, 0, .aload 7, 2) := Fm180 (dk_25 7 (dk_at s180_9 16 rfl rfl)) rfl
theorem f180_224 : ft 180 224 = some (9, 0, 0, .invokevirtual 135, 3) := Fm180 (dk_182 0 135 (dk_at s180_9 18 rfl rfl)) rfl
theorem f180_227 : ft 180 227 = some (9, 0, 0, .goto 11, 3) := Fm180 (dk_167 0 11 (dk_at s180_9 21 rfl rfl)) rfl
theorem f180_230 : ft 180 230 = some (9, 0, 0, .aload_n 0, 1) := Fm180 (dk_42 (dk_at s180_10 0 rfl rfl)) rfl
theorem f180_231 : ft 180 231 = some (9, 0, 0, .aload_n 1, 1) := Fm180 (dk_43 (dk_at s180_10 1 rfl rfl)) rfl
theorem f180_232 : ft 180 232 = some (9, 0, 0, .iload_n 3, 1) := Fm180 (dk_29 (dk_at s180_10 2 rfl rfl)) rfl
theorem f180_233 : ft 180 233 = some (9, 0, 0, .aload 4, 2) := Fm180 (dk_25 4 (dk_at s180_10 3 rfl rfl)) rfl
theorem f180_235 : ft 180 235 = some (9, 0, 0, .invokevirtual 135, 3) := Fm180 (dk_182 0 135 (dk_at s180_10 5 rfl rfl)) rfl
theorem f180_238 : ft 180 238 = some (9, 0, 0, .return_, 1) := Fm180 (dk_177 (dk_at s180_10 8 rfl rfl)) rfl
theorem q180 {d : Nat} {m : Mem} {a0 a1 a2 : Int} (hd : 0 < d) (hz : TZ m) : le2 (gd (tg m a1 = 14) <| bI (cl (d - 1) 299 [pR a1, pI a2] m) fun v1 m1 => if (vl m1 a1 0) = 0 then (nm (vl m1 a1 2) fun v8 => gd (tg m1 v8 = 298101) <| gd ((0 : Int) ≤ v1 ∧ v1 < ln m1 v8) <| gd (tg m1 a0 = 9) <| bR (cl (d - 1) 173 [pR a0, pI (vl m1 v8 v1)] m1) fun v2 m2 => bV (cl (d - 1) 180 [pR a0, pR v2, pI a2] m2) fun m3 => bV (cl (d - 1) 301 [pR a1, pI v1] m3) fun m4 => gd (tg m4 v2 = 14) <| if (vl m4 v2 3) < 3 then (if 0 < (vl m4 a1 3) then (if 0 < v1 then (rn d 180 70 [pR a0, pR a1, pI a2, pI v1, pR v2, pU, pU, pU, pU, pU, pU] [pI (w32 (v1 - 1))] m4) else rn d 180 70 [pR a0, pR a1, pI a2, pI v1, pR v2, pU, pU, pU, pU, pU, pU] [pI 0] m4) else bV (cl (d - 1) 175 [pR a0, pR a1, pI v1, pR v2] m4) fun m6 => some (.inl none, m6)) else bV (cl (d - 1) 175 [pR a0, pR a1, pI v1, pR v2] m4) fun m5 => some (.inl none, m5)) else bV (cl (d - 1) 301 [pR a1, pI v1] m1) fun m7 => some (.inl none, m7)) (cl d 180 [pR a0, pR a1, pI a2] m) := by
  refine q_in (n := 11) (L := [pR a0, pR a1, pI a2, pU, pU, pU, pU, pU, pU, pU, pU]) rfl rfl rfl ?_
  refine r_aln1 (p := 1) f180_0 rfl ?_
  refine r_iln2 (p := 2) f180_1 rfl ?_
  refine le2_gd (fun h1 => ?_)
  refine r_invI (p := 5) f180_2 rfl rfl rfl (Or.inl h1) hd (Nat.le_of_ble_eq_true rfl) rfl rfl rfl (fun _ => rfl) (fun v1 m1 c1 => ?_)
  have hz1 := z_k c1 hz
  refine r_isn3 (p := 6) f180_5 rfl rfl ?_
  refine r_aln1 (p := 7) f180_6 rfl ?_
  have h2 := k_t1 c1 hz h1 (by decide)
  refine r_gfIZ (f := 0) (p := 10) f180_7 rfl rfl rfl (Or.inl h2) rfl ?_
  refine r_ifeq (t := 19) (p := 13) f180_10 (by decide) rfl rfl ?_ ?_
  · refine r_aln0 (p := 20) f180_19 rfl ?_
    refine r_aln1 (p := 21) f180_20 rfl ?_
    refine r_gfR (f := 2) (p := 24) f180_21 rfl rfl rfl (Or.inl h2) rfl ?_
    refine r_nmR (fun v8 ev8 => ?_)
    refine r_iln3 (p := 25) f180_24 rfl ?_
    refine le2_gd (fun h3 => ?_)
    refine le2_gd (fun h4 => ?_)
    refine r_iaload (p := 26) f180_25 rfl (dj1 (fun x => x % 1000 = 101) h3 (by decide)) h4 rfl ?_
    refine le2_gd (fun h5 => ?_)
    refine r_invR (p := 29) f180_26 rfl rfl rfl (Or.inl h5) hd (Nat.le_of_ble_eq_true rfl) rfl rfl rfl (fun _ => rfl) (fun v2 m2 c2 => ?_)
    have hz2 := z_k c2 hz1
    refine r_asw4 (p := 31) f180_29 rfl rfl ?_
    refine r_aln0 (p := 32) f180_31 rfl ?_
    refine r_alw4 (p := 34) f180_32 rfl ?_
    refine r_iln2 (p := 35) f180_34 rfl ?_
    have h6 := k_t1 c2 hz1 h5 (by decide)
    refine r_invV (p := 38) f180_35 rfl rfl rfl (Or.inl h6) hd (Nat.le_of_ble_eq_true rfl) rfl rfl rfl (fun _ => rfl) (fun m3 c3 => ?_)
    have hz3 := z_k c3 hz2
    refine r_aln1 (p := 39) f180_38 rfl ?_
    refine r_iln3 (p := 40) f180_39 rfl ?_
    have h7 := k_t1 c2 hz1 h2 (by decide)
    have h8 := k_t1 c3 hz2 h7 (by decide)
    refine r_invV (p := 43) f180_40 rfl rfl rfl (Or.inl h8) hd (Nat.le_of_ble_eq_true rfl) rfl rfl rfl (fun _ => rfl) (fun m4 c4 => ?_)
    have hz4 := z_k c4 hz3
    refine r_alw4 (p := 45) f180_43 rfl ?_
    refine le2_gd (fun h9 => ?_)
    refine r_gfI (f := 3) (p := 48) f180_45 rfl rfl rfl (Or.inl h9) rfl ?_
    refine r_iconst (p := 49) f180_48 rfl (pinD rfl rfl) ?_
    refine r_icge (t := 230) (p := 52) f180_49 (by decide) rfl rfl ?_ ?_
    · refine r_aln1 (p := 53) f180_52 rfl ?_
      have h12 := k_t1 c4 hz3 h8 (by decide)
      refine r_gfI (f := 3) (p := 56) f180_53 rfl rfl rfl (Or.inl h12) rfl ?_
      refine r_ifle (t := 230) (p := 59) f180_56 (by decide) rfl rfl ?_ ?_
      · refine r_iln3 (p := 60) f180_59 rfl ?_
        refine r_ifle (t := 69) (p := 63) f180_60 (by decide) rfl rfl ?_ ?_
        · refine r_iln3 (p := 64) f180_63 rfl ?_
          refine r_iconst (p := 65) f180_64 rfl (pinD rfl rfl) ?_
          refine r_isub (p := 66) f180_65 rfl ?_
          refine r_goto (p := 70) f180_66 (by decide) rfl ?_
          exact le2_refl _
        · refine r_iconst (p := 70) f180_69 rfl (pinD rfl rfl) ?_
          exact le2_refl _
      · refine r_aln0 (p := 231) f180_230 rfl ?_
        refine r_aln1 (p := 232) f180_231 rfl ?_
        refine r_iln3 (p := 233) f180_232 rfl ?_
        refine r_alw4 (p := 235) f180_233 rfl ?_
        have h13 := k_t1 c3 hz2 h6 (by decide)
        have h14 := k_t1 c4 hz3 h13 (by decide)
        refine r_invV (p := 238) f180_235 rfl rfl rfl (Or.inl h14) hd (Nat.le_of_ble_eq_true rfl) rfl rfl rfl (fun _ => rfl) (fun m6 c6 => ?_)
        have hz6 := z_k c6 hz4
        exact r_ret f180_238
    · refine r_aln0 (p := 231) f180_230 rfl ?_
      refine r_aln1 (p := 232) f180_231 rfl ?_
      refine r_iln3 (p := 233) f180_232 rfl ?_
      refine r_alw4 (p := 235) f180_233 rfl ?_
      have h10 := k_t1 c3 hz2 h6 (by decide)
      have h11 := k_t1 c4 hz3 h10 (by decide)
      refine r_invV (p := 238) f180_235 rfl rfl rfl (Or.inl h11) hd (Nat.le_of_ble_eq_true rfl) rfl rfl rfl (fun _ => rfl) (fun m5 c5 => ?_)
      have hz5 := z_k c5 hz4
      exact r_ret f180_238
  · refine r_aln1 (p := 14) f180_13 rfl ?_
    refine r_iln3 (p := 15) f180_14 rfl ?_
    refine r_invV (p := 18) f180_15 rfl rfl rfl (Or.inl h2) hd (Nat.le_of_ble_eq_true rfl) rfl rfl rfl (fun _ => rfl) (fun m7 c7 => ?_)
    have hz7 := z_k c7 hz1
    exact r_ret f180_18
theorem q180_70 {d : Nat} {m : Mem} {a0 a1 a2 a3 a4 s0 : Int} (hd : 0 < d) (hz : TZ m) : le2 (gd (tg m a1 = 14) <| nm (vl m a1 2) fun v4 => gd (tg m v4 = 298101) <| gd ((0 : Int) ≤ s0 ∧ s0 < ln m v4) <| gd (tg m a0 = 9) <| bR (cl (d - 1) 173 [pR a0, pI (vl m v4 s0)] m) fun v1 m1 => bV (cl (d - 1) 301 [pR a1, pI s0] m1) fun m2 => gd (tg m2 a4 = 14) <| bR (cl (d - 1) 172 [pR a0, pI (vl m2 a4 0)] m2) fun v3 m3 => if 0 < a3 then (rn d 180 113 [pR a0, pR a1, pI a2, pI a3, pR a4, pI s0, pR v1, pR v3, pU, pU, pU] [pR v1] m3) else rn d 180 113 [pR a0, pR a1, pI a2, pI a3, pR a4, pI s0, pR v1, pR v3, pU, pU, pU] [pR a4] m3) (rn d 180 70 [pR a0, pR a1, pI a2, pI a3, pR a4, pU, pU, pU, pU, pU, pU] [pI s0] m) := by
  refine r_isw5 (p := 72) f180_70 rfl rfl ?_
  refine r_aln0 (p := 73) f180_72 rfl ?_
  refine r_aln1 (p := 74) f180_73 rfl ?_
  refine le2_gd (fun h1 => ?_)
  refine r_gfR (f := 2) (p := 77) f180_74 rfl rfl rfl (Or.inl h1) rfl ?_
  refine r_nmR (fun v4 ev4 => ?_)
  refine r_ilw5 (p := 79) f180_77 rfl ?_
  refine le2_gd (fun h2 => ?_)
  refine le2_gd (fun h3 => ?_)
  refine r_iaload (p := 80) f180_79 rfl (dj1 (fun x => x % 1000 = 101) h2 (by decide)) h3 rfl ?_
  refine le2_gd (fun h4 => ?_)
  refine r_invR (p := 83) f180_80 rfl rfl rfl (Or.inl h4) hd (Nat.le_of_ble_eq_true rfl) rfl rfl rfl (fun _ => rfl) (fun v1 m1 c1 => ?_)
  have hz1 := z_k c1 hz
  refine r_asw6 (p := 85) f180_83 rfl rfl ?_
  refine r_aln1 (p := 86) f180_85 rfl ?_
  refine r_ilw5 (p := 88) f180_86 rfl ?_
  have h5 := k_t1 c1 hz h1 (by decide)
  refine r_invV (p := 91) f180_88 rfl rfl rfl (Or.inl h5) hd (Nat.le_of_ble_eq_true rfl) rfl rfl rfl (fun _ => rfl) (fun m2 c2 => ?_)
  have hz2 := z_k c2 hz1
  refine r_aln0 (p := 92) f180_91 rfl ?_
  refine r_alw4 (p := 94) f180_92 rfl ?_
  refine le2_gd (fun h6 => ?_)
  refine r_gfIZ (f := 0) (p := 97) f180_94 rfl rfl rfl (Or.inl h6) rfl ?_
  have h7 := k_t1 c1 hz h4 (by decide)
  have h8 := k_t1 c2 hz1 h7 (by decide)
  refine r_invR (p := 100) f180_97 rfl rfl rfl (Or.inl h8) hd (Nat.le_of_ble_eq_true rfl) rfl rfl rfl (fun _ => rfl) (fun v3 m3 c3 => ?_)
  have hz3 := z_k c3 hz2
  refine r_asw7 (p := 102) f180_100 rfl rfl ?_
  refine r_iln3 (p := 103) f180_102 rfl ?_
  refine r_ifle (t := 111) (p := 106) f180_103 (by decide) rfl rfl ?_ ?_
  · refine r_alw6 (p := 108) f180_106 rfl ?_
    refine r_goto (p := 113) f180_108 (by decide) rfl ?_
    exact le2_refl _
  · refine r_alw4 (p := 113) f180_111 rfl ?_
    exact le2_refl _
theorem q180_113 {d : Nat} {m : Mem} {a0 a1 a2 a3 a4 a5 a6 a7 s0 : Int} (hz : TZ m) : le2 (if 0 < a3 then (rn d 180 131 [pR a0, pR a1, pI a2, pI a3, pR a4, pI a5, pR a6, pR a7, pR s0, pR a4, pI 0] [] m) else rn d 180 131 [pR a0, pR a1, pI a2, pI a3, pR a4, pI a5, pR a6, pR a7, pR s0, pR a6, pI 0] [] m) (rn d 180 113 [pR a0, pR a1, pI a2, pI a3, pR a4, pI a5, pR a6, pR a7, pU, pU, pU] [pR s0] m) := by
  refine r_asw8 (p := 115) f180_113 rfl rfl ?_
  refine r_iln3 (p := 116) f180_115 rfl ?_
  refine r_ifle (t := 124) (p := 119) f180_116 (by decide) rfl rfl ?_ ?_
  · refine r_alw4 (p := 121) f180_119 rfl ?_
    refine r_goto (p := 126) f180_121 (by decide) rfl ?_
    refine r_asw9 (p := 128) f180_126 rfl rfl ?_
    refine r_iconst (p := 129) f180_128 rfl (pinD rfl rfl) ?_
    refine r_isw10 (p := 131) f180_129 rfl rfl ?_
    exact le2_refl _
  · refine r_alw6 (p := 126) f180_124 rfl ?_
    refine r_asw9 (p := 128) f180_126 rfl rfl ?_
    refine r_iconst (p := 129) f180_128 rfl (pinD rfl rfl) ?_
    refine r_isw10 (p := 131) f180_129 rfl rfl ?_
    exact le2_refl _
theorem q180_131 {d : Nat} {m : Mem} {a0 a1 a2 a3 a4 a5 a6 a7 a8 a9 a10 : Int} (hd : 0 < d) (hz : TZ m) : le2 (gd (tg m a8 = 14) <| if a10 < (vl m a8 3) then (gd (tg m a7 = 14) <| nm (vl m a8 1) fun v2 => gd (tg m v2 = 298101) <| gd ((0 : Int) ≤ a10 ∧ a10 < ln m v2) <| nm (vl m a8 2) fun v3 => gd (tg m v3 = 298101) <| gd ((0 : Int) ≤ a10 ∧ a10 < ln m v3) <| bV (cl (d - 1) 300 [pR a7, pI (vl m a7 3), pI (vl m v2 a10), pI (vl m v3 a10)] m) fun m1 => rn d 180 131 [pR a0, pR a1, pI a2, pI a3, pR a4, pI a5, pR a6, pR a7, pR a8, pR a9, pI (w32 (a10 + 1))] [] m1) else rn d 180 176 [pR a0, pR a1, pI a2, pI a3, pR a4, pI a5, pR a6, pR a7, pR a8, pR a9, pI 0] [] m) (rn d 180 131 [pR a0, pR a1, pI a2, pI a3, pR a4, pI a5, pR a6, pR a7, pR a8, pR a9, pI a10] [] m) := by
  refine r_ilw10 (p := 133) f180_131 rfl ?_
  refine r_alw8 (p := 135) f180_133 rfl ?_
  refine le2_gd (fun h1 => ?_)
  refine r_gfI (f := 3) (p := 138) f180_135 rfl rfl rfl (Or.inl h1) rfl ?_
  refine r_icge (t := 173) (p := 141) f180_138 (by decide) rfl rfl ?_ ?_
  · refine r_alw7 (p := 143) f180_141 rfl ?_
    refine r_alw7 (p := 145) f180_143 rfl ?_
    refine le2_gd (fun h2 => ?_)
    refine r_gfI (f := 3) (p := 148) f180_145 rfl rfl rfl (Or.inl h2) rfl ?_
    refine r_alw8 (p := 150) f180_148 rfl ?_
    refine r_gfR (f := 1) (p := 153) f180_150 rfl rfl rfl (Or.inl h1) rfl ?_
    refine r_nmR (fun v2 ev2 => ?_)
    refine r_ilw10 (p := 155) f180_153 rfl ?_
    refine le2_gd (fun h3 => ?_)
    refine le2_gd (fun h4 => ?_)
    refine r_iaload (p := 156) f180_155 rfl (dj1 (fun x => x % 1000 = 101) h3 (by decide)) h4 rfl ?_
    refine r_alw8 (p := 158) f180_156 rfl ?_
    refine r_gfR (f := 2) (p := 161) f180_158 rfl rfl rfl (Or.inl h1) rfl ?_
    refine r_nmR (fun v3 ev3 => ?_)
    refine r_ilw10 (p := 163) f180_161 rfl ?_
    refine le2_gd (fun h5 => ?_)
    refine le2_gd (fun h6 => ?_)
    refine r_iaload (p := 164) f180_163 rfl (dj1 (fun x => x % 1000 = 101) h5 (by decide)) h6 rfl ?_
    refine r_invV (p := 167) f180_164 rfl rfl rfl (Or.inl h2) hd (Nat.le_of_ble_eq_true rfl) rfl rfl rfl (fun _ => rfl) (fun m1 c1 => ?_)
    have hz1 := z_k c1 hz
    refine r_iinc10 (p := 170) f180_167 rfl rfl ?_
    refine r_goto (p := 131) f180_170 (by decide) rfl ?_
    exact le2_refl _
  · refine r_iconst (p := 174) f180_173 rfl (pinD rfl rfl) ?_
    refine r_isw10 (p := 176) f180_174 rfl rfl ?_
    exact le2_refl _
theorem q180_176 {d : Nat} {m : Mem} {a0 a1 a2 a3 a4 a5 a6 a7 a8 a9 a10 : Int} (hd : 0 < d) (hz : TZ m) : le2 (gd (tg m a9 = 14) <| if a10 < (vl m a9 3) then (gd (tg m a7 = 14) <| nm (vl m a9 1) fun v3 => gd (tg m v3 = 298101) <| gd ((0 : Int) ≤ a10 ∧ a10 < ln m v3) <| nm (vl m a9 2) fun v4 => gd (tg m v4 = 298101) <| gd ((0 : Int) ≤ a10 ∧ a10 < ln m v4) <| bV (cl (d - 1) 300 [pR a7, pI (vl m a7 3), pI (vl m v3 a10), pI (vl m v4 a10)] m) fun m2 => rn d 180 176 [pR a0, pR a1, pI a2, pI a3, pR a4, pI a5, pR a6, pR a7, pR a8, pR a9, pI (w32 (a10 + 1))] [] m2) else gd (tg m a0 = 9) <| bV (cl (d - 1) 175 [pR a0, pR a1, pI a5, pR a7] m) fun m1 => some (.inl none, m1)) (rn d 180 176 [pR a0, pR a1, pI a2, pI a3, pR a4, pI a5, pR a6, pR a7, pR a8, pR a9, pI a10] [] m) := by
  refine r_ilw10 (p := 178) f180_176 rfl ?_
  refine r_alw9 (p := 180) f180_178 rfl ?_
  refine le2_gd (fun h1 => ?_)
  refine r_gfI (f := 3) (p := 183) f180_180 rfl rfl rfl (Or.inl h1) rfl ?_
  refine r_icge (t := 218) (p := 186) f180_183 (by decide) rfl rfl ?_ ?_
  · refine r_alw7 (p := 188) f180_186 rfl ?_
    refine r_alw7 (p := 190) f180_188 rfl ?_
    refine le2_gd (fun h3 => ?_)
    refine r_gfI (f := 3) (p := 193) f180_190 rfl rfl rfl (Or.inl h3) rfl ?_
    refine r_alw9 (p := 195) f180_193 rfl ?_
    refine r_gfR (f := 1) (p := 198) f180_195 rfl rfl rfl (Or.inl h1) rfl ?_
    refine r_nmR (fun v3 ev3 => ?_)
    refine r_ilw10 (p := 200) f180_198 rfl ?_
    refine le2_gd (fun h4 => ?_)
    refine le2_gd (fun h5 => ?_)
    refine r_iaload (p := 201) f180_200 rfl (dj1 (fun x => x % 1000 = 101) h4 (by decide)) h5 rfl ?_
    refine r_alw9 (p := 203) f180_201 rfl ?_
    refine r_gfR (f := 2) (p := 206) f180_203 rfl rfl rfl (Or.inl h1) rfl ?_
    refine r_nmR (fun v4 ev4 => ?_)
    refine r_ilw10 (p := 208) f180_206 rfl ?_
    refine le2_gd (fun h6 => ?_)
    refine le2_gd (fun h7 => ?_)
    refine r_iaload (p := 209) f180_208 rfl (dj1 (fun x => x % 1000 = 101) h6 (by decide)) h7 rfl ?_
    refine r_invV (p := 212) f180_209 rfl rfl rfl (Or.inl h3) hd (Nat.le_of_ble_eq_true rfl) rfl rfl rfl (fun _ => rfl) (fun m2 c2 => ?_)
    have hz2 := z_k c2 hz
    refine r_iinc10 (p := 215) f180_212 rfl rfl ?_
    refine r_goto (p := 176) f180_215 (by decide) rfl ?_
    exact le2_refl _
  · refine r_aln0 (p := 219) f180_218 rfl ?_
    refine r_aln1 (p := 220) f180_219 rfl ?_
    refine r_ilw5 (p := 222) f180_220 rfl ?_
    refine r_alw7 (p := 224) f180_222 rfl ?_
    refine le2_gd (fun h2 => ?_)
    refine r_invV (p := 227) f180_224 rfl rfl rfl (Or.inl h2) hd (Nat.le_of_ble_eq_true rfl) rfl rfl rfl (fun _ => rfl) (fun m1 c1 => ?_)
    have hz1 := z_k c1 hz
    refine r_goto (p := 238) f180_227 (by decide) rfl ?_
    exact r_ret f180_238
/-! 181 PathStore$Disk.size (I)I -/
def w181_0 : List UInt8 := [42, 27, 4, 182, 0, 74, 172]
abbrev u181_0 : List UInt8 := w181_0 ++ []
theorem s181_0 : (prog_5_method_18_code).data.toList.drop 0 = u181_0 := by decide +kernel
theorem Fm181 {pc len : Nat} {i : Instr} (h : decode (prog_5_method_18_code) pc = .ok (i, len)) (hl : len = ilen i len) : ft 181 pc = some (9, 1, 0, i, len) := ft_mk rfl h hl
theorem f181_0 : ft 181 0 = some (9, 1, 0, .aload_n 0, 1) := Fm181 (dk_42 (dk_at s181_0 0 rfl rfl)) rfl
theorem f181_1 : ft 181 1 = some (9, 1, 0, .iload_n 1, 1) := Fm181 (dk_27 (dk_at s181_0 1 rfl rfl)) rfl
theorem f181_2 : ft 181 2 = some (9, 1, 0, .iconst 1, 1) := Fm181 (dk_4 (dk_at s181_0 2 rfl rfl)) rfl
theorem f181_3 : ft 181 3 = some (9, 1, 0, .invokevirtual 74, 3) := Fm181 (dk_182 0 74 (dk_at s181_0 3 rfl rfl)) rfl
theorem f181_6 : ft 181 6 = some (9, 1, 0, .ireturn, 1) := Fm181 (dk_172 (dk_at s181_0 6 rfl rfl)) rfl
theorem q181 {d : Nat} {m : Mem} {a0 a1 : Int} (hd : 0 < d) (hz : TZ m) : le2 (gd (tg m a0 = 9) <| bI (cl (d - 1) 162 [pR a0, pI a1, pI 1] m) fun v1 m1 => some (.inl (some (pI v1)), m1)) (cl d 181 [pR a0, pI a1] m) := by
  refine q_in (n := 2) (L := [pR a0, pI a1]) rfl rfl rfl ?_
  refine r_aln0 (p := 1) f181_0 rfl ?_
  refine r_iln1 (p := 2) f181_1 rfl ?_
  refine r_iconst (p := 3) f181_2 rfl (pinD rfl rfl) ?_
  refine le2_gd (fun h1 => ?_)
  refine r_invI (p := 6) f181_3 rfl rfl rfl (Or.inl h1) hd (Nat.le_of_ble_eq_true rfl) rfl rfl rfl (fun _ => rfl) (fun v1 m1 c1 => ?_)
  have hz1 := z_k c1 hz
  exact r_iret1 f181_6
/-! 182 PathStore$Disk.leaf (I)Z -/
def w182_0 : List UInt8 := [42, 180, 0, 10, 27, 17, 2, 224, 104, 51, 5, 160, 0, 7, 4, 167, 0, 4, 3, 172]
abbrev u182_0 : List UInt8 := w182_0 ++ []
theorem s182_0 : (prog_5_method_17_code).data.toList.drop 0 = u182_0 := by decide +kernel
theorem Fm182 {pc len : Nat} {i : Instr} (h : decode (prog_5_method_17_code) pc = .ok (i, len)) (hl : len = ilen i len) : ft 182 pc = some (9, 4, 0, i, len) := ft_mk rfl h hl
theorem f182_0 : ft 182 0 = some (9, 4, 0, .aload_n 0, 1) := Fm182 (dk_42 (dk_at s182_0 0 rfl rfl)) rfl
theorem f182_1 : ft 182 1 = some (9, 4, 0, .getfield 10, 3) := Fm182 (dk_180 0 10 (dk_at s182_0 1 rfl rfl)) rfl
theorem f182_4 : ft 182 4 = some (9, 4, 0, .iload_n 1, 1) := Fm182 (dk_27 (dk_at s182_0 4 rfl rfl)) rfl
theorem f182_5 : ft 182 5 = some (9, 4, 0, .sipush 736, 3) := Fm182 (dk_17 2 224 (dk_at s182_0 5 rfl rfl)) rfl
theorem f182_8 : ft 182 8 = some (9, 4, 0, .imul, 1) := Fm182 (dk_104 (dk_at s182_0 8 rfl rfl)) rfl
theorem f182_9 : ft 182 9 = some (9, 4, 0, .baload, 1) := Fm182 (dk_51 (dk_at s182_0 9 rfl rfl)) rfl
theorem f182_10 : ft 182 10 = some (9, 4, 0, .iconst 2, 1) := Fm182 (dk_5 (dk_at s182_0 10 rfl rfl)) rfl
theorem f182_11 : ft 182 11 = some (9, 4, 0, .if_icmp .ne 7, 3) := Fm182 (dk_160 0 7 (dk_at s182_0 11 rfl rfl)) rfl
theorem f182_14 : ft 182 14 = some (9, 4, 0, .iconst 1, 1) := Fm182 (dk_4 (dk_at s182_0 14 rfl rfl)) rfl
theorem f182_15 : ft 182 15 = some (9, 4, 0, .goto 4, 3) := Fm182 (dk_167 0 4 (dk_at s182_0 15 rfl rfl)) rfl
theorem f182_18 : ft 182 18 = some (9, 4, 0, .iconst 0, 1) := Fm182 (dk_3 (dk_at s182_0 18 rfl rfl)) rfl
theorem f182_19 : ft 182 19 = some (9, 4, 0, .ireturn, 1) := Fm182 (dk_172 (dk_at s182_0 19 rfl rfl)) rfl
theorem q182 {d : Nat} {m : Mem} {a0 a1 : Int} (hz : TZ m) : le2 (gd (tg m a0 = 9) <| nm (vl m a0 0) fun v1 => nm (w32 (a1 * 736)) fun v2 => gd (tg m v1 = 153103) <| gd ((0 : Int) ≤ v2 ∧ v2 < ln m v1) <| if (vl m v1 v2) = 2 then (some (.inl (some (pI 1)), m)) else some (.inl (some (pI 0)), m)) (cl d 182 [pR a0, pI a1] m) := by
  refine q_in (n := 2) (L := [pR a0, pI a1]) rfl rfl rfl ?_
  refine r_aln0 (p := 1) f182_0 rfl ?_
  refine le2_gd (fun h1 => ?_)
  refine r_gfR (f := 0) (p := 4) f182_1 rfl rfl rfl (Or.inl h1) rfl ?_
  refine r_nmR (fun v1 ev1 => ?_)
  refine r_iln1 (p := 5) f182_4 rfl ?_
  refine r_sipush (p := 8) f182_5 rfl (pinD rfl rfl) ?_
  refine r_imul (p := 9) f182_8 rfl ?_
  refine r_nmI (fun v2 ev2 => ?_)
  refine le2_gd (fun h2 => ?_)
  refine le2_gd (fun h3 => ?_)
  refine r_baload (p := 10) f182_9 rfl (dj1 (fun x => x % 1000 = 103 ∨ x % 1000 = 105) h2 (by decide)) h3 rfl ?_
  refine r_iconst (p := 11) f182_10 rfl (pinD rfl rfl) ?_
  refine r_icne (t := 18) (p := 14) f182_11 (by decide) rfl rfl ?_ ?_
  · refine r_iconst (p := 15) f182_14 rfl (pinD rfl rfl) ?_
    refine r_goto (p := 19) f182_15 (by decide) rfl ?_
    exact r_iret4 f182_19 (by decide)
  · refine r_iconst (p := 19) f182_18 rfl (pinD rfl rfl) ?_
    exact r_iret4 f182_19 (by decide)
/-! 183 PathStore$Disk.wrong (III)I -/
def w183_7 : List UInt8 := [21, 5, 172]
abbrev u183_7 : List UInt8 := w183_7 ++ []
def w183_6 : List UInt8 := [182, 0, 110, 42, 27, 21, 6, 182, 0, 107, 21, 7, 182, 0, 151, 96, 54, 5, 132, 6, 1, 167, 255, 171]
abbrev u183_6 : List UInt8 := w183_6 ++ u183_7
def w183_5 : List UInt8 := [42, 27, 21, 6, 182, 0, 107, 21, 7, 161, 0, 6, 132, 5, 1, 21, 5, 42, 42, 27, 21, 6]
abbrev u183_5 : List UInt8 := w183_5 ++ u183_6
def w183_4 : List UInt8 := [21, 6, 4, 96, 182, 0, 107, 167, 0, 4, 29, 54, 7, 42, 27, 21, 6, 182, 0, 107, 28, 161, 0, 15]
abbrev u183_4 : List UInt8 := w183_4 ++ u183_5
def w183_3 : List UInt8 := [54, 5, 3, 54, 6, 21, 6, 21, 4, 162, 0, 84, 21, 6, 4, 96, 21, 4, 162, 0, 15, 42, 27]
abbrev u183_3 : List UInt8 := w183_3 ++ u183_4
def w183_2 : List UInt8 := [27, 182, 0, 149, 54, 4, 21, 4, 153, 0, 10, 21, 4, 16, 8, 164, 0, 7, 4, 167, 0, 4, 3]
abbrev u183_2 : List UInt8 := w183_2 ++ u183_3
def w183_1 : List UInt8 := [42, 180, 0, 25, 27, 4, 84, 42, 180, 0, 10, 27, 17, 2, 224, 104, 51, 4, 160, 0, 5, 3, 172, 42]
abbrev u183_1 : List UInt8 := w183_1 ++ u183_2
def w183_0 : List UInt8 := [27, 5, 161, 0, 20, 42, 180, 0, 25, 27, 51, 154, 0, 11, 42, 27, 182, 0, 145, 154, 0, 5, 4, 172]
abbrev u183_0 : List UInt8 := w183_0 ++ u183_1
theorem s183_0 : (prog_5_method_32_code).data.toList.drop 0 = u183_0 := by decide +kernel
theorem s183_1 : (prog_5_method_32_code).data.toList.drop 24 = u183_1 := dk_seg s183_0 24 rfl rfl
theorem s183_2 : (prog_5_method_32_code).data.toList.drop 48 = u183_2 := dk_seg s183_1 24 rfl rfl
theorem s183_3 : (prog_5_method_32_code).data.toList.drop 71 = u183_3 := dk_seg s183_2 23 rfl rfl
theorem s183_4 : (prog_5_method_32_code).data.toList.drop 94 = u183_4 := dk_seg s183_3 23 rfl rfl
theorem s183_5 : (prog_5_method_32_code).data.toList.drop 118 = u183_5 := dk_seg s183_4 24 rfl rfl
theorem s183_6 : (prog_5_method_32_code).data.toList.drop 140 = u183_6 := dk_seg s183_5 22 rfl rfl
theorem s183_7 : (prog_5_method_32_code).data.toList.drop 164 = u183_7 := dk_seg s183_6 24 rfl rfl
theorem Fm183 {pc len : Nat} {i : Instr} (h : decode (prog_5_method_32_code) pc = .ok (i, len)) (hl : len = ilen i len) : ft 183 pc = some (9, 1, 0, i, len) := ft_mk rfl h hl
theorem f183_0 : ft 183 0 = some (9, 1, 0, .iload_n 1, 1) := Fm183 (dk_27 (dk_at s183_0 0 rfl rfl)) rfl
theorem f183_1 : ft 183 1 = some (9, 1, 0, .iconst 2, 1) := Fm183 (dk_5 (dk_at s183_0 1 rfl rfl)) rfl
theorem f183_2 : ft 183 2 = some (9, 1, 0, .if_icmp .lt 20, 3) := Fm183 (dk_161 0 20 (dk_at s183_0 2 rfl rfl)) rfl
theorem f183_5 : ft 183 5 = some (9, 1, 0, .aload_n 0, 1) := Fm183 (dk_42 (dk_at s183_0 5 rfl rfl)) rfl
theorem f183_6 : ft 183 6 = some (9, 1, 0, .getfield 25, 3) := Fm183 (dk_180 0 25 (dk_at s183_0 6 rfl rfl)) rfl
theorem f183_9 : ft 183 9 = some (9, 1, 0, .iload_n 1, 1) := Fm183 (dk_27 (dk_at s183_0 9 rfl rfl)) rfl
theorem f183_10 : ft 183 10 = some (9, 1, 0, .baload, 1) := Fm183 (dk_51 (dk_at s183_0 10 rfl rfl)) rfl
theorem f183_11 : ft 183 11 = some (9, 1, 0, .ifCond .ne 11, 3) := Fm183 (dk_154 0 11 (dk_at s183_0 11 rfl rfl)) rfl
theorem f183_14 : ft 183 14 = some (9, 1, 0, .aload_n 0, 1) := Fm183 (dk_42 (dk_at s183_0 14 rfl rfl)) rfl
theorem f183_15 : ft 183 15 = some (9, 1, 0, .iload_n 1, 1) := Fm183 (dk_27 (dk_at s183_0 15 rfl rfl)) rfl
theorem f183_16 : ft 183 16 = some (9, 1, 0, .invokevirtual 145, 3) := Fm183 (dk_182 0 145 (dk_at s183_0 16 rfl rfl)) rfl
theorem f183_19 : ft 183 19 = some (9, 1, 0, .ifCond .ne 5, 3) := Fm183 (dk_154 0 5 (dk_at s183_0 19 rfl rfl)) rfl
theorem f183_22 : ft 183 22 = some (9, 1, 0, .iconst 1, 1) := Fm183 (dk_4 (dk_at s183_0 22 rfl rfl)) rfl
theorem f183_23 : ft 183 23 = some (9, 1, 0, .ireturn, 1) := Fm183 (dk_172 (dk_at s183_0 23 rfl rfl)) rfl
theorem f183_24 : ft 183 24 = some (9, 1, 0, .aload_n 0, 1) := Fm183 (dk_42 (dk_at s183_1 0 rfl rfl)) rfl
theorem f183_25 : ft 183 25 = some (9, 1, 0, .getfield 25, 3) := Fm183 (dk_180 0 25 (dk_at s183_1 1 rfl rfl)) rfl
theorem f183_28 : ft 183 28 = some (9, 1, 0, .iload_n 1, 1) := Fm183 (dk_27 (dk_at s183_1 4 rfl rfl)) rfl
theorem f183_29 : ft 183 29 = some (9, 1, 0, .iconst 1, 1) := Fm183 (dk_4 (dk_at s183_1 5 rfl rfl)) rfl
theorem f183_30 : ft 183 30 = some (9, 1, 0, .bastore, 1) := Fm183 (dk_84 (dk_at s183_1 6 rfl rfl)) rfl
theorem f183_31 : ft 183 31 = some (9, 1, 0, .aload_n 0, 1) := Fm183 (dk_42 (dk_at s183_1 7 rfl rfl)) rfl
theorem f183_32 : ft 183 32 = some (9, 1, 0, .getfield 10, 3) := Fm183 (dk_180 0 10 (dk_at s183_1 8 rfl rfl)) rfl
theorem f183_35 : ft 183 35 = some (9, 1, 0, .iload_n 1, 1) := Fm183 (dk_27 (dk_at s183_1 11 rfl rfl)) rfl
theorem f183_36 : ft 183 36 = some (9, 1, 0, .sipush 736, 3) := Fm183 (dk_17 2 224 (dk_at s183_1 12 rfl rfl)) rfl
theorem f183_39 : ft 183 39 = some (9, 1, 0, .imul, 1) := Fm183 (dk_104 (dk_at s183_1 15 rfl rfl)) rfl
theorem f183_40 : ft 183 40 = some (9, 1, 0, .baload, 1) := Fm183 (dk_51 (dk_at s183_1 16 rfl rfl)) rfl
theorem f183_41 : ft 183 41 = some (9, 1, 0, .iconst 1, 1) := Fm183 (dk_4 (dk_at s183_1 17 rfl rfl)) rfl
theorem f183_42 : ft 183 42 = some (9, 1, 0, .if_icmp .ne 5, 3) := Fm183 (dk_160 0 5 (dk_at s183_1 18 rfl rfl)) rfl
theorem f183_45 : ft 183 45 = some (9, 1, 0, .iconst 0, 1) := Fm183 (dk_3 (dk_at s183_1 21 rfl rfl)) rfl
theorem f183_46 : ft 183 46 = some (9, 1, 0, .ireturn, 1) := Fm183 (dk_172 (dk_at s183_1 22 rfl rfl)) rfl
theorem f183_47 : ft 183 47 = some (9, 1, 0, .aload_n 0, 1) := Fm183 (dk_42 (dk_at s183_1 23 rfl rfl)) rfl
theorem f183_48 : ft 183 48 = some (9, 1, 0, .iload_n 1, 1) := Fm183 (dk_27 (dk_at s183_2 0 rfl rfl)) rfl
theorem f183_49 : ft 183 49 = some (9, 1, 0, .invokevirtual 149, 3) := Fm183 (dk_182 0 149 (dk_at s183_2 1 rfl rfl)) rfl
theorem f183_52 : ft 183 52 = some (9, 1, 0, .istore 4, 2) := Fm183 (dk_54 4 (dk_at s183_2 4 rfl rfl)) rfl
theorem f183_54 : ft 183 54 = some (9, 1, 0, .iload 4, 2) := Fm183 (dk_21 4 (dk_at s183_2 6 rfl rfl)) rfl
theorem f183_56 : ft 183 56 = some (9, 1, 0, .ifCond .eq 10, 3) := Fm183 (dk_153 0 10 (dk_at s183_2 8 rfl rfl)) rfl
theorem f183_59 : ft 183 59 = some (9, 1, 0, .iload 4, 2) := Fm183 (dk_21 4 (dk_at s183_2 11 rfl rfl)) rfl
theorem f183_61 : ft 183 61 = some (9, 1, 0, .bipush 8, 2) := Fm183 (dk_16 8 (dk_at s183_2 13 rfl rfl)) rfl
theorem f183_63 : ft 183 63 = some (9, 1, 0, .if_icmp .le 7, 3) := Fm183 (dk_164 0 7 (dk_at s183_2 15 rfl rfl)) rfl
theorem f183_66 : ft 183 66 = some (9, 1, 0, .iconst 1, 1) := Fm183 (dk_4 (dk_at s183_2 18 rfl rfl)) rfl
theorem f183_67 : ft 183 67 = some (9, 1, 0, .goto 4, 3) := Fm183 (dk_167 0 4 (dk_at s183_2 19 rfl rfl)) rfl
theorem f183_70 : ft 183 70 = some (9, 1, 0, .iconst 0, 1) := Fm183 (dk_3 (dk_at s183_2 22 rfl rfl)) rfl
theorem f183_71 : ft 183 71 = some (9, 1, 0, .istore 5, 2) := Fm183 (dk_54 5 (dk_at s183_3 0 rfl rfl)) rfl
theorem f183_73 : ft 183 73 = some (9, 1, 0, .iconst 0, 1) := Fm183 (dk_3 (dk_at s183_3 2 rfl rfl)) rfl
theorem f183_74 : ft 183 74 = some (9, 1, 0, .istore 6, 2) := Fm183 (dk_54 6 (dk_at s183_3 3 rfl rfl)) rfl
theorem f183_76 : ft 183 76 = some (9, 1, 0, .iload 6, 2) := Fm183 (dk_21 6 (dk_at s183_3 5 rfl rfl)) rfl
theorem f183_78 : ft 183 78 = some (9, 1, 0, .iload 4, 2) := Fm183 (dk_21 4 (dk_at s183_3 7 rfl rfl)) rfl
theorem f183_80 : ft 183 80 = some (9, 1, 0, .if_icmp .ge 84, 3) := Fm183 (dk_162 0 84 (dk_at s183_3 9 rfl rfl)) rfl
theorem f183_83 : ft 183 83 = some (9, 1, 0, .iload 6, 2) := Fm183 (dk_21 6 (dk_at s183_3 12 rfl rfl)) rfl
theorem f183_85 : ft 183 85 = some (9, 1, 0, .iconst 1, 1) := Fm183 (dk_4 (dk_at s183_3 14 rfl rfl)) rfl
theorem f183_86 : ft 183 86 = some (9, 1, 0, .iadd, 1) := Fm183 (dk_96 (dk_at s183_3 15 rfl rfl)) rfl
theorem f183_87 : ft 183 87 = some (9, 1, 0, .iload 4, 2) := Fm183 (dk_21 4 (dk_at s183_3 16 rfl rfl)) rfl
theorem f183_89 : ft 183 89 = some (9, 1, 0, .if_icmp .ge 15, 3) := Fm183 (dk_162 0 15 (dk_at s183_3 18 rfl rfl)) rfl
theorem f183_92 : ft 183 92 = some (9, 1, 0, .aload_n 0, 1) := Fm183 (dk_42 (dk_at s183_3 21 rfl rfl)) rfl
theorem f183_93 : ft 183 93 = some (9, 1, 0, .iload_n 1, 1) := Fm183 (dk_27 (dk_at s183_3 22 rfl rfl)) rfl
theorem f183_94 : ft 183 94 = some (9, 1, 0, .iload 6, 2) := Fm183 (dk_21 6 (dk_at s183_4 0 rfl rfl)) rfl
theorem f183_96 : ft 183 96 = some (9, 1, 0, .iconst 1, 1) := Fm183 (dk_4 (dk_at s183_4 2 rfl rfl)) rfl
theorem f183_97 : ft 183 97 = some (9, 1, 0, .iadd, 1) := Fm183 (dk_96 (dk_at s183_4 3 rfl rfl)) rfl
theorem f183_98 : ft 183 98 = some (9, 1, 0, .invokevirtual 107, 3) := Fm183 (dk_182 0 107 (dk_at s183_4 4 rfl rfl)) rfl
theorem f183_101 : ft 183 101 = some (9, 1, 0, .goto 4, 3) := Fm183 (dk_167 0 4 (dk_at s183_4 7 rfl rfl)) rfl
theorem f183_104 : ft 183 104 = some (9, 1, 0, .iload_n 3, 1) := Fm183 (dk_29 (dk_at s183_4 10 rfl rfl)) rfl
theorem f183_105 : ft 183 105 = some (9, 1, 0, .istore 7, 2) := Fm183 (dk_54 7 (dk_at s183_4 11 rfl rfl)) rfl
theorem f183_107 : ft 183 107 = some (9, 1, 0, .aload_n 0, 1) := Fm183 (dk_42 (dk_at s183_4 13 rfl rfl)) rfl
theorem f183_108 : ft 183 108 = some (9, 1, 0, .iload_n 1, 1) := Fm183 (dk_27 (dk_at s183_4 14 rfl rfl)) rfl
theorem f183_109 : ft 183 109 = some (9, 1, 0, .iload 6, 2) := Fm183 (dk_21 6 (dk_at s183_4 15 rfl rfl)) rfl
theorem f183_111 : ft 183 111 = some (9, 1, 0, .invokevirtual 107, 3) := Fm183 (dk_182 0 107 (dk_at s183_4 17 rfl rfl)) rfl
theorem f183_114 : ft 183 114 = some (9, 1, 0, .iload_n 2, 1) := Fm183 (dk_28 (dk_at s183_4 20 rfl rfl)) rfl
theorem f183_115 : ft 183 115 = some (9, 1, 0, .if_icmp .lt 15, 3) := Fm183 (dk_161 0 15 (dk_at s183_4 21 rfl rfl)) rfl
theorem f183_118 : ft 183 118 = some (9, 1, 0, .aload_n 0, 1) := Fm183 (dk_42 (dk_at s183_5 0 rfl rfl)) rfl
theorem f183_119 : ft 183 119 = some (9, 1, 0, .iload_n 1, 1) := Fm183 (dk_27 (dk_at s183_5 1 rfl rfl)) rfl
theorem f183_120 : ft 183 120 = some (9, 1, 0, .iload 6, 2) := Fm183 (dk_21 6 (dk_at s183_5 2 rfl rfl)) rfl
theorem f183_122 : ft 183 122 = some (9, 1, 0, .invokevirtual 107, 3) := Fm183 (dk_182 0 107 (dk_at s183_5 4 rfl rfl)) rfl
theorem f183_125 : ft 183 125 = some (9, 1, 0, .iload 7, 2) := Fm183 (dk_21 7 (dk_at s183_5 7 rfl rfl)) rfl
theorem f183_127 : ft 183 127 = some (9, 1, 0, .if_icmp .lt 6, 3) := Fm183 (dk_161 0 6 (dk_at s183_5 9 rfl rfl)) rfl
theorem f183_130 : ft 183 130 = some (9, 1, 0, .iinc 5 1, 3) := Fm183 (dk_132 5 1 (dk_at s183_5 12 rfl rfl)) rfl
theorem f183_133 : ft 183 133 = some (9, 1, 0, .iload 5, 2) := Fm183 (dk_21 5 (dk_at s183_5 15 rfl rfl)) rfl
theorem f183_135 : ft 183 135 = some (9, 1, 0, .aload_n 0, 1) := Fm183 (dk_42 (dk_at s183_5 17 rfl rfl)) rfl
theorem f183_136 : ft 183 136 = some (9, 1, 0, .aload_n 0, 1) := Fm183 (dk_42 (dk_at s183_5 18 rfl rfl)) rfl
theorem f183_137 : ft 183 137 = some (9, 1, 0, .iload_n 1, 1) := Fm183 (dk_27 (dk_at s183_5 19 rfl rfl)) rfl
theorem f183_138 : ft 183 138 = some (9, 1, 0, .iload 6, 2) := Fm183 (dk_21 6 (dk_at s183_5 20 rfl rfl)) rfl
theorem f183_140 : ft 183 140 = some (9, 1, 0, .invokevirtual 110, 3) := Fm183 (dk_182 0 110 (dk_at s183_6 0 rfl rfl)) rfl
theorem f183_143 : ft 183 143 = some (9, 1, 0, .aload_n 0, 1) := Fm183 (dk_42 (dk_at s183_6 3 rfl rfl)) rfl
theorem f183_144 : ft 183 144 = some (9, 1, 0, .iload_n 1, 1) := Fm183 (dk_27 (dk_at s183_6 4 rfl rfl)) rfl
theorem f183_145 : ft 183 145 = some (9, 1, 0, .iload 6, 2) := Fm183 (dk_21 6 (dk_at s183_6 5 rfl rfl)) rfl
theorem f183_147 : ft 183 147 = some (9, 1, 0, .invokevirtual 107, 3) := Fm183 (dk_182 0 107 (dk_at s183_6 7 rfl rfl)) rfl
theorem f183_150 : ft 183 150 = some (9, 1, 0, .iload 7, 2) := Fm183 (dk_21 7 (dk_at s183_6 10 rfl rfl)) rfl
theorem f183_152 : ft 183 152 = some (9, 1, 0, .invokevirtual 151, 3) := Fm183 (dk_182 0 151 (dk_at s183_6 12 rfl rfl)) rfl
theorem f183_155 : ft 183 155 = some (9, 1, 0, .iadd, 1) := Fm183 (dk_96 (dk_at s183_6 15 rfl rfl)) rfl
theorem f183_156 : ft 183 156 = some (9, 1, 0, .istore 5, 2) := Fm183 (dk_54 5 (dk_at s183_6 16 rfl rfl)) rfl
theorem f183_158 : ft 183 158 = some (9, 1, 0, .iinc 6 1, 3) := Fm183 (dk_132 6 1 (dk_at s183_6 18 rfl rfl)) rfl
theorem f183_161 : ft 183 161 = some (9, 1, 0, .goto (-85), 3) := Fm183 (dk_167 255 171 (dk_at s183_6 21 rfl rfl)) rfl
theorem f183_164 : ft 183 164 = some (9, 1, 0, .iload 5, 2) := Fm183 (dk_21 5 (dk_at s183_7 0 rfl rfl)) rfl
theorem f183_166 : ft 183 166 = some (9, 1, 0, .ireturn, 1) := Fm183 (dk_172 (dk_at s183_7 2 rfl rfl)) rfl
theorem q183 {d : Nat} {m : Mem} {a0 a1 a2 a3 : Int} (hd : 0 < d) (hz : TZ m) : le2 (if a1 < 2 then (some (.inl (some (pI 1)), m)) else gd (tg m a0 = 9) <| nm (vl m a0 5) fun v3 => gd (tg m v3 = 153105) <| gd ((0 : Int) ≤ a1 ∧ a1 < ln m v3) <| if (vl m v3 a1) = 0 then (bI (cl (d - 1) 160 [pR a0, pI a1] m) fun v1 m1 => if v1 = 0 then (some (.inl (some (pI 1)), m1)) else nm (vl m1 a0 5) fun v4 => gd (tg m1 v4 = 153105) <| gd ((0 : Int) ≤ a1 ∧ a1 < ln m1 v4) <| nm (vl m1 a0 0) fun v5 => nm (w32 (a1 * 736)) fun v6 => gd (tg m1 v5 = 153103) <| gd ((0 : Int) ≤ v6 ∧ v6 < ln m1 v5) <| if (vl m1 v5 v6) = 1 then (some (.inl (some (pI 0)), (mst m1 v4 a1 1))) else bI (cl (d - 1) 181 [pR a0, pI a1] (mst m1 v4 a1 1)) fun v2 m2 => if v2 = 0 then (rn d 183 76 [pR a0, pI a1, pI a2, pI a3, pI v2, pI 1, pI 0, pU] [] m2) else if 8 < v2 then (rn d 183 76 [pR a0, pI a1, pI a2, pI a3, pI v2, pI 1, pI 0, pU] [] m2) else rn d 183 76 [pR a0, pI a1, pI a2, pI a3, pI v2, pI 0, pI 0, pU] [] m2) else some (.inl (some (pI 1)), m)) (cl d 183 [pR a0, pI a1, pI a2, pI a3] m) := by
  refine q_in (n := 8) (L := [pR a0, pI a1, pI a2, pI a3, pU, pU, pU, pU]) rfl rfl rfl ?_
  refine r_iln1 (p := 1) f183_0 rfl ?_
  refine r_iconst (p := 2) f183_1 rfl (pinD rfl rfl) ?_
  refine r_iclt (t := 22) (p := 5) f183_2 (by decide) rfl rfl ?_ ?_
  · refine r_iconst (p := 23) f183_22 rfl (pinD rfl rfl) ?_
    exact r_iret1 f183_23
  · refine r_aln0 (p := 6) f183_5 rfl ?_
    refine le2_gd (fun h1 => ?_)
    refine r_gfR (f := 5) (p := 9) f183_6 rfl rfl rfl (Or.inl h1) rfl ?_
    refine r_nmR (fun v3 ev3 => ?_)
    refine r_iln1 (p := 10) f183_9 rfl ?_
    refine le2_gd (fun h2 => ?_)
    refine le2_gd (fun h3 => ?_)
    refine r_baload (p := 11) f183_10 rfl (dj1 (fun x => x % 1000 = 103 ∨ x % 1000 = 105) h2 (by decide)) h3 rfl ?_
    refine r_ifne (t := 22) (p := 14) f183_11 (by decide) rfl rfl ?_ ?_
    · refine r_aln0 (p := 15) f183_14 rfl ?_
      refine r_iln1 (p := 16) f183_15 rfl ?_
      refine r_invI (p := 19) f183_16 rfl rfl rfl (Or.inl h1) hd (Nat.le_of_ble_eq_true rfl) rfl rfl rfl (fun _ => rfl) (fun v1 m1 c1 => ?_)
      have hz1 := z_k c1 hz
      refine r_ifne (t := 24) (p := 22) f183_19 (by decide) rfl rfl ?_ ?_
      · refine r_iconst (p := 23) f183_22 rfl (pinD rfl rfl) ?_
        exact r_iret1 f183_23
      · refine r_aln0 (p := 25) f183_24 rfl ?_
        have h4 := k_t1 c1 hz h1 (by decide)
        refine r_gfR (f := 5) (p := 28) f183_25 rfl rfl rfl (Or.inl h4) rfl ?_
        refine r_nmR (fun v4 ev4 => ?_)
        refine r_iln1 (p := 29) f183_28 rfl ?_
        refine r_iconst (p := 30) f183_29 rfl (pinD rfl rfl) ?_
        refine le2_gd (fun h5 => ?_)
        refine le2_gd (fun h6 => ?_)
        refine r_bastoreZ (p := 31) f183_30 rfl (dj1 (fun x => 1000 ≤ x ∧ x % 1000 = 105 ∧ Nat.testBit (eM 183) (bix x 0) = true) h5 (by decide)) h6 (by decide) ?_
        refine r_aln0 (p := 32) f183_31 rfl ?_
        refine r_gfR (f := 0) (p := 35) f183_32 rfl rfl rfl (Or.inl h4) (sk_o (ne_oa (dj1 (fun x => x < 100) h4 (by decide)) (dj1 (fun x => ¬ x < 100) h5 (by decide)))) ?_
        refine r_nmR (fun v5 ev5 => ?_)
        refine r_iln1 (p := 36) f183_35 rfl ?_
        refine r_sipush (p := 39) f183_36 rfl (pinD rfl rfl) ?_
        refine r_imul (p := 40) f183_39 rfl ?_
        refine r_nmI (fun v6 ev6 => ?_)
        refine le2_gd (fun h7 => ?_)
        refine le2_gd (fun h8 => ?_)
        refine r_baload (p := 41) f183_40 rfl (dj1 (fun x => x % 1000 = 103 ∨ x % 1000 = 105) h7 (by decide)) h8 (sk_o (neP (fun x => x = 153103) h7 (dj1 (fun x => ¬ (x = 153103)) h5 (by decide)))) ?_
        refine r_iconst (p := 42) f183_41 rfl (pinD rfl rfl) ?_
        refine r_icne (t := 47) (p := 45) f183_42 (by decide) rfl rfl ?_ ?_
        · refine r_iconst (p := 46) f183_45 rfl (pinD rfl rfl) ?_
          exact r_iret1 f183_46
        · refine r_aln0 (p := 48) f183_47 rfl ?_
          refine r_iln1 (p := 49) f183_48 rfl ?_
          refine r_invI (p := 52) f183_49 rfl rfl rfl (Or.inl h4) hd (Nat.le_of_ble_eq_true rfl) rfl rfl rfl (fun _ => rfl) (fun v2 m2 c2 => ?_)
          have hz2 := z_k c2 hz1
          refine r_isw4 (p := 54) f183_52 rfl rfl ?_
          refine r_ilw4 (p := 56) f183_54 rfl ?_
          refine r_ifeq (t := 66) (p := 59) f183_56 (by decide) rfl rfl ?_ ?_
          · refine r_iconst (p := 67) f183_66 rfl (pinD rfl rfl) ?_
            refine r_goto (p := 71) f183_67 (by decide) rfl ?_
            refine r_isw5 (p := 73) f183_71 rfl rfl ?_
            refine r_iconst (p := 74) f183_73 rfl (pinD rfl rfl) ?_
            refine r_isw6 (p := 76) f183_74 rfl rfl ?_
            exact le2_refl _
          · refine r_ilw4 (p := 61) f183_59 rfl ?_
            refine r_bipush (p := 63) f183_61 rfl (pinD rfl rfl) ?_
            refine r_icle (t := 70) (p := 66) f183_63 (by decide) rfl rfl ?_ ?_
            · refine r_iconst (p := 67) f183_66 rfl (pinD rfl rfl) ?_
              refine r_goto (p := 71) f183_67 (by decide) rfl ?_
              refine r_isw5 (p := 73) f183_71 rfl rfl ?_
              refine r_iconst (p := 74) f183_73 rfl (pinD rfl rfl) ?_
              refine r_isw6 (p := 76) f183_74 rfl rfl ?_
              exact le2_refl _
            · refine r_iconst (p := 71) f183_70 rfl (pinD rfl rfl) ?_
              refine r_isw5 (p := 73) f183_71 rfl rfl ?_
              refine r_iconst (p := 74) f183_73 rfl (pinD rfl rfl) ?_
              refine r_isw6 (p := 76) f183_74 rfl rfl ?_
              exact le2_refl _
    · refine r_iconst (p := 23) f183_22 rfl (pinD rfl rfl) ?_
      exact r_iret1 f183_23
theorem q183_76 {d : Nat} {m : Mem} {a0 a1 a2 a3 a4 a5 a6 : Int} {z7 : PV} (hd : 0 < d) (hz : TZ m) (hcz7 : cat z7 = 1) : le2 (if a6 < a4 then (if (w32 (a6 + 1)) < a4 then (gd (tg m a0 = 9) <| bI (cl (d - 1) 166 [pR a0, pI a1, pI (w32 (a6 + 1))] m) fun v1 m1 => rn d 183 105 [pR a0, pI a1, pI a2, pI a3, pI a4, pI a5, pI a6, z7] [pI v1] m1) else rn d 183 105 [pR a0, pI a1, pI a2, pI a3, pI a4, pI a5, pI a6, z7] [pI a3] m) else some (.inl (some (pI a5)), m)) (rn d 183 76 [pR a0, pI a1, pI a2, pI a3, pI a4, pI a5, pI a6, z7] [] m) := by
  refine r_ilw6 (p := 78) f183_76 rfl ?_
  refine r_ilw4 (p := 80) f183_78 rfl ?_
  refine r_icge (t := 164) (p := 83) f183_80 (by decide) rfl rfl ?_ ?_
  · refine r_ilw6 (p := 85) f183_83 rfl ?_
    refine r_iconst (p := 86) f183_85 rfl (pinD rfl rfl) ?_
    refine r_iadd (p := 87) f183_86 rfl ?_
    refine r_ilw4 (p := 89) f183_87 rfl ?_
    refine r_icge (t := 104) (p := 92) f183_89 (by decide) rfl rfl ?_ ?_
    · refine r_aln0 (p := 93) f183_92 rfl ?_
      refine r_iln1 (p := 94) f183_93 rfl ?_
      refine r_ilw6 (p := 96) f183_94 rfl ?_
      refine r_iconst (p := 97) f183_96 rfl (pinD rfl rfl) ?_
      refine r_iadd (p := 98) f183_97 rfl ?_
      refine le2_gd (fun h1 => ?_)
      refine r_invI (p := 101) f183_98 rfl rfl rfl (Or.inl h1) hd (Nat.le_of_ble_eq_true rfl) rfl rfl rfl (fun _ => rfl) (fun v1 m1 c1 => ?_)
      have hz1 := z_k c1 hz
      refine r_goto (p := 105) f183_101 (by decide) rfl ?_
      exact le2_refl _
    · refine r_iln3 (p := 105) f183_104 rfl ?_
      exact le2_refl _
  · refine r_ilw5 (p := 166) f183_164 rfl ?_
    exact r_iret1 f183_166
theorem q183_105 {d : Nat} {m : Mem} {a0 a1 a2 a3 a4 a5 a6 s0 : Int} {z7 : PV} (hd : 0 < d) (hz : TZ m) (hcz7 : cat z7 = 1) : le2 (gd (tg m a0 = 9) <| bI (cl (d - 1) 166 [pR a0, pI a1, pI a6] m) fun v1 m1 => if v1 < a2 then (rn d 183 133 [pR a0, pI a1, pI a2, pI a3, pI a4, pI (w32 (a5 + 1)), pI a6, pI s0] [] m1) else bI (cl (d - 1) 166 [pR a0, pI a1, pI a6] m1) fun v2 m2 => if v2 < s0 then (rn d 183 133 [pR a0, pI a1, pI a2, pI a3, pI a4, pI a5, pI a6, pI s0] [] m2) else rn d 183 133 [pR a0, pI a1, pI a2, pI a3, pI a4, pI (w32 (a5 + 1)), pI a6, pI s0] [] m2) (rn d 183 105 [pR a0, pI a1, pI a2, pI a3, pI a4, pI a5, pI a6, z7] [pI s0] m) := by
  refine r_isw7 (p := 107) f183_105 rfl rfl ?_
  refine r_aln0 (p := 108) f183_107 rfl ?_
  refine r_iln1 (p := 109) f183_108 rfl ?_
  refine r_ilw6 (p := 111) f183_109 rfl ?_
  refine le2_gd (fun h1 => ?_)
  refine r_invI (p := 114) f183_111 rfl rfl rfl (Or.inl h1) hd (Nat.le_of_ble_eq_true rfl) rfl rfl rfl (fun _ => rfl) (fun v1 m1 c1 => ?_)
  have hz1 := z_k c1 hz
  refine r_iln2 (p := 115) f183_114 rfl ?_
  refine r_iclt (t := 130) (p := 118) f183_115 (by decide) rfl rfl ?_ ?_
  · refine r_iinc5 (p := 133) f183_130 rfl rfl ?_
    exact le2_refl _
  · refine r_aln0 (p := 119) f183_118 rfl ?_
    refine r_iln1 (p := 120) f183_119 rfl ?_
    refine r_ilw6 (p := 122) f183_120 rfl ?_
    have h2 := k_t1 c1 hz h1 (by decide)
    refine r_invI (p := 125) f183_122 rfl rfl rfl (Or.inl h2) hd (Nat.le_of_ble_eq_true rfl) rfl rfl rfl (fun _ => rfl) (fun v2 m2 c2 => ?_)
    have hz2 := z_k c2 hz1
    refine r_ilw7 (p := 127) f183_125 rfl ?_
    refine r_iclt (t := 133) (p := 130) f183_127 (by decide) rfl rfl ?_ ?_
    · exact le2_refl _
    · refine r_iinc5 (p := 133) f183_130 rfl rfl ?_
      exact le2_refl _
theorem q183_133 {d : Nat} {m : Mem} {a0 a1 a2 a3 a4 a5 a6 a7 : Int} (hd : 0 < d) (hz : TZ m) : le2 (gd (tg m a0 = 9) <| bI (cl (d - 1) 167 [pR a0, pI a1, pI a6] m) fun v1 m1 => bI (cl (d - 1) 166 [pR a0, pI a1, pI a6] m1) fun v2 m2 => bI (cl (d - 1) 183 [pR a0, pI v1, pI v2, pI a7] m2) fun v3 m3 => rn d 183 76 [pR a0, pI a1, pI a2, pI a3, pI a4, pI (w32 (a5 + v3)), pI (w32 (a6 + 1)), pI a7] [] m3) (rn d 183 133 [pR a0, pI a1, pI a2, pI a3, pI a4, pI a5, pI a6, pI a7] [] m) := by
  refine r_ilw5 (p := 135) f183_133 rfl ?_
  refine r_aln0 (p := 136) f183_135 rfl ?_
  refine r_aln0 (p := 137) f183_136 rfl ?_
  refine r_iln1 (p := 138) f183_137 rfl ?_
  refine r_ilw6 (p := 140) f183_138 rfl ?_
  refine le2_gd (fun h1 => ?_)
  refine r_invI (p := 143) f183_140 rfl rfl rfl (Or.inl h1) hd (Nat.le_of_ble_eq_true rfl) rfl rfl rfl (fun _ => rfl) (fun v1 m1 c1 => ?_)
  have hz1 := z_k c1 hz
  refine r_aln0 (p := 144) f183_143 rfl ?_
  refine r_iln1 (p := 145) f183_144 rfl ?_
  refine r_ilw6 (p := 147) f183_145 rfl ?_
  have h2 := k_t1 c1 hz h1 (by decide)
  refine r_invI (p := 150) f183_147 rfl rfl rfl (Or.inl h2) hd (Nat.le_of_ble_eq_true rfl) rfl rfl rfl (fun _ => rfl) (fun v2 m2 c2 => ?_)
  have hz2 := z_k c2 hz1
  refine r_ilw7 (p := 152) f183_150 rfl ?_
  have h3 := k_t1 c2 hz1 h2 (by decide)
  refine r_invI (p := 155) f183_152 rfl rfl rfl (Or.inl h3) hd (Nat.le_of_ble_eq_true rfl) rfl rfl rfl (fun _ => rfl) (fun v3 m3 c3 => ?_)
  have hz3 := z_k c3 hz2
  refine r_iadd (p := 156) f183_155 rfl ?_
  refine r_isw5 (p := 158) f183_156 rfl rfl ?_
  refine r_iinc6 (p := 161) f183_158 rfl rfl ?_
  refine r_goto (p := 76) f183_161 (by decide) rfl ?_
  exact le2_refl _
/-! 184 PathStore$Version.<init> ()V -/
theorem Fm184 {pc len : Nat} {i : Instr} (h : decode (prog_30_method_1_code) pc = .ok (i, len)) (hl : len = ilen i len) : ft 184 pc = some (10, 0, 1, i, len) := ft_mk rfl h hl
theorem f184_0 : ft 184 0 = some (10, 0, 1, .aload_n 0, 1) := Fm184 (by decide +kernel) rfl
theorem f184_1 : ft 184 1 = some (10, 0, 1, .invokespecial 1, 3) := Fm184 (by decide +kernel) rfl
theorem f184_4 : ft 184 4 = some (10, 0, 1, .return_, 1) := Fm184 (by decide +kernel) rfl
theorem q184 {d : Nat} {m : Mem} {a0 : Int} (hz : TZ m) : le2 (gd (tg m a0 = 10) <| some (.inl none, m)) (cl d 184 [pR a0] m) := by
  refine q_in (n := 1) (L := [pR a0]) rfl rfl rfl ?_
  refine r_aln0 (p := 1) f184_0 rfl ?_
  refine le2_gd (fun h1 => ?_)
  refine r_objinit (p := 4) f184_1 rfl rfl (dj1 (fun x => 0 < x ∧ x < 100) h1 (by decide)) (Nat.le_of_ble_eq_true rfl) ?_
  exact r_ret f184_4
/-! 297 PathStore$Disk$Node.<init> ()V -/
def w297_0 : List UInt8 := [42, 183, 0, 3, 42, 16, 18, 188, 10, 181, 0, 9, 42, 16, 18, 188, 10, 181, 0, 15, 177]
abbrev u297_0 : List UInt8 := w297_0 ++ []
theorem s297_0 : (prog_6_method_1_code).data.toList.drop 0 = u297_0 := by decide +kernel
theorem Fm297 {pc len : Nat} {i : Instr} (h : decode (prog_6_method_1_code) pc = .ok (i, len)) (hl : len = ilen i len) : ft 297 pc = some (14, 0, 1, i, len) := ft_mk rfl h hl
theorem f297_0 : ft 297 0 = some (14, 0, 1, .aload_n 0, 1) := Fm297 (dk_42 (dk_at s297_0 0 rfl rfl)) rfl
theorem f297_1 : ft 297 1 = some (14, 0, 1, .invokespecial 3, 3) := Fm297 (dk_183 0 3 (dk_at s297_0 1 rfl rfl)) rfl
theorem f297_4 : ft 297 4 = some (14, 0, 1, .aload_n 0, 1) := Fm297 (dk_42 (dk_at s297_0 4 rfl rfl)) rfl
theorem f297_5 : ft 297 5 = some (14, 0, 1, .bipush 18, 2) := Fm297 (dk_16 18 (dk_at s297_0 5 rfl rfl)) rfl
theorem f297_7 : ft 297 7 = some (14, 0, 1, .newarray .int, 2) := Fm297 (dk_188_10 (dk_at s297_0 7 rfl rfl)) rfl
theorem f297_9 : ft 297 9 = some (14, 0, 1, .putfield 9, 3) := Fm297 (dk_181 0 9 (dk_at s297_0 9 rfl rfl)) rfl
theorem f297_12 : ft 297 12 = some (14, 0, 1, .aload_n 0, 1) := Fm297 (dk_42 (dk_at s297_0 12 rfl rfl)) rfl
theorem f297_13 : ft 297 13 = some (14, 0, 1, .bipush 18, 2) := Fm297 (dk_16 18 (dk_at s297_0 13 rfl rfl)) rfl
theorem f297_15 : ft 297 15 = some (14, 0, 1, .newarray .int, 2) := Fm297 (dk_188_10 (dk_at s297_0 15 rfl rfl)) rfl
theorem f297_17 : ft 297 17 = some (14, 0, 1, .putfield 15, 3) := Fm297 (dk_181 0 15 (dk_at s297_0 17 rfl rfl)) rfl
theorem f297_20 : ft 297 20 = some (14, 0, 1, .return_, 1) := Fm297 (dk_177 (dk_at s297_0 20 rfl rfl)) rfl
theorem q297 {d : Nat} {m : Mem} {a0 : Int} (hz : TZ m) : le2 (gd (tg m a0 = 14) <| nw (nx m) (mal m 298101 18) fun o1 m1 => nw (nx (mst m1 a0 1 o1)) (mal (mst m1 a0 1 o1) 298101 18) fun o2 m2 => some (.inl none, (mst m2 a0 2 o2))) (cl d 297 [pR a0] m) := by
  refine q_in (n := 1) (L := [pR a0]) rfl rfl rfl ?_
  refine r_aln0 (p := 1) f297_0 rfl ?_
  refine le2_gd (fun h1 => ?_)
  refine r_objinit (p := 4) f297_1 rfl rfl (dj1 (fun x => 0 < x ∧ x < 100) h1 (by decide)) (Nat.le_of_ble_eq_true rfl) ?_
  refine r_aln0 (p := 5) f297_4 rfl ?_
  refine r_bipush (p := 7) f297_5 rfl (pinD rfl rfl) ?_
  refine r_newa (t1 := 298101) (p := 9) f297_7 rfl rfl (pinE rfl rfl) rfl rfl (fun o1 m1 h2 k1 => ?_)
  have hz1 := z_k k1 hz
  have h3 := k_t1 k1 hz h1 (by decide)
  refine r_pfR (f := 1) (p := 12) f297_9 rfl rfl rfl (by decide) (by decide) (Or.inl h3) rfl ?_
  refine r_aln0 (p := 13) f297_12 rfl ?_
  refine r_bipush (p := 15) f297_13 rfl (pinD rfl rfl) ?_
  refine r_newa (t1 := 298101) (p := 17) f297_15 rfl rfl (pinE rfl rfl) rfl rfl (fun o2 m2 h4 k2 => ?_)
  have hz2 := z_k k2 hz1
  have h5 := k_t1 k2 hz1 h3 (by decide)
  refine r_pfR (f := 2) (p := 20) f297_17 rfl rfl rfl (by decide) (by decide) (Or.inl h5) rfl ?_
  exact r_ret f297_20
/-! 298 PathStore$Disk$Node.begin (Z)LPathStore$Disk$Node; -/
def w298_0 : List UInt8 := [42, 27, 181, 0, 18, 42, 3, 181, 0, 22, 42, 176]
abbrev u298_0 : List UInt8 := w298_0 ++ []
theorem s298_0 : (prog_6_method_2_code).data.toList.drop 0 = u298_0 := by decide +kernel
theorem Fm298 {pc len : Nat} {i : Instr} (h : decode (prog_6_method_2_code) pc = .ok (i, len)) (hl : len = ilen i len) : ft 298 pc = some (14, 3, 0, i, len) := ft_mk rfl h hl
theorem f298_0 : ft 298 0 = some (14, 3, 0, .aload_n 0, 1) := Fm298 (dk_42 (dk_at s298_0 0 rfl rfl)) rfl
theorem f298_1 : ft 298 1 = some (14, 3, 0, .iload_n 1, 1) := Fm298 (dk_27 (dk_at s298_0 1 rfl rfl)) rfl
theorem f298_2 : ft 298 2 = some (14, 3, 0, .putfield 18, 3) := Fm298 (dk_181 0 18 (dk_at s298_0 2 rfl rfl)) rfl
theorem f298_5 : ft 298 5 = some (14, 3, 0, .aload_n 0, 1) := Fm298 (dk_42 (dk_at s298_0 5 rfl rfl)) rfl
theorem f298_6 : ft 298 6 = some (14, 3, 0, .iconst 0, 1) := Fm298 (dk_3 (dk_at s298_0 6 rfl rfl)) rfl
theorem f298_7 : ft 298 7 = some (14, 3, 0, .putfield 22, 3) := Fm298 (dk_181 0 22 (dk_at s298_0 7 rfl rfl)) rfl
theorem f298_10 : ft 298 10 = some (14, 3, 0, .aload_n 0, 1) := Fm298 (dk_42 (dk_at s298_0 10 rfl rfl)) rfl
theorem f298_11 : ft 298 11 = some (14, 3, 0, .areturn, 1) := Fm298 (dk_176 (dk_at s298_0 11 rfl rfl)) rfl
theorem q298 {d : Nat} {m : Mem} {a0 a1 : Int} (hz : TZ m) : le2 (gd (tg m a0 = 14) <| gd (a1 = 0 ∨ a1 = 1) <| some (.inl (some (pR a0)), (mst (mst m a0 0 a1) a0 3 0))) (cl d 298 [pR a0, pI a1] m) := by
  refine q_in (n := 2) (L := [pR a0, pI a1]) rfl rfl rfl ?_
  refine r_aln0 (p := 1) f298_0 rfl ?_
  refine r_iln1 (p := 2) f298_1 rfl ?_
  refine le2_gd (fun h1 => ?_)
  refine le2_gd (fun h2 => ?_)
  refine r_pfZ (f := 0) (p := 5) f298_2 rfl rfl rfl (by decide) (by decide) (Or.inl h1) rfl h2 ?_
  refine r_aln0 (p := 6) f298_5 rfl ?_
  refine r_iconst (p := 7) f298_6 rfl (pinD rfl rfl) ?_
  refine r_pfI (f := 3) (p := 10) f298_7 rfl rfl rfl (by decide) (by decide) (Or.inl h1) rfl ?_
  refine r_aln0 (p := 11) f298_10 rfl ?_
  exact r_aret f298_11
/-! 299 PathStore$Disk$Node.place (I)I -/
def w299_1 : List UInt8 := [167, 255, 239, 28, 172]
abbrev u299_1 : List UInt8 := w299_1 ++ []
def w299_0 : List UInt8 := [42, 180, 0, 22, 4, 100, 61, 28, 158, 0, 19, 42, 180, 0, 9, 28, 46, 27, 164, 0, 9, 132, 2, 255]
abbrev u299_0 : List UInt8 := w299_0 ++ u299_1
theorem s299_0 : (prog_6_method_3_code).data.toList.drop 0 = u299_0 := by decide +kernel
theorem s299_1 : (prog_6_method_3_code).data.toList.drop 24 = u299_1 := dk_seg s299_0 24 rfl rfl
theorem Fm299 {pc len : Nat} {i : Instr} (h : decode (prog_6_method_3_code) pc = .ok (i, len)) (hl : len = ilen i len) : ft 299 pc = some (14, 1, 0, i, len) := ft_mk rfl h hl
theorem f299_0 : ft 299 0 = some (14, 1, 0, .aload_n 0, 1) := Fm299 (dk_42 (dk_at s299_0 0 rfl rfl)) rfl
theorem f299_1 : ft 299 1 = some (14, 1, 0, .getfield 22, 3) := Fm299 (dk_180 0 22 (dk_at s299_0 1 rfl rfl)) rfl
theorem f299_4 : ft 299 4 = some (14, 1, 0, .iconst 1, 1) := Fm299 (dk_4 (dk_at s299_0 4 rfl rfl)) rfl
theorem f299_5 : ft 299 5 = some (14, 1, 0, .isub, 1) := Fm299 (dk_100 (dk_at s299_0 5 rfl rfl)) rfl
theorem f299_6 : ft 299 6 = some (14, 1, 0, .istore_n 2, 1) := Fm299 (dk_61 (dk_at s299_0 6 rfl rfl)) rfl
theorem f299_7 : ft 299 7 = some (14, 1, 0, .iload_n 2, 1) := Fm299 (dk_28 (dk_at s299_0 7 rfl rfl)) rfl
theorem f299_8 : ft 299 8 = some (14, 1, 0, .ifCond .le 19, 3) := Fm299 (dk_158 0 19 (dk_at s299_0 8 rfl rfl)) rfl
theorem f299_11 : ft 299 11 = some (14, 1, 0, .aload_n 0, 1) := Fm299 (dk_42 (dk_at s299_0 11 rfl rfl)) rfl
theorem f299_12 : ft 299 12 = some (14, 1, 0, .getfield 9, 3) := Fm299 (dk_180 0 9 (dk_at s299_0 12 rfl rfl)) rfl
theorem f299_15 : ft 299 15 = some (14, 1, 0, .iload_n 2, 1) := Fm299 (dk_28 (dk_at s299_0 15 rfl rfl)) rfl
theorem f299_16 : ft 299 16 = some (14, 1, 0, .iaload, 1) := Fm299 (dk_46 (dk_at s299_0 16 rfl rfl)) rfl
theorem f299_17 : ft 299 17 = some (14, 1, 0, .iload_n 1, 1) := Fm299 (dk_27 (dk_at s299_0 17 rfl rfl)) rfl
theorem f299_18 : ft 299 18 = some (14, 1, 0, .if_icmp .le 9, 3) := Fm299 (dk_164 0 9 (dk_at s299_0 18 rfl rfl)) rfl
theorem f299_21 : ft 299 21 = some (14, 1, 0, .iinc 2 (-1), 3) := Fm299 (dk_132 2 255 (dk_at s299_0 21 rfl rfl)) rfl
theorem f299_24 : ft 299 24 = some (14, 1, 0, .goto (-17), 3) := Fm299 (dk_167 255 239 (dk_at s299_1 0 rfl rfl)) rfl
theorem f299_27 : ft 299 27 = some (14, 1, 0, .iload_n 2, 1) := Fm299 (dk_28 (dk_at s299_1 3 rfl rfl)) rfl
theorem f299_28 : ft 299 28 = some (14, 1, 0, .ireturn, 1) := Fm299 (dk_172 (dk_at s299_1 4 rfl rfl)) rfl
theorem q299 {d : Nat} {m : Mem} {a0 a1 : Int} (hz : TZ m) : le2 (gd (tg m a0 = 14) <| rn d 299 7 [pR a0, pI a1, pI (w32 ((vl m a0 3) - 1))] [] m) (cl d 299 [pR a0, pI a1] m) := by
  refine q_in (n := 3) (L := [pR a0, pI a1, pU]) rfl rfl rfl ?_
  refine r_aln0 (p := 1) f299_0 rfl ?_
  refine le2_gd (fun h1 => ?_)
  refine r_gfI (f := 3) (p := 4) f299_1 rfl rfl rfl (Or.inl h1) rfl ?_
  refine r_iconst (p := 5) f299_4 rfl (pinD rfl rfl) ?_
  refine r_isub (p := 6) f299_5 rfl ?_
  refine r_isn2 (p := 7) f299_6 rfl rfl ?_
  exact le2_refl _
theorem q299_7 {d : Nat} {m : Mem} {a0 a1 a2 : Int} (hz : TZ m) : le2 (if 0 < a2 then (gd (tg m a0 = 14) <| nm (vl m a0 1) fun v1 => gd (tg m v1 = 298101) <| gd ((0 : Int) ≤ a2 ∧ a2 < ln m v1) <| if a1 < (vl m v1 a2) then (rn d 299 7 [pR a0, pI a1, pI (w32 (a2 + (-1)))] [] m) else some (.inl (some (pI a2)), m)) else some (.inl (some (pI a2)), m)) (rn d 299 7 [pR a0, pI a1, pI a2] [] m) := by
  refine r_iln2 (p := 8) f299_7 rfl ?_
  refine r_ifle (t := 27) (p := 11) f299_8 (by decide) rfl rfl ?_ ?_
  · refine r_aln0 (p := 12) f299_11 rfl ?_
    refine le2_gd (fun h1 => ?_)
    refine r_gfR (f := 1) (p := 15) f299_12 rfl rfl rfl (Or.inl h1) rfl ?_
    refine r_nmR (fun v1 ev1 => ?_)
    refine r_iln2 (p := 16) f299_15 rfl ?_
    refine le2_gd (fun h2 => ?_)
    refine le2_gd (fun h3 => ?_)
    refine r_iaload (p := 17) f299_16 rfl (dj1 (fun x => x % 1000 = 101) h2 (by decide)) h3 rfl ?_
    refine r_iln1 (p := 18) f299_17 rfl ?_
    refine r_icle (t := 27) (p := 21) f299_18 (by decide) rfl rfl ?_ ?_
    · refine r_iinc2 (p := 24) f299_21 rfl rfl ?_
      refine r_goto (p := 7) f299_24 (by decide) rfl ?_
      exact le2_refl _
    · refine r_iln2 (p := 28) f299_27 rfl ?_
      exact r_iret1 f299_28
  · refine r_iln2 (p := 28) f299_27 rfl ?_
    exact r_iret1 f299_28
/-! 300 PathStore$Disk$Node.insert (III)V -/
def w300_3 : List UInt8 := [181, 0, 22, 177]
abbrev u300_3 : List UInt8 := w300_3 ++ []
def w300_2 : List UInt8 := [167, 255, 215, 42, 180, 0, 9, 27, 28, 79, 42, 180, 0, 15, 27, 29, 79, 42, 89, 180, 0, 22, 4, 96]
abbrev u300_2 : List UInt8 := w300_2 ++ u300_3
def w300_1 : List UInt8 := [4, 100, 46, 79, 42, 180, 0, 15, 21, 4, 42, 180, 0, 15, 21, 4, 4, 100, 46, 79, 132, 4, 255]
abbrev u300_1 : List UInt8 := w300_1 ++ u300_2
def w300_0 : List UInt8 := [42, 180, 0, 22, 54, 4, 21, 4, 27, 164, 0, 41, 42, 180, 0, 9, 21, 4, 42, 180, 0, 9, 21, 4]
abbrev u300_0 : List UInt8 := w300_0 ++ u300_1
theorem s300_0 : (prog_6_method_4_code).data.toList.drop 0 = u300_0 := by decide +kernel
theorem s300_1 : (prog_6_method_4_code).data.toList.drop 24 = u300_1 := dk_seg s300_0 24 rfl rfl
theorem s300_2 : (prog_6_method_4_code).data.toList.drop 47 = u300_2 := dk_seg s300_1 23 rfl rfl
theorem s300_3 : (prog_6_method_4_code).data.toList.drop 71 = u300_3 := dk_seg s300_2 24 rfl rfl
theorem Fm300 {pc len : Nat} {i : Instr} (h : decode (prog_6_method_4_code) pc = .ok (i, len)) (hl : len = ilen i len) : ft 300 pc = some (14, 0, 0, i, len) := ft_mk rfl h hl
theorem f300_0 : ft 300 0 = some (14, 0, 0, .aload_n 0, 1) := Fm300 (dk_42 (dk_at s300_0 0 rfl rfl)) rfl
theorem f300_1 : ft 300 1 = some (14, 0, 0, .getfield 22, 3) := Fm300 (dk_180 0 22 (dk_at s300_0 1 rfl rfl)) rfl
theorem f300_4 : ft 300 4 = some (14, 0, 0, .istore 4, 2) := Fm300 (dk_54 4 (dk_at s300_0 4 rfl rfl)) rfl
theorem f300_6 : ft 300 6 = some (14, 0, 0, .iload 4, 2) := Fm300 (dk_21 4 (dk_at s300_0 6 rfl rfl)) rfl
theorem f300_8 : ft 300 8 = some (14, 0, 0, .iload_n 1, 1) := Fm300 (dk_27 (dk_at s300_0 8 rfl rfl)) rfl
theorem f300_9 : ft 300 9 = some (14, 0, 0, .if_icmp .le 41, 3) := Fm300 (dk_164 0 41 (dk_at s300_0 9 rfl rfl)) rfl
theorem f300_12 : ft 300 12 = some (14, 0, 0, .aload_n 0, 1) := Fm300 (dk_42 (dk_at s300_0 12 rfl rfl)) rfl
theorem f300_13 : ft 300 13 = some (14, 0, 0, .getfield 9, 3) := Fm300 (dk_180 0 9 (dk_at s300_0 13 rfl rfl)) rfl
theorem f300_16 : ft 300 16 = some (14, 0, 0, .iload 4, 2) := Fm300 (dk_21 4 (dk_at s300_0 16 rfl rfl)) rfl
theorem f300_18 : ft 300 18 = some (14, 0, 0, .aload_n 0, 1) := Fm300 (dk_42 (dk_at s300_0 18 rfl rfl)) rfl
theorem f300_19 : ft 300 19 = some (14, 0, 0, .getfield 9, 3) := Fm300 (dk_180 0 9 (dk_at s300_0 19 rfl rfl)) rfl
theorem f300_22 : ft 300 22 = some (14, 0, 0, .iload 4, 2) := Fm300 (dk_21 4 (dk_at s300_0 22 rfl rfl)) rfl
theorem f300_24 : ft 300 24 = some (14, 0, 0, .iconst 1, 1) := Fm300 (dk_4 (dk_at s300_1 0 rfl rfl)) rfl
theorem f300_25 : ft 300 25 = some (14, 0, 0, .isub, 1) := Fm300 (dk_100 (dk_at s300_1 1 rfl rfl)) rfl
theorem f300_26 : ft 300 26 = some (14, 0, 0, .iaload, 1) := Fm300 (dk_46 (dk_at s300_1 2 rfl rfl)) rfl
theorem f300_27 : ft 300 27 = some (14, 0, 0, .iastore, 1) := Fm300 (dk_79 (dk_at s300_1 3 rfl rfl)) rfl
theorem f300_28 : ft 300 28 = some (14, 0, 0, .aload_n 0, 1) := Fm300 (dk_42 (dk_at s300_1 4 rfl rfl)) rfl
theorem f300_29 : ft 300 29 = some (14, 0, 0, .getfield 15, 3) := Fm300 (dk_180 0 15 (dk_at s300_1 5 rfl rfl)) rfl
theorem f300_32 : ft 300 32 = some (14, 0, 0, .iload 4, 2) := Fm300 (dk_21 4 (dk_at s300_1 8 rfl rfl)) rfl
theorem f300_34 : ft 300 34 = some (14, 0, 0, .aload_n 0, 1) := Fm300 (dk_42 (dk_at s300_1 10 rfl rfl)) rfl
theorem f300_35 : ft 300 35 = some (14, 0, 0, .getfield 15, 3) := Fm300 (dk_180 0 15 (dk_at s300_1 11 rfl rfl)) rfl
theorem f300_38 : ft 300 38 = some (14, 0, 0, .iload 4, 2) := Fm300 (dk_21 4 (dk_at s300_1 14 rfl rfl)) rfl
theorem f300_40 : ft 300 40 = some (14, 0, 0, .iconst 1, 1) := Fm300 (dk_4 (dk_at s300_1 16 rfl rfl)) rfl
theorem f300_41 : ft 300 41 = some (14, 0, 0, .isub, 1) := Fm300 (dk_100 (dk_at s300_1 17 rfl rfl)) rfl
theorem f300_42 : ft 300 42 = some (14, 0, 0, .iaload, 1) := Fm300 (dk_46 (dk_at s300_1 18 rfl rfl)) rfl
theorem f300_43 : ft 300 43 = some (14, 0, 0, .iastore, 1) := Fm300 (dk_79 (dk_at s300_1 19 rfl rfl)) rfl
theorem f300_44 : ft 300 44 = some (14, 0, 0, .iinc 4 (-1), 3) := Fm300 (dk_132 4 255 (dk_at s300_1 20 rfl rfl)) rfl
theorem f300_47 : ft 300 47 = some (14, 0, 0, .goto (-41), 3) := Fm300 (dk_167 255 215 (dk_at s300_2 0 rfl rfl)) rfl
theorem f300_50 : ft 300 50 = some (14, 0, 0, .aload_n 0, 1) := Fm300 (dk_42 (dk_at s300_2 3 rfl rfl)) rfl
theorem f300_51 : ft 300 51 = some (14, 0, 0, .getfield 9, 3) := Fm300 (dk_180 0 9 (dk_at s300_2 4 rfl rfl)) rfl
theorem f300_54 : ft 300 54 = some (14, 0, 0, .iload_n 1, 1) := Fm300 (dk_27 (dk_at s300_2 7 rfl rfl)) rfl
theorem f300_55 : ft 300 55 = some (14, 0, 0, .iload_n 2, 1) := Fm300 (dk_28 (dk_at s300_2 8 rfl rfl)) rfl
theorem f300_56 : ft 300 56 = some (14, 0, 0, .iastore, 1) := Fm300 (dk_79 (dk_at s300_2 9 rfl rfl)) rfl
theorem f300_57 : ft 300 57 = some (14, 0, 0, .aload_n 0, 1) := Fm300 (dk_42 (dk_at s300_2 10 rfl rfl)) rfl
theorem f300_58 : ft 300 58 = some (14, 0, 0, .getfield 15, 3) := Fm300 (dk_180 0 15 (dk_at s300_2 11 rfl rfl)) rfl
theorem f300_61 : ft 300 61 = some (14, 0, 0, .iload_n 1, 1) := Fm300 (dk_27 (dk_at s300_2 14 rfl rfl)) rfl
theorem f300_62 : ft 300 62 = some (14, 0, 0, .iload_n 3, 1) := Fm300 (dk_29 (dk_at s300_2 15 rfl rfl)) rfl
theorem f300_63 : ft 300 63 = some (14, 0, 0, .iastore, 1) := Fm300 (dk_79 (dk_at s300_2 16 rfl rfl)) rfl
theorem f300_64 : ft 300 64 = some (14, 0, 0, .aload_n 0, 1) := Fm300 (dk_42 (dk_at s300_2 17 rfl rfl)) rfl
theorem f300_65 : ft 300 65 = some (14, 0, 0, .dup, 1) := Fm300 (dk_89 (dk_at s300_2 18 rfl rfl)) rfl
theorem f300_66 : ft 300 66 = some (14, 0, 0, .getfield 22, 3) := Fm300 (dk_180 0 22 (dk_at s300_2 19 rfl rfl)) rfl
theorem f300_69 : ft 300 69 = some (14, 0, 0, .iconst 1, 1) := Fm300 (dk_4 (dk_at s300_2 22 rfl rfl)) rfl
theorem f300_70 : ft 300 70 = some (14, 0, 0, .iadd, 1) := Fm300 (dk_96 (dk_at s300_2 23 rfl rfl)) rfl
theorem f300_71 : ft 300 71 = some (14, 0, 0, .putfield 22, 3) := Fm300 (dk_181 0 22 (dk_at s300_3 0 rfl rfl)) rfl
theorem f300_74 : ft 300 74 = some (14, 0, 0, .return_, 1) := Fm300 (dk_177 (dk_at s300_3 3 rfl rfl)) rfl
theorem q300 {d : Nat} {m : Mem} {a0 a1 a2 a3 : Int} (hz : TZ m) : le2 (gd (tg m a0 = 14) <| rn d 300 6 [pR a0, pI a1, pI a2, pI a3, pI (vl m a0 3)] [] m) (cl d 300 [pR a0, pI a1, pI a2, pI a3] m) := by
  refine q_in (n := 5) (L := [pR a0, pI a1, pI a2, pI a3, pU]) rfl rfl rfl ?_
  refine r_aln0 (p := 1) f300_0 rfl ?_
  refine le2_gd (fun h1 => ?_)
  refine r_gfI (f := 3) (p := 4) f300_1 rfl rfl rfl (Or.inl h1) rfl ?_
  refine r_isw4 (p := 6) f300_4 rfl rfl ?_
  exact le2_refl _
theorem q300_6 {d : Nat} {m : Mem} {a0 a1 a2 a3 a4 : Int} (hz : TZ m) : le2 (if a1 < a4 then (gd (tg m a0 = 14) <| nm (vl m a0 1) fun v1 => nm (w32 (a4 - 1)) fun v2 => gd (tg m v1 = 298101) <| gd ((0 : Int) ≤ v2 ∧ v2 < ln m v1) <| gd ((0 : Int) ≤ a4 ∧ a4 < ln m v1) <| nm (vl m a0 2) fun v3 => nm (w32 (a4 - 1)) fun v4 => gd (tg m v3 = 298101) <| gd ((0 : Int) ≤ v4 ∧ v4 < ln m v3) <| gd ((0 : Int) ≤ a4 ∧ a4 < ln m v3) <| rn d 300 6 [pR a0, pI a1, pI a2, pI a3, pI (w32 (a4 + (-1)))] [] (mst (mst m v1 a4 (vl m v1 v2)) v3 a4 (vl (mst m v1 a4 (vl m v1 v2)) v3 v4))) else gd (tg m a0 = 14) <| nm (vl m a0 1) fun v5 => gd (tg m v5 = 298101) <| gd ((0 : Int) ≤ a1 ∧ a1 < ln m v5) <| nm (vl m a0 2) fun v6 => gd (tg m v6 = 298101) <| gd ((0 : Int) ≤ a1 ∧ a1 < ln m v6) <| some (.inl none, (mst (mst (mst m v5 a1 a2) v6 a1 a3) a0 3 (w32 ((vl m a0 3) + 1))))) (rn d 300 6 [pR a0, pI a1, pI a2, pI a3, pI a4] [] m) := by
  refine r_ilw4 (p := 8) f300_6 rfl ?_
  refine r_iln1 (p := 9) f300_8 rfl ?_
  refine r_icle (t := 50) (p := 12) f300_9 (by decide) rfl rfl ?_ ?_
  · refine r_aln0 (p := 13) f300_12 rfl ?_
    refine le2_gd (fun h6 => ?_)
    refine r_gfR (f := 1) (p := 16) f300_13 rfl rfl rfl (Or.inl h6) rfl ?_
    refine r_nmR (fun v1 ev1 => ?_)
    refine r_ilw4 (p := 18) f300_16 rfl ?_
    refine r_aln0 (p := 19) f300_18 rfl ?_
    refine r_gfR (f := 1) (p := 22) f300_19 rfl rfl rfl (Or.inl h6) ev1.symm ?_
    refine r_ilw4 (p := 24) f300_22 rfl ?_
    refine r_iconst (p := 25) f300_24 rfl (pinD rfl rfl) ?_
    refine r_isub (p := 26) f300_25 rfl ?_
    refine r_nmI (fun v2 ev2 => ?_)
    refine le2_gd (fun h7 => ?_)
    refine le2_gd (fun h8 => ?_)
    refine r_iaload (p := 27) f300_26 rfl (dj1 (fun x => x % 1000 = 101) h7 (by decide)) h8 rfl ?_
    refine le2_gd (fun h9 => ?_)
    refine r_iastore (p := 28) f300_27 rfl (dj1 (fun x => 1000 ≤ x ∧ x % 1000 = 101 ∧ Nat.testBit (eM 300) (bix x 0) = true) h7 (by decide)) h9 ?_
    refine r_aln0 (p := 29) f300_28 rfl ?_
    refine r_gfR (f := 2) (p := 32) f300_29 rfl rfl rfl (Or.inl h6) (sk_o (ne_oa (dj1 (fun x => x < 100) h6 (by decide)) (dj1 (fun x => ¬ x < 100) h7 (by decide)))) ?_
    refine r_nmR (fun v3 ev3 => ?_)
    refine r_ilw4 (p := 34) f300_32 rfl ?_
    refine r_aln0 (p := 35) f300_34 rfl ?_
    refine r_gfR (f := 2) (p := 38) f300_35 rfl rfl rfl (Or.inl h6) (Eq.trans (sk_o (ne_oa (dj1 (fun x => x < 100) h6 (by decide)) (dj1 (fun x => ¬ x < 100) h7 (by decide)))) ev3.symm) ?_
    refine r_ilw4 (p := 40) f300_38 rfl ?_
    refine r_iconst (p := 41) f300_40 rfl (pinD rfl rfl) ?_
    refine r_isub (p := 42) f300_41 rfl ?_
    refine r_nmI (fun v4 ev4 => ?_)
    refine le2_gd (fun h10 => ?_)
    refine le2_gd (fun h11 => ?_)
    refine r_iaload (p := 43) f300_42 rfl (dj1 (fun x => x % 1000 = 101) h10 (by decide)) h11 rfl ?_
    refine le2_gd (fun h12 => ?_)
    refine r_iastore (p := 44) f300_43 rfl (dj1 (fun x => 1000 ≤ x ∧ x % 1000 = 101 ∧ Nat.testBit (eM 300) (bix x 0) = true) h10 (by decide)) h12 ?_
    refine r_iinc4 (p := 47) f300_44 rfl rfl ?_
    refine r_goto (p := 6) f300_47 (by decide) rfl ?_
    exact le2_refl _
  · refine r_aln0 (p := 51) f300_50 rfl ?_
    refine le2_gd (fun h1 => ?_)
    refine r_gfR (f := 1) (p := 54) f300_51 rfl rfl rfl (Or.inl h1) rfl ?_
    refine r_nmR (fun v5 ev5 => ?_)
    refine r_iln1 (p := 55) f300_54 rfl ?_
    refine r_iln2 (p := 56) f300_55 rfl ?_
    refine le2_gd (fun h2 => ?_)
    refine le2_gd (fun h3 => ?_)
    refine r_iastore (p := 57) f300_56 rfl (dj1 (fun x => 1000 ≤ x ∧ x % 1000 = 101 ∧ Nat.testBit (eM 300) (bix x 0) = true) h2 (by decide)) h3 ?_
    refine r_aln0 (p := 58) f300_57 rfl ?_
    refine r_gfR (f := 2) (p := 61) f300_58 rfl rfl rfl (Or.inl h1) (sk_o (ne_oa (dj1 (fun x => x < 100) h1 (by decide)) (dj1 (fun x => ¬ x < 100) h2 (by decide)))) ?_
    refine r_nmR (fun v6 ev6 => ?_)
    refine r_iln1 (p := 62) f300_61 rfl ?_
    refine r_iln3 (p := 63) f300_62 rfl ?_
    refine le2_gd (fun h4 => ?_)
    refine le2_gd (fun h5 => ?_)
    refine r_iastore (p := 64) f300_63 rfl (dj1 (fun x => 1000 ≤ x ∧ x % 1000 = 101 ∧ Nat.testBit (eM 300) (bix x 0) = true) h4 (by decide)) h5 ?_
    refine r_aln0 (p := 65) f300_64 rfl ?_
    refine r_dup (p := 66) f300_65 rfl rfl ?_
    refine r_gfI (f := 3) (p := 69) f300_66 rfl rfl rfl (Or.inl h1) (Eq.trans (sk_o (ne_oa (dj1 (fun x => x < 100) h1 (by decide)) (dj1 (fun x => ¬ x < 100) h4 (by decide)))) (sk_o (ne_oa (dj1 (fun x => x < 100) h1 (by decide)) (dj1 (fun x => ¬ x < 100) h2 (by decide))))) ?_
    refine r_iconst (p := 70) f300_69 rfl (pinD rfl rfl) ?_
    refine r_iadd (p := 71) f300_70 rfl ?_
    refine r_pfI (f := 3) (p := 74) f300_71 rfl rfl rfl (by decide) (by decide) (Or.inl h1) rfl ?_
    exact r_ret f300_74
/-! 301 PathStore$Disk$Node.remove (I)V -/
def w301_2 : List UInt8 := [132, 2, 1, 167, 255, 217, 177]
abbrev u301_2 : List UInt8 := w301_2 ++ []
def w301_1 : List UInt8 := [28, 42, 180, 0, 9, 28, 4, 96, 46, 79, 42, 180, 0, 15, 28, 42, 180, 0, 15, 28, 4, 96, 46, 79]
abbrev u301_1 : List UInt8 := w301_1 ++ u301_2
def w301_0 : List UInt8 := [42, 89, 180, 0, 22, 4, 100, 181, 0, 22, 27, 61, 28, 42, 180, 0, 22, 162, 0, 37, 42, 180, 0, 9]
abbrev u301_0 : List UInt8 := w301_0 ++ u301_1
theorem s301_0 : (prog_6_method_5_code).data.toList.drop 0 = u301_0 := by decide +kernel
theorem s301_1 : (prog_6_method_5_code).data.toList.drop 24 = u301_1 := dk_seg s301_0 24 rfl rfl
theorem s301_2 : (prog_6_method_5_code).data.toList.drop 48 = u301_2 := dk_seg s301_1 24 rfl rfl
theorem Fm301 {pc len : Nat} {i : Instr} (h : decode (prog_6_method_5_code) pc = .ok (i, len)) (hl : len = ilen i len) : ft 301 pc = some (14, 0, 0, i, len) := ft_mk rfl h hl
theorem f301_0 : ft 301 0 = some (14, 0, 0, .aload_n 0, 1) := Fm301 (dk_42 (dk_at s301_0 0 rfl rfl)) rfl
theorem f301_1 : ft 301 1 = some (14, 0, 0, .dup, 1) := Fm301 (dk_89 (dk_at s301_0 1 rfl rfl)) rfl
theorem f301_2 : ft 301 2 = some (14, 0, 0, .getfield 22, 3) := Fm301 (dk_180 0 22 (dk_at s301_0 2 rfl rfl)) rfl
theorem f301_5 : ft 301 5 = some (14, 0, 0, .iconst 1, 1) := Fm301 (dk_4 (dk_at s301_0 5 rfl rfl)) rfl
theorem f301_6 : ft 301 6 = some (14, 0, 0, .isub, 1) := Fm301 (dk_100 (dk_at s301_0 6 rfl rfl)) rfl
theorem f301_7 : ft 301 7 = some (14, 0, 0, .putfield 22, 3) := Fm301 (dk_181 0 22 (dk_at s301_0 7 rfl rfl)) rfl
theorem f301_10 : ft 301 10 = some (14, 0, 0, .iload_n 1, 1) := Fm301 (dk_27 (dk_at s301_0 10 rfl rfl)) rfl
theorem f301_11 : ft 301 11 = some (14, 0, 0, .istore_n 2, 1) := Fm301 (dk_61 (dk_at s301_0 11 rfl rfl)) rfl
theorem f301_12 : ft 301 12 = some (14, 0, 0, .iload_n 2, 1) := Fm301 (dk_28 (dk_at s301_0 12 rfl rfl)) rfl
theorem f301_13 : ft 301 13 = some (14, 0, 0, .aload_n 0, 1) := Fm301 (dk_42 (dk_at s301_0 13 rfl rfl)) rfl
theorem f301_14 : ft 301 14 = some (14, 0, 0, .getfield 22, 3) := Fm301 (dk_180 0 22 (dk_at s301_0 14 rfl rfl)) rfl
theorem f301_17 : ft 301 17 = some (14, 0, 0, .if_icmp .ge 37, 3) := Fm301 (dk_162 0 37 (dk_at s301_0 17 rfl rfl)) rfl
theorem f301_20 : ft 301 20 = some (14, 0, 0, .aload_n 0, 1) := Fm301 (dk_42 (dk_at s301_0 20 rfl rfl)) rfl
theorem f301_21 : ft 301 21 = some (14, 0, 0, .getfield 9, 3) := Fm301 (dk_180 0 9 (dk_at s301_0 21 rfl rfl)) rfl
theorem f301_24 : ft 301 24 = some (14, 0, 0, .iload_n 2, 1) := Fm301 (dk_28 (dk_at s301_1 0 rfl rfl)) rfl
theorem f301_25 : ft 301 25 = some (14, 0, 0, .aload_n 0, 1) := Fm301 (dk_42 (dk_at s301_1 1 rfl rfl)) rfl
theorem f301_26 : ft 301 26 = some (14, 0, 0, .getfield 9, 3) := Fm301 (dk_180 0 9 (dk_at s301_1 2 rfl rfl)) rfl
theorem f301_29 : ft 301 29 = some (14, 0, 0, .iload_n 2, 1) := Fm301 (dk_28 (dk_at s301_1 5 rfl rfl)) rfl
theorem f301_30 : ft 301 30 = some (14, 0, 0, .iconst 1, 1) := Fm301 (dk_4 (dk_at s301_1 6 rfl rfl)) rfl
theorem f301_31 : ft 301 31 = some (14, 0, 0, .iadd, 1) := Fm301 (dk_96 (dk_at s301_1 7 rfl rfl)) rfl
theorem f301_32 : ft 301 32 = some (14, 0, 0, .iaload, 1) := Fm301 (dk_46 (dk_at s301_1 8 rfl rfl)) rfl
theorem f301_33 : ft 301 33 = some (14, 0, 0, .iastore, 1) := Fm301 (dk_79 (dk_at s301_1 9 rfl rfl)) rfl
theorem f301_34 : ft 301 34 = some (14, 0, 0, .aload_n 0, 1) := Fm301 (dk_42 (dk_at s301_1 10 rfl rfl)) rfl
theorem f301_35 : ft 301 35 = some (14, 0, 0, .getfield 15, 3) := Fm301 (dk_180 0 15 (dk_at s301_1 11 rfl rfl)) rfl
theorem f301_38 : ft 301 38 = some (14, 0, 0, .iload_n 2, 1) := Fm301 (dk_28 (dk_at s301_1 14 rfl rfl)) rfl
theorem f301_39 : ft 301 39 = some (14, 0, 0, .aload_n 0, 1) := Fm301 (dk_42 (dk_at s301_1 15 rfl rfl)) rfl
theorem f301_40 : ft 301 40 = some (14, 0, 0, .getfield 15, 3) := Fm301 (dk_180 0 15 (dk_at s301_1 16 rfl rfl)) rfl
theorem f301_43 : ft 301 43 = some (14, 0, 0, .iload_n 2, 1) := Fm301 (dk_28 (dk_at s301_1 19 rfl rfl)) rfl
theorem f301_44 : ft 301 44 = some (14, 0, 0, .iconst 1, 1) := Fm301 (dk_4 (dk_at s301_1 20 rfl rfl)) rfl
theorem f301_45 : ft 301 45 = some (14, 0, 0, .iadd, 1) := Fm301 (dk_96 (dk_at s301_1 21 rfl rfl)) rfl
theorem f301_46 : ft 301 46 = some (14, 0, 0, .iaload, 1) := Fm301 (dk_46 (dk_at s301_1 22 rfl rfl)) rfl
theorem f301_47 : ft 301 47 = some (14, 0, 0, .iastore, 1) := Fm301 (dk_79 (dk_at s301_1 23 rfl rfl)) rfl
theorem f301_48 : ft 301 48 = some (14, 0, 0, .iinc 2 1, 3) := Fm301 (dk_132 2 1 (dk_at s301_2 0 rfl rfl)) rfl
theorem f301_51 : ft 301 51 = some (14, 0, 0, .goto (-39), 3) := Fm301 (dk_167 255 217 (dk_at s301_2 3 rfl rfl)) rfl
theorem f301_54 : ft 301 54 = some (14, 0, 0, .return_, 1) := Fm301 (dk_177 (dk_at s301_2 6 rfl rfl)) rfl
theorem q301 {d : Nat} {m : Mem} {a0 a1 : Int} (hz : TZ m) : le2 (gd (tg m a0 = 14) <| rn d 301 12 [pR a0, pI a1, pI a1] [] (mst m a0 3 (w32 ((vl m a0 3) - 1)))) (cl d 301 [pR a0, pI a1] m) := by
  refine q_in (n := 3) (L := [pR a0, pI a1, pU]) rfl rfl rfl ?_
  refine r_aln0 (p := 1) f301_0 rfl ?_
  refine r_dup (p := 2) f301_1 rfl rfl ?_
  refine le2_gd (fun h1 => ?_)
  refine r_gfI (f := 3) (p := 5) f301_2 rfl rfl rfl (Or.inl h1) rfl ?_
  refine r_iconst (p := 6) f301_5 rfl (pinD rfl rfl) ?_
  refine r_isub (p := 7) f301_6 rfl ?_
  refine r_pfI (f := 3) (p := 10) f301_7 rfl rfl rfl (by decide) (by decide) (Or.inl h1) rfl ?_
  refine r_iln1 (p := 11) f301_10 rfl ?_
  refine r_isn2 (p := 12) f301_11 rfl rfl ?_
  exact le2_refl _
theorem q301_12 {d : Nat} {m : Mem} {a0 a1 a2 : Int} (hz : TZ m) : le2 (gd (tg m a0 = 14) <| if a2 < (vl m a0 3) then (nm (vl m a0 1) fun v1 => nm (w32 (a2 + 1)) fun v2 => gd (tg m v1 = 298101) <| gd ((0 : Int) ≤ v2 ∧ v2 < ln m v1) <| gd ((0 : Int) ≤ a2 ∧ a2 < ln m v1) <| nm (vl m a0 2) fun v3 => nm (w32 (a2 + 1)) fun v4 => gd (tg m v3 = 298101) <| gd ((0 : Int) ≤ v4 ∧ v4 < ln m v3) <| gd ((0 : Int) ≤ a2 ∧ a2 < ln m v3) <| rn d 301 12 [pR a0, pI a1, pI (w32 (a2 + 1))] [] (mst (mst m v1 a2 (vl m v1 v2)) v3 a2 (vl (mst m v1 a2 (vl m v1 v2)) v3 v4))) else some (.inl none, m)) (rn d 301 12 [pR a0, pI a1, pI a2] [] m) := by
  refine r_iln2 (p := 13) f301_12 rfl ?_
  refine r_aln0 (p := 14) f301_13 rfl ?_
  refine le2_gd (fun h1 => ?_)
  refine r_gfI (f := 3) (p := 17) f301_14 rfl rfl rfl (Or.inl h1) rfl ?_
  refine r_icge (t := 54) (p := 20) f301_17 (by decide) rfl rfl ?_ ?_
  · refine r_aln0 (p := 21) f301_20 rfl ?_
    refine r_gfR (f := 1) (p := 24) f301_21 rfl rfl rfl (Or.inl h1) rfl ?_
    refine r_nmR (fun v1 ev1 => ?_)
    refine r_iln2 (p := 25) f301_24 rfl ?_
    refine r_aln0 (p := 26) f301_25 rfl ?_
    refine r_gfR (f := 1) (p := 29) f301_26 rfl rfl rfl (Or.inl h1) ev1.symm ?_
    refine r_iln2 (p := 30) f301_29 rfl ?_
    refine r_iconst (p := 31) f301_30 rfl (pinD rfl rfl) ?_
    refine r_iadd (p := 32) f301_31 rfl ?_
    refine r_nmI (fun v2 ev2 => ?_)
    refine le2_gd (fun h2 => ?_)
    refine le2_gd (fun h3 => ?_)
    refine r_iaload (p := 33) f301_32 rfl (dj1 (fun x => x % 1000 = 101) h2 (by decide)) h3 rfl ?_
    refine le2_gd (fun h4 => ?_)
    refine r_iastore (p := 34) f301_33 rfl (dj1 (fun x => 1000 ≤ x ∧ x % 1000 = 101 ∧ Nat.testBit (eM 301) (bix x 0) = true) h2 (by decide)) h4 ?_
    refine r_aln0 (p := 35) f301_34 rfl ?_
    refine r_gfR (f := 2) (p := 38) f301_35 rfl rfl rfl (Or.inl h1) (sk_o (ne_oa (dj1 (fun x => x < 100) h1 (by decide)) (dj1 (fun x => ¬ x < 100) h2 (by decide)))) ?_
    refine r_nmR (fun v3 ev3 => ?_)
    refine r_iln2 (p := 39) f301_38 rfl ?_
    refine r_aln0 (p := 40) f301_39 rfl ?_
    refine r_gfR (f := 2) (p := 43) f301_40 rfl rfl rfl (Or.inl h1) (Eq.trans (sk_o (ne_oa (dj1 (fun x => x < 100) h1 (by decide)) (dj1 (fun x => ¬ x < 100) h2 (by decide)))) ev3.symm) ?_
    refine r_iln2 (p := 44) f301_43 rfl ?_
    refine r_iconst (p := 45) f301_44 rfl (pinD rfl rfl) ?_
    refine r_iadd (p := 46) f301_45 rfl ?_
    refine r_nmI (fun v4 ev4 => ?_)
    refine le2_gd (fun h5 => ?_)
    refine le2_gd (fun h6 => ?_)
    refine r_iaload (p := 47) f301_46 rfl (dj1 (fun x => x % 1000 = 101) h5 (by decide)) h6 rfl ?_
    refine le2_gd (fun h7 => ?_)
    refine r_iastore (p := 48) f301_47 rfl (dj1 (fun x => 1000 ≤ x ∧ x % 1000 = 101 ∧ Nat.testBit (eM 301) (bix x 0) = true) h5 (by decide)) h7 ?_
    refine r_iinc2 (p := 51) f301_48 rfl rfl ?_
    refine r_goto (p := 12) f301_51 (by decide) rfl ?_
    exact le2_refl _
  · exact r_ret f301_54
