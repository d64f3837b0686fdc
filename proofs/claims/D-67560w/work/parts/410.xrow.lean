/-! what methods do, written by wip/D-67560w/tools/gen_parts.py -/
set_option maxRecDepth 100000
set_option maxHeartbeats 4000000
/-! 129 PathStore$Row.<init> (I)V -/
def w129_0 : List UInt8 := [42, 183, 0, 3, 42, 27, 188, 8, 181, 0, 9, 177]
abbrev u129_0 : List UInt8 := w129_0 ++ []
theorem s129_0 : (prog_21_method_1_code).data.toList.drop 0 = u129_0 := by decide +kernel
theorem Fm129 {pc len : Nat} {i : Instr} (h : decode (prog_21_method_1_code) pc = .ok (i, len)) (hl : len = ilen i len) : ft 129 pc = some (8, 0, 1, i, len) := ft_mk rfl h hl
theorem f129_0 : ft 129 0 = some (8, 0, 1, .aload_n 0, 1) := Fm129 (dk_42 (dk_at s129_0 0 rfl rfl)) rfl
theorem f129_1 : ft 129 1 = some (8, 0, 1, .invokespecial 3, 3) := Fm129 (dk_183 0 3 (dk_at s129_0 1 rfl rfl)) rfl
theorem f129_4 : ft 129 4 = some (8, 0, 1, .aload_n 0, 1) := Fm129 (dk_42 (dk_at s129_0 4 rfl rfl)) rfl
theorem f129_5 : ft 129 5 = some (8, 0, 1, .iload_n 1, 1) := Fm129 (dk_27 (dk_at s129_0 5 rfl rfl)) rfl
theorem f129_6 : ft 129 6 = some (8, 0, 1, .newarray .byte, 2) := Fm129 (dk_188_8 (dk_at s129_0 6 rfl rfl)) rfl
theorem f129_8 : ft 129 8 = some (8, 0, 1, .putfield 9, 3) := Fm129 (dk_181 0 9 (dk_at s129_0 8 rfl rfl)) rfl
theorem f129_11 : ft 129 11 = some (8, 0, 1, .return_, 1) := Fm129 (dk_177 (dk_at s129_0 11 rfl rfl)) rfl
theorem q129 {d : Nat} {m : Mem} {a0 a1 : Int} (hz : TZ m) : le2 (gd (tg m a0 = 8) <| gd ((0 : Int) ≤ a1 ∧ a1 ≤ 2000000) <| nw (nx m) (mal m 130103 a1) fun o1 m1 => some (.inl none, (mst m1 a0 0 o1))) (cl d 129 [pR a0, pI a1] m) := by
  refine q_in (n := 2) (L := [pR a0, pI a1]) rfl rfl rfl ?_
  refine r_aln0 (p := 1) f129_0 rfl ?_
  refine le2_gd (fun h1 => ?_)
  refine r_objinit (p := 4) f129_1 rfl rfl (dj1 (fun x => 0 < x ∧ x < 100) h1 (by decide)) (Nat.le_of_ble_eq_true rfl) ?_
  refine r_aln0 (p := 5) f129_4 rfl ?_
  refine r_iln1 (p := 6) f129_5 rfl ?_
  refine le2_gd (fun h2 => ?_)
  refine r_newa (t1 := 130103) (p := 8) f129_6 rfl rfl h2 rfl rfl (fun o1 m1 h3 k1 => ?_)
  have hz1 := z_k k1 hz
  have h4 := k_t1 k1 hz h1 (by decide)
  refine r_pfR (f := 0) (p := 11) f129_8 rfl rfl rfl (by decide) (by decide) (Or.inl h4) rfl ?_
  exact r_ret f129_11
/-! 130 PathStore$Row.put (I)V -/
def w130_0 : List UInt8 := [42, 4, 182, 0, 31, 42, 180, 0, 9, 42, 89, 180, 0, 15, 90, 4, 96, 181, 0, 15, 27, 145, 84, 177]
abbrev u130_0 : List UInt8 := w130_0 ++ []
theorem s130_0 : (prog_21_method_3_code).data.toList.drop 0 = u130_0 := by decide +kernel
theorem Fm130 {pc len : Nat} {i : Instr} (h : decode (prog_21_method_3_code) pc = .ok (i, len)) (hl : len = ilen i len) : ft 130 pc = some (8, 0, 0, i, len) := ft_mk rfl h hl
theorem f130_0 : ft 130 0 = some (8, 0, 0, .aload_n 0, 1) := Fm130 (dk_42 (dk_at s130_0 0 rfl rfl)) rfl
theorem f130_1 : ft 130 1 = some (8, 0, 0, .iconst 1, 1) := Fm130 (dk_4 (dk_at s130_0 1 rfl rfl)) rfl
theorem f130_2 : ft 130 2 = some (8, 0, 0, .invokevirtual 31, 3) := Fm130 (dk_182 0 31 (dk_at s130_0 2 rfl rfl)) rfl
theorem f130_5 : ft 130 5 = some (8, 0, 0, .aload_n 0, 1) := Fm130 (dk_42 (dk_at s130_0 5 rfl rfl)) rfl
theorem f130_6 : ft 130 6 = some (8, 0, 0, .getfield 9, 3) := Fm130 (dk_180 0 9 (dk_at s130_0 6 rfl rfl)) rfl
theorem f130_9 : ft 130 9 = some (8, 0, 0, .aload_n 0, 1) := Fm130 (dk_42 (dk_at s130_0 9 rfl rfl)) rfl
theorem f130_10 : ft 130 10 = some (8, 0, 0, .dup, 1) := Fm130 (dk_89 (dk_at s130_0 10 rfl rfl)) rfl
theorem f130_11 : ft 130 11 = some (8, 0, 0, .getfield 15, 3) := Fm130 (dk_180 0 15 (dk_at s130_0 11 rfl rfl)) rfl
theorem f130_14 : ft 130 14 = some (8, 0, 0, .dup_x1, 1) := Fm130 (dk_90 (dk_at s130_0 14 rfl rfl)) rfl
theorem f130_15 : ft 130 15 = some (8, 0, 0, .iconst 1, 1) := Fm130 (dk_4 (dk_at s130_0 15 rfl rfl)) rfl
theorem f130_16 : ft 130 16 = some (8, 0, 0, .iadd, 1) := Fm130 (dk_96 (dk_at s130_0 16 rfl rfl)) rfl
theorem f130_17 : ft 130 17 = some (8, 0, 0, .putfield 15, 3) := Fm130 (dk_181 0 15 (dk_at s130_0 17 rfl rfl)) rfl
theorem f130_20 : ft 130 20 = some (8, 0, 0, .iload_n 1, 1) := Fm130 (dk_27 (dk_at s130_0 20 rfl rfl)) rfl
theorem f130_21 : ft 130 21 = some (8, 0, 0, .i2b, 1) := Fm130 (dk_145 (dk_at s130_0 21 rfl rfl)) rfl
theorem f130_22 : ft 130 22 = some (8, 0, 0, .bastore, 1) := Fm130 (dk_84 (dk_at s130_0 22 rfl rfl)) rfl
theorem f130_23 : ft 130 23 = some (8, 0, 0, .return_, 1) := Fm130 (dk_177 (dk_at s130_0 23 rfl rfl)) rfl
theorem q130 {d : Nat} {m : Mem} {a0 a1 : Int} (hd : 0 < d) (hz : TZ m) : le2 (gd (tg m a0 = 8) <| bV (cl (d - 1) 131 [pR a0, pI 1] m) fun m1 => nm (vl m1 a0 0) fun v2 => nm (vl m1 a0 1) fun v3 => gd (tg m1 v2 = 130103 ∨ tg m1 v2 = 132103) <| gd ((0 : Int) ≤ v3 ∧ v3 < ln m1 v2) <| some (.inl none, (mst (mst m1 a0 1 (w32 (v3 + 1))) v2 v3 (w8 (w8 a1))))) (cl d 130 [pR a0, pI a1] m) := by
  refine q_in (n := 2) (L := [pR a0, pI a1]) rfl rfl rfl ?_
  refine r_aln0 (p := 1) f130_0 rfl ?_
  refine r_iconst (p := 2) f130_1 rfl (pinD rfl rfl) ?_
  refine le2_gd (fun h1 => ?_)
  refine r_invV (p := 5) f130_2 rfl rfl rfl (Or.inl h1) hd (Nat.le_of_ble_eq_true rfl) rfl rfl rfl (fun _ => rfl) (fun m1 c1 => ?_)
  have hz1 := z_k c1 hz
  refine r_aln0 (p := 6) f130_5 rfl ?_
  have h2 := k_t1 c1 hz h1 (by decide)
  refine r_gfR (f := 0) (p := 9) f130_6 rfl rfl rfl (Or.inl h2) rfl ?_
  refine r_nmR (fun v2 ev2 => ?_)
  refine r_aln0 (p := 10) f130_9 rfl ?_
  refine r_dup (p := 11) f130_10 rfl rfl ?_
  refine r_gfI (f := 1) (p := 14) f130_11 rfl rfl rfl (Or.inl h2) rfl ?_
  refine r_nmI (fun v3 ev3 => ?_)
  refine r_dup_x1 (p := 15) f130_14 rfl rfl rfl ?_
  refine r_iconst (p := 16) f130_15 rfl (pinD rfl rfl) ?_
  refine r_iadd (p := 17) f130_16 rfl ?_
  refine r_pfI (f := 1) (p := 20) f130_17 rfl rfl rfl (by decide) (by decide) (Or.inl h2) rfl ?_
  refine r_iln1 (p := 21) f130_20 rfl ?_
  refine r_i2b (p := 22) f130_21 rfl ?_
  refine le2_gd (fun h3 => ?_)
  refine le2_gd (fun h4 => ?_)
  refine r_bastore (p := 23) f130_22 rfl (dj2 (fun x => 1000 ≤ x ∧ x % 1000 = 103 ∧ Nat.testBit (eM 130) (bix x 0) = true) h3 (by decide) (by decide)) h4 ?_
  exact r_ret f130_23
/-! 131 PathStore$Row.room (I)V -/
def w131_2 : List UInt8 := [184, 0, 25, 42, 44, 181, 0, 9, 177]
abbrev u131_2 : List UInt8 := w131_2 ++ []
def w131_1 : List UInt8 := [180, 0, 15, 27, 96, 184, 0, 19, 188, 8, 77, 42, 180, 0, 9, 3, 44, 3, 42, 180, 0, 15]
abbrev u131_1 : List UInt8 := w131_1 ++ u131_2
def w131_0 : List UInt8 := [42, 180, 0, 15, 27, 96, 42, 180, 0, 9, 190, 163, 0, 4, 177, 5, 42, 180, 0, 9, 190, 104, 42]
abbrev u131_0 : List UInt8 := w131_0 ++ u131_1
theorem s131_0 : (prog_21_method_2_code).data.toList.drop 0 = u131_0 := by decide +kernel
theorem s131_1 : (prog_21_method_2_code).data.toList.drop 23 = u131_1 := dk_seg s131_0 23 rfl rfl
theorem s131_2 : (prog_21_method_2_code).data.toList.drop 45 = u131_2 := dk_seg s131_1 22 rfl rfl
theorem Fm131 {pc len : Nat} {i : Instr} (h : decode (prog_21_method_2_code) pc = .ok (i, len)) (hl : len = ilen i len) : ft 131 pc = some (8, 0, 0, i, len) := ft_mk rfl h hl
theorem f131_0 : ft 131 0 = some (8, 0, 0, .aload_n 0, 1) := Fm131 (dk_42 (dk_at s131_0 0 rfl rfl)) rfl
theorem f131_1 : ft 131 1 = some (8, 0, 0, .getfield 15, 3) := Fm131 (dk_180 0 15 (dk_at s131_0 1 rfl rfl)) rfl
theorem f131_4 : ft 131 4 = some (8, 0, 0, .iload_n 1, 1) := Fm131 (dk_27 (dk_at s131_0 4 rfl rfl)) rfl
theorem f131_5 : ft 131 5 = some (8, 0, 0, .iadd, 1) := Fm131 (dk_96 (dk_at s131_0 5 rfl rfl)) rfl
theorem f131_6 : ft 131 6 = some (8, 0, 0, .aload_n 0, 1) := Fm131 (dk_42 (dk_at s131_0 6 rfl rfl)) rfl
theorem f131_7 : ft 131 7 = some (8, 0, 0, .getfield 9, 3) := Fm131 (dk_180 0 9 (dk_at s131_0 7 rfl rfl)) rfl
theorem f131_10 : ft 131 10 = some (8, 0, 0, .arraylength, 1) := Fm131 (dk_190 (dk_at s131_0 10 rfl rfl)) rfl
theorem f131_11 : ft 131 11 = some (8, 0, 0, .if_icmp .gt 4, 3) := Fm131 (dk_163 0 4 (dk_at s131_0 11 rfl rfl)) rfl
theorem f131_14 : ft 131 14 = some (8, 0, 0, .return_, 1) := Fm131 (dk_177 (dk_at s131_0 14 rfl rfl)) rfl
theorem f131_15 : ft 131 15 = some (8, 0, 0, .iconst 2, 1) := Fm131 (dk_5 (dk_at s131_0 15 rfl rfl)) rfl
theorem f131_16 : ft 131 16 = some (8, 0, 0, .aload_n 0, 1) := Fm131 (dk_42 (dk_at s131_0 16 rfl rfl)) rfl
theorem f131_17 : ft 131 17 = some (8, 0, 0, .getfield 9, 3) := Fm131 (dk_180 0 9 (dk_at s131_0 17 rfl rfl)) rfl
theorem f131_20 : ft 131 20 = some (8, 0, 0, .arraylength, 1) := Fm131 (dk_190 (dk_at s131_0 20 rfl rfl)) rfl
theorem f131_21 : ft 131 21 = some (8, 0, 0, .imul, 1) := Fm131 (dk_104 (dk_at s131_0 21 rfl rfl)) rfl
theorem f131_22 : ft 131 22 = some (8, 0, 0, .aload_n 0, 1) := Fm131 (dk_42 (dk_at s131_0 22 rfl rfl)) rfl
theorem f131_23 : ft 131 23 = some (8, 0, 0, .getfield 15, 3) := Fm131 (dk_180 0 15 (dk_at s131_1 0 rfl rfl)) rfl
theorem f131_26 : ft 131 26 = some (8, 0, 0, .iload_n 1, 1) := Fm131 (dk_27 (dk_at s131_1 3 rfl rfl)) rfl
theorem f131_27 : ft 131 27 = some (8, 0, 0, .iadd, 1) := Fm131 (dk_96 (dk_at s131_1 4 rfl rfl)) rfl
theorem f131_28 : ft 131 28 = some (8, 0, 0, .invokestatic 19, 3) := Fm131 (dk_184 0 19 (dk_at s131_1 5 rfl rfl)) rfl
theorem f131_31 : ft 131 31 = some (8, 0, 0, .newarray .byte, 2) := Fm131 (dk_188_8 (dk_at s131_1 8 rfl rfl)) rfl
theorem f131_33 : ft 131 33 = some (8, 0, 0, .astore_n 2, 1) := Fm131 (dk_77 (dk_at s131_1 10 rfl rfl)) rfl
theorem f131_34 : ft 131 34 = some (8, 0, 0, .aload_n 0, 1) := Fm131 (dk_42 (dk_at s131_1 11 rfl rfl)) rfl
theorem f131_35 : ft 131 35 = some (8, 0, 0, .getfield 9, 3) := Fm131 (dk_180 0 9 (dk_at s131_1 12 rfl rfl)) rfl
theorem f131_38 : ft 131 38 = some (8, 0, 0, .iconst 0, 1) := Fm131 (dk_3 (dk_at s131_1 15 rfl rfl)) rfl
theorem f131_39 : ft 131 39 = some (8, 0, 0, .aload_n 2, 1) := Fm131 (dk_44 (dk_at s131_1 16 rfl rfl)) rfl
theorem f131_40 : ft 131 40 = some (8, 0, 0, .iconst 0, 1) := Fm131 (dk_3 (dk_at s131_1 17 rfl rfl)) rfl
theorem f131_41 : ft 131 41 = some (8, 0, 0, .aload_n 0, 1) := Fm131 (dk_42 (dk_at s131_1 18 rfl rfl)) rfl
theorem f131_42 : ft 131 42 = some (8, 0, 0, .getfield 15, 3) := Fm131 (dk_180 0 15 (dk_at s131_1 19 rfl rfl)) rfl
theorem f131_45 : ft 131 45 = some (8, 0, 0, .invokestatic 25, 3) := Fm131 (dk_184 0 25 (dk_at s131_2 0 rfl rfl)) rfl
theorem f131_48 : ft 131 48 = some (8, 0, 0, .aload_n 0, 1) := Fm131 (dk_42 (dk_at s131_2 3 rfl rfl)) rfl
theorem f131_49 : ft 131 49 = some (8, 0, 0, .aload_n 2, 1) := Fm131 (dk_44 (dk_at s131_2 4 rfl rfl)) rfl
theorem f131_50 : ft 131 50 = some (8, 0, 0, .putfield 9, 3) := Fm131 (dk_181 0 9 (dk_at s131_2 5 rfl rfl)) rfl
theorem f131_53 : ft 131 53 = some (8, 0, 0, .return_, 1) := Fm131 (dk_177 (dk_at s131_2 8 rfl rfl)) rfl
theorem q131 {d : Nat} {m : Mem} {a0 a1 : Int} (hz : TZ m) : le2 (gd (tg m a0 = 8) <| nm (vl m a0 1) fun v2 => nm (vl m a0 0) fun v3 => gd (tg m v3 = 130103 ∨ tg m v3 = 132103) <| if (ln m v3) < (w32 (v2 + a1)) then (nm (max (w32 (2 * (ln m v3))) (w32 (v2 + a1))) fun v4 => gd ((0 : Int) ≤ v4 ∧ v4 ≤ 2000000) <| nw (nx m) (mal m 132103 v4) fun o1 m1 => nm (vl m1 a0 0) fun v5 => nm (vl m1 a0 1) fun v6 => gd (tg m1 v5 = 130103 ∨ tg m1 v5 = 132103) <| gd ((0 : Int) ≤ v6 ∧ (0 : Int) ≤ 0 ∧ (0 : Int) ≤ 0 ∧ 0 + v6 ≤ ln m1 v5 ∧ 0 + v6 ≤ ln m1 o1) <| some (.inl none, (mst (mcp m1 v5 0 o1 0 v6) a0 0 o1))) else some (.inl none, m)) (cl d 131 [pR a0, pI a1] m) := by
  refine q_in (n := 3) (L := [pR a0, pI a1, pU]) rfl rfl rfl ?_
  refine r_aln0 (p := 1) f131_0 rfl ?_
  refine le2_gd (fun h1 => ?_)
  refine r_gfI (f := 1) (p := 4) f131_1 rfl rfl rfl (Or.inl h1) rfl ?_
  refine r_nmI (fun v2 ev2 => ?_)
  refine r_iln1 (p := 5) f131_4 rfl ?_
  refine r_iadd (p := 6) f131_5 rfl ?_
  refine r_aln0 (p := 7) f131_6 rfl ?_
  refine r_gfR (f := 0) (p := 10) f131_7 rfl rfl rfl (Or.inl h1) rfl ?_
  refine r_nmR (fun v3 ev3 => ?_)
  refine le2_gd (fun h2 => ?_)
  refine r_alen (p := 11) f131_10 rfl (dj2 (fun x => 100 < x % 1000 ∧ x % 1000 < 119) h2 (by decide) (by decide)) ?_
  refine r_icgt (t := 15) (p := 14) f131_11 (by decide) rfl rfl ?_ ?_
  · refine r_iconst (p := 16) f131_15 rfl (pinD rfl rfl) ?_
    refine r_aln0 (p := 17) f131_16 rfl ?_
    refine r_gfR (f := 0) (p := 20) f131_17 rfl rfl rfl (Or.inl h1) ev3.symm ?_
    refine r_alen (p := 21) f131_20 rfl (dj2 (fun x => 100 < x % 1000 ∧ x % 1000 < 119) h2 (by decide) (by decide)) ?_
    refine r_imul (p := 22) f131_21 rfl ?_
    refine r_aln0 (p := 23) f131_22 rfl ?_
    refine r_gfI (f := 1) (p := 26) f131_23 rfl rfl rfl (Or.inl h1) ev2.symm ?_
    refine r_iln1 (p := 27) f131_26 rfl ?_
    refine r_iadd (p := 28) f131_27 rfl ?_
    refine r_math6 (p := 31) f131_28 rfl rfl (Nat.le_of_ble_eq_true rfl) ?_
    refine r_nmI (fun v4 ev4 => ?_)
    refine le2_gd (fun h3 => ?_)
    refine r_newa (t1 := 132103) (p := 33) f131_31 rfl rfl h3 rfl rfl (fun o1 m1 h4 k1 => ?_)
    have hz1 := z_k k1 hz
    refine r_asn2 (p := 34) f131_33 rfl rfl ?_
    refine r_aln0 (p := 35) f131_34 rfl ?_
    have h5 := k_t1 k1 hz h1 (by decide)
    refine r_gfR (f := 0) (p := 38) f131_35 rfl rfl rfl (Or.inl h5) rfl ?_
    refine r_nmR (fun v5 ev5 => ?_)
    refine r_iconst (p := 39) f131_38 rfl (pinD rfl rfl) ?_
    refine r_aln2 (p := 40) f131_39 rfl ?_
    refine r_iconst (p := 41) f131_40 rfl (pinD rfl rfl) ?_
    refine r_aln0 (p := 42) f131_41 rfl ?_
    refine r_gfI (f := 1) (p := 45) f131_42 rfl rfl rfl (Or.inl h5) rfl ?_
    refine r_nmI (fun v6 ev6 => ?_)
    refine le2_gd (fun h6 => ?_)
    refine le2_gd (fun h7 => ?_)
    refine r_acopy (el := 103) (p := 48) f131_45 rfl rfl h7 (dj2 (fun x => 1000 ≤ x ∧ x % 1000 = 103) h6 (by decide) (by decide)) (dj1 (fun x => 1000 ≤ x ∧ x % 1000 = 103 ∧ Nat.testBit (eM 131) (bix x 0) = true) h4 (by decide)) (by decide) (Nat.le_of_ble_eq_true rfl) ?_
    refine r_aln0 (p := 49) f131_48 rfl ?_
    refine r_aln2 (p := 50) f131_49 rfl ?_
    refine r_pfR (f := 0) (p := 53) f131_50 rfl rfl rfl (by decide) (by decide) (Or.inl h5) rfl ?_
    exact r_ret f131_53
  · exact r_ret f131_14
/-! 132 PathStore$Row.unit (I)V -/
def w132_3 : List UInt8 := [16, 63, 126, 128, 182, 0, 35, 42, 17, 0, 128, 27, 16, 63, 126, 128, 182, 0, 35, 177]
abbrev u132_3 : List UInt8 := w132_3 ++ []
def w132_2 : List UInt8 := [167, 0, 42, 42, 17, 0, 224, 27, 16, 12, 122, 128, 182, 0, 35, 42, 17, 0, 128, 27, 16, 6, 122]
abbrev u132_2 : List UInt8 := w132_2 ++ u132_3
def w132_1 : List UInt8 := [17, 0, 192, 27, 16, 6, 122, 128, 182, 0, 35, 42, 17, 0, 128, 27, 16, 63, 126, 128, 182, 0, 35]
abbrev u132_1 : List UInt8 := w132_1 ++ u132_2
def w132_0 : List UInt8 := [27, 17, 0, 128, 162, 0, 11, 42, 27, 182, 0, 35, 167, 0, 76, 27, 17, 8, 0, 162, 0, 30, 42]
abbrev u132_0 : List UInt8 := w132_0 ++ u132_1
theorem s132_0 : (prog_21_method_9_code).data.toList.drop 0 = u132_0 := by decide +kernel
theorem s132_1 : (prog_21_method_9_code).data.toList.drop 23 = u132_1 := dk_seg s132_0 23 rfl rfl
theorem s132_2 : (prog_21_method_9_code).data.toList.drop 46 = u132_2 := dk_seg s132_1 23 rfl rfl
theorem s132_3 : (prog_21_method_9_code).data.toList.drop 69 = u132_3 := dk_seg s132_2 23 rfl rfl
theorem Fm132 {pc len : Nat} {i : Instr} (h : decode (prog_21_method_9_code) pc = .ok (i, len)) (hl : len = ilen i len) : ft 132 pc = some (8, 0, 0, i, len) := ft_mk rfl h hl
theorem f132_0 : ft 132 0 = some (8, 0, 0, .iload_n 1, 1) := Fm132 (dk_27 (dk_at s132_0 0 rfl rfl)) rfl
theorem f132_1 : ft 132 1 = some (8, 0, 0, .sipush 128, 3) := Fm132 (dk_17 0 128 (dk_at s132_0 1 rfl rfl)) rfl
theorem f132_4 : ft 132 4 = some (8, 0, 0, .if_icmp .ge 11, 3) := Fm132 (dk_162 0 11 (dk_at s132_0 4 rfl rfl)) rfl
theorem f132_7 : ft 132 7 = some (8, 0, 0, .aload_n 0, 1) := Fm132 (dk_42 (dk_at s132_0 7 rfl rfl)) rfl
theorem f132_8 : ft 132 8 = some (8, 0, 0, .iload_n 1, 1) := Fm132 (dk_27 (dk_at s132_0 8 rfl rfl)) rfl
theorem f132_9 : ft 132 9 = some (8, 0, 0, .invokevirtual 35, 3) := Fm132 (dk_182 0 35 (dk_at s132_0 9 rfl rfl)) rfl
theorem f132_12 : ft 132 12 = some (8, 0, 0, .goto 76, 3) := Fm132 (dk_167 0 76 (dk_at s132_0 12 rfl rfl)) rfl
theorem f132_15 : ft 132 15 = some (8, 0, 0, .iload_n 1, 1) := Fm132 (dk_27 (dk_at s132_0 15 rfl rfl)) rfl
theorem f132_16 : ft 132 16 = some (8, 0, 0, .sipush 2048, 3) := Fm132 (dk_17 8 0 (dk_at s132_0 16 rfl rfl)) rfl
theorem f132_19 : ft 132 19 = some (8, 0, 0, .if_icmp .ge 30, 3) := Fm132 (dk_162 0 30 (dk_at s132_0 19 rfl rfl)) rfl
theorem f132_22 : ft 132 22 = some (8, 0, 0, .aload_n 0, 1) := Fm132 (dk_42 (dk_at s132_0 22 rfl rfl)) rfl
theorem f132_23 : ft 132 23 = some (8, 0, 0, .sipush 192, 3) := Fm132 (dk_17 0 192 (dk_at s132_1 0 rfl rfl)) rfl
theorem f132_26 : ft 132 26 = some (8, 0, 0, .iload_n 1, 1) := Fm132 (dk_27 (dk_at s132_1 3 rfl rfl)) rfl
theorem f132_27 : ft 132 27 = some (8, 0, 0, .bipush 6, 2) := Fm132 (dk_16 6 (dk_at s132_1 4 rfl rfl)) rfl
theorem f132_29 : ft 132 29 = some (8, 0, 0, .ishr, 1) := Fm132 (dk_122 (dk_at s132_1 6 rfl rfl)) rfl
theorem f132_30 : ft 132 30 = some (8, 0, 0, .ior, 1) := Fm132 (dk_128 (dk_at s132_1 7 rfl rfl)) rfl
theorem f132_31 : ft 132 31 = some (8, 0, 0, .invokevirtual 35, 3) := Fm132 (dk_182 0 35 (dk_at s132_1 8 rfl rfl)) rfl
theorem f132_34 : ft 132 34 = some (8, 0, 0, .aload_n 0, 1) := Fm132 (dk_42 (dk_at s132_1 11 rfl rfl)) rfl
theorem f132_35 : ft 132 35 = some (8, 0, 0, .sipush 128, 3) := Fm132 (dk_17 0 128 (dk_at s132_1 12 rfl rfl)) rfl
theorem f132_38 : ft 132 38 = some (8, 0, 0, .iload_n 1, 1) := Fm132 (dk_27 (dk_at s132_1 15 rfl rfl)) rfl
theorem f132_39 : ft 132 39 = some (8, 0, 0, .bipush 63, 2) := Fm132 (dk_16 63 (dk_at s132_1 16 rfl rfl)) rfl
theorem f132_41 : ft 132 41 = some (8, 0, 0, .iand, 1) := Fm132 (dk_126 (dk_at s132_1 18 rfl rfl)) rfl
theorem f132_42 : ft 132 42 = some (8, 0, 0, .ior, 1) := Fm132 (dk_128 (dk_at s132_1 19 rfl rfl)) rfl
theorem f132_43 : ft 132 43 = some (8, 0, 0, .invokevirtual 35, 3) := Fm132 (dk_182 0 35 (dk_at s132_1 20 rfl rfl)) rfl
theorem f132_46 : ft 132 46 = some (8, 0, 0, .goto 42, 3) := Fm132 (dk_167 0 42 (dk_at s132_2 0 rfl rfl)) rfl
theorem f132_49 : ft 132 49 = some (8, 0, 0, .aload_n 0, 1) := Fm132 (dk_42 (dk_at s132_2 3 rfl rfl)) rfl
theorem f132_50 : ft 132 50 = some (8, 0, 0, .sipush 224, 3) := Fm132 (dk_17 0 224 (dk_at s132_2 4 rfl rfl)) rfl
theorem f132_53 : ft 132 53 = some (8, 0, 0, .iload_n 1, 1) := Fm132 (dk_27 (dk_at s132_2 7 rfl rfl)) rfl
theorem f132_54 : ft 132 54 = some (8, 0, 0, .bipush 12, 2) := Fm132 (dk_16 12 (dk_at s132_2 8 rfl rfl)) rfl
theorem f132_56 : ft 132 56 = some (8, 0, 0, .ishr, 1) := Fm132 (dk_122 (dk_at s132_2 10 rfl rfl)) rfl
theorem f132_57 : ft 132 57 = some (8, 0, 0, .ior, 1) := Fm132 (dk_128 (dk_at s132_2 11 rfl rfl)) rfl
theorem f132_58 : ft 132 58 = some (8, 0, 0, .invokevirtual 35, 3) := Fm132 (dk_182 0 35 (dk_at s132_2 12 rfl rfl)) rfl
theorem f132_61 : ft 132 61 = some (8, 0, 0, .aload_n 0, 1) := Fm132 (dk_42 (dk_at s132_2 15 rfl rfl)) rfl
theorem f132_62 : ft 132 62 = some (8, 0, 0, .sipush 128, 3) := Fm132 (dk_17 0 128 (dk_at s132_2 16 rfl rfl)) rfl
theorem f132_65 : ft 132 65 = some (8, 0, 0, .iload_n 1, 1) := Fm132 (dk_27 (dk_at s132_2 19 rfl rfl)) rfl
theorem f132_66 : ft 132 66 = some (8, 0, 0, .bipush 6, 2) := Fm132 (dk_16 6 (dk_at s132_2 20 rfl rfl)) rfl
theorem f132_68 : ft 132 68 = some (8, 0, 0, .ishr, 1) := Fm132 (dk_122 (dk_at s132_2 22 rfl rfl)) rfl
theorem f132_69 : ft 132 69 = some (8, 0, 0, .bipush 63, 2) := Fm132 (dk_16 63 (dk_at s132_3 0 rfl rfl)) rfl
theorem f132_71 : ft 132 71 = some (8, 0, 0, .iand, 1) := Fm132 (dk_126 (dk_at s132_3 2 rfl rfl)) rfl
theorem f132_72 : ft 132 72 = some (8, 0, 0, .ior, 1) := Fm132 (dk_128 (dk_at s132_3 3 rfl rfl)) rfl
theorem f132_73 : ft 132 73 = some (8, 0, 0, .invokevirtual 35, 3) := Fm132 (dk_182 0 35 (dk_at s132_3 4 rfl rfl)) rfl
theorem f132_76 : ft 132 76 = some (8, 0, 0, .aload_n 0, 1) := Fm132 (dk_42 (dk_at s132_3 7 rfl rfl)) rfl
theorem f132_77 : ft 132 77 = some (8, 0, 0, .sipush 128, 3) := Fm132 (dk_17 0 128 (dk_at s132_3 8 rfl rfl)) rfl
theorem f132_80 : ft 132 80 = some (8, 0, 0, .iload_n 1, 1) := Fm132 (dk_27 (dk_at s132_3 11 rfl rfl)) rfl
theorem f132_81 : ft 132 81 = some (8, 0, 0, .bipush 63, 2) := Fm132 (dk_16 63 (dk_at s132_3 12 rfl rfl)) rfl
theorem f132_83 : ft 132 83 = some (8, 0, 0, .iand, 1) := Fm132 (dk_126 (dk_at s132_3 14 rfl rfl)) rfl
theorem f132_84 : ft 132 84 = some (8, 0, 0, .ior, 1) := Fm132 (dk_128 (dk_at s132_3 15 rfl rfl)) rfl
theorem f132_85 : ft 132 85 = some (8, 0, 0, .invokevirtual 35, 3) := Fm132 (dk_182 0 35 (dk_at s132_3 16 rfl rfl)) rfl
theorem f132_88 : ft 132 88 = some (8, 0, 0, .return_, 1) := Fm132 (dk_177 (dk_at s132_3 19 rfl rfl)) rfl
theorem q132 {d : Nat} {m : Mem} {a0 a1 : Int} (hd : 0 < d) (hz : TZ m) : le2 (if a1 < 128 then (gd (tg m a0 = 8) <| bV (cl (d - 1) 130 [pR a0, pI a1] m) fun m6 => some (.inl none, m6)) else if a1 < 2048 then (gd (tg m a0 = 8) <| bV (cl (d - 1) 130 [pR a0, pI (pOr 192 (pShr a1 6))] m) fun m4 => bV (cl (d - 1) 130 [pR a0, pI (pOr 128 (pAnd a1 63))] m4) fun m5 => some (.inl none, m5)) else gd (tg m a0 = 8) <| bV (cl (d - 1) 130 [pR a0, pI (pOr 224 (pShr a1 12))] m) fun m1 => bV (cl (d - 1) 130 [pR a0, pI (pOr 128 (pAnd (pShr a1 6) 63))] m1) fun m2 => bV (cl (d - 1) 130 [pR a0, pI (pOr 128 (pAnd a1 63))] m2) fun m3 => some (.inl none, m3)) (cl d 132 [pR a0, pI a1] m) := by
  refine q_in (n := 2) (L := [pR a0, pI a1]) rfl rfl rfl ?_
  refine r_iln1 (p := 1) f132_0 rfl ?_
  refine r_sipush (p := 4) f132_1 rfl (pinD rfl rfl) ?_
  refine r_icge (t := 15) (p := 7) f132_4 (by decide) rfl rfl ?_ ?_
  · refine r_aln0 (p := 8) f132_7 rfl ?_
    refine r_iln1 (p := 9) f132_8 rfl ?_
    refine le2_gd (fun h6 => ?_)
    refine r_invV (p := 12) f132_9 rfl rfl rfl (Or.inl h6) hd (Nat.le_of_ble_eq_true rfl) rfl rfl rfl (fun _ => rfl) (fun m6 c6 => ?_)
    have hz6 := z_k c6 hz
    refine r_goto (p := 88) f132_12 (by decide) rfl ?_
    exact r_ret f132_88
  · refine r_iln1 (p := 16) f132_15 rfl ?_
    refine r_sipush (p := 19) f132_16 rfl (pinD rfl rfl) ?_
    refine r_icge (t := 49) (p := 22) f132_19 (by decide) rfl rfl ?_ ?_
    · refine r_aln0 (p := 23) f132_22 rfl ?_
      refine r_sipush (p := 26) f132_23 rfl (pinD rfl rfl) ?_
      refine r_iln1 (p := 27) f132_26 rfl ?_
      refine r_bipush (p := 29) f132_27 rfl (pinD rfl rfl) ?_
      refine r_ishr (p := 30) f132_29 rfl ?_
      refine r_ior (p := 31) f132_30 rfl ?_
      refine le2_gd (fun h4 => ?_)
      refine r_invV (p := 34) f132_31 rfl rfl rfl (Or.inl h4) hd (Nat.le_of_ble_eq_true rfl) rfl rfl rfl (fun _ => rfl) (fun m4 c4 => ?_)
      have hz4 := z_k c4 hz
      refine r_aln0 (p := 35) f132_34 rfl ?_
      refine r_sipush (p := 38) f132_35 rfl (pinD rfl rfl) ?_
      refine r_iln1 (p := 39) f132_38 rfl ?_
      refine r_bipush (p := 41) f132_39 rfl (pinD rfl rfl) ?_
      refine r_iand (p := 42) f132_41 rfl ?_
      refine r_ior (p := 43) f132_42 rfl ?_
      have h5 := k_t1 c4 hz h4 (by decide)
      refine r_invV (p := 46) f132_43 rfl rfl rfl (Or.inl h5) hd (Nat.le_of_ble_eq_true rfl) rfl rfl rfl (fun _ => rfl) (fun m5 c5 => ?_)
      have hz5 := z_k c5 hz4
      refine r_goto (p := 88) f132_46 (by decide) rfl ?_
      exact r_ret f132_88
    · refine r_aln0 (p := 50) f132_49 rfl ?_
      refine r_sipush (p := 53) f132_50 rfl (pinD rfl rfl) ?_
      refine r_iln1 (p := 54) f132_53 rfl ?_
      refine r_bipush (p := 56) f132_54 rfl (pinD rfl rfl) ?_
      refine r_ishr (p := 57) f132_56 rfl ?_
      refine r_ior (p := 58) f132_57 rfl ?_
      refine le2_gd (fun h1 => ?_)
      refine r_invV (p := 61) f132_58 rfl rfl rfl (Or.inl h1) hd (Nat.le_of_ble_eq_true rfl) rfl rfl rfl (fun _ => rfl) (fun m1 c1 => ?_)
      have hz1 := z_k c1 hz
      refine r_aln0 (p := 62) f132_61 rfl ?_
      refine r_sipush (p := 65) f132_62 rfl (pinD rfl rfl) ?_
      refine r_iln1 (p := 66) f132_65 rfl ?_
      refine r_bipush (p := 68) f132_66 rfl (pinD rfl rfl) ?_
      refine r_ishr (p := 69) f132_68 rfl ?_
      refine r_bipush (p := 71) f132_69 rfl (pinD rfl rfl) ?_
      refine r_iand (p := 72) f132_71 rfl ?_
      refine r_ior (p := 73) f132_72 rfl ?_
      have h2 := k_t1 c1 hz h1 (by decide)
      refine r_invV (p := 76) f132_73 rfl rfl rfl (Or.inl h2) hd (Nat.le_of_ble_eq_true rfl) rfl rfl rfl (fun _ => rfl) (fun m2 c2 => ?_)
      have hz2 := z_k c2 hz1
      refine r_aln0 (p := 77) f132_76 rfl ?_
      refine r_sipush (p := 80) f132_77 rfl (pinD rfl rfl) ?_
      refine r_iln1 (p := 81) f132_80 rfl ?_
      refine r_bipush (p := 83) f132_81 rfl (pinD rfl rfl) ?_
      refine r_iand (p := 84) f132_83 rfl ?_
      refine r_ior (p := 85) f132_84 rfl ?_
      have h3 := k_t1 c2 hz1 h2 (by decide)
      refine r_invV (p := 88) f132_85 rfl rfl rfl (Or.inl h3) hd (Nat.le_of_ble_eq_true rfl) rfl rfl rfl (fun _ => rfl) (fun m3 c3 => ?_)
      have hz3 := z_k c3 hz2
      exact r_ret f132_88
/-! 133 PathStore$Row.two (II)V -/
def w133_0 : List UInt8 := [42, 180, 0, 9, 27, 28, 16, 8, 122, 145, 84, 42, 180, 0, 9, 27, 4, 96, 28, 145, 84, 177]
abbrev u133_0 : List UInt8 := w133_0 ++ []
theorem s133_0 : (prog_21_method_6_code).data.toList.drop 0 = u133_0 := by decide +kernel
theorem Fm133 {pc len : Nat} {i : Instr} (h : decode (prog_21_method_6_code) pc = .ok (i, len)) (hl : len = ilen i len) : ft 133 pc = some (8, 0, 0, i, len) := ft_mk rfl h hl
theorem f133_0 : ft 133 0 = some (8, 0, 0, .aload_n 0, 1) := Fm133 (dk_42 (dk_at s133_0 0 rfl rfl)) rfl
theorem f133_1 : ft 133 1 = some (8, 0, 0, .getfield 9, 3) := Fm133 (dk_180 0 9 (dk_at s133_0 1 rfl rfl)) rfl
theorem f133_4 : ft 133 4 = some (8, 0, 0, .iload_n 1, 1) := Fm133 (dk_27 (dk_at s133_0 4 rfl rfl)) rfl
theorem f133_5 : ft 133 5 = some (8, 0, 0, .iload_n 2, 1) := Fm133 (dk_28 (dk_at s133_0 5 rfl rfl)) rfl
theorem f133_6 : ft 133 6 = some (8, 0, 0, .bipush 8, 2) := Fm133 (dk_16 8 (dk_at s133_0 6 rfl rfl)) rfl
theorem f133_8 : ft 133 8 = some (8, 0, 0, .ishr, 1) := Fm133 (dk_122 (dk_at s133_0 8 rfl rfl)) rfl
theorem f133_9 : ft 133 9 = some (8, 0, 0, .i2b, 1) := Fm133 (dk_145 (dk_at s133_0 9 rfl rfl)) rfl
theorem f133_10 : ft 133 10 = some (8, 0, 0, .bastore, 1) := Fm133 (dk_84 (dk_at s133_0 10 rfl rfl)) rfl
theorem f133_11 : ft 133 11 = some (8, 0, 0, .aload_n 0, 1) := Fm133 (dk_42 (dk_at s133_0 11 rfl rfl)) rfl
theorem f133_12 : ft 133 12 = some (8, 0, 0, .getfield 9, 3) := Fm133 (dk_180 0 9 (dk_at s133_0 12 rfl rfl)) rfl
theorem f133_15 : ft 133 15 = some (8, 0, 0, .iload_n 1, 1) := Fm133 (dk_27 (dk_at s133_0 15 rfl rfl)) rfl
theorem f133_16 : ft 133 16 = some (8, 0, 0, .iconst 1, 1) := Fm133 (dk_4 (dk_at s133_0 16 rfl rfl)) rfl
theorem f133_17 : ft 133 17 = some (8, 0, 0, .iadd, 1) := Fm133 (dk_96 (dk_at s133_0 17 rfl rfl)) rfl
theorem f133_18 : ft 133 18 = some (8, 0, 0, .iload_n 2, 1) := Fm133 (dk_28 (dk_at s133_0 18 rfl rfl)) rfl
theorem f133_19 : ft 133 19 = some (8, 0, 0, .i2b, 1) := Fm133 (dk_145 (dk_at s133_0 19 rfl rfl)) rfl
theorem f133_20 : ft 133 20 = some (8, 0, 0, .bastore, 1) := Fm133 (dk_84 (dk_at s133_0 20 rfl rfl)) rfl
theorem f133_21 : ft 133 21 = some (8, 0, 0, .return_, 1) := Fm133 (dk_177 (dk_at s133_0 21 rfl rfl)) rfl
theorem q133 {d : Nat} {m : Mem} {a0 a1 a2 : Int} (hz : TZ m) : le2 (gd (tg m a0 = 8) <| nm (vl m a0 0) fun v1 => gd (tg m v1 = 130103 ∨ tg m v1 = 132103) <| gd ((0 : Int) ≤ a1 ∧ a1 < ln m v1) <| nm (w32 (a1 + 1)) fun v2 => gd ((0 : Int) ≤ v2 ∧ v2 < ln m v1) <| some (.inl none, (mst (mst m v1 a1 (w8 (w8 (pShr a2 8)))) v1 v2 (w8 (w8 a2))))) (cl d 133 [pR a0, pI a1, pI a2] m) := by
  refine q_in (n := 3) (L := [pR a0, pI a1, pI a2]) rfl rfl rfl ?_
  refine r_aln0 (p := 1) f133_0 rfl ?_
  refine le2_gd (fun h1 => ?_)
  refine r_gfR (f := 0) (p := 4) f133_1 rfl rfl rfl (Or.inl h1) rfl ?_
  refine r_nmR (fun v1 ev1 => ?_)
  refine r_iln1 (p := 5) f133_4 rfl ?_
  refine r_iln2 (p := 6) f133_5 rfl ?_
  refine r_bipush (p := 8) f133_6 rfl (pinD rfl rfl) ?_
  refine r_ishr (p := 9) f133_8 rfl ?_
  refine r_i2b (p := 10) f133_9 rfl ?_
  refine le2_gd (fun h2 => ?_)
  refine le2_gd (fun h3 => ?_)
  refine r_bastore (p := 11) f133_10 rfl (dj2 (fun x => 1000 ≤ x ∧ x % 1000 = 103 ∧ Nat.testBit (eM 133) (bix x 0) = true) h2 (by decide) (by decide)) h3 ?_
  refine r_aln0 (p := 12) f133_11 rfl ?_
  refine r_gfR (f := 0) (p := 15) f133_12 rfl rfl rfl (Or.inl h1) (Eq.trans (sk_o (ne_oa (dj1 (fun x => x < 100) h1 (by decide)) (dj2 (fun x => ¬ x < 100) h2 (by decide) (by decide)))) ev1.symm) ?_
  refine r_iln1 (p := 16) f133_15 rfl ?_
  refine r_iconst (p := 17) f133_16 rfl (pinD rfl rfl) ?_
  refine r_iadd (p := 18) f133_17 rfl ?_
  refine r_nmI (fun v2 ev2 => ?_)
  refine r_iln2 (p := 19) f133_18 rfl ?_
  refine r_i2b (p := 20) f133_19 rfl ?_
  refine le2_gd (fun h4 => ?_)
  refine r_bastore (p := 21) f133_20 rfl (dj2 (fun x => 1000 ≤ x ∧ x % 1000 = 103 ∧ Nat.testBit (eM 133) (bix x 0) = true) h2 (by decide) (by decide)) h4 ?_
  exact r_ret f133_21
/-! 134 PathStore$Row.two (I)I -/
def w134_1 : List UInt8 := [126, 128, 172]
abbrev u134_1 : List UInt8 := w134_1 ++ []
def w134_0 : List UInt8 := [42, 180, 0, 9, 27, 51, 17, 0, 255, 126, 16, 8, 120, 42, 180, 0, 9, 27, 4, 96, 51, 17, 0, 255]
abbrev u134_0 : List UInt8 := w134_0 ++ u134_1
theorem s134_0 : (prog_21_method_5_code).data.toList.drop 0 = u134_0 := by decide +kernel
theorem s134_1 : (prog_21_method_5_code).data.toList.drop 24 = u134_1 := dk_seg s134_0 24 rfl rfl
theorem Fm134 {pc len : Nat} {i : Instr} (h : decode (prog_21_method_5_code) pc = .ok (i, len)) (hl : len = ilen i len) : ft 134 pc = some (8, 1, 0, i, len) := ft_mk rfl h hl
theorem f134_0 : ft 134 0 = some (8, 1, 0, .aload_n 0, 1) := Fm134 (dk_42 (dk_at s134_0 0 rfl rfl)) rfl
theorem f134_1 : ft 134 1 = some (8, 1, 0, .getfield 9, 3) := Fm134 (dk_180 0 9 (dk_at s134_0 1 rfl rfl)) rfl
theorem f134_4 : ft 134 4 = some (8, 1, 0, .iload_n 1, 1) := Fm134 (dk_27 (dk_at s134_0 4 rfl rfl)) rfl
theorem f134_5 : ft 134 5 = some (8, 1, 0, .baload, 1) := Fm134 (dk_51 (dk_at s134_0 5 rfl rfl)) rfl
theorem f134_6 : ft 134 6 = some (8, 1, 0, .sipush 255, 3) := Fm134 (dk_17 0 255 (dk_at s134_0 6 rfl rfl)) rfl
theorem f134_9 : ft 134 9 = some (8, 1, 0, .iand, 1) := Fm134 (dk_126 (dk_at s134_0 9 rfl rfl)) rfl
theorem f134_10 : ft 134 10 = some (8, 1, 0, .bipush 8, 2) := Fm134 (dk_16 8 (dk_at s134_0 10 rfl rfl)) rfl
theorem f134_12 : ft 134 12 = some (8, 1, 0, .ishl, 1) := Fm134 (dk_120 (dk_at s134_0 12 rfl rfl)) rfl
theorem f134_13 : ft 134 13 = some (8, 1, 0, .aload_n 0, 1) := Fm134 (dk_42 (dk_at s134_0 13 rfl rfl)) rfl
theorem f134_14 : ft 134 14 = some (8, 1, 0, .getfield 9, 3) := Fm134 (dk_180 0 9 (dk_at s134_0 14 rfl rfl)) rfl
theorem f134_17 : ft 134 17 = some (8, 1, 0, .iload_n 1, 1) := Fm134 (dk_27 (dk_at s134_0 17 rfl rfl)) rfl
theorem f134_18 : ft 134 18 = some (8, 1, 0, .iconst 1, 1) := Fm134 (dk_4 (dk_at s134_0 18 rfl rfl)) rfl
theorem f134_19 : ft 134 19 = some (8, 1, 0, .iadd, 1) := Fm134 (dk_96 (dk_at s134_0 19 rfl rfl)) rfl
theorem f134_20 : ft 134 20 = some (8, 1, 0, .baload, 1) := Fm134 (dk_51 (dk_at s134_0 20 rfl rfl)) rfl
theorem f134_21 : ft 134 21 = some (8, 1, 0, .sipush 255, 3) := Fm134 (dk_17 0 255 (dk_at s134_0 21 rfl rfl)) rfl
theorem f134_24 : ft 134 24 = some (8, 1, 0, .iand, 1) := Fm134 (dk_126 (dk_at s134_1 0 rfl rfl)) rfl
theorem f134_25 : ft 134 25 = some (8, 1, 0, .ior, 1) := Fm134 (dk_128 (dk_at s134_1 1 rfl rfl)) rfl
theorem f134_26 : ft 134 26 = some (8, 1, 0, .ireturn, 1) := Fm134 (dk_172 (dk_at s134_1 2 rfl rfl)) rfl
theorem q134 {d : Nat} {m : Mem} {a0 a1 : Int} (hz : TZ m) : le2 (gd (tg m a0 = 8) <| nm (vl m a0 0) fun v1 => gd (tg m v1 = 130103 ∨ tg m v1 = 132103) <| gd ((0 : Int) ≤ a1 ∧ a1 < ln m v1) <| nm (w32 (a1 + 1)) fun v2 => gd ((0 : Int) ≤ v2 ∧ v2 < ln m v1) <| some (.inl (some (pI (pOr (pShl (pAnd (vl m v1 a1) 255) 8) (pAnd (vl m v1 v2) 255)))), m)) (cl d 134 [pR a0, pI a1] m) := by
  refine q_in (n := 2) (L := [pR a0, pI a1]) rfl rfl rfl ?_
  refine r_aln0 (p := 1) f134_0 rfl ?_
  refine le2_gd (fun h1 => ?_)
  refine r_gfR (f := 0) (p := 4) f134_1 rfl rfl rfl (Or.inl h1) rfl ?_
  refine r_nmR (fun v1 ev1 => ?_)
  refine r_iln1 (p := 5) f134_4 rfl ?_
  refine le2_gd (fun h2 => ?_)
  refine le2_gd (fun h3 => ?_)
  refine r_baload (p := 6) f134_5 rfl (dj2 (fun x => x % 1000 = 103 ∨ x % 1000 = 105) h2 (by decide) (by decide)) h3 rfl ?_
  refine r_sipush (p := 9) f134_6 rfl (pinD rfl rfl) ?_
  refine r_iand (p := 10) f134_9 rfl ?_
  refine r_bipush (p := 12) f134_10 rfl (pinD rfl rfl) ?_
  refine r_ishl (p := 13) f134_12 rfl ?_
  refine r_aln0 (p := 14) f134_13 rfl ?_
  refine r_gfR (f := 0) (p := 17) f134_14 rfl rfl rfl (Or.inl h1) ev1.symm ?_
  refine r_iln1 (p := 18) f134_17 rfl ?_
  refine r_iconst (p := 19) f134_18 rfl (pinD rfl rfl) ?_
  refine r_iadd (p := 20) f134_19 rfl ?_
  refine r_nmI (fun v2 ev2 => ?_)
  refine le2_gd (fun h4 => ?_)
  refine r_baload (p := 21) f134_20 rfl (dj2 (fun x => x % 1000 = 103 ∨ x % 1000 = 105) h2 (by decide) (by decide)) h4 rfl ?_
  refine r_sipush (p := 24) f134_21 rfl (pinD rfl rfl) ?_
  refine r_iand (p := 25) f134_24 rfl ?_
  refine r_ior (p := 26) f134_25 rfl ?_
  exact r_iret1 f134_26
/-! 135 PathStore$Row.sameBytes (ILPathStore$Row;II)Z -/
def w135_1 : List UInt8 := [21, 5, 96, 51, 159, 0, 5, 3, 172, 132, 5, 1, 167, 255, 223, 4, 172]
abbrev u135_1 : List UInt8 := w135_1 ++ []
def w135_0 : List UInt8 := [3, 54, 5, 21, 5, 21, 4, 162, 0, 32, 42, 180, 0, 9, 27, 21, 5, 96, 51, 44, 180, 0, 9, 29]
abbrev u135_0 : List UInt8 := w135_0 ++ u135_1
theorem s135_0 : (prog_21_method_15_code).data.toList.drop 0 = u135_0 := by decide +kernel
theorem s135_1 : (prog_21_method_15_code).data.toList.drop 24 = u135_1 := dk_seg s135_0 24 rfl rfl
theorem Fm135 {pc len : Nat} {i : Instr} (h : decode (prog_21_method_15_code) pc = .ok (i, len)) (hl : len = ilen i len) : ft 135 pc = some (8, 4, 0, i, len) := ft_mk rfl h hl
theorem f135_0 : ft 135 0 = some (8, 4, 0, .iconst 0, 1) := Fm135 (dk_3 (dk_at s135_0 0 rfl rfl)) rfl
theorem f135_1 : ft 135 1 = some (8, 4, 0, .istore 5, 2) := Fm135 (dk_54 5 (dk_at s135_0 1 rfl rfl)) rfl
theorem f135_3 : ft 135 3 = some (8, 4, 0, .iload 5, 2) := Fm135 (dk_21 5 (dk_at s135_0 3 rfl rfl)) rfl
theorem f135_5 : ft 135 5 = some (8, 4, 0, .iload 4, 2) := Fm135 (dk_21 4 (dk_at s135_0 5 rfl rfl)) rfl
theorem f135_7 : ft 135 7 = some (8, 4, 0, .if_icmp .ge 32, 3) := Fm135 (dk_162 0 32 (dk_at s135_0 7 rfl rfl)) rfl
theorem f135_10 : ft 135 10 = some (8, 4, 0, .aload_n 0, 1) := Fm135 (dk_42 (dk_at s135_0 10 rfl rfl)) rfl
theorem f135_11 : ft 135 11 = some (8, 4, 0, .getfield 9, 3) := Fm135 (dk_180 0 9 (dk_at s135_0 11 rfl rfl)) rfl
theorem f135_14 : ft 135 14 = some (8, 4, 0, .iload_n 1, 1) := Fm135 (dk_27 (dk_at s135_0 14 rfl rfl)) rfl
theorem f135_15 : ft 135 15 = some (8, 4, 0, .iload 5, 2) := Fm135 (dk_21 5 (dk_at s135_0 15 rfl rfl)) rfl
theorem f135_17 : ft 135 17 = some (8, 4, 0, .iadd, 1) := Fm135 (dk_96 (dk_at s135_0 17 rfl rfl)) rfl
theorem f135_18 : ft 135 18 = some (8, 4, 0, .baload, 1) := Fm135 (dk_51 (dk_at s135_0 18 rfl rfl)) rfl
theorem f135_19 : ft 135 19 = some (8, 4, 0, .aload_n 2, 1) := Fm135 (dk_44 (dk_at s135_0 19 rfl rfl)) rfl
theorem f135_20 : ft 135 20 = some (8, 4, 0, .getfield 9, 3) := Fm135 (dk_180 0 9 (dk_at s135_0 20 rfl rfl)) rfl
theorem f135_23 : ft 135 23 = some (8, 4, 0, .iload_n 3, 1) := Fm135 (dk_29 (dk_at s135_0 23 rfl rfl)) rfl
theorem f135_24 : ft 135 24 = some (8, 4, 0, .iload 5, 2) := Fm135 (dk_21 5 (dk_at s135_1 0 rfl rfl)) rfl
theorem f135_26 : ft 135 26 = some (8, 4, 0, .iadd, 1) := Fm135 (dk_96 (dk_at s135_1 2 rfl rfl)) rfl
theorem f135_27 : ft 135 27 = some (8, 4, 0, .baload, 1) := Fm135 (dk_51 (dk_at s135_1 3 rfl rfl)) rfl
theorem f135_28 : ft 135 28 = some (8, 4, 0, .if_icmp .eq 5, 3) := Fm135 (dk_159 0 5 (dk_at s135_1 4 rfl rfl)) rfl
theorem f135_31 : ft 135 31 = some (8, 4, 0, .iconst 0, 1) := Fm135 (dk_3 (dk_at s135_1 7 rfl rfl)) rfl
theorem f135_32 : ft 135 32 = some (8, 4, 0, .ireturn, 1) := Fm135 (dk_172 (dk_at s135_1 8 rfl rfl)) rfl
theorem f135_33 : ft 135 33 = some (8, 4, 0, .iinc 5 1, 3) := Fm135 (dk_132 5 1 (dk_at s135_1 9 rfl rfl)) rfl
theorem f135_36 : ft 135 36 = some (8, 4, 0, .goto (-33), 3) := Fm135 (dk_167 255 223 (dk_at s135_1 12 rfl rfl)) rfl
theorem f135_39 : ft 135 39 = some (8, 4, 0, .iconst 1, 1) := Fm135 (dk_4 (dk_at s135_1 15 rfl rfl)) rfl
theorem f135_40 : ft 135 40 = some (8, 4, 0, .ireturn, 1) := Fm135 (dk_172 (dk_at s135_1 16 rfl rfl)) rfl
theorem q135 {d : Nat} {m : Mem} {a0 a1 a2 a3 a4 : Int} (hz : TZ m) : le2 (rn d 135 3 [pR a0, pI a1, pR a2, pI a3, pI a4, pI 0] [] m) (cl d 135 [pR a0, pI a1, pR a2, pI a3, pI a4] m) := by
  refine q_in (n := 6) (L := [pR a0, pI a1, pR a2, pI a3, pI a4, pU]) rfl rfl rfl ?_
  refine r_iconst (p := 1) f135_0 rfl (pinD rfl rfl) ?_
  refine r_isw5 (p := 3) f135_1 rfl rfl ?_
  exact le2_refl _
theorem q135_3 {d : Nat} {m : Mem} {a0 a1 a2 a3 a4 a5 : Int} (hz : TZ m) : le2 (if a5 < a4 then (gd (tg m a0 = 8) <| nm (vl m a0 0) fun v1 => nm (w32 (a1 + a5)) fun v2 => gd (tg m v1 = 130103 ∨ tg m v1 = 132103) <| gd ((0 : Int) ≤ v2 ∧ v2 < ln m v1) <| gd (tg m a2 = 8) <| nm (vl m a2 0) fun v3 => nm (w32 (a3 + a5)) fun v4 => gd (tg m v3 = 130103 ∨ tg m v3 = 132103) <| gd ((0 : Int) ≤ v4 ∧ v4 < ln m v3) <| if (vl m v1 v2) = (vl m v3 v4) then (rn d 135 3 [pR a0, pI a1, pR a2, pI a3, pI a4, pI (w32 (a5 + 1))] [] m) else some (.inl (some (pI 0)), m)) else some (.inl (some (pI 1)), m)) (rn d 135 3 [pR a0, pI a1, pR a2, pI a3, pI a4, pI a5] [] m) := by
  refine r_ilw5 (p := 5) f135_3 rfl ?_
  refine r_ilw4 (p := 7) f135_5 rfl ?_
  refine r_icge (t := 39) (p := 10) f135_7 (by decide) rfl rfl ?_ ?_
  · refine r_aln0 (p := 11) f135_10 rfl ?_
    refine le2_gd (fun h1 => ?_)
    refine r_gfR (f := 0) (p := 14) f135_11 rfl rfl rfl (Or.inl h1) rfl ?_
    refine r_nmR (fun v1 ev1 => ?_)
    refine r_iln1 (p := 15) f135_14 rfl ?_
    refine r_ilw5 (p := 17) f135_15 rfl ?_
    refine r_iadd (p := 18) f135_17 rfl ?_
    refine r_nmI (fun v2 ev2 => ?_)
    refine le2_gd (fun h2 => ?_)
    refine le2_gd (fun h3 => ?_)
    refine r_baload (p := 19) f135_18 rfl (dj2 (fun x => x % 1000 = 103 ∨ x % 1000 = 105) h2 (by decide) (by decide)) h3 rfl ?_
    refine r_aln2 (p := 20) f135_19 rfl ?_
    refine le2_gd (fun h4 => ?_)
    refine r_gfR (f := 0) (p := 23) f135_20 rfl rfl rfl (Or.inl h4) rfl ?_
    refine r_nmR (fun v3 ev3 => ?_)
    refine r_iln3 (p := 24) f135_23 rfl ?_
    refine r_ilw5 (p := 26) f135_24 rfl ?_
    refine r_iadd (p := 27) f135_26 rfl ?_
    refine r_nmI (fun v4 ev4 => ?_)
    refine le2_gd (fun h5 => ?_)
    refine le2_gd (fun h6 => ?_)
    refine r_baload (p := 28) f135_27 rfl (dj2 (fun x => x % 1000 = 103 ∨ x % 1000 = 105) h5 (by decide) (by decide)) h6 rfl ?_
    refine r_iceq (t := 33) (p := 31) f135_28 (by decide) rfl rfl ?_ ?_
    · refine r_iinc5 (p := 36) f135_33 rfl rfl ?_
      refine r_goto (p := 3) f135_36 (by decide) rfl ?_
      exact le2_refl _
    · refine r_iconst (p := 32) f135_31 rfl (pinD rfl rfl) ?_
      exact r_iret4 f135_32 (by decide)
  · refine r_iconst (p := 40) f135_39 rfl (pinD rfl rfl) ?_
    exact r_iret4 f135_40 (by decide)
/-! 136 PathStore$Row.behindName (I)I -/
def w136_0 : List UInt8 := [27, 5, 96, 42, 27, 182, 0, 40, 96, 172]
abbrev u136_0 : List UInt8 := w136_0 ++ []
theorem s136_0 : (prog_21_method_14_code).data.toList.drop 0 = u136_0 := by decide +kernel
theorem Fm136 {pc len : Nat} {i : Instr} (h : decode (prog_21_method_14_code) pc = .ok (i, len)) (hl : len = ilen i len) : ft 136 pc = some (8, 1, 0, i, len) := ft_mk rfl h hl
theorem f136_0 : ft 136 0 = some (8, 1, 0, .iload_n 1, 1) := Fm136 (dk_27 (dk_at s136_0 0 rfl rfl)) rfl
theorem f136_1 : ft 136 1 = some (8, 1, 0, .iconst 2, 1) := Fm136 (dk_5 (dk_at s136_0 1 rfl rfl)) rfl
theorem f136_2 : ft 136 2 = some (8, 1, 0, .iadd, 1) := Fm136 (dk_96 (dk_at s136_0 2 rfl rfl)) rfl
theorem f136_3 : ft 136 3 = some (8, 1, 0, .aload_n 0, 1) := Fm136 (dk_42 (dk_at s136_0 3 rfl rfl)) rfl
theorem f136_4 : ft 136 4 = some (8, 1, 0, .iload_n 1, 1) := Fm136 (dk_27 (dk_at s136_0 4 rfl rfl)) rfl
theorem f136_5 : ft 136 5 = some (8, 1, 0, .invokevirtual 40, 3) := Fm136 (dk_182 0 40 (dk_at s136_0 5 rfl rfl)) rfl
theorem f136_8 : ft 136 8 = some (8, 1, 0, .iadd, 1) := Fm136 (dk_96 (dk_at s136_0 8 rfl rfl)) rfl
theorem f136_9 : ft 136 9 = some (8, 1, 0, .ireturn, 1) := Fm136 (dk_172 (dk_at s136_0 9 rfl rfl)) rfl
theorem q136 {d : Nat} {m : Mem} {a0 a1 : Int} (hd : 0 < d) (hz : TZ m) : le2 (gd (tg m a0 = 8) <| bI (cl (d - 1) 134 [pR a0, pI a1] m) fun v1 m1 => some (.inl (some (pI (w32 ((w32 (a1 + 2)) + v1)))), m1)) (cl d 136 [pR a0, pI a1] m) := by
  refine q_in (n := 2) (L := [pR a0, pI a1]) rfl rfl rfl ?_
  refine r_iln1 (p := 1) f136_0 rfl ?_
  refine r_iconst (p := 2) f136_1 rfl (pinD rfl rfl) ?_
  refine r_iadd (p := 3) f136_2 rfl ?_
  refine r_aln0 (p := 4) f136_3 rfl ?_
  refine r_iln1 (p := 5) f136_4 rfl ?_
  refine le2_gd (fun h1 => ?_)
  refine r_invI (p := 8) f136_5 rfl rfl rfl (Or.inl h1) hd (Nat.le_of_ble_eq_true rfl) rfl rfl rfl (fun _ => rfl) (fun v1 m1 c1 => ?_)
  have hz1 := z_k c1 hz
  refine r_iadd (p := 9) f136_8 rfl ?_
  exact r_iret1 f136_9
/-! 137 PathStore$Row.behind (I)I -/
def w137_3 : List UInt8 := [4, 96, 172, 27, 6, 96, 42, 27, 4, 96, 182, 0, 40, 96, 172]
abbrev u137_3 : List UInt8 := w137_3 ++ []
def w137_2 : List UInt8 := [27, 4, 96, 172, 27, 4, 96, 61, 42, 180, 0, 9, 28, 51, 156, 0, 9, 132, 2, 1, 167, 255, 244, 28]
abbrev u137_2 : List UInt8 := w137_2 ++ u137_3
def w137_1 : List UInt8 := [170, 0, 0, 0, 0, 57, 0, 0, 0, 0, 0, 0, 0, 3, 0, 0, 0, 30, 0, 0, 0, 30, 0, 0, 0, 30, 0, 0, 0, 34]
abbrev u137_1 : List UInt8 := w137_1 ++ u137_2
def w137_0 : List UInt8 := [42, 180, 0, 9, 27, 51]
abbrev u137_0 : List UInt8 := w137_0 ++ u137_1
theorem s137_0 : (prog_21_method_13_code).data.toList.drop 0 = u137_0 := by decide +kernel
theorem s137_1 : (prog_21_method_13_code).data.toList.drop 6 = u137_1 := dk_seg s137_0 6 rfl rfl
theorem s137_2 : (prog_21_method_13_code).data.toList.drop 36 = u137_2 := dk_seg s137_1 30 rfl rfl
theorem s137_3 : (prog_21_method_13_code).data.toList.drop 60 = u137_3 := dk_seg s137_2 24 rfl rfl
theorem Fm137 {pc len : Nat} {i : Instr} (h : decode (prog_21_method_13_code) pc = .ok (i, len)) (hl : len = ilen i len) : ft 137 pc = some (8, 1, 0, i, len) := ft_mk rfl h hl
theorem f137_0 : ft 137 0 = some (8, 1, 0, .aload_n 0, 1) := Fm137 (dk_42 (dk_at s137_0 0 rfl rfl)) rfl
theorem f137_1 : ft 137 1 = some (8, 1, 0, .getfield 9, 3) := Fm137 (dk_180 0 9 (dk_at s137_0 1 rfl rfl)) rfl
theorem f137_4 : ft 137 4 = some (8, 1, 0, .iload_n 1, 1) := Fm137 (dk_27 (dk_at s137_0 4 rfl rfl)) rfl
theorem f137_5 : ft 137 5 = some (8, 1, 0, .baload, 1) := Fm137 (dk_51 (dk_at s137_0 5 rfl rfl)) rfl
theorem f137_6 : ft 137 6 = some (8, 1, 0, .tableswitch 57 0 3 #[30, 30, 30, 34], 30) := Fm137 (by decide +kernel) rfl
theorem f137_36 : ft 137 36 = some (8, 1, 0, .iload_n 1, 1) := Fm137 (dk_27 (dk_at s137_2 0 rfl rfl)) rfl
theorem f137_37 : ft 137 37 = some (8, 1, 0, .iconst 1, 1) := Fm137 (dk_4 (dk_at s137_2 1 rfl rfl)) rfl
theorem f137_38 : ft 137 38 = some (8, 1, 0, .iadd, 1) := Fm137 (dk_96 (dk_at s137_2 2 rfl rfl)) rfl
theorem f137_39 : ft 137 39 = some (8, 1, 0, .ireturn, 1) := Fm137 (dk_172 (dk_at s137_2 3 rfl rfl)) rfl
theorem f137_40 : ft 137 40 = some (8, 1, 0, .iload_n 1, 1) := Fm137 (dk_27 (dk_at s137_2 4 rfl rfl)) rfl
theorem f137_41 : ft 137 41 = some (8, 1, 0, .iconst 1, 1) := Fm137 (dk_4 (dk_at s137_2 5 rfl rfl)) rfl
theorem f137_42 : ft 137 42 = some (8, 1, 0, .iadd, 1) := Fm137 (dk_96 (dk_at s137_2 6 rfl rfl)) rfl
theorem f137_43 : ft 137 43 = some (8, 1, 0, .istore_n 2, 1) := Fm137 (dk_61 (dk_at s137_2 7 rfl rfl)) rfl
theorem f137_44 : ft 137 44 = some (8, 1, 0, .aload_n 0, 1) := Fm137 (dk_42 (dk_at s137_2 8 rfl rfl)) rfl
theorem f137_45 : ft 137 45 = some (8, 1, 0, .getfield 9, 3) := Fm137 (dk_180 0 9 (dk_at s137_2 9 rfl rfl)) rfl
theorem f137_48 : ft 137 48 = some (8, 1, 0, .iload_n 2, 1) := Fm137 (dk_28 (dk_at s137_2 12 rfl rfl)) rfl
theorem f137_49 : ft 137 49 = some (8, 1, 0, .baload, 1) := Fm137 (dk_51 (dk_at s137_2 13 rfl rfl)) rfl
theorem f137_50 : ft 137 50 = some (8, 1, 0, .ifCond .ge 9, 3) := Fm137 (dk_156 0 9 (dk_at s137_2 14 rfl rfl)) rfl
theorem f137_53 : ft 137 53 = some (8, 1, 0, .iinc 2 1, 3) := Fm137 (dk_132 2 1 (dk_at s137_2 17 rfl rfl)) rfl
theorem f137_56 : ft 137 56 = some (8, 1, 0, .goto (-12), 3) := Fm137 (dk_167 255 244 (dk_at s137_2 20 rfl rfl)) rfl
theorem f137_59 : ft 137 59 = some (8, 1, 0, .iload_n 2, 1) := Fm137 (dk_28 (dk_at s137_2 23 rfl rfl)) rfl
theorem f137_60 : ft 137 60 = some (8, 1, 0, .iconst 1, 1) := Fm137 (dk_4 (dk_at s137_3 0 rfl rfl)) rfl
theorem f137_61 : ft 137 61 = some (8, 1, 0, .iadd, 1) := Fm137 (dk_96 (dk_at s137_3 1 rfl rfl)) rfl
theorem f137_62 : ft 137 62 = some (8, 1, 0, .ireturn, 1) := Fm137 (dk_172 (dk_at s137_3 2 rfl rfl)) rfl
theorem f137_63 : ft 137 63 = some (8, 1, 0, .iload_n 1, 1) := Fm137 (dk_27 (dk_at s137_3 3 rfl rfl)) rfl
theorem f137_64 : ft 137 64 = some (8, 1, 0, .iconst 3, 1) := Fm137 (dk_6 (dk_at s137_3 4 rfl rfl)) rfl
theorem f137_65 : ft 137 65 = some (8, 1, 0, .iadd, 1) := Fm137 (dk_96 (dk_at s137_3 5 rfl rfl)) rfl
theorem f137_66 : ft 137 66 = some (8, 1, 0, .aload_n 0, 1) := Fm137 (dk_42 (dk_at s137_3 6 rfl rfl)) rfl
theorem f137_67 : ft 137 67 = some (8, 1, 0, .iload_n 1, 1) := Fm137 (dk_27 (dk_at s137_3 7 rfl rfl)) rfl
theorem f137_68 : ft 137 68 = some (8, 1, 0, .iconst 1, 1) := Fm137 (dk_4 (dk_at s137_3 8 rfl rfl)) rfl
theorem f137_69 : ft 137 69 = some (8, 1, 0, .iadd, 1) := Fm137 (dk_96 (dk_at s137_3 9 rfl rfl)) rfl
theorem f137_70 : ft 137 70 = some (8, 1, 0, .invokevirtual 40, 3) := Fm137 (dk_182 0 40 (dk_at s137_3 10 rfl rfl)) rfl
theorem f137_73 : ft 137 73 = some (8, 1, 0, .iadd, 1) := Fm137 (dk_96 (dk_at s137_3 13 rfl rfl)) rfl
theorem f137_74 : ft 137 74 = some (8, 1, 0, .ireturn, 1) := Fm137 (dk_172 (dk_at s137_3 14 rfl rfl)) rfl
theorem q137 {d : Nat} {m : Mem} {a0 a1 : Int} (hd : 0 < d) (hz : TZ m) : le2 (gd (tg m a0 = 8) <| nm (vl m a0 0) fun v2 => gd (tg m v2 = 130103 ∨ tg m v2 = 132103) <| gd ((0 : Int) ≤ a1 ∧ a1 < ln m v2) <| nm (vl m v2 a1) fun v3 => if v3 = 0 ∨ v3 = 1 ∨ v3 = 2 then (some (.inl (some (pI (w32 (a1 + 1)))), m)) else if v3 = 3 then (rn d 137 44 [pR a0, pI a1, pI (w32 (a1 + 1))] [] m) else bI (cl (d - 1) 134 [pR a0, pI (w32 (a1 + 1))] m) fun v1 m1 => some (.inl (some (pI (w32 ((w32 (a1 + 3)) + v1)))), m1)) (cl d 137 [pR a0, pI a1] m) := by
  refine q_in (n := 3) (L := [pR a0, pI a1, pU]) rfl rfl rfl ?_
  refine r_aln0 (p := 1) f137_0 rfl ?_
  refine le2_gd (fun h1 => ?_)
  refine r_gfR (f := 0) (p := 4) f137_1 rfl rfl rfl (Or.inl h1) rfl ?_
  refine r_nmR (fun v2 ev2 => ?_)
  refine r_iln1 (p := 5) f137_4 rfl ?_
  refine le2_gd (fun h2 => ?_)
  refine le2_gd (fun h3 => ?_)
  refine r_baload (p := 6) f137_5 rfl (dj2 (fun x => x % 1000 = 103 ∨ x % 1000 = 105) h2 (by decide) (by decide)) h3 rfl ?_
  refine r_nmI (fun v3 ev3 => ?_)
  refine le2_ite (fun h5 => ?_) (fun h5 => ?_)
  · refine r_tsJ (off := 30) (t := 36) f137_6 (by omega) (by rcases h5 with h | h | h <;> rw [h] <;> rfl) (by decide) rfl ?_
    refine r_iln1 (p := 37) f137_36 rfl ?_
    refine r_iconst (p := 38) f137_37 rfl (pinD rfl rfl) ?_
    refine r_iadd (p := 39) f137_38 rfl ?_
    exact r_iret1 f137_39
  · refine le2_ite (fun h4 => ?_) (fun h4 => ?_)
    · refine r_tsI (off := 34) (t := 40) f137_6 h4 rfl rfl (by decide) rfl ?_
      refine r_iln1 (p := 41) f137_40 rfl ?_
      refine r_iconst (p := 42) f137_41 rfl (pinD rfl rfl) ?_
      refine r_iadd (p := 43) f137_42 rfl ?_
      refine r_isn2 (p := 44) f137_43 rfl rfl ?_
      exact le2_refl _
    · refine r_tsO (t := 63) f137_6 (by omega) (by decide) rfl ?_
      refine r_iln1 (p := 64) f137_63 rfl ?_
      refine r_iconst (p := 65) f137_64 rfl (pinD rfl rfl) ?_
      refine r_iadd (p := 66) f137_65 rfl ?_
      refine r_aln0 (p := 67) f137_66 rfl ?_
      refine r_iln1 (p := 68) f137_67 rfl ?_
      refine r_iconst (p := 69) f137_68 rfl (pinD rfl rfl) ?_
      refine r_iadd (p := 70) f137_69 rfl ?_
      refine r_invI (p := 73) f137_70 rfl rfl rfl (Or.inl h1) hd (Nat.le_of_ble_eq_true rfl) rfl rfl rfl (fun _ => rfl) (fun v1 m1 c1 => ?_)
      have hz1 := z_k c1 hz
      refine r_iadd (p := 74) f137_73 rfl ?_
      exact r_iret1 f137_74
theorem q137_44 {d : Nat} {m : Mem} {a0 a1 a2 : Int} (hz : TZ m) : le2 (gd (tg m a0 = 8) <| nm (vl m a0 0) fun v1 => gd (tg m v1 = 130103 ∨ tg m v1 = 132103) <| gd ((0 : Int) ≤ a2 ∧ a2 < ln m v1) <| if (vl m v1 a2) < 0 then (rn d 137 44 [pR a0, pI a1, pI (w32 (a2 + 1))] [] m) else some (.inl (some (pI (w32 (a2 + 1)))), m)) (rn d 137 44 [pR a0, pI a1, pI a2] [] m) := by
  refine r_aln0 (p := 45) f137_44 rfl ?_
  refine le2_gd (fun h1 => ?_)
  refine r_gfR (f := 0) (p := 48) f137_45 rfl rfl rfl (Or.inl h1) rfl ?_
  refine r_nmR (fun v1 ev1 => ?_)
  refine r_iln2 (p := 49) f137_48 rfl ?_
  refine le2_gd (fun h2 => ?_)
  refine le2_gd (fun h3 => ?_)
  refine r_baload (p := 50) f137_49 rfl (dj2 (fun x => x % 1000 = 103 ∨ x % 1000 = 105) h2 (by decide) (by decide)) h3 rfl ?_
  refine r_ifge (t := 59) (p := 53) f137_50 (by decide) rfl rfl ?_ ?_
  · refine r_iinc2 (p := 56) f137_53 rfl rfl ?_
    refine r_goto (p := 44) f137_56 (by decide) rfl ?_
    exact le2_refl _
  · refine r_iln2 (p := 60) f137_59 rfl ?_
    refine r_iconst (p := 61) f137_60 rfl (pinD rfl rfl) ?_
    refine r_iadd (p := 62) f137_61 rfl ?_
    exact r_iret1 f137_62
/-! 138 PathStore$Row.number (J)V -/
def w138_1 : List UInt8 := [17, 0, 128, 128, 182, 0, 35, 33, 16, 7, 125, 66, 167, 255, 229, 42, 33, 136, 182, 0, 35, 177]
abbrev u138_1 : List UInt8 := w138_1 ++ []
def w138_0 : List UInt8 := [31, 4, 121, 31, 16, 63, 123, 131, 66, 33, 16, 7, 125, 9, 148, 153, 0, 24, 42, 33, 136, 16, 127, 126]
abbrev u138_0 : List UInt8 := w138_0 ++ u138_1
theorem s138_0 : (prog_21_method_7_code).data.toList.drop 0 = u138_0 := by decide +kernel
theorem s138_1 : (prog_21_method_7_code).data.toList.drop 24 = u138_1 := dk_seg s138_0 24 rfl rfl
theorem Fm138 {pc len : Nat} {i : Instr} (h : decode (prog_21_method_7_code) pc = .ok (i, len)) (hl : len = ilen i len) : ft 138 pc = some (8, 0, 0, i, len) := ft_mk rfl h hl
theorem f138_0 : ft 138 0 = some (8, 0, 0, .lload_n 1, 1) := Fm138 (dk_31 (dk_at s138_0 0 rfl rfl)) rfl
theorem f138_1 : ft 138 1 = some (8, 0, 0, .iconst 1, 1) := Fm138 (dk_4 (dk_at s138_0 1 rfl rfl)) rfl
theorem f138_2 : ft 138 2 = some (8, 0, 0, .lshl, 1) := Fm138 (dk_121 (dk_at s138_0 2 rfl rfl)) rfl
theorem f138_3 : ft 138 3 = some (8, 0, 0, .lload_n 1, 1) := Fm138 (dk_31 (dk_at s138_0 3 rfl rfl)) rfl
theorem f138_4 : ft 138 4 = some (8, 0, 0, .bipush 63, 2) := Fm138 (dk_16 63 (dk_at s138_0 4 rfl rfl)) rfl
theorem f138_6 : ft 138 6 = some (8, 0, 0, .lshr, 1) := Fm138 (dk_123 (dk_at s138_0 6 rfl rfl)) rfl
theorem f138_7 : ft 138 7 = some (8, 0, 0, .lxor, 1) := Fm138 (dk_131 (dk_at s138_0 7 rfl rfl)) rfl
theorem f138_8 : ft 138 8 = some (8, 0, 0, .lstore_n 3, 1) := Fm138 (dk_66 (dk_at s138_0 8 rfl rfl)) rfl
theorem f138_9 : ft 138 9 = some (8, 0, 0, .lload_n 3, 1) := Fm138 (dk_33 (dk_at s138_0 9 rfl rfl)) rfl
theorem f138_10 : ft 138 10 = some (8, 0, 0, .bipush 7, 2) := Fm138 (dk_16 7 (dk_at s138_0 10 rfl rfl)) rfl
theorem f138_12 : ft 138 12 = some (8, 0, 0, .lushr, 1) := Fm138 (dk_125 (dk_at s138_0 12 rfl rfl)) rfl
theorem f138_13 : ft 138 13 = some (8, 0, 0, .lconst 0, 1) := Fm138 (dk_9 (dk_at s138_0 13 rfl rfl)) rfl
theorem f138_14 : ft 138 14 = some (8, 0, 0, .lcmp, 1) := Fm138 (dk_148 (dk_at s138_0 14 rfl rfl)) rfl
theorem f138_15 : ft 138 15 = some (8, 0, 0, .ifCond .eq 24, 3) := Fm138 (dk_153 0 24 (dk_at s138_0 15 rfl rfl)) rfl
theorem f138_18 : ft 138 18 = some (8, 0, 0, .aload_n 0, 1) := Fm138 (dk_42 (dk_at s138_0 18 rfl rfl)) rfl
theorem f138_19 : ft 138 19 = some (8, 0, 0, .lload_n 3, 1) := Fm138 (dk_33 (dk_at s138_0 19 rfl rfl)) rfl
theorem f138_20 : ft 138 20 = some (8, 0, 0, .l2i, 1) := Fm138 (dk_136 (dk_at s138_0 20 rfl rfl)) rfl
theorem f138_21 : ft 138 21 = some (8, 0, 0, .bipush 127, 2) := Fm138 (dk_16 127 (dk_at s138_0 21 rfl rfl)) rfl
theorem f138_23 : ft 138 23 = some (8, 0, 0, .iand, 1) := Fm138 (dk_126 (dk_at s138_0 23 rfl rfl)) rfl
theorem f138_24 : ft 138 24 = some (8, 0, 0, .sipush 128, 3) := Fm138 (dk_17 0 128 (dk_at s138_1 0 rfl rfl)) rfl
theorem f138_27 : ft 138 27 = some (8, 0, 0, .ior, 1) := Fm138 (dk_128 (dk_at s138_1 3 rfl rfl)) rfl
theorem f138_28 : ft 138 28 = some (8, 0, 0, .invokevirtual 35, 3) := Fm138 (dk_182 0 35 (dk_at s138_1 4 rfl rfl)) rfl
theorem f138_31 : ft 138 31 = some (8, 0, 0, .lload_n 3, 1) := Fm138 (dk_33 (dk_at s138_1 7 rfl rfl)) rfl
theorem f138_32 : ft 138 32 = some (8, 0, 0, .bipush 7, 2) := Fm138 (dk_16 7 (dk_at s138_1 8 rfl rfl)) rfl
theorem f138_34 : ft 138 34 = some (8, 0, 0, .lushr, 1) := Fm138 (dk_125 (dk_at s138_1 10 rfl rfl)) rfl
theorem f138_35 : ft 138 35 = some (8, 0, 0, .lstore_n 3, 1) := Fm138 (dk_66 (dk_at s138_1 11 rfl rfl)) rfl
theorem f138_36 : ft 138 36 = some (8, 0, 0, .goto (-27), 3) := Fm138 (dk_167 255 229 (dk_at s138_1 12 rfl rfl)) rfl
theorem f138_39 : ft 138 39 = some (8, 0, 0, .aload_n 0, 1) := Fm138 (dk_42 (dk_at s138_1 15 rfl rfl)) rfl
theorem f138_40 : ft 138 40 = some (8, 0, 0, .lload_n 3, 1) := Fm138 (dk_33 (dk_at s138_1 16 rfl rfl)) rfl
theorem f138_41 : ft 138 41 = some (8, 0, 0, .l2i, 1) := Fm138 (dk_136 (dk_at s138_1 17 rfl rfl)) rfl
theorem f138_42 : ft 138 42 = some (8, 0, 0, .invokevirtual 35, 3) := Fm138 (dk_182 0 35 (dk_at s138_1 18 rfl rfl)) rfl
theorem f138_45 : ft 138 45 = some (8, 0, 0, .return_, 1) := Fm138 (dk_177 (dk_at s138_1 21 rfl rfl)) rfl
theorem q138 {d : Nat} {m : Mem} {a0 a1 : Int} (hz : TZ m) : le2 (rn d 138 9 [pR a0, pL a1, pU, pL (qXor (qShl a1 1) (qShr a1 63)), pU] [] m) (cl d 138 [pR a0, pL a1] m) := by
  refine q_in (n := 5) (L := [pR a0, pL a1, pU, pU, pU]) rfl rfl rfl ?_
  refine r_lln1 (p := 1) f138_0 rfl ?_
  refine r_iconst (p := 2) f138_1 rfl (pinD rfl rfl) ?_
  refine r_lshl (p := 3) f138_2 rfl ?_
  refine r_lln1 (p := 4) f138_3 rfl ?_
  refine r_bipush (p := 6) f138_4 rfl (pinD rfl rfl) ?_
  refine r_lshr (p := 7) f138_6 rfl ?_
  refine r_lxor (p := 8) f138_7 rfl ?_
  refine r_lsn3 (p := 9) f138_8 rfl rfl ?_
  exact le2_refl _
theorem q138_9 {d : Nat} {m : Mem} {a0 a1 a3 : Int} (hd : 0 < d) (hz : TZ m) : le2 (if (qUshr a3 7) = 0 then (gd (tg m a0 = 8) <| bV (cl (d - 1) 130 [pR a0, pI (w32 a3)] m) fun m1 => some (.inl none, m1)) else gd (tg m a0 = 8) <| bV (cl (d - 1) 130 [pR a0, pI (pOr (pAnd (w32 a3) 127) 128)] m) fun m2 => rn d 138 9 [pR a0, pL a1, pU, pL (qUshr a3 7), pU] [] m2) (rn d 138 9 [pR a0, pL a1, pU, pL a3, pU] [] m) := by
  refine r_lln3 (p := 10) f138_9 rfl ?_
  refine r_bipush (p := 12) f138_10 rfl (pinD rfl rfl) ?_
  refine r_lushr (p := 13) f138_12 rfl ?_
  refine r_lconst0 (p := 14) f138_13 rfl ?_
  refine r_lceq (p1 := 15) (t := 39) (p := 18) f138_14 rfl f138_15 (by decide) rfl rfl ?_ ?_
  · refine r_aln0 (p := 40) f138_39 rfl ?_
    refine r_lln3 (p := 41) f138_40 rfl ?_
    refine r_l2i (p := 42) f138_41 rfl ?_
    refine le2_gd (fun h1 => ?_)
    refine r_invV (p := 45) f138_42 rfl rfl rfl (Or.inl h1) hd (Nat.le_of_ble_eq_true rfl) rfl rfl rfl (fun _ => rfl) (fun m1 c1 => ?_)
    have hz1 := z_k c1 hz
    exact r_ret f138_45
  · refine r_aln0 (p := 19) f138_18 rfl ?_
    refine r_lln3 (p := 20) f138_19 rfl ?_
    refine r_l2i (p := 21) f138_20 rfl ?_
    refine r_bipush (p := 23) f138_21 rfl (pinD rfl rfl) ?_
    refine r_iand (p := 24) f138_23 rfl ?_
    refine r_sipush (p := 27) f138_24 rfl (pinD rfl rfl) ?_
    refine r_ior (p := 28) f138_27 rfl ?_
    refine le2_gd (fun h2 => ?_)
    refine r_invV (p := 31) f138_28 rfl rfl rfl (Or.inl h2) hd (Nat.le_of_ble_eq_true rfl) rfl rfl rfl (fun _ => rfl) (fun m2 c2 => ?_)
    have hz2 := z_k c2 hz
    refine r_lln3 (p := 32) f138_31 rfl ?_
    refine r_bipush (p := 34) f138_32 rfl (pinD rfl rfl) ?_
    refine r_lushr (p := 35) f138_34 rfl ?_
    refine r_lsn3 (p := 36) f138_35 rfl rfl ?_
    refine r_goto (p := 9) f138_36 (by decide) rfl ?_
    exact le2_refl _
/-! 139 PathStore$Row.tag (I)I -/
def w139_0 : List UInt8 := [42, 180, 0, 9, 27, 51, 172]
abbrev u139_0 : List UInt8 := w139_0 ++ []
theorem s139_0 : (prog_21_method_12_code).data.toList.drop 0 = u139_0 := by decide +kernel
theorem Fm139 {pc len : Nat} {i : Instr} (h : decode (prog_21_method_12_code) pc = .ok (i, len)) (hl : len = ilen i len) : ft 139 pc = some (8, 1, 0, i, len) := ft_mk rfl h hl
theorem f139_0 : ft 139 0 = some (8, 1, 0, .aload_n 0, 1) := Fm139 (dk_42 (dk_at s139_0 0 rfl rfl)) rfl
theorem f139_1 : ft 139 1 = some (8, 1, 0, .getfield 9, 3) := Fm139 (dk_180 0 9 (dk_at s139_0 1 rfl rfl)) rfl
theorem f139_4 : ft 139 4 = some (8, 1, 0, .iload_n 1, 1) := Fm139 (dk_27 (dk_at s139_0 4 rfl rfl)) rfl
theorem f139_5 : ft 139 5 = some (8, 1, 0, .baload, 1) := Fm139 (dk_51 (dk_at s139_0 5 rfl rfl)) rfl
theorem f139_6 : ft 139 6 = some (8, 1, 0, .ireturn, 1) := Fm139 (dk_172 (dk_at s139_0 6 rfl rfl)) rfl
theorem q139 {d : Nat} {m : Mem} {a0 a1 : Int} (hz : TZ m) : le2 (gd (tg m a0 = 8) <| nm (vl m a0 0) fun v1 => gd (tg m v1 = 130103 ∨ tg m v1 = 132103) <| gd ((0 : Int) ≤ a1 ∧ a1 < ln m v1) <| some (.inl (some (pI (vl m v1 a1))), m)) (cl d 139 [pR a0, pI a1] m) := by
  refine q_in (n := 2) (L := [pR a0, pI a1]) rfl rfl rfl ?_
  refine r_aln0 (p := 1) f139_0 rfl ?_
  refine le2_gd (fun h1 => ?_)
  refine r_gfR (f := 0) (p := 4) f139_1 rfl rfl rfl (Or.inl h1) rfl ?_
  refine r_nmR (fun v1 ev1 => ?_)
  refine r_iln1 (p := 5) f139_4 rfl ?_
  refine le2_gd (fun h2 => ?_)
  refine le2_gd (fun h3 => ?_)
  refine r_baload (p := 6) f139_5 rfl (dj2 (fun x => x % 1000 = 103 ∨ x % 1000 = 105) h2 (by decide) (by decide)) h3 rfl ?_
  exact r_iret1 f139_6
/-! 140 PathStore$Row.numberAt (I)J -/
def w140_2 : List UInt8 := [180, 0, 9, 21, 4, 51, 133, 21, 5, 121, 129, 65, 32, 4, 125, 32, 10, 127, 117, 131, 173]
abbrev u140_2 : List UInt8 := w140_2 ++ []
def w140_1 : List UInt8 := [21, 4, 132, 4, 1, 51, 133, 20, 0, 38, 127, 21, 5, 121, 129, 65, 132, 5, 7, 167, 255, 222, 32, 42]
abbrev u140_1 : List UInt8 := w140_1 ++ u140_2
def w140_0 : List UInt8 := [9, 65, 27, 54, 4, 3, 54, 5, 42, 180, 0, 9, 21, 4, 51, 156, 0, 30, 32, 42, 180, 0, 9]
abbrev u140_0 : List UInt8 := w140_0 ++ u140_1
theorem s140_0 : (prog_21_method_8_code).data.toList.drop 0 = u140_0 := by decide +kernel
theorem s140_1 : (prog_21_method_8_code).data.toList.drop 23 = u140_1 := dk_seg s140_0 23 rfl rfl
theorem s140_2 : (prog_21_method_8_code).data.toList.drop 47 = u140_2 := dk_seg s140_1 24 rfl rfl
theorem Fm140 {pc len : Nat} {i : Instr} (h : decode (prog_21_method_8_code) pc = .ok (i, len)) (hl : len = ilen i len) : ft 140 pc = some (8, 2, 0, i, len) := ft_mk rfl h hl
theorem f140_0 : ft 140 0 = some (8, 2, 0, .lconst 0, 1) := Fm140 (dk_9 (dk_at s140_0 0 rfl rfl)) rfl
theorem f140_1 : ft 140 1 = some (8, 2, 0, .lstore_n 2, 1) := Fm140 (dk_65 (dk_at s140_0 1 rfl rfl)) rfl
theorem f140_2 : ft 140 2 = some (8, 2, 0, .iload_n 1, 1) := Fm140 (dk_27 (dk_at s140_0 2 rfl rfl)) rfl
theorem f140_3 : ft 140 3 = some (8, 2, 0, .istore 4, 2) := Fm140 (dk_54 4 (dk_at s140_0 3 rfl rfl)) rfl
theorem f140_5 : ft 140 5 = some (8, 2, 0, .iconst 0, 1) := Fm140 (dk_3 (dk_at s140_0 5 rfl rfl)) rfl
theorem f140_6 : ft 140 6 = some (8, 2, 0, .istore 5, 2) := Fm140 (dk_54 5 (dk_at s140_0 6 rfl rfl)) rfl
theorem f140_8 : ft 140 8 = some (8, 2, 0, .aload_n 0, 1) := Fm140 (dk_42 (dk_at s140_0 8 rfl rfl)) rfl
theorem f140_9 : ft 140 9 = some (8, 2, 0, .getfield 9, 3) := Fm140 (dk_180 0 9 (dk_at s140_0 9 rfl rfl)) rfl
theorem f140_12 : ft 140 12 = some (8, 2, 0, .iload 4, 2) := Fm140 (dk_21 4 (dk_at s140_0 12 rfl rfl)) rfl
theorem f140_14 : ft 140 14 = some (8, 2, 0, .baload, 1) := Fm140 (dk_51 (dk_at s140_0 14 rfl rfl)) rfl
theorem f140_15 : ft 140 15 = some (8, 2, 0, .ifCond .ge 30, 3) := Fm140 (dk_156 0 30 (dk_at s140_0 15 rfl rfl)) rfl
theorem f140_18 : ft 140 18 = some (8, 2, 0, .lload_n 2, 1) := Fm140 (dk_32 (dk_at s140_0 18 rfl rfl)) rfl
theorem f140_19 : ft 140 19 = some (8, 2, 0, .aload_n 0, 1) := Fm140 (dk_42 (dk_at s140_0 19 rfl rfl)) rfl
theorem f140_20 : ft 140 20 = some (8, 2, 0, .getfield 9, 3) := Fm140 (dk_180 0 9 (dk_at s140_0 20 rfl rfl)) rfl
theorem f140_23 : ft 140 23 = some (8, 2, 0, .iload 4, 2) := Fm140 (dk_21 4 (dk_at s140_1 0 rfl rfl)) rfl
theorem f140_25 : ft 140 25 = some (8, 2, 0, .iinc 4 1, 3) := Fm140 (dk_132 4 1 (dk_at s140_1 2 rfl rfl)) rfl
theorem f140_28 : ft 140 28 = some (8, 2, 0, .baload, 1) := Fm140 (dk_51 (dk_at s140_1 5 rfl rfl)) rfl
theorem f140_29 : ft 140 29 = some (8, 2, 0, .i2l, 1) := Fm140 (dk_133 (dk_at s140_1 6 rfl rfl)) rfl
theorem f140_30 : ft 140 30 = some (8, 2, 0, .ldc2_w 38, 3) := Fm140 (dk_20 0 38 (dk_at s140_1 7 rfl rfl)) rfl
theorem f140_33 : ft 140 33 = some (8, 2, 0, .land, 1) := Fm140 (dk_127 (dk_at s140_1 10 rfl rfl)) rfl
theorem f140_34 : ft 140 34 = some (8, 2, 0, .iload 5, 2) := Fm140 (dk_21 5 (dk_at s140_1 11 rfl rfl)) rfl
theorem f140_36 : ft 140 36 = some (8, 2, 0, .lshl, 1) := Fm140 (dk_121 (dk_at s140_1 13 rfl rfl)) rfl
theorem f140_37 : ft 140 37 = some (8, 2, 0, .lor, 1) := Fm140 (dk_129 (dk_at s140_1 14 rfl rfl)) rfl
theorem f140_38 : ft 140 38 = some (8, 2, 0, .lstore_n 2, 1) := Fm140 (dk_65 (dk_at s140_1 15 rfl rfl)) rfl
theorem f140_39 : ft 140 39 = some (8, 2, 0, .iinc 5 7, 3) := Fm140 (dk_132 5 7 (dk_at s140_1 16 rfl rfl)) rfl
theorem f140_42 : ft 140 42 = some (8, 2, 0, .goto (-34), 3) := Fm140 (dk_167 255 222 (dk_at s140_1 19 rfl rfl)) rfl
theorem f140_45 : ft 140 45 = some (8, 2, 0, .lload_n 2, 1) := Fm140 (dk_32 (dk_at s140_1 22 rfl rfl)) rfl
theorem f140_46 : ft 140 46 = some (8, 2, 0, .aload_n 0, 1) := Fm140 (dk_42 (dk_at s140_1 23 rfl rfl)) rfl
theorem f140_47 : ft 140 47 = some (8, 2, 0, .getfield 9, 3) := Fm140 (dk_180 0 9 (dk_at s140_2 0 rfl rfl)) rfl
theorem f140_50 : ft 140 50 = some (8, 2, 0, .iload 4, 2) := Fm140 (dk_21 4 (dk_at s140_2 3 rfl rfl)) rfl
theorem f140_52 : ft 140 52 = some (8, 2, 0, .baload, 1) := Fm140 (dk_51 (dk_at s140_2 5 rfl rfl)) rfl
theorem f140_53 : ft 140 53 = some (8, 2, 0, .i2l, 1) := Fm140 (dk_133 (dk_at s140_2 6 rfl rfl)) rfl
theorem f140_54 : ft 140 54 = some (8, 2, 0, .iload 5, 2) := Fm140 (dk_21 5 (dk_at s140_2 7 rfl rfl)) rfl
theorem f140_56 : ft 140 56 = some (8, 2, 0, .lshl, 1) := Fm140 (dk_121 (dk_at s140_2 9 rfl rfl)) rfl
theorem f140_57 : ft 140 57 = some (8, 2, 0, .lor, 1) := Fm140 (dk_129 (dk_at s140_2 10 rfl rfl)) rfl
theorem f140_58 : ft 140 58 = some (8, 2, 0, .lstore_n 2, 1) := Fm140 (dk_65 (dk_at s140_2 11 rfl rfl)) rfl
theorem f140_59 : ft 140 59 = some (8, 2, 0, .lload_n 2, 1) := Fm140 (dk_32 (dk_at s140_2 12 rfl rfl)) rfl
theorem f140_60 : ft 140 60 = some (8, 2, 0, .iconst 1, 1) := Fm140 (dk_4 (dk_at s140_2 13 rfl rfl)) rfl
theorem f140_61 : ft 140 61 = some (8, 2, 0, .lushr, 1) := Fm140 (dk_125 (dk_at s140_2 14 rfl rfl)) rfl
theorem f140_62 : ft 140 62 = some (8, 2, 0, .lload_n 2, 1) := Fm140 (dk_32 (dk_at s140_2 15 rfl rfl)) rfl
theorem f140_63 : ft 140 63 = some (8, 2, 0, .lconst 1, 1) := Fm140 (dk_10 (dk_at s140_2 16 rfl rfl)) rfl
theorem f140_64 : ft 140 64 = some (8, 2, 0, .land, 1) := Fm140 (dk_127 (dk_at s140_2 17 rfl rfl)) rfl
theorem f140_65 : ft 140 65 = some (8, 2, 0, .lneg, 1) := Fm140 (dk_117 (dk_at s140_2 18 rfl rfl)) rfl
theorem f140_66 : ft 140 66 = some (8, 2, 0, .lxor, 1) := Fm140 (dk_131 (dk_at s140_2 19 rfl rfl)) rfl
theorem f140_67 : ft 140 67 = some (8, 2, 0, .lreturn, 1) := Fm140 (dk_173 (dk_at s140_2 20 rfl rfl)) rfl
theorem q140 {d : Nat} {m : Mem} {a0 a1 : Int} (hz : TZ m) : le2 (rn d 140 8 [pR a0, pI a1, pL 0, pU, pI a1, pI 0] [] m) (cl d 140 [pR a0, pI a1] m) := by
  refine q_in (n := 6) (L := [pR a0, pI a1, pU, pU, pU, pU]) rfl rfl rfl ?_
  refine r_lconst0 (p := 1) f140_0 rfl ?_
  refine r_lsn2 (p := 2) f140_1 rfl rfl ?_
  refine r_iln1 (p := 3) f140_2 rfl ?_
  refine r_isw4 (p := 5) f140_3 rfl rfl ?_
  refine r_iconst (p := 6) f140_5 rfl (pinD rfl rfl) ?_
  refine r_isw5 (p := 8) f140_6 rfl rfl ?_
  exact le2_refl _
theorem q140_8 {d : Nat} {m : Mem} {a0 a1 a2 a4 a5 : Int} (hz : TZ m) : le2 (gd (tg m a0 = 8) <| nm (vl m a0 0) fun v1 => gd (tg m v1 = 130103 ∨ tg m v1 = 132103) <| gd ((0 : Int) ≤ a4 ∧ a4 < ln m v1) <| nm (vl m v1 a4) fun v2 => if v2 < 0 then (rn d 140 8 [pR a0, pI a1, pL (qOr a2 (qShl (qAnd v2 127) a5)), pU, pI (w32 (a4 + 1)), pI (w32 (a5 + 7))] [] m) else nm (qOr a2 (qShl v2 a5)) fun v3 => some (.inl (some (pL (qXor (qUshr v3 1) (w64 (-(qAnd v3 1)))))), m)) (rn d 140 8 [pR a0, pI a1, pL a2, pU, pI a4, pI a5] [] m) := by
  refine r_aln0 (p := 9) f140_8 rfl ?_
  refine le2_gd (fun h1 => ?_)
  refine r_gfR (f := 0) (p := 12) f140_9 rfl rfl rfl (Or.inl h1) rfl ?_
  refine r_nmR (fun v1 ev1 => ?_)
  refine r_ilw4 (p := 14) f140_12 rfl ?_
  refine le2_gd (fun h2 => ?_)
  refine le2_gd (fun h3 => ?_)
  refine r_baload (p := 15) f140_14 rfl (dj2 (fun x => x % 1000 = 103 ∨ x % 1000 = 105) h2 (by decide) (by decide)) h3 rfl ?_
  refine r_nmI (fun v2 ev2 => ?_)
  refine r_ifge (t := 45) (p := 18) f140_15 (by decide) rfl rfl ?_ ?_
  · refine r_lln2 (p := 19) f140_18 rfl ?_
    refine r_aln0 (p := 20) f140_19 rfl ?_
    refine r_gfR (f := 0) (p := 23) f140_20 rfl rfl rfl (Or.inl h1) ev1.symm ?_
    refine r_ilw4 (p := 25) f140_23 rfl ?_
    refine r_iinc4 (p := 28) f140_25 rfl rfl ?_
    refine r_baload (p := 29) f140_28 rfl (dj2 (fun x => x % 1000 = 103 ∨ x % 1000 = 105) h2 (by decide) (by decide)) h3 ev2.symm ?_
    refine r_i2l (p := 30) f140_29 rfl ?_
    refine r_ldc2 (p := 33) f140_30 rfl rfl (pinD rfl rfl) ?_
    refine r_land (p := 34) f140_33 rfl ?_
    refine r_ilw5 (p := 36) f140_34 rfl ?_
    refine r_lshl (p := 37) f140_36 rfl ?_
    refine r_lor (p := 38) f140_37 rfl ?_
    refine r_lsn2 (p := 39) f140_38 rfl rfl ?_
    refine r_iinc5 (p := 42) f140_39 rfl rfl ?_
    refine r_goto (p := 8) f140_42 (by decide) rfl ?_
    exact le2_refl _
  · refine r_lln2 (p := 46) f140_45 rfl ?_
    refine r_aln0 (p := 47) f140_46 rfl ?_
    refine r_gfR (f := 0) (p := 50) f140_47 rfl rfl rfl (Or.inl h1) ev1.symm ?_
    refine r_ilw4 (p := 52) f140_50 rfl ?_
    refine r_baload (p := 53) f140_52 rfl (dj2 (fun x => x % 1000 = 103 ∨ x % 1000 = 105) h2 (by decide) (by decide)) h3 ev2.symm ?_
    refine r_i2l (p := 54) f140_53 rfl ?_
    refine r_ilw5 (p := 56) f140_54 rfl ?_
    refine r_lshl (p := 57) f140_56 rfl ?_
    refine r_lor (p := 58) f140_57 rfl ?_
    refine r_nmJ (fun v3 ev3 => ?_)
    refine r_lsn2 (p := 59) f140_58 rfl rfl ?_
    refine r_lln2 (p := 60) f140_59 rfl ?_
    refine r_iconst (p := 61) f140_60 rfl (pinD rfl rfl) ?_
    refine r_lushr (p := 62) f140_61 rfl ?_
    refine r_lln2 (p := 63) f140_62 rfl ?_
    refine r_lconst1 (p := 64) f140_63 rfl ?_
    refine r_land (p := 65) f140_64 rfl ?_
    refine r_lneg (p := 66) f140_65 rfl ?_
    refine r_lxor (p := 67) f140_66 rfl ?_
    exact r_lret f140_67
/-! 141 PathStore$Row.unitAt (I)I -/
def w141_3 : List UInt8 := [180, 0, 9, 27, 5, 96, 51, 16, 63, 126, 128, 172]
abbrev u141_3 : List UInt8 := w141_3 ++ []
def w141_2 : List UInt8 := [16, 15, 126, 16, 12, 120, 42, 180, 0, 9, 27, 4, 96, 51, 16, 63, 126, 16, 6, 120, 128, 42]
abbrev u141_2 : List UInt8 := w141_2 ++ u141_3
def w141_1 : List UInt8 := [162, 0, 23, 28, 16, 31, 126, 16, 6, 120, 42, 180, 0, 9, 27, 4, 96, 51, 16, 63, 126, 128, 172, 28]
abbrev u141_1 : List UInt8 := w141_1 ++ u141_2
def w141_0 : List UInt8 := [42, 180, 0, 9, 27, 51, 17, 0, 255, 126, 61, 28, 17, 0, 128, 162, 0, 5, 28, 172, 28, 17, 0, 224]
abbrev u141_0 : List UInt8 := w141_0 ++ u141_1
theorem s141_0 : (prog_21_method_11_code).data.toList.drop 0 = u141_0 := by decide +kernel
theorem s141_1 : (prog_21_method_11_code).data.toList.drop 24 = u141_1 := dk_seg s141_0 24 rfl rfl
theorem s141_2 : (prog_21_method_11_code).data.toList.drop 48 = u141_2 := dk_seg s141_1 24 rfl rfl
theorem s141_3 : (prog_21_method_11_code).data.toList.drop 70 = u141_3 := dk_seg s141_2 22 rfl rfl
theorem Fm141 {pc len : Nat} {i : Instr} (h : decode (prog_21_method_11_code) pc = .ok (i, len)) (hl : len = ilen i len) : ft 141 pc = some (8, 1, 0, i, len) := ft_mk rfl h hl
theorem f141_0 : ft 141 0 = some (8, 1, 0, .aload_n 0, 1) := Fm141 (dk_42 (dk_at s141_0 0 rfl rfl)) rfl
theorem f141_1 : ft 141 1 = some (8, 1, 0, .getfield 9, 3) := Fm141 (dk_180 0 9 (dk_at s141_0 1 rfl rfl)) rfl
theorem f141_4 : ft 141 4 = some (8, 1, 0, .iload_n 1, 1) := Fm141 (dk_27 (dk_at s141_0 4 rfl rfl)) rfl
theorem f141_5 : ft 141 5 = some (8, 1, 0, .baload, 1) := Fm141 (dk_51 (dk_at s141_0 5 rfl rfl)) rfl
theorem f141_6 : ft 141 6 = some (8, 1, 0, .sipush 255, 3) := Fm141 (dk_17 0 255 (dk_at s141_0 6 rfl rfl)) rfl
theorem f141_9 : ft 141 9 = some (8, 1, 0, .iand, 1) := Fm141 (dk_126 (dk_at s141_0 9 rfl rfl)) rfl
theorem f141_10 : ft 141 10 = some (8, 1, 0, .istore_n 2, 1) := Fm141 (dk_61 (dk_at s141_0 10 rfl rfl)) rfl
theorem f141_11 : ft 141 11 = some (8, 1, 0, .iload_n 2, 1) := Fm141 (dk_28 (dk_at s141_0 11 rfl rfl)) rfl
theorem f141_12 : ft 141 12 = some (8, 1, 0, .sipush 128, 3) := Fm141 (dk_17 0 128 (dk_at s141_0 12 rfl rfl)) rfl
theorem f141_15 : ft 141 15 = some (8, 1, 0, .if_icmp .ge 5, 3) := Fm141 (dk_162 0 5 (dk_at s141_0 15 rfl rfl)) rfl
theorem f141_18 : ft 141 18 = some (8, 1, 0, .iload_n 2, 1) := Fm141 (dk_28 (dk_at s141_0 18 rfl rfl)) rfl
theorem f141_19 : ft 141 19 = some (8, 1, 0, .ireturn, 1) := Fm141 (dk_172 (dk_at s141_0 19 rfl rfl)) rfl
theorem f141_20 : ft 141 20 = some (8, 1, 0, .iload_n 2, 1) := Fm141 (dk_28 (dk_at s141_0 20 rfl rfl)) rfl
theorem f141_21 : ft 141 21 = some (8, 1, 0, .sipush 224, 3) := Fm141 (dk_17 0 224 (dk_at s141_0 21 rfl rfl)) rfl
theorem f141_24 : ft 141 24 = some (8, 1, 0, .if_icmp .ge 23, 3) := Fm141 (dk_162 0 23 (dk_at s141_1 0 rfl rfl)) rfl
theorem f141_27 : ft 141 27 = some (8, 1, 0, .iload_n 2, 1) := Fm141 (dk_28 (dk_at s141_1 3 rfl rfl)) rfl
theorem f141_28 : ft 141 28 = some (8, 1, 0, .bipush 31, 2) := Fm141 (dk_16 31 (dk_at s141_1 4 rfl rfl)) rfl
theorem f141_30 : ft 141 30 = some (8, 1, 0, .iand, 1) := Fm141 (dk_126 (dk_at s141_1 6 rfl rfl)) rfl
theorem f141_31 : ft 141 31 = some (8, 1, 0, .bipush 6, 2) := Fm141 (dk_16 6 (dk_at s141_1 7 rfl rfl)) rfl
theorem f141_33 : ft 141 33 = some (8, 1, 0, .ishl, 1) := Fm141 (dk_120 (dk_at s141_1 9 rfl rfl)) rfl
theorem f141_34 : ft 141 34 = some (8, 1, 0, .aload_n 0, 1) := Fm141 (dk_42 (dk_at s141_1 10 rfl rfl)) rfl
theorem f141_35 : ft 141 35 = some (8, 1, 0, .getfield 9, 3) := Fm141 (dk_180 0 9 (dk_at s141_1 11 rfl rfl)) rfl
theorem f141_38 : ft 141 38 = some (8, 1, 0, .iload_n 1, 1) := Fm141 (dk_27 (dk_at s141_1 14 rfl rfl)) rfl
theorem f141_39 : ft 141 39 = some (8, 1, 0, .iconst 1, 1) := Fm141 (dk_4 (dk_at s141_1 15 rfl rfl)) rfl
theorem f141_40 : ft 141 40 = some (8, 1, 0, .iadd, 1) := Fm141 (dk_96 (dk_at s141_1 16 rfl rfl)) rfl
theorem f141_41 : ft 141 41 = some (8, 1, 0, .baload, 1) := Fm141 (dk_51 (dk_at s141_1 17 rfl rfl)) rfl
theorem f141_42 : ft 141 42 = some (8, 1, 0, .bipush 63, 2) := Fm141 (dk_16 63 (dk_at s141_1 18 rfl rfl)) rfl
theorem f141_44 : ft 141 44 = some (8, 1, 0, .iand, 1) := Fm141 (dk_126 (dk_at s141_1 20 rfl rfl)) rfl
theorem f141_45 : ft 141 45 = some (8, 1, 0, .ior, 1) := Fm141 (dk_128 (dk_at s141_1 21 rfl rfl)) rfl
theorem f141_46 : ft 141 46 = some (8, 1, 0, .ireturn, 1) := Fm141 (dk_172 (dk_at s141_1 22 rfl rfl)) rfl
theorem f141_47 : ft 141 47 = some (8, 1, 0, .iload_n 2, 1) := Fm141 (dk_28 (dk_at s141_1 23 rfl rfl)) rfl
theorem f141_48 : ft 141 48 = some (8, 1, 0, .bipush 15, 2) := Fm141 (dk_16 15 (dk_at s141_2 0 rfl rfl)) rfl
theorem f141_50 : ft 141 50 = some (8, 1, 0, .iand, 1) := Fm141 (dk_126 (dk_at s141_2 2 rfl rfl)) rfl
theorem f141_51 : ft 141 51 = some (8, 1, 0, .bipush 12, 2) := Fm141 (dk_16 12 (dk_at s141_2 3 rfl rfl)) rfl
theorem f141_53 : ft 141 53 = some (8, 1, 0, .ishl, 1) := Fm141 (dk_120 (dk_at s141_2 5 rfl rfl)) rfl
theorem f141_54 : ft 141 54 = some (8, 1, 0, .aload_n 0, 1) := Fm141 (dk_42 (dk_at s141_2 6 rfl rfl)) rfl
theorem f141_55 : ft 141 55 = some (8, 1, 0, .getfield 9, 3) := Fm141 (dk_180 0 9 (dk_at s141_2 7 rfl rfl)) rfl
theorem f141_58 : ft 141 58 = some (8, 1, 0, .iload_n 1, 1) := Fm141 (dk_27 (dk_at s141_2 10 rfl rfl)) rfl
theorem f141_59 : ft 141 59 = some (8, 1, 0, .iconst 1, 1) := Fm141 (dk_4 (dk_at s141_2 11 rfl rfl)) rfl
theorem f141_60 : ft 141 60 = some (8, 1, 0, .iadd, 1) := Fm141 (dk_96 (dk_at s141_2 12 rfl rfl)) rfl
theorem f141_61 : ft 141 61 = some (8, 1, 0, .baload, 1) := Fm141 (dk_51 (dk_at s141_2 13 rfl rfl)) rfl
theorem f141_62 : ft 141 62 = some (8, 1, 0, .bipush 63, 2) := Fm141 (dk_16 63 (dk_at s141_2 14 rfl rfl)) rfl
theorem f141_64 : ft 141 64 = some (8, 1, 0, .iand, 1) := Fm141 (dk_126 (dk_at s141_2 16 rfl rfl)) rfl
theorem f141_65 : ft 141 65 = some (8, 1, 0, .bipush 6, 2) := Fm141 (dk_16 6 (dk_at s141_2 17 rfl rfl)) rfl
theorem f141_67 : ft 141 67 = some (8, 1, 0, .ishl, 1) := Fm141 (dk_120 (dk_at s141_2 19 rfl rfl)) rfl
theorem f141_68 : ft 141 68 = some (8, 1, 0, .ior, 1) := Fm141 (dk_128 (dk_at s141_2 20 rfl rfl)) rfl
theorem f141_69 : ft 141 69 = some (8, 1, 0, .aload_n 0, 1) := Fm141 (dk_42 (dk_at s141_2 21 rfl rfl)) rfl
theorem f141_70 : ft 141 70 = some (8, 1, 0, .getfield 9, 3) := Fm141 (dk_180 0 9 (dk_at s141_3 0 rfl rfl)) rfl
theorem f141_73 : ft 141 73 = some (8, 1, 0, .iload_n 1, 1) := Fm141 (dk_27 (dk_at s141_3 3 rfl rfl)) rfl
theorem f141_74 : ft 141 74 = some (8, 1, 0, .iconst 2, 1) := Fm141 (dk_5 (dk_at s141_3 4 rfl rfl)) rfl
theorem f141_75 : ft 141 75 = some (8, 1, 0, .iadd, 1) := Fm141 (dk_96 (dk_at s141_3 5 rfl rfl)) rfl
theorem f141_76 : ft 141 76 = some (8, 1, 0, .baload, 1) := Fm141 (dk_51 (dk_at s141_3 6 rfl rfl)) rfl
theorem f141_77 : ft 141 77 = some (8, 1, 0, .bipush 63, 2) := Fm141 (dk_16 63 (dk_at s141_3 7 rfl rfl)) rfl
theorem f141_79 : ft 141 79 = some (8, 1, 0, .iand, 1) := Fm141 (dk_126 (dk_at s141_3 9 rfl rfl)) rfl
theorem f141_80 : ft 141 80 = some (8, 1, 0, .ior, 1) := Fm141 (dk_128 (dk_at s141_3 10 rfl rfl)) rfl
theorem f141_81 : ft 141 81 = some (8, 1, 0, .ireturn, 1) := Fm141 (dk_172 (dk_at s141_3 11 rfl rfl)) rfl
theorem q141 {d : Nat} {m : Mem} {a0 a1 : Int} (hz : TZ m) : le2 (gd (tg m a0 = 8) <| nm (vl m a0 0) fun v1 => gd (tg m v1 = 130103 ∨ tg m v1 = 132103) <| gd ((0 : Int) ≤ a1 ∧ a1 < ln m v1) <| nm (pAnd (vl m v1 a1) 255) fun v2 => if v2 < 128 then (some (.inl (some (pI v2)), m)) else if v2 < 224 then (nm (w32 (a1 + 1)) fun v3 => gd ((0 : Int) ≤ v3 ∧ v3 < ln m v1) <| some (.inl (some (pI (pOr (pShl (pAnd v2 31) 6) (pAnd (vl m v1 v3) 63)))), m)) else nm (w32 (a1 + 1)) fun v4 => gd ((0 : Int) ≤ v4 ∧ v4 < ln m v1) <| nm (w32 (a1 + 2)) fun v5 => gd ((0 : Int) ≤ v5 ∧ v5 < ln m v1) <| some (.inl (some (pI (pOr (pOr (pShl (pAnd v2 15) 12) (pShl (pAnd (vl m v1 v4) 63) 6)) (pAnd (vl m v1 v5) 63)))), m)) (cl d 141 [pR a0, pI a1] m) := by
  refine q_in (n := 3) (L := [pR a0, pI a1, pU]) rfl rfl rfl ?_
  refine r_aln0 (p := 1) f141_0 rfl ?_
  refine le2_gd (fun h1 => ?_)
  refine r_gfR (f := 0) (p := 4) f141_1 rfl rfl rfl (Or.inl h1) rfl ?_
  refine r_nmR (fun v1 ev1 => ?_)
  refine r_iln1 (p := 5) f141_4 rfl ?_
  refine le2_gd (fun h2 => ?_)
  refine le2_gd (fun h3 => ?_)
  refine r_baload (p := 6) f141_5 rfl (dj2 (fun x => x % 1000 = 103 ∨ x % 1000 = 105) h2 (by decide) (by decide)) h3 rfl ?_
  refine r_sipush (p := 9) f141_6 rfl (pinD rfl rfl) ?_
  refine r_iand (p := 10) f141_9 rfl ?_
  refine r_nmI (fun v2 ev2 => ?_)
  refine r_isn2 (p := 11) f141_10 rfl rfl ?_
  refine r_iln2 (p := 12) f141_11 rfl ?_
  refine r_sipush (p := 15) f141_12 rfl (pinD rfl rfl) ?_
  refine r_icge (t := 20) (p := 18) f141_15 (by decide) rfl rfl ?_ ?_
  · refine r_iln2 (p := 19) f141_18 rfl ?_
    exact r_iret1 f141_19
  · refine r_iln2 (p := 21) f141_20 rfl ?_
    refine r_sipush (p := 24) f141_21 rfl (pinD rfl rfl) ?_
    refine r_icge (t := 47) (p := 27) f141_24 (by decide) rfl rfl ?_ ?_
    · refine r_iln2 (p := 28) f141_27 rfl ?_
      refine r_bipush (p := 30) f141_28 rfl (pinD rfl rfl) ?_
      refine r_iand (p := 31) f141_30 rfl ?_
      refine r_bipush (p := 33) f141_31 rfl (pinD rfl rfl) ?_
      refine r_ishl (p := 34) f141_33 rfl ?_
      refine r_aln0 (p := 35) f141_34 rfl ?_
      refine r_gfR (f := 0) (p := 38) f141_35 rfl rfl rfl (Or.inl h1) ev1.symm ?_
      refine r_iln1 (p := 39) f141_38 rfl ?_
      refine r_iconst (p := 40) f141_39 rfl (pinD rfl rfl) ?_
      refine r_iadd (p := 41) f141_40 rfl ?_
      refine r_nmI (fun v3 ev3 => ?_)
      refine le2_gd (fun h6 => ?_)
      refine r_baload (p := 42) f141_41 rfl (dj2 (fun x => x % 1000 = 103 ∨ x % 1000 = 105) h2 (by decide) (by decide)) h6 rfl ?_
      refine r_bipush (p := 44) f141_42 rfl (pinD rfl rfl) ?_
      refine r_iand (p := 45) f141_44 rfl ?_
      refine r_ior (p := 46) f141_45 rfl ?_
      exact r_iret1 f141_46
    · refine r_iln2 (p := 48) f141_47 rfl ?_
      refine r_bipush (p := 50) f141_48 rfl (pinD rfl rfl) ?_
      refine r_iand (p := 51) f141_50 rfl ?_
      refine r_bipush (p := 53) f141_51 rfl (pinD rfl rfl) ?_
      refine r_ishl (p := 54) f141_53 rfl ?_
      refine r_aln0 (p := 55) f141_54 rfl ?_
      refine r_gfR (f := 0) (p := 58) f141_55 rfl rfl rfl (Or.inl h1) ev1.symm ?_
      refine r_iln1 (p := 59) f141_58 rfl ?_
      refine r_iconst (p := 60) f141_59 rfl (pinD rfl rfl) ?_
      refine r_iadd (p := 61) f141_60 rfl ?_
      refine r_nmI (fun v4 ev4 => ?_)
      refine le2_gd (fun h4 => ?_)
      refine r_baload (p := 62) f141_61 rfl (dj2 (fun x => x % 1000 = 103 ∨ x % 1000 = 105) h2 (by decide) (by decide)) h4 rfl ?_
      refine r_bipush (p := 64) f141_62 rfl (pinD rfl rfl) ?_
      refine r_iand (p := 65) f141_64 rfl ?_
      refine r_bipush (p := 67) f141_65 rfl (pinD rfl rfl) ?_
      refine r_ishl (p := 68) f141_67 rfl ?_
      refine r_ior (p := 69) f141_68 rfl ?_
      refine r_aln0 (p := 70) f141_69 rfl ?_
      refine r_gfR (f := 0) (p := 73) f141_70 rfl rfl rfl (Or.inl h1) ev1.symm ?_
      refine r_iln1 (p := 74) f141_73 rfl ?_
      refine r_iconst (p := 75) f141_74 rfl (pinD rfl rfl) ?_
      refine r_iadd (p := 76) f141_75 rfl ?_
      refine r_nmI (fun v5 ev5 => ?_)
      refine le2_gd (fun h5 => ?_)
      refine r_baload (p := 77) f141_76 rfl (dj2 (fun x => x % 1000 = 103 ∨ x % 1000 = 105) h2 (by decide) (by decide)) h5 rfl ?_
      refine r_bipush (p := 79) f141_77 rfl (pinD rfl rfl) ?_
      refine r_iand (p := 80) f141_79 rfl ?_
      refine r_ior (p := 81) f141_80 rfl ?_
      exact r_iret1 f141_81
/-! 142 PathStore$Row.unitLength (I)I -/
def w142_1 : List UInt8 := [17, 0, 224, 162, 0, 7, 5, 167, 0, 4, 6, 172]
abbrev u142_1 : List UInt8 := w142_1 ++ []
def w142_0 : List UInt8 := [42, 180, 0, 9, 27, 51, 17, 0, 255, 126, 61, 28, 17, 0, 128, 162, 0, 7, 4, 167, 0, 15, 28]
abbrev u142_0 : List UInt8 := w142_0 ++ u142_1
theorem s142_0 : (prog_21_method_10_code).data.toList.drop 0 = u142_0 := by decide +kernel
theorem s142_1 : (prog_21_method_10_code).data.toList.drop 23 = u142_1 := dk_seg s142_0 23 rfl rfl
theorem Fm142 {pc len : Nat} {i : Instr} (h : decode (prog_21_method_10_code) pc = .ok (i, len)) (hl : len = ilen i len) : ft 142 pc = some (8, 1, 0, i, len) := ft_mk rfl h hl
theorem f142_0 : ft 142 0 = some (8, 1, 0, .aload_n 0, 1) := Fm142 (dk_42 (dk_at s142_0 0 rfl rfl)) rfl
theorem f142_1 : ft 142 1 = some (8, 1, 0, .getfield 9, 3) := Fm142 (dk_180 0 9 (dk_at s142_0 1 rfl rfl)) rfl
theorem f142_4 : ft 142 4 = some (8, 1, 0, .iload_n 1, 1) := Fm142 (dk_27 (dk_at s142_0 4 rfl rfl)) rfl
theorem f142_5 : ft 142 5 = some (8, 1, 0, .baload, 1) := Fm142 (dk_51 (dk_at s142_0 5 rfl rfl)) rfl
theorem f142_6 : ft 142 6 = some (8, 1, 0, .sipush 255, 3) := Fm142 (dk_17 0 255 (dk_at s142_0 6 rfl rfl)) rfl
theorem f142_9 : ft 142 9 = some (8, 1, 0, .iand, 1) := Fm142 (dk_126 (dk_at s142_0 9 rfl rfl)) rfl
theorem f142_10 : ft 142 10 = some (8, 1, 0, .istore_n 2, 1) := Fm142 (dk_61 (dk_at s142_0 10 rfl rfl)) rfl
theorem f142_11 : ft 142 11 = some (8, 1, 0, .iload_n 2, 1) := Fm142 (dk_28 (dk_at s142_0 11 rfl rfl)) rfl
theorem f142_12 : ft 142 12 = some (8, 1, 0, .sipush 128, 3) := Fm142 (dk_17 0 128 (dk_at s142_0 12 rfl rfl)) rfl
theorem f142_15 : ft 142 15 = some (8, 1, 0, .if_icmp .ge 7, 3) := Fm142 (dk_162 0 7 (dk_at s142_0 15 rfl rfl)) rfl
theorem f142_18 : ft 142 18 = some (8, 1, 0, .iconst 1, 1) := Fm142 (dk_4 (dk_at s142_0 18 rfl rfl)) rfl
theorem f142_19 : ft 142 19 = some (8, 1, 0, .goto 15, 3) := Fm142 (dk_167 0 15 (dk_at s142_0 19 rfl rfl)) rfl
theorem f142_22 : ft 142 22 = some (8, 1, 0, .iload_n 2, 1) := Fm142 (dk_28 (dk_at s142_0 22 rfl rfl)) rfl
theorem f142_23 : ft 142 23 = some (8, 1, 0, .sipush 224, 3) := Fm142 (dk_17 0 224 (dk_at s142_1 0 rfl rfl)) rfl
theorem f142_26 : ft 142 26 = some (8, 1, 0, .if_icmp .ge 7, 3) := Fm142 (dk_162 0 7 (dk_at s142_1 3 rfl rfl)) rfl
theorem f142_29 : ft 142 29 = some (8, 1, 0, .iconst 2, 1) := Fm142 (dk_5 (dk_at s142_1 6 rfl rfl)) rfl
theorem f142_30 : ft 142 30 = some (8, 1, 0, .goto 4, 3) := Fm142 (dk_167 0 4 (dk_at s142_1 7 rfl rfl)) rfl
theorem f142_33 : ft 142 33 = some (8, 1, 0, .iconst 3, 1) := Fm142 (dk_6 (dk_at s142_1 10 rfl rfl)) rfl
theorem f142_34 : ft 142 34 = some (8, 1, 0, .ireturn, 1) := Fm142 (dk_172 (dk_at s142_1 11 rfl rfl)) rfl
theorem q142 {d : Nat} {m : Mem} {a0 a1 : Int} (hz : TZ m) : le2 (gd (tg m a0 = 8) <| nm (vl m a0 0) fun v1 => gd (tg m v1 = 130103 ∨ tg m v1 = 132103) <| gd ((0 : Int) ≤ a1 ∧ a1 < ln m v1) <| nm (pAnd (vl m v1 a1) 255) fun v2 => if v2 < 128 then (some (.inl (some (pI 1)), m)) else if v2 < 224 then (some (.inl (some (pI 2)), m)) else some (.inl (some (pI 3)), m)) (cl d 142 [pR a0, pI a1] m) := by
  refine q_in (n := 3) (L := [pR a0, pI a1, pU]) rfl rfl rfl ?_
  refine r_aln0 (p := 1) f142_0 rfl ?_
  refine le2_gd (fun h1 => ?_)
  refine r_gfR (f := 0) (p := 4) f142_1 rfl rfl rfl (Or.inl h1) rfl ?_
  refine r_nmR (fun v1 ev1 => ?_)
  refine r_iln1 (p := 5) f142_4 rfl ?_
  refine le2_gd (fun h2 => ?_)
  refine le2_gd (fun h3 => ?_)
  refine r_baload (p := 6) f142_5 rfl (dj2 (fun x => x % 1000 = 103 ∨ x % 1000 = 105) h2 (by decide) (by decide)) h3 rfl ?_
  refine r_sipush (p := 9) f142_6 rfl (pinD rfl rfl) ?_
  refine r_iand (p := 10) f142_9 rfl ?_
  refine r_nmI (fun v2 ev2 => ?_)
  refine r_isn2 (p := 11) f142_10 rfl rfl ?_
  refine r_iln2 (p := 12) f142_11 rfl ?_
  refine r_sipush (p := 15) f142_12 rfl (pinD rfl rfl) ?_
  refine r_icge (t := 22) (p := 18) f142_15 (by decide) rfl rfl ?_ ?_
  · refine r_iconst (p := 19) f142_18 rfl (pinD rfl rfl) ?_
    refine r_goto (p := 34) f142_19 (by decide) rfl ?_
    exact r_iret1 f142_34
  · refine r_iln2 (p := 23) f142_22 rfl ?_
    refine r_sipush (p := 26) f142_23 rfl (pinD rfl rfl) ?_
    refine r_icge (t := 33) (p := 29) f142_26 (by decide) rfl rfl ?_ ?_
    · refine r_iconst (p := 30) f142_29 rfl (pinD rfl rfl) ?_
      refine r_goto (p := 34) f142_30 (by decide) rfl ?_
      exact r_iret1 f142_34
    · refine r_iconst (p := 34) f142_33 rfl (pinD rfl rfl) ?_
      exact r_iret1 f142_34
/-! 143 PathStore$Row.put ([BII)V -/
def w143_1 : List UInt8 := [29, 96, 181, 0, 15, 177]
abbrev u143_1 : List UInt8 := w143_1 ++ []
def w143_0 : List UInt8 := [42, 29, 182, 0, 31, 43, 28, 42, 180, 0, 9, 42, 180, 0, 15, 29, 184, 0, 25, 42, 89, 180, 0, 15]
abbrev u143_0 : List UInt8 := w143_0 ++ u143_1
theorem s143_0 : (prog_21_method_4_code).data.toList.drop 0 = u143_0 := by decide +kernel
theorem s143_1 : (prog_21_method_4_code).data.toList.drop 24 = u143_1 := dk_seg s143_0 24 rfl rfl
theorem Fm143 {pc len : Nat} {i : Instr} (h : decode (prog_21_method_4_code) pc = .ok (i, len)) (hl : len = ilen i len) : ft 143 pc = some (8, 0, 0, i, len) := ft_mk rfl h hl
theorem f143_0 : ft 143 0 = some (8, 0, 0, .aload_n 0, 1) := Fm143 (dk_42 (dk_at s143_0 0 rfl rfl)) rfl
theorem f143_1 : ft 143 1 = some (8, 0, 0, .iload_n 3, 1) := Fm143 (dk_29 (dk_at s143_0 1 rfl rfl)) rfl
theorem f143_2 : ft 143 2 = some (8, 0, 0, .invokevirtual 31, 3) := Fm143 (dk_182 0 31 (dk_at s143_0 2 rfl rfl)) rfl
theorem f143_5 : ft 143 5 = some (8, 0, 0, .aload_n 1, 1) := Fm143 (dk_43 (dk_at s143_0 5 rfl rfl)) rfl
theorem f143_6 : ft 143 6 = some (8, 0, 0, .iload_n 2, 1) := Fm143 (dk_28 (dk_at s143_0 6 rfl rfl)) rfl
theorem f143_7 : ft 143 7 = some (8, 0, 0, .aload_n 0, 1) := Fm143 (dk_42 (dk_at s143_0 7 rfl rfl)) rfl
theorem f143_8 : ft 143 8 = some (8, 0, 0, .getfield 9, 3) := Fm143 (dk_180 0 9 (dk_at s143_0 8 rfl rfl)) rfl
theorem f143_11 : ft 143 11 = some (8, 0, 0, .aload_n 0, 1) := Fm143 (dk_42 (dk_at s143_0 11 rfl rfl)) rfl
theorem f143_12 : ft 143 12 = some (8, 0, 0, .getfield 15, 3) := Fm143 (dk_180 0 15 (dk_at s143_0 12 rfl rfl)) rfl
theorem f143_15 : ft 143 15 = some (8, 0, 0, .iload_n 3, 1) := Fm143 (dk_29 (dk_at s143_0 15 rfl rfl)) rfl
theorem f143_16 : ft 143 16 = some (8, 0, 0, .invokestatic 25, 3) := Fm143 (dk_184 0 25 (dk_at s143_0 16 rfl rfl)) rfl
theorem f143_19 : ft 143 19 = some (8, 0, 0, .aload_n 0, 1) := Fm143 (dk_42 (dk_at s143_0 19 rfl rfl)) rfl
theorem f143_20 : ft 143 20 = some (8, 0, 0, .dup, 1) := Fm143 (dk_89 (dk_at s143_0 20 rfl rfl)) rfl
theorem f143_21 : ft 143 21 = some (8, 0, 0, .getfield 15, 3) := Fm143 (dk_180 0 15 (dk_at s143_0 21 rfl rfl)) rfl
theorem f143_24 : ft 143 24 = some (8, 0, 0, .iload_n 3, 1) := Fm143 (dk_29 (dk_at s143_1 0 rfl rfl)) rfl
theorem f143_25 : ft 143 25 = some (8, 0, 0, .iadd, 1) := Fm143 (dk_96 (dk_at s143_1 1 rfl rfl)) rfl
theorem f143_26 : ft 143 26 = some (8, 0, 0, .putfield 15, 3) := Fm143 (dk_181 0 15 (dk_at s143_1 2 rfl rfl)) rfl
theorem f143_29 : ft 143 29 = some (8, 0, 0, .return_, 1) := Fm143 (dk_177 (dk_at s143_1 5 rfl rfl)) rfl
theorem q143 {d : Nat} {m : Mem} {a0 a1 a2 a3 : Int} (hd : 0 < d) (hz : TZ m) : le2 (gd (tg m a0 = 8) <| bV (cl (d - 1) 131 [pR a0, pI a3] m) fun m1 => nm (vl m1 a0 0) fun v2 => nm (vl m1 a0 1) fun v3 => gd (tg m1 a1 = 130103 ∨ tg m1 a1 = 132103 ∨ tg m1 a1 = 153103) <| gd (tg m1 v2 = 130103 ∨ tg m1 v2 = 132103) <| gd ((0 : Int) ≤ a3 ∧ (0 : Int) ≤ a2 ∧ (0 : Int) ≤ v3 ∧ a2 + a3 ≤ ln m1 a1 ∧ v3 + a3 ≤ ln m1 v2) <| some (.inl none, (mst (mcp m1 a1 a2 v2 v3 a3) a0 1 (w32 (v3 + a3))))) (cl d 143 [pR a0, pR a1, pI a2, pI a3] m) := by
  refine q_in (n := 4) (L := [pR a0, pR a1, pI a2, pI a3]) rfl rfl rfl ?_
  refine r_aln0 (p := 1) f143_0 rfl ?_
  refine r_iln3 (p := 2) f143_1 rfl ?_
  refine le2_gd (fun h1 => ?_)
  refine r_invV (p := 5) f143_2 rfl rfl rfl (Or.inl h1) hd (Nat.le_of_ble_eq_true rfl) rfl rfl rfl (fun _ => rfl) (fun m1 c1 => ?_)
  have hz1 := z_k c1 hz
  refine r_aln1 (p := 6) f143_5 rfl ?_
  refine r_iln2 (p := 7) f143_6 rfl ?_
  refine r_aln0 (p := 8) f143_7 rfl ?_
  have h2 := k_t1 c1 hz h1 (by decide)
  refine r_gfR (f := 0) (p := 11) f143_8 rfl rfl rfl (Or.inl h2) rfl ?_
  refine r_nmR (fun v2 ev2 => ?_)
  refine r_aln0 (p := 12) f143_11 rfl ?_
  refine r_gfI (f := 1) (p := 15) f143_12 rfl rfl rfl (Or.inl h2) rfl ?_
  refine r_nmI (fun v3 ev3 => ?_)
  refine r_iln3 (p := 16) f143_15 rfl ?_
  refine le2_gd (fun h3 => ?_)
  refine le2_gd (fun h4 => ?_)
  refine le2_gd (fun h5 => ?_)
  refine r_acopy (el := 103) (p := 19) f143_16 rfl rfl h5 (dj3 (fun x => 1000 ≤ x ∧ x % 1000 = 103) h3 (by decide) (by decide) (by decide)) (dj2 (fun x => 1000 ≤ x ∧ x % 1000 = 103 ∧ Nat.testBit (eM 143) (bix x 0) = true) h4 (by decide) (by decide)) (by decide) (Nat.le_of_ble_eq_true rfl) ?_
  refine r_aln0 (p := 20) f143_19 rfl ?_
  refine r_dup (p := 21) f143_20 rfl rfl ?_
  refine r_gfI (f := 1) (p := 24) f143_21 rfl rfl rfl (Or.inl h2) (Eq.trans (sk_c (ne_oa (dj1 (fun x => x < 100) h2 (by decide)) (dj2 (fun x => ¬ x < 100) h4 (by decide) (by decide)))) ev3.symm) ?_
  refine r_iln3 (p := 25) f143_24 rfl ?_
  refine r_iadd (p := 26) f143_25 rfl ?_
  refine r_pfI (f := 1) (p := 29) f143_26 rfl rfl rfl (by decide) (by decide) (Or.inl h2) rfl ?_
  exact r_ret f143_29
/-! 144 PathStore$Row.member (ILPathStore$Row;I)I -/
def w144_3 : List UInt8 := [167, 255, 206, 2, 172]
abbrev u144_3 : List UInt8 := w144_3 ++ []
def w144_2 : List UInt8 := [21, 5, 182, 0, 47, 153, 0, 6, 21, 6, 172, 42, 42, 21, 6, 182, 0, 51, 182, 0, 44, 54, 6]
abbrev u144_2 : List UInt8 := w144_2 ++ u144_3
def w144_1 : List UInt8 := [162, 0, 49, 42, 21, 6, 182, 0, 40, 21, 5, 160, 0, 23, 42, 21, 6, 5, 96, 44, 29, 5, 96]
abbrev u144_1 : List UInt8 := w144_1 ++ u144_2
def w144_0 : List UInt8 := [42, 27, 182, 0, 44, 54, 4, 44, 29, 182, 0, 40, 54, 5, 27, 6, 96, 54, 6, 21, 6, 21, 4]
abbrev u144_0 : List UInt8 := w144_0 ++ u144_1
theorem s144_0 : (prog_21_method_16_code).data.toList.drop 0 = u144_0 := by decide +kernel
theorem s144_1 : (prog_21_method_16_code).data.toList.drop 23 = u144_1 := dk_seg s144_0 23 rfl rfl
theorem s144_2 : (prog_21_method_16_code).data.toList.drop 46 = u144_2 := dk_seg s144_1 23 rfl rfl
theorem s144_3 : (prog_21_method_16_code).data.toList.drop 69 = u144_3 := dk_seg s144_2 23 rfl rfl
theorem Fm144 {pc len : Nat} {i : Instr} (h : decode (prog_21_method_16_code) pc = .ok (i, len)) (hl : len = ilen i len) : ft 144 pc = some (8, 1, 0, i, len) := ft_mk rfl h hl
theorem f144_0 : ft 144 0 = some (8, 1, 0, .aload_n 0, 1) := Fm144 (dk_42 (dk_at s144_0 0 rfl rfl)) rfl
theorem f144_1 : ft 144 1 = some (8, 1, 0, .iload_n 1, 1) := Fm144 (dk_27 (dk_at s144_0 1 rfl rfl)) rfl
theorem f144_2 : ft 144 2 = some (8, 1, 0, .invokevirtual 44, 3) := Fm144 (dk_182 0 44 (dk_at s144_0 2 rfl rfl)) rfl
theorem f144_5 : ft 144 5 = some (8, 1, 0, .istore 4, 2) := Fm144 (dk_54 4 (dk_at s144_0 5 rfl rfl)) rfl
theorem f144_7 : ft 144 7 = some (8, 1, 0, .aload_n 2, 1) := Fm144 (dk_44 (dk_at s144_0 7 rfl rfl)) rfl
theorem f144_8 : ft 144 8 = some (8, 1, 0, .iload_n 3, 1) := Fm144 (dk_29 (dk_at s144_0 8 rfl rfl)) rfl
theorem f144_9 : ft 144 9 = some (8, 1, 0, .invokevirtual 40, 3) := Fm144 (dk_182 0 40 (dk_at s144_0 9 rfl rfl)) rfl
theorem f144_12 : ft 144 12 = some (8, 1, 0, .istore 5, 2) := Fm144 (dk_54 5 (dk_at s144_0 12 rfl rfl)) rfl
theorem f144_14 : ft 144 14 = some (8, 1, 0, .iload_n 1, 1) := Fm144 (dk_27 (dk_at s144_0 14 rfl rfl)) rfl
theorem f144_15 : ft 144 15 = some (8, 1, 0, .iconst 3, 1) := Fm144 (dk_6 (dk_at s144_0 15 rfl rfl)) rfl
theorem f144_16 : ft 144 16 = some (8, 1, 0, .iadd, 1) := Fm144 (dk_96 (dk_at s144_0 16 rfl rfl)) rfl
theorem f144_17 : ft 144 17 = some (8, 1, 0, .istore 6, 2) := Fm144 (dk_54 6 (dk_at s144_0 17 rfl rfl)) rfl
theorem f144_19 : ft 144 19 = some (8, 1, 0, .iload 6, 2) := Fm144 (dk_21 6 (dk_at s144_0 19 rfl rfl)) rfl
theorem f144_21 : ft 144 21 = some (8, 1, 0, .iload 4, 2) := Fm144 (dk_21 4 (dk_at s144_0 21 rfl rfl)) rfl
theorem f144_23 : ft 144 23 = some (8, 1, 0, .if_icmp .ge 49, 3) := Fm144 (dk_162 0 49 (dk_at s144_1 0 rfl rfl)) rfl
theorem f144_26 : ft 144 26 = some (8, 1, 0, .aload_n 0, 1) := Fm144 (dk_42 (dk_at s144_1 3 rfl rfl)) rfl
theorem f144_27 : ft 144 27 = some (8, 1, 0, .iload 6, 2) := Fm144 (dk_21 6 (dk_at s144_1 4 rfl rfl)) rfl
theorem f144_29 : ft 144 29 = some (8, 1, 0, .invokevirtual 40, 3) := Fm144 (dk_182 0 40 (dk_at s144_1 6 rfl rfl)) rfl
theorem f144_32 : ft 144 32 = some (8, 1, 0, .iload 5, 2) := Fm144 (dk_21 5 (dk_at s144_1 9 rfl rfl)) rfl
theorem f144_34 : ft 144 34 = some (8, 1, 0, .if_icmp .ne 23, 3) := Fm144 (dk_160 0 23 (dk_at s144_1 11 rfl rfl)) rfl
theorem f144_37 : ft 144 37 = some (8, 1, 0, .aload_n 0, 1) := Fm144 (dk_42 (dk_at s144_1 14 rfl rfl)) rfl
theorem f144_38 : ft 144 38 = some (8, 1, 0, .iload 6, 2) := Fm144 (dk_21 6 (dk_at s144_1 15 rfl rfl)) rfl
theorem f144_40 : ft 144 40 = some (8, 1, 0, .iconst 2, 1) := Fm144 (dk_5 (dk_at s144_1 17 rfl rfl)) rfl
theorem f144_41 : ft 144 41 = some (8, 1, 0, .iadd, 1) := Fm144 (dk_96 (dk_at s144_1 18 rfl rfl)) rfl
theorem f144_42 : ft 144 42 = some (8, 1, 0, .aload_n 2, 1) := Fm144 (dk_44 (dk_at s144_1 19 rfl rfl)) rfl
theorem f144_43 : ft 144 43 = some (8, 1, 0, .iload_n 3, 1) := Fm144 (dk_29 (dk_at s144_1 20 rfl rfl)) rfl
theorem f144_44 : ft 144 44 = some (8, 1, 0, .iconst 2, 1) := Fm144 (dk_5 (dk_at s144_1 21 rfl rfl)) rfl
theorem f144_45 : ft 144 45 = some (8, 1, 0, .iadd, 1) := Fm144 (dk_96 (dk_at s144_1 22 rfl rfl)) rfl
theorem f144_46 : ft 144 46 = some (8, 1, 0, .iload 5, 2) := Fm144 (dk_21 5 (dk_at s144_2 0 rfl rfl)) rfl
theorem f144_48 : ft 144 48 = some (8, 1, 0, .invokevirtual 47, 3) := Fm144 (dk_182 0 47 (dk_at s144_2 2 rfl rfl)) rfl
theorem f144_51 : ft 144 51 = some (8, 1, 0, .ifCond .eq 6, 3) := Fm144 (dk_153 0 6 (dk_at s144_2 5 rfl rfl)) rfl
theorem f144_54 : ft 144 54 = some (8, 1, 0, .iload 6, 2) := Fm144 (dk_21 6 (dk_at s144_2 8 rfl rfl)) rfl
theorem f144_56 : ft 144 56 = some (8, 1, 0, .ireturn, 1) := Fm144 (dk_172 (dk_at s144_2 10 rfl rfl)) rfl
theorem f144_57 : ft 144 57 = some (8, 1, 0, .aload_n 0, 1) := Fm144 (dk_42 (dk_at s144_2 11 rfl rfl)) rfl
theorem f144_58 : ft 144 58 = some (8, 1, 0, .aload_n 0, 1) := Fm144 (dk_42 (dk_at s144_2 12 rfl rfl)) rfl
theorem f144_59 : ft 144 59 = some (8, 1, 0, .iload 6, 2) := Fm144 (dk_21 6 (dk_at s144_2 13 rfl rfl)) rfl
theorem f144_61 : ft 144 61 = some (8, 1, 0, .invokevirtual 51, 3) := Fm144 (dk_182 0 51 (dk_at s144_2 15 rfl rfl)) rfl
theorem f144_64 : ft 144 64 = some (8, 1, 0, .invokevirtual 44, 3) := Fm144 (dk_182 0 44 (dk_at s144_2 18 rfl rfl)) rfl
theorem f144_67 : ft 144 67 = some (8, 1, 0, .istore 6, 2) := Fm144 (dk_54 6 (dk_at s144_2 21 rfl rfl)) rfl
theorem f144_69 : ft 144 69 = some (8, 1, 0, .goto (-50), 3) := Fm144 (dk_167 255 206 (dk_at s144_3 0 rfl rfl)) rfl
theorem f144_72 : ft 144 72 = some (8, 1, 0, .iconst (-1), 1) := Fm144 (dk_2 (dk_at s144_3 3 rfl rfl)) rfl
theorem f144_73 : ft 144 73 = some (8, 1, 0, .ireturn, 1) := Fm144 (dk_172 (dk_at s144_3 4 rfl rfl)) rfl
theorem q144 {d : Nat} {m : Mem} {a0 a1 a2 a3 : Int} (hd : 0 < d) (hz : TZ m) : le2 (gd (tg m a0 = 8) <| bI (cl (d - 1) 137 [pR a0, pI a1] m) fun v1 m1 => gd (tg m1 a2 = 8) <| bI (cl (d - 1) 134 [pR a2, pI a3] m1) fun v2 m2 => rn d 144 19 [pR a0, pI a1, pR a2, pI a3, pI v1, pI v2, pI (w32 (a1 + 3))] [] m2) (cl d 144 [pR a0, pI a1, pR a2, pI a3] m) := by
  refine q_in (n := 7) (L := [pR a0, pI a1, pR a2, pI a3, pU, pU, pU]) rfl rfl rfl ?_
  refine r_aln0 (p := 1) f144_0 rfl ?_
  refine r_iln1 (p := 2) f144_1 rfl ?_
  refine le2_gd (fun h1 => ?_)
  refine r_invI (p := 5) f144_2 rfl rfl rfl (Or.inl h1) hd (Nat.le_of_ble_eq_true rfl) rfl rfl rfl (fun _ => rfl) (fun v1 m1 c1 => ?_)
  have hz1 := z_k c1 hz
  refine r_isw4 (p := 7) f144_5 rfl rfl ?_
  refine r_aln2 (p := 8) f144_7 rfl ?_
  refine r_iln3 (p := 9) f144_8 rfl ?_
  refine le2_gd (fun h2 => ?_)
  refine r_invI (p := 12) f144_9 rfl rfl rfl (Or.inl h2) hd (Nat.le_of_ble_eq_true rfl) rfl rfl rfl (fun _ => rfl) (fun v2 m2 c2 => ?_)
  have hz2 := z_k c2 hz1
  refine r_isw5 (p := 14) f144_12 rfl rfl ?_
  refine r_iln1 (p := 15) f144_14 rfl ?_
  refine r_iconst (p := 16) f144_15 rfl (pinD rfl rfl) ?_
  refine r_iadd (p := 17) f144_16 rfl ?_
  refine r_isw6 (p := 19) f144_17 rfl rfl ?_
  exact le2_refl _
theorem q144_19 {d : Nat} {m : Mem} {a0 a1 a2 a3 a4 a5 a6 : Int} (hd : 0 < d) (hz : TZ m) : le2 (if a6 < a4 then (gd (tg m a0 = 8) <| bI (cl (d - 1) 134 [pR a0, pI a6] m) fun v1 m1 => if v1 = a5 then (bI (cl (d - 1) 135 [pR a0, pI (w32 (a6 + 2)), pR a2, pI (w32 (a3 + 2)), pI a5] m1) fun v2 m2 => if v2 = 0 then (rn d 144 57 [pR a0, pI a1, pR a2, pI a3, pI a4, pI a5, pI a6] [] m2) else some (.inl (some (pI a6)), m2)) else rn d 144 57 [pR a0, pI a1, pR a2, pI a3, pI a4, pI a5, pI a6] [] m1) else some (.inl (some (pI (-1))), m)) (rn d 144 19 [pR a0, pI a1, pR a2, pI a3, pI a4, pI a5, pI a6] [] m) := by
  refine r_ilw6 (p := 21) f144_19 rfl ?_
  refine r_ilw4 (p := 23) f144_21 rfl ?_
  refine r_icge (t := 72) (p := 26) f144_23 (by decide) rfl rfl ?_ ?_
  · refine r_aln0 (p := 27) f144_26 rfl ?_
    refine r_ilw6 (p := 29) f144_27 rfl ?_
    refine le2_gd (fun h1 => ?_)
    refine r_invI (p := 32) f144_29 rfl rfl rfl (Or.inl h1) hd (Nat.le_of_ble_eq_true rfl) rfl rfl rfl (fun _ => rfl) (fun v1 m1 c1 => ?_)
    have hz1 := z_k c1 hz
    refine r_ilw5 (p := 34) f144_32 rfl ?_
    refine r_icne (t := 57) (p := 37) f144_34 (by decide) rfl rfl ?_ ?_
    · refine r_aln0 (p := 38) f144_37 rfl ?_
      refine r_ilw6 (p := 40) f144_38 rfl ?_
      refine r_iconst (p := 41) f144_40 rfl (pinD rfl rfl) ?_
      refine r_iadd (p := 42) f144_41 rfl ?_
      refine r_aln2 (p := 43) f144_42 rfl ?_
      refine r_iln3 (p := 44) f144_43 rfl ?_
      refine r_iconst (p := 45) f144_44 rfl (pinD rfl rfl) ?_
      refine r_iadd (p := 46) f144_45 rfl ?_
      refine r_ilw5 (p := 48) f144_46 rfl ?_
      have h2 := k_t1 c1 hz h1 (by decide)
      refine r_invI (p := 51) f144_48 rfl rfl rfl (Or.inl h2) hd (Nat.le_of_ble_eq_true rfl) rfl rfl rfl (fun _ => rfl) (fun v2 m2 c2 => ?_)
      have hz2 := z_k c2 hz1
      refine r_ifeq (t := 57) (p := 54) f144_51 (by decide) rfl rfl ?_ ?_
      · exact le2_refl _
      · refine r_ilw6 (p := 56) f144_54 rfl ?_
        exact r_iret1 f144_56
    · exact le2_refl _
  · refine r_iconst (p := 73) f144_72 rfl (pinD rfl rfl) ?_
    exact r_iret1 f144_73
theorem q144_57 {d : Nat} {m : Mem} {a0 a1 a2 a3 a4 a5 a6 : Int} (hd : 0 < d) (hz : TZ m) : le2 (gd (tg m a0 = 8) <| bI (cl (d - 1) 136 [pR a0, pI a6] m) fun v1 m1 => bI (cl (d - 1) 137 [pR a0, pI v1] m1) fun v2 m2 => rn d 144 19 [pR a0, pI a1, pR a2, pI a3, pI a4, pI a5, pI v2] [] m2) (rn d 144 57 [pR a0, pI a1, pR a2, pI a3, pI a4, pI a5, pI a6] [] m) := by
  refine r_aln0 (p := 58) f144_57 rfl ?_
  refine r_aln0 (p := 59) f144_58 rfl ?_
  refine r_ilw6 (p := 61) f144_59 rfl ?_
  refine le2_gd (fun h1 => ?_)
  refine r_invI (p := 64) f144_61 rfl rfl rfl (Or.inl h1) hd (Nat.le_of_ble_eq_true rfl) rfl rfl rfl (fun _ => rfl) (fun v1 m1 c1 => ?_)
  have hz1 := z_k c1 hz
  have h2 := k_t1 c1 hz h1 (by decide)
  refine r_invI (p := 67) f144_64 rfl rfl rfl (Or.inl h2) hd (Nat.le_of_ble_eq_true rfl) rfl rfl rfl (fun _ => rfl) (fun v2 m2 c2 => ?_)
  have hz2 := z_k c2 hz1
  refine r_isw6 (p := 69) f144_67 rfl rfl ?_
  refine r_goto (p := 19) f144_69 (by decide) rfl ?_
  exact le2_refl _
/-! 145 PathStore$Row.count (I)I -/
def w145_2 : List UInt8 := [132, 3, 1, 167, 255, 219, 29, 172]
abbrev u145_2 : List UInt8 := w145_2 ++ []
def w145_1 : List UInt8 := [27, 51, 16, 6, 160, 0, 12, 42, 21, 4, 182, 0, 51, 167, 0, 5, 21, 4, 182, 0, 44, 54, 4]
abbrev u145_1 : List UInt8 := w145_1 ++ u145_2
def w145_0 : List UInt8 := [42, 27, 182, 0, 44, 61, 3, 62, 27, 6, 96, 54, 4, 21, 4, 28, 162, 0, 37, 42, 42, 180, 0, 9]
abbrev u145_0 : List UInt8 := w145_0 ++ u145_1
theorem s145_0 : (prog_21_method_17_code).data.toList.drop 0 = u145_0 := by decide +kernel
theorem s145_1 : (prog_21_method_17_code).data.toList.drop 24 = u145_1 := dk_seg s145_0 24 rfl rfl
theorem s145_2 : (prog_21_method_17_code).data.toList.drop 47 = u145_2 := dk_seg s145_1 23 rfl rfl
theorem Fm145 {pc len : Nat} {i : Instr} (h : decode (prog_21_method_17_code) pc = .ok (i, len)) (hl : len = ilen i len) : ft 145 pc = some (8, 1, 0, i, len) := ft_mk rfl h hl
theorem f145_0 : ft 145 0 = some (8, 1, 0, .aload_n 0, 1) := Fm145 (dk_42 (dk_at s145_0 0 rfl rfl)) rfl
theorem f145_1 : ft 145 1 = some (8, 1, 0, .iload_n 1, 1) := Fm145 (dk_27 (dk_at s145_0 1 rfl rfl)) rfl
theorem f145_2 : ft 145 2 = some (8, 1, 0, .invokevirtual 44, 3) := Fm145 (dk_182 0 44 (dk_at s145_0 2 rfl rfl)) rfl
theorem f145_5 : ft 145 5 = some (8, 1, 0, .istore_n 2, 1) := Fm145 (dk_61 (dk_at s145_0 5 rfl rfl)) rfl
theorem f145_6 : ft 145 6 = some (8, 1, 0, .iconst 0, 1) := Fm145 (dk_3 (dk_at s145_0 6 rfl rfl)) rfl
theorem f145_7 : ft 145 7 = some (8, 1, 0, .istore_n 3, 1) := Fm145 (dk_62 (dk_at s145_0 7 rfl rfl)) rfl
theorem f145_8 : ft 145 8 = some (8, 1, 0, .iload_n 1, 1) := Fm145 (dk_27 (dk_at s145_0 8 rfl rfl)) rfl
theorem f145_9 : ft 145 9 = some (8, 1, 0, .iconst 3, 1) := Fm145 (dk_6 (dk_at s145_0 9 rfl rfl)) rfl
theorem f145_10 : ft 145 10 = some (8, 1, 0, .iadd, 1) := Fm145 (dk_96 (dk_at s145_0 10 rfl rfl)) rfl
theorem f145_11 : ft 145 11 = some (8, 1, 0, .istore 4, 2) := Fm145 (dk_54 4 (dk_at s145_0 11 rfl rfl)) rfl
theorem f145_13 : ft 145 13 = some (8, 1, 0, .iload 4, 2) := Fm145 (dk_21 4 (dk_at s145_0 13 rfl rfl)) rfl
theorem f145_15 : ft 145 15 = some (8, 1, 0, .iload_n 2, 1) := Fm145 (dk_28 (dk_at s145_0 15 rfl rfl)) rfl
theorem f145_16 : ft 145 16 = some (8, 1, 0, .if_icmp .ge 37, 3) := Fm145 (dk_162 0 37 (dk_at s145_0 16 rfl rfl)) rfl
theorem f145_19 : ft 145 19 = some (8, 1, 0, .aload_n 0, 1) := Fm145 (dk_42 (dk_at s145_0 19 rfl rfl)) rfl
theorem f145_20 : ft 145 20 = some (8, 1, 0, .aload_n 0, 1) := Fm145 (dk_42 (dk_at s145_0 20 rfl rfl)) rfl
theorem f145_21 : ft 145 21 = some (8, 1, 0, .getfield 9, 3) := Fm145 (dk_180 0 9 (dk_at s145_0 21 rfl rfl)) rfl
theorem f145_24 : ft 145 24 = some (8, 1, 0, .iload_n 1, 1) := Fm145 (dk_27 (dk_at s145_1 0 rfl rfl)) rfl
theorem f145_25 : ft 145 25 = some (8, 1, 0, .baload, 1) := Fm145 (dk_51 (dk_at s145_1 1 rfl rfl)) rfl
theorem f145_26 : ft 145 26 = some (8, 1, 0, .bipush 6, 2) := Fm145 (dk_16 6 (dk_at s145_1 2 rfl rfl)) rfl
theorem f145_28 : ft 145 28 = some (8, 1, 0, .if_icmp .ne 12, 3) := Fm145 (dk_160 0 12 (dk_at s145_1 4 rfl rfl)) rfl
theorem f145_31 : ft 145 31 = some (8, 1, 0, .aload_n 0, 1) := Fm145 (dk_42 (dk_at s145_1 7 rfl rfl)) rfl
theorem f145_32 : ft 145 32 = some (8, 1, 0, .iload 4, 2) := Fm145 (dk_21 4 (dk_at s145_1 8 rfl rfl)) rfl
theorem f145_34 : ft 145 34 = some (8, 1, 0, .invokevirtual 51, 3) := Fm145 (dk_182 0 51 (dk_at s145_1 10 rfl rfl)) rfl
theorem f145_37 : ft 145 37 = some (8, 1, 0, .goto 5, 3) := Fm145 (dk_167 0 5 (dk_at s145_1 13 rfl rfl)) rfl
theorem f145_40 : ft 145 40 = some (8, 1, 0, .iload 4, 2) := Fm145 (dk_21 4 (dk_at s145_1 16 rfl rfl)) rfl
theorem f145_42 : ft 145 42 = some (8, 1, 0, .invokevirtual 44, 3) := Fm145 (dk_182 0 44 (dk_at s145_1 18 rfl rfl)) rfl
theorem f145_45 : ft 145 45 = some (8, 1, 0, .istore 4, 2) := Fm145 (dk_54 4 (dk_at s145_1 21 rfl rfl)) rfl
theorem f145_47 : ft 145 47 = some (8, 1, 0, .iinc 3 1, 3) := Fm145 (dk_132 3 1 (dk_at s145_2 0 rfl rfl)) rfl
theorem f145_50 : ft 145 50 = some (8, 1, 0, .goto (-37), 3) := Fm145 (dk_167 255 219 (dk_at s145_2 3 rfl rfl)) rfl
theorem f145_53 : ft 145 53 = some (8, 1, 0, .iload_n 3, 1) := Fm145 (dk_29 (dk_at s145_2 6 rfl rfl)) rfl
theorem f145_54 : ft 145 54 = some (8, 1, 0, .ireturn, 1) := Fm145 (dk_172 (dk_at s145_2 7 rfl rfl)) rfl
theorem q145 {d : Nat} {m : Mem} {a0 a1 : Int} (hd : 0 < d) (hz : TZ m) : le2 (gd (tg m a0 = 8) <| bI (cl (d - 1) 137 [pR a0, pI a1] m) fun v1 m1 => rn d 145 13 [pR a0, pI a1, pI v1, pI 0, pI (w32 (a1 + 3))] [] m1) (cl d 145 [pR a0, pI a1] m) := by
  refine q_in (n := 5) (L := [pR a0, pI a1, pU, pU, pU]) rfl rfl rfl ?_
  refine r_aln0 (p := 1) f145_0 rfl ?_
  refine r_iln1 (p := 2) f145_1 rfl ?_
  refine le2_gd (fun h1 => ?_)
  refine r_invI (p := 5) f145_2 rfl rfl rfl (Or.inl h1) hd (Nat.le_of_ble_eq_true rfl) rfl rfl rfl (fun _ => rfl) (fun v1 m1 c1 => ?_)
  have hz1 := z_k c1 hz
  refine r_isn2 (p := 6) f145_5 rfl rfl ?_
  refine r_iconst (p := 7) f145_6 rfl (pinD rfl rfl) ?_
  refine r_isn3 (p := 8) f145_7 rfl rfl ?_
  refine r_iln1 (p := 9) f145_8 rfl ?_
  refine r_iconst (p := 10) f145_9 rfl (pinD rfl rfl) ?_
  refine r_iadd (p := 11) f145_10 rfl ?_
  refine r_isw4 (p := 13) f145_11 rfl rfl ?_
  exact le2_refl _
theorem q145_13 {d : Nat} {m : Mem} {a0 a1 a2 a3 a4 : Int} (hd : 0 < d) (hz : TZ m) : le2 (if a4 < a2 then (gd (tg m a0 = 8) <| nm (vl m a0 0) fun v4 => gd (tg m v4 = 130103 ∨ tg m v4 = 132103) <| gd ((0 : Int) ≤ a1 ∧ a1 < ln m v4) <| if (vl m v4 a1) = 6 then (bI (cl (d - 1) 136 [pR a0, pI a4] m) fun v2 m2 => bI (cl (d - 1) 137 [pR a0, pI v2] m2) fun v3 m3 => rn d 145 13 [pR a0, pI a1, pI a2, pI (w32 (a3 + 1)), pI v3] [] m3) else bI (cl (d - 1) 137 [pR a0, pI a4] m) fun v1 m1 => rn d 145 13 [pR a0, pI a1, pI a2, pI (w32 (a3 + 1)), pI v1] [] m1) else some (.inl (some (pI a3)), m)) (rn d 145 13 [pR a0, pI a1, pI a2, pI a3, pI a4] [] m) := by
  refine r_ilw4 (p := 15) f145_13 rfl ?_
  refine r_iln2 (p := 16) f145_15 rfl ?_
  refine r_icge (t := 53) (p := 19) f145_16 (by decide) rfl rfl ?_ ?_
  · refine r_aln0 (p := 20) f145_19 rfl ?_
    refine r_aln0 (p := 21) f145_20 rfl ?_
    refine le2_gd (fun h1 => ?_)
    refine r_gfR (f := 0) (p := 24) f145_21 rfl rfl rfl (Or.inl h1) rfl ?_
    refine r_nmR (fun v4 ev4 => ?_)
    refine r_iln1 (p := 25) f145_24 rfl ?_
    refine le2_gd (fun h2 => ?_)
    refine le2_gd (fun h3 => ?_)
    refine r_baload (p := 26) f145_25 rfl (dj2 (fun x => x % 1000 = 103 ∨ x % 1000 = 105) h2 (by decide) (by decide)) h3 rfl ?_
    refine r_bipush (p := 28) f145_26 rfl (pinD rfl rfl) ?_
    refine r_icne (t := 40) (p := 31) f145_28 (by decide) rfl rfl ?_ ?_
    · refine r_aln0 (p := 32) f145_31 rfl ?_
      refine r_ilw4 (p := 34) f145_32 rfl ?_
      refine r_invI (p := 37) f145_34 rfl rfl rfl (Or.inl h1) hd (Nat.le_of_ble_eq_true rfl) rfl rfl rfl (fun _ => rfl) (fun v2 m2 c2 => ?_)
      have hz2 := z_k c2 hz
      refine r_goto (p := 42) f145_37 (by decide) rfl ?_
      have h4 := k_t1 c2 hz h1 (by decide)
      refine r_invI (p := 45) f145_42 rfl rfl rfl (Or.inl h4) hd (Nat.le_of_ble_eq_true rfl) rfl rfl rfl (fun _ => rfl) (fun v3 m3 c3 => ?_)
      have hz3 := z_k c3 hz2
      refine r_isw4 (p := 47) f145_45 rfl rfl ?_
      refine r_iinc3 (p := 50) f145_47 rfl rfl ?_
      refine r_goto (p := 13) f145_50 (by decide) rfl ?_
      exact le2_refl _
    · refine r_ilw4 (p := 42) f145_40 rfl ?_
      refine r_invI (p := 45) f145_42 rfl rfl rfl (Or.inl h1) hd (Nat.le_of_ble_eq_true rfl) rfl rfl rfl (fun _ => rfl) (fun v1 m1 c1 => ?_)
      have hz1 := z_k c1 hz
      refine r_isw4 (p := 47) f145_45 rfl rfl ?_
      refine r_iinc3 (p := 50) f145_47 rfl rfl ?_
      refine r_goto (p := 13) f145_50 (by decide) rfl ?_
      exact le2_refl _
  · refine r_iln3 (p := 54) f145_53 rfl ?_
    exact r_iret1 f145_54
/-! 146 PathStore$Row.element (IJ)I -/
def w146_2 : List UInt8 := [182, 0, 44, 54, 7, 167, 255, 218, 2, 172]
abbrev u146_2 : List UInt8 := w146_2 ++ []
def w146_1 : List UInt8 := [9, 148, 155, 0, 30, 22, 5, 9, 148, 154, 0, 6, 21, 7, 172, 22, 5, 10, 101, 55, 5, 42, 21, 7]
abbrev u146_1 : List UInt8 := w146_1 ++ u146_2
def w146_0 : List UInt8 := [42, 27, 182, 0, 44, 54, 4, 32, 55, 5, 27, 6, 96, 54, 7, 21, 7, 21, 4, 162, 0, 37, 22, 5]
abbrev u146_0 : List UInt8 := w146_0 ++ u146_1
theorem s146_0 : (prog_21_method_18_code).data.toList.drop 0 = u146_0 := by decide +kernel
theorem s146_1 : (prog_21_method_18_code).data.toList.drop 24 = u146_1 := dk_seg s146_0 24 rfl rfl
theorem s146_2 : (prog_21_method_18_code).data.toList.drop 48 = u146_2 := dk_seg s146_1 24 rfl rfl
theorem Fm146 {pc len : Nat} {i : Instr} (h : decode (prog_21_method_18_code) pc = .ok (i, len)) (hl : len = ilen i len) : ft 146 pc = some (8, 1, 0, i, len) := ft_mk rfl h hl
theorem f146_0 : ft 146 0 = some (8, 1, 0, .aload_n 0, 1) := Fm146 (dk_42 (dk_at s146_0 0 rfl rfl)) rfl
theorem f146_1 : ft 146 1 = some (8, 1, 0, .iload_n 1, 1) := Fm146 (dk_27 (dk_at s146_0 1 rfl rfl)) rfl
theorem f146_2 : ft 146 2 = some (8, 1, 0, .invokevirtual 44, 3) := Fm146 (dk_182 0 44 (dk_at s146_0 2 rfl rfl)) rfl
theorem f146_5 : ft 146 5 = some (8, 1, 0, .istore 4, 2) := Fm146 (dk_54 4 (dk_at s146_0 5 rfl rfl)) rfl
theorem f146_7 : ft 146 7 = some (8, 1, 0, .lload_n 2, 1) := Fm146 (dk_32 (dk_at s146_0 7 rfl rfl)) rfl
theorem f146_8 : ft 146 8 = some (8, 1, 0, .lstore 5, 2) := Fm146 (dk_55 5 (dk_at s146_0 8 rfl rfl)) rfl
theorem f146_10 : ft 146 10 = some (8, 1, 0, .iload_n 1, 1) := Fm146 (dk_27 (dk_at s146_0 10 rfl rfl)) rfl
theorem f146_11 : ft 146 11 = some (8, 1, 0, .iconst 3, 1) := Fm146 (dk_6 (dk_at s146_0 11 rfl rfl)) rfl
theorem f146_12 : ft 146 12 = some (8, 1, 0, .iadd, 1) := Fm146 (dk_96 (dk_at s146_0 12 rfl rfl)) rfl
theorem f146_13 : ft 146 13 = some (8, 1, 0, .istore 7, 2) := Fm146 (dk_54 7 (dk_at s146_0 13 rfl rfl)) rfl
theorem f146_15 : ft 146 15 = some (8, 1, 0, .iload 7, 2) := Fm146 (dk_21 7 (dk_at s146_0 15 rfl rfl)) rfl
theorem f146_17 : ft 146 17 = some (8, 1, 0, .iload 4, 2) := Fm146 (dk_21 4 (dk_at s146_0 17 rfl rfl)) rfl
theorem f146_19 : ft 146 19 = some (8, 1, 0, .if_icmp .ge 37, 3) := Fm146 (dk_162 0 37 (dk_at s146_0 19 rfl rfl)) rfl
theorem f146_22 : ft 146 22 = some (8, 1, 0, .lload 5, 2) := Fm146 (dk_22 5 (dk_at s146_0 22 rfl rfl)) rfl
theorem f146_24 : ft 146 24 = some (8, 1, 0, .lconst 0, 1) := Fm146 (dk_9 (dk_at s146_1 0 rfl rfl)) rfl
theorem f146_25 : ft 146 25 = some (8, 1, 0, .lcmp, 1) := Fm146 (dk_148 (dk_at s146_1 1 rfl rfl)) rfl
theorem f146_26 : ft 146 26 = some (8, 1, 0, .ifCond .lt 30, 3) := Fm146 (dk_155 0 30 (dk_at s146_1 2 rfl rfl)) rfl
theorem f146_29 : ft 146 29 = some (8, 1, 0, .lload 5, 2) := Fm146 (dk_22 5 (dk_at s146_1 5 rfl rfl)) rfl
theorem f146_31 : ft 146 31 = some (8, 1, 0, .lconst 0, 1) := Fm146 (dk_9 (dk_at s146_1 7 rfl rfl)) rfl
theorem f146_32 : ft 146 32 = some (8, 1, 0, .lcmp, 1) := Fm146 (dk_148 (dk_at s146_1 8 rfl rfl)) rfl
theorem f146_33 : ft 146 33 = some (8, 1, 0, .ifCond .ne 6, 3) := Fm146 (dk_154 0 6 (dk_at s146_1 9 rfl rfl)) rfl
theorem f146_36 : ft 146 36 = some (8, 1, 0, .iload 7, 2) := Fm146 (dk_21 7 (dk_at s146_1 12 rfl rfl)) rfl
theorem f146_38 : ft 146 38 = some (8, 1, 0, .ireturn, 1) := Fm146 (dk_172 (dk_at s146_1 14 rfl rfl)) rfl
theorem f146_39 : ft 146 39 = some (8, 1, 0, .lload 5, 2) := Fm146 (dk_22 5 (dk_at s146_1 15 rfl rfl)) rfl
theorem f146_41 : ft 146 41 = some (8, 1, 0, .lconst 1, 1) := Fm146 (dk_10 (dk_at s146_1 17 rfl rfl)) rfl
theorem f146_42 : ft 146 42 = some (8, 1, 0, .lsub, 1) := Fm146 (dk_101 (dk_at s146_1 18 rfl rfl)) rfl
theorem f146_43 : ft 146 43 = some (8, 1, 0, .lstore 5, 2) := Fm146 (dk_55 5 (dk_at s146_1 19 rfl rfl)) rfl
theorem f146_45 : ft 146 45 = some (8, 1, 0, .aload_n 0, 1) := Fm146 (dk_42 (dk_at s146_1 21 rfl rfl)) rfl
theorem f146_46 : ft 146 46 = some (8, 1, 0, .iload 7, 2) := Fm146 (dk_21 7 (dk_at s146_1 22 rfl rfl)) rfl
theorem f146_48 : ft 146 48 = some (8, 1, 0, .invokevirtual 44, 3) := Fm146 (dk_182 0 44 (dk_at s146_2 0 rfl rfl)) rfl
theorem f146_51 : ft 146 51 = some (8, 1, 0, .istore 7, 2) := Fm146 (dk_54 7 (dk_at s146_2 3 rfl rfl)) rfl
theorem f146_53 : ft 146 53 = some (8, 1, 0, .goto (-38), 3) := Fm146 (dk_167 255 218 (dk_at s146_2 5 rfl rfl)) rfl
theorem f146_56 : ft 146 56 = some (8, 1, 0, .iconst (-1), 1) := Fm146 (dk_2 (dk_at s146_2 8 rfl rfl)) rfl
theorem f146_57 : ft 146 57 = some (8, 1, 0, .ireturn, 1) := Fm146 (dk_172 (dk_at s146_2 9 rfl rfl)) rfl
theorem q146 {d : Nat} {m : Mem} {a0 a1 a2 : Int} (hd : 0 < d) (hz : TZ m) : le2 (gd (tg m a0 = 8) <| bI (cl (d - 1) 137 [pR a0, pI a1] m) fun v1 m1 => rn d 146 15 [pR a0, pI a1, pL a2, pU, pI v1, pL a2, pU, pI (w32 (a1 + 3))] [] m1) (cl d 146 [pR a0, pI a1, pL a2] m) := by
  refine q_in (n := 8) (L := [pR a0, pI a1, pL a2, pU, pU, pU, pU, pU]) rfl rfl rfl ?_
  refine r_aln0 (p := 1) f146_0 rfl ?_
  refine r_iln1 (p := 2) f146_1 rfl ?_
  refine le2_gd (fun h1 => ?_)
  refine r_invI (p := 5) f146_2 rfl rfl rfl (Or.inl h1) hd (Nat.le_of_ble_eq_true rfl) rfl rfl rfl (fun _ => rfl) (fun v1 m1 c1 => ?_)
  have hz1 := z_k c1 hz
  refine r_isw4 (p := 7) f146_5 rfl rfl ?_
  refine r_lln2 (p := 8) f146_7 rfl ?_
  refine r_lsw5 (p := 10) f146_8 rfl rfl ?_
  refine r_iln1 (p := 11) f146_10 rfl ?_
  refine r_iconst (p := 12) f146_11 rfl (pinD rfl rfl) ?_
  refine r_iadd (p := 13) f146_12 rfl ?_
  refine r_isw7 (p := 15) f146_13 rfl rfl ?_
  exact le2_refl _
theorem q146_15 {d : Nat} {m : Mem} {a0 a1 a2 a4 a5 a7 : Int} (hd : 0 < d) (hz : TZ m) : le2 (if a7 < a4 then (if a5 < 0 then (some (.inl (some (pI (-1))), m)) else if a5 = 0 then (some (.inl (some (pI a7)), m)) else gd (tg m a0 = 8) <| bI (cl (d - 1) 137 [pR a0, pI a7] m) fun v1 m1 => rn d 146 15 [pR a0, pI a1, pL a2, pU, pI a4, pL (w64 (a5 - 1)), pU, pI v1] [] m1) else some (.inl (some (pI (-1))), m)) (rn d 146 15 [pR a0, pI a1, pL a2, pU, pI a4, pL a5, pU, pI a7] [] m) := by
  refine r_ilw7 (p := 17) f146_15 rfl ?_
  refine r_ilw4 (p := 19) f146_17 rfl ?_
  refine r_icge (t := 56) (p := 22) f146_19 (by decide) rfl rfl ?_ ?_
  · refine r_llw5 (p := 24) f146_22 rfl ?_
    refine r_lconst0 (p := 25) f146_24 rfl ?_
    refine r_lclt (p1 := 26) (t := 56) (p := 29) f146_25 rfl f146_26 (by decide) rfl rfl ?_ ?_
    · refine r_iconst (p := 57) f146_56 rfl (pinD rfl rfl) ?_
      exact r_iret1 f146_57
    · refine r_llw5 (p := 31) f146_29 rfl ?_
      refine r_lconst0 (p := 32) f146_31 rfl ?_
      refine r_lcne (p1 := 33) (t := 39) (p := 36) f146_32 rfl f146_33 (by decide) rfl rfl ?_ ?_
      · refine r_ilw7 (p := 38) f146_36 rfl ?_
        exact r_iret1 f146_38
      · refine r_llw5 (p := 41) f146_39 rfl ?_
        refine r_lconst1 (p := 42) f146_41 rfl ?_
        refine r_lsub (p := 43) f146_42 rfl ?_
        refine r_lsw5 (p := 45) f146_43 rfl rfl ?_
        refine r_aln0 (p := 46) f146_45 rfl ?_
        refine r_ilw7 (p := 48) f146_46 rfl ?_
        refine le2_gd (fun h1 => ?_)
        refine r_invI (p := 51) f146_48 rfl rfl rfl (Or.inl h1) hd (Nat.le_of_ble_eq_true rfl) rfl rfl rfl (fun _ => rfl) (fun v1 m1 c1 => ?_)
        have hz1 := z_k c1 hz
        refine r_isw7 (p := 53) f146_51 rfl rfl ?_
        refine r_goto (p := 15) f146_53 (by decide) rfl ?_
        exact le2_refl _
  · refine r_iconst (p := 57) f146_56 rfl (pinD rfl rfl) ?_
    exact r_iret1 f146_57
/-! 147 PathStore$Row.same (ILPathStore$Row;I)Z -/
def w147_6 : List UInt8 := [167, 0, 4, 3, 172]
abbrev u147_6 : List UInt8 := w147_6 ++ []
def w147_5 : List UInt8 := [182, 0, 58, 44, 29, 182, 0, 58, 160, 0, 17, 42, 27, 44, 29, 182, 0, 61, 153, 0, 7, 4]
abbrev u147_5 : List UInt8 := w147_5 ++ u147_6
def w147_4 : List UInt8 := [29, 6, 96, 42, 27, 4, 96, 182, 0, 40, 182, 0, 47, 153, 0, 7, 4, 167, 0, 4, 3, 172, 42, 27]
abbrev u147_4 : List UInt8 := w147_4 ++ u147_5
def w147_3 : List UInt8 := [3, 172, 42, 27, 4, 96, 182, 0, 40, 44, 29, 4, 96, 182, 0, 40, 160, 0, 28, 42, 27, 6, 96, 44]
abbrev u147_3 : List UInt8 := w147_3 ++ u147_4
def w147_2 : List UInt8 := [4, 172, 42, 27, 4, 96, 182, 0, 54, 44, 29, 4, 96, 182, 0, 54, 148, 154, 0, 7, 4, 167, 0, 4]
abbrev u147_2 : List UInt8 := w147_2 ++ u147_3
def w147_1 : List UInt8 := [170, 0, 0, 0, 103, 0, 0, 0, 0, 0, 0, 0, 4, 0, 0, 0, 33, 0, 0, 0, 33, 0, 0, 0, 33, 0, 0, 0, 35, 0, 0, 0, 59]
abbrev u147_1 : List UInt8 := w147_1 ++ u147_2
def w147_0 : List UInt8 := [42, 180, 0, 9, 27, 51, 44, 180, 0, 9, 29, 51, 159, 0, 5, 3, 172, 42, 180, 0, 9, 27, 51]
abbrev u147_0 : List UInt8 := w147_0 ++ u147_1
theorem s147_0 : (prog_21_method_21_code).data.toList.drop 0 = u147_0 := by decide +kernel
theorem s147_1 : (prog_21_method_21_code).data.toList.drop 23 = u147_1 := dk_seg s147_0 23 rfl rfl
theorem s147_2 : (prog_21_method_21_code).data.toList.drop 56 = u147_2 := dk_seg s147_1 33 rfl rfl
theorem s147_3 : (prog_21_method_21_code).data.toList.drop 80 = u147_3 := dk_seg s147_2 24 rfl rfl
theorem s147_4 : (prog_21_method_21_code).data.toList.drop 104 = u147_4 := dk_seg s147_3 24 rfl rfl
theorem s147_5 : (prog_21_method_21_code).data.toList.drop 128 = u147_5 := dk_seg s147_4 24 rfl rfl
theorem s147_6 : (prog_21_method_21_code).data.toList.drop 150 = u147_6 := dk_seg s147_5 22 rfl rfl
theorem Fm147 {pc len : Nat} {i : Instr} (h : decode (prog_21_method_21_code) pc = .ok (i, len)) (hl : len = ilen i len) : ft 147 pc = some (8, 4, 0, i, len) := ft_mk rfl h hl
theorem f147_0 : ft 147 0 = some (8, 4, 0, .aload_n 0, 1) := Fm147 (dk_42 (dk_at s147_0 0 rfl rfl)) rfl
theorem f147_1 : ft 147 1 = some (8, 4, 0, .getfield 9, 3) := Fm147 (dk_180 0 9 (dk_at s147_0 1 rfl rfl)) rfl
theorem f147_4 : ft 147 4 = some (8, 4, 0, .iload_n 1, 1) := Fm147 (dk_27 (dk_at s147_0 4 rfl rfl)) rfl
theorem f147_5 : ft 147 5 = some (8, 4, 0, .baload, 1) := Fm147 (dk_51 (dk_at s147_0 5 rfl rfl)) rfl
theorem f147_6 : ft 147 6 = some (8, 4, 0, .aload_n 2, 1) := Fm147 (dk_44 (dk_at s147_0 6 rfl rfl)) rfl
theorem f147_7 : ft 147 7 = some (8, 4, 0, .getfield 9, 3) := Fm147 (dk_180 0 9 (dk_at s147_0 7 rfl rfl)) rfl
theorem f147_10 : ft 147 10 = some (8, 4, 0, .iload_n 3, 1) := Fm147 (dk_29 (dk_at s147_0 10 rfl rfl)) rfl
theorem f147_11 : ft 147 11 = some (8, 4, 0, .baload, 1) := Fm147 (dk_51 (dk_at s147_0 11 rfl rfl)) rfl
theorem f147_12 : ft 147 12 = some (8, 4, 0, .if_icmp .eq 5, 3) := Fm147 (dk_159 0 5 (dk_at s147_0 12 rfl rfl)) rfl
theorem f147_15 : ft 147 15 = some (8, 4, 0, .iconst 0, 1) := Fm147 (dk_3 (dk_at s147_0 15 rfl rfl)) rfl
theorem f147_16 : ft 147 16 = some (8, 4, 0, .ireturn, 1) := Fm147 (dk_172 (dk_at s147_0 16 rfl rfl)) rfl
theorem f147_17 : ft 147 17 = some (8, 4, 0, .aload_n 0, 1) := Fm147 (dk_42 (dk_at s147_0 17 rfl rfl)) rfl
theorem f147_18 : ft 147 18 = some (8, 4, 0, .getfield 9, 3) := Fm147 (dk_180 0 9 (dk_at s147_0 18 rfl rfl)) rfl
theorem f147_21 : ft 147 21 = some (8, 4, 0, .iload_n 1, 1) := Fm147 (dk_27 (dk_at s147_0 21 rfl rfl)) rfl
theorem f147_22 : ft 147 22 = some (8, 4, 0, .baload, 1) := Fm147 (dk_51 (dk_at s147_0 22 rfl rfl)) rfl
theorem f147_23 : ft 147 23 = some (8, 4, 0, .tableswitch 103 0 4 #[33, 33, 33, 35, 59], 33) := Fm147 (by decide +kernel) rfl
theorem f147_56 : ft 147 56 = some (8, 4, 0, .iconst 1, 1) := Fm147 (dk_4 (dk_at s147_2 0 rfl rfl)) rfl
theorem f147_57 : ft 147 57 = some (8, 4, 0, .ireturn, 1) := Fm147 (dk_172 (dk_at s147_2 1 rfl rfl)) rfl
theorem f147_58 : ft 147 58 = some (8, 4, 0, .aload_n 0, 1) := Fm147 (dk_42 (dk_at s147_2 2 rfl rfl)) rfl
theorem f147_59 : ft 147 59 = some (8, 4, 0, .iload_n 1, 1) := Fm147 (dk_27 (dk_at s147_2 3 rfl rfl)) rfl
theorem f147_60 : ft 147 60 = some (8, 4, 0, .iconst 1, 1) := Fm147 (dk_4 (dk_at s147_2 4 rfl rfl)) rfl
theorem f147_61 : ft 147 61 = some (8, 4, 0, .iadd, 1) := Fm147 (dk_96 (dk_at s147_2 5 rfl rfl)) rfl
theorem f147_62 : ft 147 62 = some (8, 4, 0, .invokevirtual 54, 3) := Fm147 (dk_182 0 54 (dk_at s147_2 6 rfl rfl)) rfl
theorem f147_65 : ft 147 65 = some (8, 4, 0, .aload_n 2, 1) := Fm147 (dk_44 (dk_at s147_2 9 rfl rfl)) rfl
theorem f147_66 : ft 147 66 = some (8, 4, 0, .iload_n 3, 1) := Fm147 (dk_29 (dk_at s147_2 10 rfl rfl)) rfl
theorem f147_67 : ft 147 67 = some (8, 4, 0, .iconst 1, 1) := Fm147 (dk_4 (dk_at s147_2 11 rfl rfl)) rfl
theorem f147_68 : ft 147 68 = some (8, 4, 0, .iadd, 1) := Fm147 (dk_96 (dk_at s147_2 12 rfl rfl)) rfl
theorem f147_69 : ft 147 69 = some (8, 4, 0, .invokevirtual 54, 3) := Fm147 (dk_182 0 54 (dk_at s147_2 13 rfl rfl)) rfl
theorem f147_72 : ft 147 72 = some (8, 4, 0, .lcmp, 1) := Fm147 (dk_148 (dk_at s147_2 16 rfl rfl)) rfl
theorem f147_73 : ft 147 73 = some (8, 4, 0, .ifCond .ne 7, 3) := Fm147 (dk_154 0 7 (dk_at s147_2 17 rfl rfl)) rfl
theorem f147_76 : ft 147 76 = some (8, 4, 0, .iconst 1, 1) := Fm147 (dk_4 (dk_at s147_2 20 rfl rfl)) rfl
theorem f147_77 : ft 147 77 = some (8, 4, 0, .goto 4, 3) := Fm147 (dk_167 0 4 (dk_at s147_2 21 rfl rfl)) rfl
theorem f147_80 : ft 147 80 = some (8, 4, 0, .iconst 0, 1) := Fm147 (dk_3 (dk_at s147_3 0 rfl rfl)) rfl
theorem f147_81 : ft 147 81 = some (8, 4, 0, .ireturn, 1) := Fm147 (dk_172 (dk_at s147_3 1 rfl rfl)) rfl
theorem f147_82 : ft 147 82 = some (8, 4, 0, .aload_n 0, 1) := Fm147 (dk_42 (dk_at s147_3 2 rfl rfl)) rfl
theorem f147_83 : ft 147 83 = some (8, 4, 0, .iload_n 1, 1) := Fm147 (dk_27 (dk_at s147_3 3 rfl rfl)) rfl
theorem f147_84 : ft 147 84 = some (8, 4, 0, .iconst 1, 1) := Fm147 (dk_4 (dk_at s147_3 4 rfl rfl)) rfl
theorem f147_85 : ft 147 85 = some (8, 4, 0, .iadd, 1) := Fm147 (dk_96 (dk_at s147_3 5 rfl rfl)) rfl
theorem f147_86 : ft 147 86 = some (8, 4, 0, .invokevirtual 40, 3) := Fm147 (dk_182 0 40 (dk_at s147_3 6 rfl rfl)) rfl
theorem f147_89 : ft 147 89 = some (8, 4, 0, .aload_n 2, 1) := Fm147 (dk_44 (dk_at s147_3 9 rfl rfl)) rfl
theorem f147_90 : ft 147 90 = some (8, 4, 0, .iload_n 3, 1) := Fm147 (dk_29 (dk_at s147_3 10 rfl rfl)) rfl
theorem f147_91 : ft 147 91 = some (8, 4, 0, .iconst 1, 1) := Fm147 (dk_4 (dk_at s147_3 11 rfl rfl)) rfl
theorem f147_92 : ft 147 92 = some (8, 4, 0, .iadd, 1) := Fm147 (dk_96 (dk_at s147_3 12 rfl rfl)) rfl
theorem f147_93 : ft 147 93 = some (8, 4, 0, .invokevirtual 40, 3) := Fm147 (dk_182 0 40 (dk_at s147_3 13 rfl rfl)) rfl
theorem f147_96 : ft 147 96 = some (8, 4, 0, .if_icmp .ne 28, 3) := Fm147 (dk_160 0 28 (dk_at s147_3 16 rfl rfl)) rfl
theorem f147_99 : ft 147 99 = some (8, 4, 0, .aload_n 0, 1) := Fm147 (dk_42 (dk_at s147_3 19 rfl rfl)) rfl
theorem f147_100 : ft 147 100 = some (8, 4, 0, .iload_n 1, 1) := Fm147 (dk_27 (dk_at s147_3 20 rfl rfl)) rfl
theorem f147_101 : ft 147 101 = some (8, 4, 0, .iconst 3, 1) := Fm147 (dk_6 (dk_at s147_3 21 rfl rfl)) rfl
theorem f147_102 : ft 147 102 = some (8, 4, 0, .iadd, 1) := Fm147 (dk_96 (dk_at s147_3 22 rfl rfl)) rfl
theorem f147_103 : ft 147 103 = some (8, 4, 0, .aload_n 2, 1) := Fm147 (dk_44 (dk_at s147_3 23 rfl rfl)) rfl
theorem f147_104 : ft 147 104 = some (8, 4, 0, .iload_n 3, 1) := Fm147 (dk_29 (dk_at s147_4 0 rfl rfl)) rfl
theorem f147_105 : ft 147 105 = some (8, 4, 0, .iconst 3, 1) := Fm147 (dk_6 (dk_at s147_4 1 rfl rfl)) rfl
theorem f147_106 : ft 147 106 = some (8, 4, 0, .iadd, 1) := Fm147 (dk_96 (dk_at s147_4 2 rfl rfl)) rfl
theorem f147_107 : ft 147 107 = some (8, 4, 0, .aload_n 0, 1) := Fm147 (dk_42 (dk_at s147_4 3 rfl rfl)) rfl
theorem f147_108 : ft 147 108 = some (8, 4, 0, .iload_n 1, 1) := Fm147 (dk_27 (dk_at s147_4 4 rfl rfl)) rfl
theorem f147_109 : ft 147 109 = some (8, 4, 0, .iconst 1, 1) := Fm147 (dk_4 (dk_at s147_4 5 rfl rfl)) rfl
theorem f147_110 : ft 147 110 = some (8, 4, 0, .iadd, 1) := Fm147 (dk_96 (dk_at s147_4 6 rfl rfl)) rfl
theorem f147_111 : ft 147 111 = some (8, 4, 0, .invokevirtual 40, 3) := Fm147 (dk_182 0 40 (dk_at s147_4 7 rfl rfl)) rfl
theorem f147_114 : ft 147 114 = some (8, 4, 0, .invokevirtual 47, 3) := Fm147 (dk_182 0 47 (dk_at s147_4 10 rfl rfl)) rfl
theorem f147_117 : ft 147 117 = some (8, 4, 0, .ifCond .eq 7, 3) := Fm147 (dk_153 0 7 (dk_at s147_4 13 rfl rfl)) rfl
theorem f147_120 : ft 147 120 = some (8, 4, 0, .iconst 1, 1) := Fm147 (dk_4 (dk_at s147_4 16 rfl rfl)) rfl
theorem f147_121 : ft 147 121 = some (8, 4, 0, .goto 4, 3) := Fm147 (dk_167 0 4 (dk_at s147_4 17 rfl rfl)) rfl
theorem f147_124 : ft 147 124 = some (8, 4, 0, .iconst 0, 1) := Fm147 (dk_3 (dk_at s147_4 20 rfl rfl)) rfl
theorem f147_125 : ft 147 125 = some (8, 4, 0, .ireturn, 1) := Fm147 (dk_172 (dk_at s147_4 21 rfl rfl)) rfl
theorem f147_126 : ft 147 126 = some (8, 4, 0, .aload_n 0, 1) := Fm147 (dk_42 (dk_at s147_4 22 rfl rfl)) rfl
theorem f147_127 : ft 147 127 = some (8, 4, 0, .iload_n 1, 1) := Fm147 (dk_27 (dk_at s147_4 23 rfl rfl)) rfl
theorem f147_128 : ft 147 128 = some (8, 4, 0, .invokevirtual 58, 3) := Fm147 (dk_182 0 58 (dk_at s147_5 0 rfl rfl)) rfl
theorem f147_131 : ft 147 131 = some (8, 4, 0, .aload_n 2, 1) := Fm147 (dk_44 (dk_at s147_5 3 rfl rfl)) rfl
theorem f147_132 : ft 147 132 = some (8, 4, 0, .iload_n 3, 1) := Fm147 (dk_29 (dk_at s147_5 4 rfl rfl)) rfl
theorem f147_133 : ft 147 133 = some (8, 4, 0, .invokevirtual 58, 3) := Fm147 (dk_182 0 58 (dk_at s147_5 5 rfl rfl)) rfl
theorem f147_136 : ft 147 136 = some (8, 4, 0, .if_icmp .ne 17, 3) := Fm147 (dk_160 0 17 (dk_at s147_5 8 rfl rfl)) rfl
theorem f147_139 : ft 147 139 = some (8, 4, 0, .aload_n 0, 1) := Fm147 (dk_42 (dk_at s147_5 11 rfl rfl)) rfl
theorem f147_140 : ft 147 140 = some (8, 4, 0, .iload_n 1, 1) := Fm147 (dk_27 (dk_at s147_5 12 rfl rfl)) rfl
theorem f147_141 : ft 147 141 = some (8, 4, 0, .aload_n 2, 1) := Fm147 (dk_44 (dk_at s147_5 13 rfl rfl)) rfl
theorem f147_142 : ft 147 142 = some (8, 4, 0, .iload_n 3, 1) := Fm147 (dk_29 (dk_at s147_5 14 rfl rfl)) rfl
theorem f147_143 : ft 147 143 = some (8, 4, 0, .invokevirtual 61, 3) := Fm147 (dk_182 0 61 (dk_at s147_5 15 rfl rfl)) rfl
theorem f147_146 : ft 147 146 = some (8, 4, 0, .ifCond .eq 7, 3) := Fm147 (dk_153 0 7 (dk_at s147_5 18 rfl rfl)) rfl
theorem f147_149 : ft 147 149 = some (8, 4, 0, .iconst 1, 1) := Fm147 (dk_4 (dk_at s147_5 21 rfl rfl)) rfl
theorem f147_150 : ft 147 150 = some (8, 4, 0, .goto 4, 3) := Fm147 (dk_167 0 4 (dk_at s147_6 0 rfl rfl)) rfl
theorem f147_153 : ft 147 153 = some (8, 4, 0, .iconst 0, 1) := Fm147 (dk_3 (dk_at s147_6 3 rfl rfl)) rfl
theorem f147_154 : ft 147 154 = some (8, 4, 0, .ireturn, 1) := Fm147 (dk_172 (dk_at s147_6 4 rfl rfl)) rfl
theorem q147 {d : Nat} {m : Mem} {a0 a1 a2 a3 : Int} (hd : 0 < d) (hz : TZ m) : le2 (gd (tg m a0 = 8) <| nm (vl m a0 0) fun v10 => gd (tg m v10 = 130103 ∨ tg m v10 = 132103) <| gd ((0 : Int) ≤ a1 ∧ a1 < ln m v10) <| nm (vl m v10 a1) fun v11 => gd (tg m a2 = 8) <| nm (vl m a2 0) fun v12 => gd (tg m v12 = 130103 ∨ tg m v12 = 132103) <| gd ((0 : Int) ≤ a3 ∧ a3 < ln m v12) <| if v11 = (vl m v12 a3) then (if v11 = 0 ∨ v11 = 1 ∨ v11 = 2 then (some (.inl (some (pI 1)), m)) else if v11 = 3 then (bL (cl (d - 1) 140 [pR a0, pI (w32 (a1 + 1))] m) fun v8 m8 => bL (cl (d - 1) 140 [pR a2, pI (w32 (a3 + 1))] m8) fun v9 m9 => if v8 = v9 then (some (.inl (some (pI 1)), m9)) else some (.inl (some (pI 0)), m9)) else if v11 = 4 then (bI (cl (d - 1) 134 [pR a0, pI (w32 (a1 + 1))] m) fun v4 m4 => bI (cl (d - 1) 134 [pR a2, pI (w32 (a3 + 1))] m4) fun v5 m5 => if v4 = v5 then (bI (cl (d - 1) 134 [pR a0, pI (w32 (a1 + 1))] m5) fun v6 m6 => bI (cl (d - 1) 135 [pR a0, pI (w32 (a1 + 3)), pR a2, pI (w32 (a3 + 3)), pI v6] m6) fun v7 m7 => if v7 = 0 then (some (.inl (some (pI 0)), m7)) else some (.inl (some (pI 1)), m7)) else some (.inl (some (pI 0)), m5)) else bI (cl (d - 1) 145 [pR a0, pI a1] m) fun v1 m1 => bI (cl (d - 1) 145 [pR a2, pI a3] m1) fun v2 m2 => if v1 = v2 then (bI (cl (d - 1) 148 [pR a0, pI a1, pR a2, pI a3] m2) fun v3 m3 => if v3 = 0 then (some (.inl (some (pI 0)), m3)) else some (.inl (some (pI 1)), m3)) else some (.inl (some (pI 0)), m2)) else some (.inl (some (pI 0)), m)) (cl d 147 [pR a0, pI a1, pR a2, pI a3] m) := by
  refine q_in (n := 4) (L := [pR a0, pI a1, pR a2, pI a3]) rfl rfl rfl ?_
  refine r_aln0 (p := 1) f147_0 rfl ?_
  refine le2_gd (fun h1 => ?_)
  refine r_gfR (f := 0) (p := 4) f147_1 rfl rfl rfl (Or.inl h1) rfl ?_
  refine r_nmR (fun v10 ev10 => ?_)
  refine r_iln1 (p := 5) f147_4 rfl ?_
  refine le2_gd (fun h2 => ?_)
  refine le2_gd (fun h3 => ?_)
  refine r_baload (p := 6) f147_5 rfl (dj2 (fun x => x % 1000 = 103 ∨ x % 1000 = 105) h2 (by decide) (by decide)) h3 rfl ?_
  refine r_nmI (fun v11 ev11 => ?_)
  refine r_aln2 (p := 7) f147_6 rfl ?_
  refine le2_gd (fun h4 => ?_)
  refine r_gfR (f := 0) (p := 10) f147_7 rfl rfl rfl (Or.inl h4) rfl ?_
  refine r_nmR (fun v12 ev12 => ?_)
  refine r_iln3 (p := 11) f147_10 rfl ?_
  refine le2_gd (fun h5 => ?_)
  refine le2_gd (fun h6 => ?_)
  refine r_baload (p := 12) f147_11 rfl (dj2 (fun x => x % 1000 = 103 ∨ x % 1000 = 105) h5 (by decide) (by decide)) h6 rfl ?_
  refine r_iceq (t := 17) (p := 15) f147_12 (by decide) rfl rfl ?_ ?_
  · refine r_aln0 (p := 18) f147_17 rfl ?_
    refine r_gfR (f := 0) (p := 21) f147_18 rfl rfl rfl (Or.inl h1) ev10.symm ?_
    refine r_iln1 (p := 22) f147_21 rfl ?_
    refine r_baload (p := 23) f147_22 rfl (dj2 (fun x => x % 1000 = 103 ∨ x % 1000 = 105) h2 (by decide) (by decide)) h3 ev11.symm ?_
    refine le2_ite (fun h17 => ?_) (fun h17 => ?_)
    · refine r_tsJ (off := 33) (t := 56) f147_23 (by omega) (by rcases h17 with h | h | h <;> rw [h] <;> rfl) (by decide) rfl ?_
      refine r_iconst (p := 57) f147_56 rfl (pinD rfl rfl) ?_
      exact r_iret4 f147_57 (by decide)
    · refine le2_ite (fun h15 => ?_) (fun h15 => ?_)
      · refine r_tsI (off := 35) (t := 58) f147_23 h15 rfl rfl (by decide) rfl ?_
        refine r_aln0 (p := 59) f147_58 rfl ?_
        refine r_iln1 (p := 60) f147_59 rfl ?_
        refine r_iconst (p := 61) f147_60 rfl (pinD rfl rfl) ?_
        refine r_iadd (p := 62) f147_61 rfl ?_
        refine r_invL (p := 65) f147_62 rfl rfl rfl (Or.inl h1) hd (Nat.le_of_ble_eq_true rfl) rfl rfl rfl (fun _ => rfl) (fun v8 m8 c8 => ?_)
        have hz8 := z_k c8 hz
        refine r_aln2 (p := 66) f147_65 rfl ?_
        refine r_iln3 (p := 67) f147_66 rfl ?_
        refine r_iconst (p := 68) f147_67 rfl (pinD rfl rfl) ?_
        refine r_iadd (p := 69) f147_68 rfl ?_
        have h16 := k_t1 c8 hz h4 (by decide)
        refine r_invL (p := 72) f147_69 rfl rfl rfl (Or.inl h16) hd (Nat.le_of_ble_eq_true rfl) rfl rfl rfl (fun _ => rfl) (fun v9 m9 c9 => ?_)
        have hz9 := z_k c9 hz8
        refine r_lcne (p1 := 73) (t := 80) (p := 76) f147_72 rfl f147_73 (by decide) rfl rfl ?_ ?_
        · refine r_iconst (p := 77) f147_76 rfl (pinD rfl rfl) ?_
          refine r_goto (p := 81) f147_77 (by decide) rfl ?_
          exact r_iret4 f147_81 (by decide)
        · refine r_iconst (p := 81) f147_80 rfl (pinD rfl rfl) ?_
          exact r_iret4 f147_81 (by decide)
      · refine le2_ite (fun h10 => ?_) (fun h10 => ?_)
        · refine r_tsI (off := 59) (t := 82) f147_23 h10 rfl rfl (by decide) rfl ?_
          refine r_aln0 (p := 83) f147_82 rfl ?_
          refine r_iln1 (p := 84) f147_83 rfl ?_
          refine r_iconst (p := 85) f147_84 rfl (pinD rfl rfl) ?_
          refine r_iadd (p := 86) f147_85 rfl ?_
          refine r_invI (p := 89) f147_86 rfl rfl rfl (Or.inl h1) hd (Nat.le_of_ble_eq_true rfl) rfl rfl rfl (fun _ => rfl) (fun v4 m4 c4 => ?_)
          have hz4 := z_k c4 hz
          refine r_aln2 (p := 90) f147_89 rfl ?_
          refine r_iln3 (p := 91) f147_90 rfl ?_
          refine r_iconst (p := 92) f147_91 rfl (pinD rfl rfl) ?_
          refine r_iadd (p := 93) f147_92 rfl ?_
          have h11 := k_t1 c4 hz h4 (by decide)
          refine r_invI (p := 96) f147_93 rfl rfl rfl (Or.inl h11) hd (Nat.le_of_ble_eq_true rfl) rfl rfl rfl (fun _ => rfl) (fun v5 m5 c5 => ?_)
          have hz5 := z_k c5 hz4
          refine r_icne (t := 124) (p := 99) f147_96 (by decide) rfl rfl ?_ ?_
          · refine r_aln0 (p := 100) f147_99 rfl ?_
            refine r_iln1 (p := 101) f147_100 rfl ?_
            refine r_iconst (p := 102) f147_101 rfl (pinD rfl rfl) ?_
            refine r_iadd (p := 103) f147_102 rfl ?_
            refine r_aln2 (p := 104) f147_103 rfl ?_
            refine r_iln3 (p := 105) f147_104 rfl ?_
            refine r_iconst (p := 106) f147_105 rfl (pinD rfl rfl) ?_
            refine r_iadd (p := 107) f147_106 rfl ?_
            refine r_aln0 (p := 108) f147_107 rfl ?_
            refine r_iln1 (p := 109) f147_108 rfl ?_
            refine r_iconst (p := 110) f147_109 rfl (pinD rfl rfl) ?_
            refine r_iadd (p := 111) f147_110 rfl ?_
            have h12 := k_t1 c4 hz h1 (by decide)
            have h13 := k_t1 c5 hz4 h12 (by decide)
            refine r_invI (p := 114) f147_111 rfl rfl rfl (Or.inl h13) hd (Nat.le_of_ble_eq_true rfl) rfl rfl rfl (fun _ => rfl) (fun v6 m6 c6 => ?_)
            have hz6 := z_k c6 hz5
            have h14 := k_t1 c6 hz5 h13 (by decide)
            refine r_invI (p := 117) f147_114 rfl rfl rfl (Or.inl h14) hd (Nat.le_of_ble_eq_true rfl) rfl rfl rfl (fun _ => rfl) (fun v7 m7 c7 => ?_)
            have hz7 := z_k c7 hz6
            refine r_ifeq (t := 124) (p := 120) f147_117 (by decide) rfl rfl ?_ ?_
            · refine r_iconst (p := 125) f147_124 rfl (pinD rfl rfl) ?_
              exact r_iret4 f147_125 (by decide)
            · refine r_iconst (p := 121) f147_120 rfl (pinD rfl rfl) ?_
              refine r_goto (p := 125) f147_121 (by decide) rfl ?_
              exact r_iret4 f147_125 (by decide)
          · refine r_iconst (p := 125) f147_124 rfl (pinD rfl rfl) ?_
            exact r_iret4 f147_125 (by decide)
        · refine r_tsO (t := 126) f147_23 (by omega) (by decide) rfl ?_
          refine r_aln0 (p := 127) f147_126 rfl ?_
          refine r_iln1 (p := 128) f147_127 rfl ?_
          refine r_invI (p := 131) f147_128 rfl rfl rfl (Or.inl h1) hd (Nat.le_of_ble_eq_true rfl) rfl rfl rfl (fun _ => rfl) (fun v1 m1 c1 => ?_)
          have hz1 := z_k c1 hz
          refine r_aln2 (p := 132) f147_131 rfl ?_
          refine r_iln3 (p := 133) f147_132 rfl ?_
          have h7 := k_t1 c1 hz h4 (by decide)
          refine r_invI (p := 136) f147_133 rfl rfl rfl (Or.inl h7) hd (Nat.le_of_ble_eq_true rfl) rfl rfl rfl (fun _ => rfl) (fun v2 m2 c2 => ?_)
          have hz2 := z_k c2 hz1
          refine r_icne (t := 153) (p := 139) f147_136 (by decide) rfl rfl ?_ ?_
          · refine r_aln0 (p := 140) f147_139 rfl ?_
            refine r_iln1 (p := 141) f147_140 rfl ?_
            refine r_aln2 (p := 142) f147_141 rfl ?_
            refine r_iln3 (p := 143) f147_142 rfl ?_
            have h8 := k_t1 c1 hz h1 (by decide)
            have h9 := k_t1 c2 hz1 h8 (by decide)
            refine r_invI (p := 146) f147_143 rfl rfl rfl (Or.inl h9) hd (Nat.le_of_ble_eq_true rfl) rfl rfl rfl (fun _ => rfl) (fun v3 m3 c3 => ?_)
            have hz3 := z_k c3 hz2
            refine r_ifeq (t := 153) (p := 149) f147_146 (by decide) rfl rfl ?_ ?_
            · refine r_iconst (p := 154) f147_153 rfl (pinD rfl rfl) ?_
              exact r_iret4 f147_154 (by decide)
            · refine r_iconst (p := 150) f147_149 rfl (pinD rfl rfl) ?_
              refine r_goto (p := 154) f147_150 (by decide) rfl ?_
              exact r_iret4 f147_154 (by decide)
          · refine r_iconst (p := 154) f147_153 rfl (pinD rfl rfl) ?_
            exact r_iret4 f147_154 (by decide)
  · refine r_iconst (p := 16) f147_15 rfl (pinD rfl rfl) ?_
    exact r_iret4 f147_16 (by decide)
/-! 148 PathStore$Row.sameParts (ILPathStore$Row;I)Z -/
def w148_5 : List UInt8 := [182, 0, 44, 54, 6, 167, 255, 168, 4, 172]
abbrev u148_5 : List UInt8 := w148_5 ++ []
def w148_4 : List UInt8 := [182, 0, 69, 154, 0, 5, 3, 172, 42, 21, 8, 182, 0, 44, 54, 7, 21, 4, 154, 0, 11, 44, 21, 9]
abbrev u148_4 : List UInt8 := w148_4 ++ u148_5
def w148_3 : List UInt8 := [3, 172, 42, 21, 7, 182, 0, 51, 54, 8, 44, 21, 10, 182, 0, 51, 54, 9, 42, 21, 8, 44, 21, 9]
abbrev u148_3 : List UInt8 := w148_3 ++ u148_4
def w148_2 : List UInt8 := [21, 6, 54, 9, 21, 4, 153, 0, 36, 44, 29, 42, 21, 7, 182, 0, 65, 54, 10, 21, 10, 156, 0, 5]
abbrev u148_2 : List UInt8 := w148_2 ++ u148_3
def w148_1 : List UInt8 := [54, 5, 29, 6, 96, 54, 6, 27, 6, 96, 54, 7, 21, 7, 21, 5, 162, 0, 87, 21, 7, 54, 8]
abbrev u148_1 : List UInt8 := w148_1 ++ u148_2
def w148_0 : List UInt8 := [42, 180, 0, 9, 27, 51, 16, 6, 160, 0, 7, 4, 167, 0, 4, 3, 54, 4, 42, 27, 182, 0, 44]
abbrev u148_0 : List UInt8 := w148_0 ++ u148_1
theorem s148_0 : (prog_21_method_22_code).data.toList.drop 0 = u148_0 := by decide +kernel
theorem s148_1 : (prog_21_method_22_code).data.toList.drop 23 = u148_1 := dk_seg s148_0 23 rfl rfl
theorem s148_2 : (prog_21_method_22_code).data.toList.drop 46 = u148_2 := dk_seg s148_1 23 rfl rfl
theorem s148_3 : (prog_21_method_22_code).data.toList.drop 70 = u148_3 := dk_seg s148_2 24 rfl rfl
theorem s148_4 : (prog_21_method_22_code).data.toList.drop 94 = u148_4 := dk_seg s148_3 24 rfl rfl
theorem s148_5 : (prog_21_method_22_code).data.toList.drop 118 = u148_5 := dk_seg s148_4 24 rfl rfl
theorem Fm148 {pc len : Nat} {i : Instr} (h : decode (prog_21_method_22_code) pc = .ok (i, len)) (hl : len = ilen i len) : ft 148 pc = some (8, 4, 0, i, len) := ft_mk rfl h hl
theorem f148_0 : ft 148 0 = some (8, 4, 0, .aload_n 0, 1) := Fm148 (dk_42 (dk_at s148_0 0 rfl rfl)) rfl
theorem f148_1 : ft 148 1 = some (8, 4, 0, .getfield 9, 3) := Fm148 (dk_180 0 9 (dk_at s148_0 1 rfl rfl)) rfl
theorem f148_4 : ft 148 4 = some (8, 4, 0, .iload_n 1, 1) := Fm148 (dk_27 (dk_at s148_0 4 rfl rfl)) rfl
theorem f148_5 : ft 148 5 = some (8, 4, 0, .baload, 1) := Fm148 (dk_51 (dk_at s148_0 5 rfl rfl)) rfl
theorem f148_6 : ft 148 6 = some (8, 4, 0, .bipush 6, 2) := Fm148 (dk_16 6 (dk_at s148_0 6 rfl rfl)) rfl
theorem f148_8 : ft 148 8 = some (8, 4, 0, .if_icmp .ne 7, 3) := Fm148 (dk_160 0 7 (dk_at s148_0 8 rfl rfl)) rfl
theorem f148_11 : ft 148 11 = some (8, 4, 0, .iconst 1, 1) := Fm148 (dk_4 (dk_at s148_0 11 rfl rfl)) rfl
theorem f148_12 : ft 148 12 = some (8, 4, 0, .goto 4, 3) := Fm148 (dk_167 0 4 (dk_at s148_0 12 rfl rfl)) rfl
theorem f148_15 : ft 148 15 = some (8, 4, 0, .iconst 0, 1) := Fm148 (dk_3 (dk_at s148_0 15 rfl rfl)) rfl
theorem f148_16 : ft 148 16 = some (8, 4, 0, .istore 4, 2) := Fm148 (dk_54 4 (dk_at s148_0 16 rfl rfl)) rfl
theorem f148_18 : ft 148 18 = some (8, 4, 0, .aload_n 0, 1) := Fm148 (dk_42 (dk_at s148_0 18 rfl rfl)) rfl
theorem f148_19 : ft 148 19 = some (8, 4, 0, .iload_n 1, 1) := Fm148 (dk_27 (dk_at s148_0 19 rfl rfl)) rfl
theorem f148_20 : ft 148 20 = some (8, 4, 0, .invokevirtual 44, 3) := Fm148 (dk_182 0 44 (dk_at s148_0 20 rfl rfl)) rfl
theorem f148_23 : ft 148 23 = some (8, 4, 0, .istore 5, 2) := Fm148 (dk_54 5 (dk_at s148_1 0 rfl rfl)) rfl
theorem f148_25 : ft 148 25 = some (8, 4, 0, .iload_n 3, 1) := Fm148 (dk_29 (dk_at s148_1 2 rfl rfl)) rfl
theorem f148_26 : ft 148 26 = some (8, 4, 0, .iconst 3, 1) := Fm148 (dk_6 (dk_at s148_1 3 rfl rfl)) rfl
theorem f148_27 : ft 148 27 = some (8, 4, 0, .iadd, 1) := Fm148 (dk_96 (dk_at s148_1 4 rfl rfl)) rfl
theorem f148_28 : ft 148 28 = some (8, 4, 0, .istore 6, 2) := Fm148 (dk_54 6 (dk_at s148_1 5 rfl rfl)) rfl
theorem f148_30 : ft 148 30 = some (8, 4, 0, .iload_n 1, 1) := Fm148 (dk_27 (dk_at s148_1 7 rfl rfl)) rfl
theorem f148_31 : ft 148 31 = some (8, 4, 0, .iconst 3, 1) := Fm148 (dk_6 (dk_at s148_1 8 rfl rfl)) rfl
theorem f148_32 : ft 148 32 = some (8, 4, 0, .iadd, 1) := Fm148 (dk_96 (dk_at s148_1 9 rfl rfl)) rfl
theorem f148_33 : ft 148 33 = some (8, 4, 0, .istore 7, 2) := Fm148 (dk_54 7 (dk_at s148_1 10 rfl rfl)) rfl
theorem f148_35 : ft 148 35 = some (8, 4, 0, .iload 7, 2) := Fm148 (dk_21 7 (dk_at s148_1 12 rfl rfl)) rfl
theorem f148_37 : ft 148 37 = some (8, 4, 0, .iload 5, 2) := Fm148 (dk_21 5 (dk_at s148_1 14 rfl rfl)) rfl
theorem f148_39 : ft 148 39 = some (8, 4, 0, .if_icmp .ge 87, 3) := Fm148 (dk_162 0 87 (dk_at s148_1 16 rfl rfl)) rfl
theorem f148_42 : ft 148 42 = some (8, 4, 0, .iload 7, 2) := Fm148 (dk_21 7 (dk_at s148_1 19 rfl rfl)) rfl
theorem f148_44 : ft 148 44 = some (8, 4, 0, .istore 8, 2) := Fm148 (dk_54 8 (dk_at s148_1 21 rfl rfl)) rfl
theorem f148_46 : ft 148 46 = some (8, 4, 0, .iload 6, 2) := Fm148 (dk_21 6 (dk_at s148_2 0 rfl rfl)) rfl
theorem f148_48 : ft 148 48 = some (8, 4, 0, .istore 9, 2) := Fm148 (dk_54 9 (dk_at s148_2 2 rfl rfl)) rfl
theorem f148_50 : ft 148 50 = some (8, 4, 0, .iload 4, 2) := Fm148 (dk_21 4 (dk_at s148_2 4 rfl rfl)) rfl
theorem f148_52 : ft 148 52 = some (8, 4, 0, .ifCond .eq 36, 3) := Fm148 (dk_153 0 36 (dk_at s148_2 6 rfl rfl)) rfl
theorem f148_55 : ft 148 55 = some (8, 4, 0, .aload_n 2, 1) := Fm148 (dk_44 (dk_at s148_2 9 rfl rfl)) rfl
theorem f148_56 : ft 148 56 = some (8, 4, 0, .iload_n 3, 1) := Fm148 (dk_29 (dk_at s148_2 10 rfl rfl)) rfl
theorem f148_57 : ft 148 57 = some (8, 4, 0, .aload_n 0, 1) := Fm148 (dk_42 (dk_at s148_2 11 rfl rfl)) rfl
theorem f148_58 : ft 148 58 = some (8, 4, 0, .iload 7, 2) := Fm148 (dk_21 7 (dk_at s148_2 12 rfl rfl)) rfl
theorem f148_60 : ft 148 60 = some (8, 4, 0, .invokevirtual 65, 3) := Fm148 (dk_182 0 65 (dk_at s148_2 14 rfl rfl)) rfl
theorem f148_63 : ft 148 63 = some (8, 4, 0, .istore 10, 2) := Fm148 (dk_54 10 (dk_at s148_2 17 rfl rfl)) rfl
theorem f148_65 : ft 148 65 = some (8, 4, 0, .iload 10, 2) := Fm148 (dk_21 10 (dk_at s148_2 19 rfl rfl)) rfl
theorem f148_67 : ft 148 67 = some (8, 4, 0, .ifCond .ge 5, 3) := Fm148 (dk_156 0 5 (dk_at s148_2 21 rfl rfl)) rfl
theorem f148_70 : ft 148 70 = some (8, 4, 0, .iconst 0, 1) := Fm148 (dk_3 (dk_at s148_3 0 rfl rfl)) rfl
theorem f148_71 : ft 148 71 = some (8, 4, 0, .ireturn, 1) := Fm148 (dk_172 (dk_at s148_3 1 rfl rfl)) rfl
theorem f148_72 : ft 148 72 = some (8, 4, 0, .aload_n 0, 1) := Fm148 (dk_42 (dk_at s148_3 2 rfl rfl)) rfl
theorem f148_73 : ft 148 73 = some (8, 4, 0, .iload 7, 2) := Fm148 (dk_21 7 (dk_at s148_3 3 rfl rfl)) rfl
theorem f148_75 : ft 148 75 = some (8, 4, 0, .invokevirtual 51, 3) := Fm148 (dk_182 0 51 (dk_at s148_3 5 rfl rfl)) rfl
theorem f148_78 : ft 148 78 = some (8, 4, 0, .istore 8, 2) := Fm148 (dk_54 8 (dk_at s148_3 8 rfl rfl)) rfl
theorem f148_80 : ft 148 80 = some (8, 4, 0, .aload_n 2, 1) := Fm148 (dk_44 (dk_at s148_3 10 rfl rfl)) rfl
theorem f148_81 : ft 148 81 = some (8, 4, 0, .iload 10, 2) := Fm148 (dk_21 10 (dk_at s148_3 11 rfl rfl)) rfl
theorem f148_83 : ft 148 83 = some (8, 4, 0, .invokevirtual 51, 3) := Fm148 (dk_182 0 51 (dk_at s148_3 13 rfl rfl)) rfl
theorem f148_86 : ft 148 86 = some (8, 4, 0, .istore 9, 2) := Fm148 (dk_54 9 (dk_at s148_3 16 rfl rfl)) rfl
theorem f148_88 : ft 148 88 = some (8, 4, 0, .aload_n 0, 1) := Fm148 (dk_42 (dk_at s148_3 18 rfl rfl)) rfl
theorem f148_89 : ft 148 89 = some (8, 4, 0, .iload 8, 2) := Fm148 (dk_21 8 (dk_at s148_3 19 rfl rfl)) rfl
theorem f148_91 : ft 148 91 = some (8, 4, 0, .aload_n 2, 1) := Fm148 (dk_44 (dk_at s148_3 21 rfl rfl)) rfl
theorem f148_92 : ft 148 92 = some (8, 4, 0, .iload 9, 2) := Fm148 (dk_21 9 (dk_at s148_3 22 rfl rfl)) rfl
theorem f148_94 : ft 148 94 = some (8, 4, 0, .invokevirtual 69, 3) := Fm148 (dk_182 0 69 (dk_at s148_4 0 rfl rfl)) rfl
theorem f148_97 : ft 148 97 = some (8, 4, 0, .ifCond .ne 5, 3) := Fm148 (dk_154 0 5 (dk_at s148_4 3 rfl rfl)) rfl
theorem f148_100 : ft 148 100 = some (8, 4, 0, .iconst 0, 1) := Fm148 (dk_3 (dk_at s148_4 6 rfl rfl)) rfl
theorem f148_101 : ft 148 101 = some (8, 4, 0, .ireturn, 1) := Fm148 (dk_172 (dk_at s148_4 7 rfl rfl)) rfl
theorem f148_102 : ft 148 102 = some (8, 4, 0, .aload_n 0, 1) := Fm148 (dk_42 (dk_at s148_4 8 rfl rfl)) rfl
theorem f148_103 : ft 148 103 = some (8, 4, 0, .iload 8, 2) := Fm148 (dk_21 8 (dk_at s148_4 9 rfl rfl)) rfl
theorem f148_105 : ft 148 105 = some (8, 4, 0, .invokevirtual 44, 3) := Fm148 (dk_182 0 44 (dk_at s148_4 11 rfl rfl)) rfl
theorem f148_108 : ft 148 108 = some (8, 4, 0, .istore 7, 2) := Fm148 (dk_54 7 (dk_at s148_4 14 rfl rfl)) rfl
theorem f148_110 : ft 148 110 = some (8, 4, 0, .iload 4, 2) := Fm148 (dk_21 4 (dk_at s148_4 16 rfl rfl)) rfl
theorem f148_112 : ft 148 112 = some (8, 4, 0, .ifCond .ne 11, 3) := Fm148 (dk_154 0 11 (dk_at s148_4 18 rfl rfl)) rfl
theorem f148_115 : ft 148 115 = some (8, 4, 0, .aload_n 2, 1) := Fm148 (dk_44 (dk_at s148_4 21 rfl rfl)) rfl
theorem f148_116 : ft 148 116 = some (8, 4, 0, .iload 9, 2) := Fm148 (dk_21 9 (dk_at s148_4 22 rfl rfl)) rfl
theorem f148_118 : ft 148 118 = some (8, 4, 0, .invokevirtual 44, 3) := Fm148 (dk_182 0 44 (dk_at s148_5 0 rfl rfl)) rfl
theorem f148_121 : ft 148 121 = some (8, 4, 0, .istore 6, 2) := Fm148 (dk_54 6 (dk_at s148_5 3 rfl rfl)) rfl
theorem f148_123 : ft 148 123 = some (8, 4, 0, .goto (-88), 3) := Fm148 (dk_167 255 168 (dk_at s148_5 5 rfl rfl)) rfl
theorem f148_126 : ft 148 126 = some (8, 4, 0, .iconst 1, 1) := Fm148 (dk_4 (dk_at s148_5 8 rfl rfl)) rfl
theorem f148_127 : ft 148 127 = some (8, 4, 0, .ireturn, 1) := Fm148 (dk_172 (dk_at s148_5 9 rfl rfl)) rfl
theorem q148 {d : Nat} {m : Mem} {a0 a1 a2 a3 : Int} (hz : TZ m) : le2 (gd (tg m a0 = 8) <| nm (vl m a0 0) fun v1 => gd (tg m v1 = 130103 ∨ tg m v1 = 132103) <| gd ((0 : Int) ≤ a1 ∧ a1 < ln m v1) <| if (vl m v1 a1) = 6 then (rn d 148 16 [pR a0, pI a1, pR a2, pI a3, pU, pU, pU, pU, pU, pU, pU] [pI 1] m) else rn d 148 16 [pR a0, pI a1, pR a2, pI a3, pU, pU, pU, pU, pU, pU, pU] [pI 0] m) (cl d 148 [pR a0, pI a1, pR a2, pI a3] m) := by
  refine q_in (n := 11) (L := [pR a0, pI a1, pR a2, pI a3, pU, pU, pU, pU, pU, pU, pU]) rfl rfl rfl ?_
  refine r_aln0 (p := 1) f148_0 rfl ?_
  refine le2_gd (fun h1 => ?_)
  refine r_gfR (f := 0) (p := 4) f148_1 rfl rfl rfl (Or.inl h1) rfl ?_
  refine r_nmR (fun v1 ev1 => ?_)
  refine r_iln1 (p := 5) f148_4 rfl ?_
  refine le2_gd (fun h2 => ?_)
  refine le2_gd (fun h3 => ?_)
  refine r_baload (p := 6) f148_5 rfl (dj2 (fun x => x % 1000 = 103 ∨ x % 1000 = 105) h2 (by decide) (by decide)) h3 rfl ?_
  refine r_bipush (p := 8) f148_6 rfl (pinD rfl rfl) ?_
  refine r_icne (t := 15) (p := 11) f148_8 (by decide) rfl rfl ?_ ?_
  · refine r_iconst (p := 12) f148_11 rfl (pinD rfl rfl) ?_
    refine r_goto (p := 16) f148_12 (by decide) rfl ?_
    exact le2_refl _
  · refine r_iconst (p := 16) f148_15 rfl (pinD rfl rfl) ?_
    exact le2_refl _
theorem q148_16 {d : Nat} {m : Mem} {a0 a1 a2 a3 s0 : Int} (hd : 0 < d) (hz : TZ m) : le2 (gd (tg m a0 = 8) <| bI (cl (d - 1) 137 [pR a0, pI a1] m) fun v1 m1 => rn d 148 35 [pR a0, pI a1, pR a2, pI a3, pI s0, pI v1, pI (w32 (a3 + 3)), pI (w32 (a1 + 3)), pU, pU, pU] [] m1) (rn d 148 16 [pR a0, pI a1, pR a2, pI a3, pU, pU, pU, pU, pU, pU, pU] [pI s0] m) := by
  refine r_isw4 (p := 18) f148_16 rfl rfl ?_
  refine r_aln0 (p := 19) f148_18 rfl ?_
  refine r_iln1 (p := 20) f148_19 rfl ?_
  refine le2_gd (fun h1 => ?_)
  refine r_invI (p := 23) f148_20 rfl rfl rfl (Or.inl h1) hd (Nat.le_of_ble_eq_true rfl) rfl rfl rfl (fun _ => rfl) (fun v1 m1 c1 => ?_)
  have hz1 := z_k c1 hz
  refine r_isw5 (p := 25) f148_23 rfl rfl ?_
  refine r_iln3 (p := 26) f148_25 rfl ?_
  refine r_iconst (p := 27) f148_26 rfl (pinD rfl rfl) ?_
  refine r_iadd (p := 28) f148_27 rfl ?_
  refine r_isw6 (p := 30) f148_28 rfl rfl ?_
  refine r_iln1 (p := 31) f148_30 rfl ?_
  refine r_iconst (p := 32) f148_31 rfl (pinD rfl rfl) ?_
  refine r_iadd (p := 33) f148_32 rfl ?_
  refine r_isw7 (p := 35) f148_33 rfl rfl ?_
  exact le2_refl _
theorem q148_35 {d : Nat} {m : Mem} {a0 a1 a2 a3 a4 a5 a6 a7 : Int} {z8 z9 z10 : PV} (hd : 0 < d) (hz : TZ m) (hcz8 : cat z8 = 1) (hcz9 : cat z9 = 1) (hcz10 : cat z10 = 1) : le2 (if a7 < a5 then (if a4 = 0 then (rn d 148 88 [pR a0, pI a1, pR a2, pI a3, pI a4, pI a5, pI a6, pI a7, pI a7, pI a6, z10] [] m) else gd (tg m a2 = 8) <| bI (cl (d - 1) 144 [pR a2, pI a3, pR a0, pI a7] m) fun v1 m1 => if v1 < 0 then (some (.inl (some (pI 0)), m1)) else gd (tg m1 a0 = 8) <| bI (cl (d - 1) 136 [pR a0, pI a7] m1) fun v2 m2 => bI (cl (d - 1) 136 [pR a2, pI v1] m2) fun v3 m3 => rn d 148 88 [pR a0, pI a1, pR a2, pI a3, pI a4, pI a5, pI a6, pI a7, pI v2, pI v3, pI v1] [] m3) else some (.inl (some (pI 1)), m)) (rn d 148 35 [pR a0, pI a1, pR a2, pI a3, pI a4, pI a5, pI a6, pI a7, z8, z9, z10] [] m) := by
  refine r_ilw7 (p := 37) f148_35 rfl ?_
  refine r_ilw5 (p := 39) f148_37 rfl ?_
  refine r_icge (t := 126) (p := 42) f148_39 (by decide) rfl rfl ?_ ?_
  · refine r_ilw7 (p := 44) f148_42 rfl ?_
    refine r_isw8 (p := 46) f148_44 rfl rfl ?_
    refine r_ilw6 (p := 48) f148_46 rfl ?_
    refine r_isw9 (p := 50) f148_48 rfl rfl ?_
    refine r_ilw4 (p := 52) f148_50 rfl ?_
    refine r_ifeq (t := 88) (p := 55) f148_52 (by decide) rfl rfl ?_ ?_
    · exact le2_refl _
    · refine r_aln2 (p := 56) f148_55 rfl ?_
      refine r_iln3 (p := 57) f148_56 rfl ?_
      refine r_aln0 (p := 58) f148_57 rfl ?_
      refine r_ilw7 (p := 60) f148_58 rfl ?_
      refine le2_gd (fun h1 => ?_)
      refine r_invI (p := 63) f148_60 rfl rfl rfl (Or.inl h1) hd (Nat.le_of_ble_eq_true rfl) rfl rfl rfl (fun _ => rfl) (fun v1 m1 c1 => ?_)
      have hz1 := z_k c1 hz
      refine r_isw10 (p := 65) f148_63 rfl rfl ?_
      refine r_ilw10 (p := 67) f148_65 rfl ?_
      refine r_ifge (t := 72) (p := 70) f148_67 (by decide) rfl rfl ?_ ?_
      · refine r_iconst (p := 71) f148_70 rfl (pinD rfl rfl) ?_
        exact r_iret4 f148_71 (by decide)
      · refine r_aln0 (p := 73) f148_72 rfl ?_
        refine r_ilw7 (p := 75) f148_73 rfl ?_
        refine le2_gd (fun h2 => ?_)
        refine r_invI (p := 78) f148_75 rfl rfl rfl (Or.inl h2) hd (Nat.le_of_ble_eq_true rfl) rfl rfl rfl (fun _ => rfl) (fun v2 m2 c2 => ?_)
        have hz2 := z_k c2 hz1
        refine r_isw8 (p := 80) f148_78 rfl rfl ?_
        refine r_aln2 (p := 81) f148_80 rfl ?_
        refine r_ilw10 (p := 83) f148_81 rfl ?_
        have h3 := k_t1 c1 hz h1 (by decide)
        have h4 := k_t1 c2 hz1 h3 (by decide)
        refine r_invI (p := 86) f148_83 rfl rfl rfl (Or.inl h4) hd (Nat.le_of_ble_eq_true rfl) rfl rfl rfl (fun _ => rfl) (fun v3 m3 c3 => ?_)
        have hz3 := z_k c3 hz2
        refine r_isw9 (p := 88) f148_86 rfl rfl ?_
        exact le2_refl _
  · refine r_iconst (p := 127) f148_126 rfl (pinD rfl rfl) ?_
    exact r_iret4 f148_127 (by decide)
theorem q148_88 {d : Nat} {m : Mem} {a0 a1 a2 a3 a4 a5 a6 a7 a8 a9 : Int} {z10 : PV} (hd : 0 < d) (hz : TZ m) (hcz10 : cat z10 = 1) : le2 (gd (tg m a0 = 8) <| bI (cl (d - 1) 147 [pR a0, pI a8, pR a2, pI a9] m) fun v1 m1 => if v1 = 0 then (some (.inl (some (pI 0)), m1)) else bI (cl (d - 1) 137 [pR a0, pI a8] m1) fun v2 m2 => if a4 = 0 then (gd (tg m2 a2 = 8) <| bI (cl (d - 1) 137 [pR a2, pI a9] m2) fun v3 m3 => rn d 148 35 [pR a0, pI a1, pR a2, pI a3, pI a4, pI a5, pI v3, pI v2, pI a8, pI a9, z10] [] m3) else rn d 148 35 [pR a0, pI a1, pR a2, pI a3, pI a4, pI a5, pI a6, pI v2, pI a8, pI a9, z10] [] m2) (rn d 148 88 [pR a0, pI a1, pR a2, pI a3, pI a4, pI a5, pI a6, pI a7, pI a8, pI a9, z10] [] m) := by
  refine r_aln0 (p := 89) f148_88 rfl ?_
  refine r_ilw8 (p := 91) f148_89 rfl ?_
  refine r_aln2 (p := 92) f148_91 rfl ?_
  refine r_ilw9 (p := 94) f148_92 rfl ?_
  refine le2_gd (fun h1 => ?_)
  refine r_invI (p := 97) f148_94 rfl rfl rfl (Or.inl h1) hd (Nat.le_of_ble_eq_true rfl) rfl rfl rfl (fun _ => rfl) (fun v1 m1 c1 => ?_)
  have hz1 := z_k c1 hz
  refine r_ifne (t := 102) (p := 100) f148_97 (by decide) rfl rfl ?_ ?_
  · refine r_iconst (p := 101) f148_100 rfl (pinD rfl rfl) ?_
    exact r_iret4 f148_101 (by decide)
  · refine r_aln0 (p := 103) f148_102 rfl ?_
    refine r_ilw8 (p := 105) f148_103 rfl ?_
    have h2 := k_t1 c1 hz h1 (by decide)
    refine r_invI (p := 108) f148_105 rfl rfl rfl (Or.inl h2) hd (Nat.le_of_ble_eq_true rfl) rfl rfl rfl (fun _ => rfl) (fun v2 m2 c2 => ?_)
    have hz2 := z_k c2 hz1
    refine r_isw7 (p := 110) f148_108 rfl rfl ?_
    refine r_ilw4 (p := 112) f148_110 rfl ?_
    refine r_ifne (t := 123) (p := 115) f148_112 (by decide) rfl rfl ?_ ?_
    · refine r_aln2 (p := 116) f148_115 rfl ?_
      refine r_ilw9 (p := 118) f148_116 rfl ?_
      refine le2_gd (fun h3 => ?_)
      refine r_invI (p := 121) f148_118 rfl rfl rfl (Or.inl h3) hd (Nat.le_of_ble_eq_true rfl) rfl rfl rfl (fun _ => rfl) (fun v3 m3 c3 => ?_)
      have hz3 := z_k c3 hz2
      refine r_isw6 (p := 123) f148_121 rfl rfl ?_
      refine r_goto (p := 35) f148_123 (by decide) rfl ?_
      exact le2_refl _
    · refine r_goto (p := 35) f148_123 (by decide) rfl ?_
      exact le2_refl _
/-! 149 PathStore$Row.depth (I)I -/
def w149_3 : List UInt8 := [182, 0, 44, 54, 4, 167, 255, 207, 4, 28, 96, 172]
abbrev u149_3 : List UInt8 := w149_3 ++ []
def w149_2 : List UInt8 := [182, 0, 51, 167, 0, 5, 21, 4, 54, 5, 28, 42, 21, 5, 182, 0, 72, 184, 0, 19, 61, 42, 21, 5]
abbrev u149_2 : List UInt8 := w149_2 ++ u149_3
def w149_1 : List UInt8 := [54, 4, 21, 4, 29, 162, 0, 49, 42, 180, 0, 9, 27, 51, 16, 6, 160, 0, 12, 42, 21, 4]
abbrev u149_1 : List UInt8 := w149_1 ++ u149_2
def w149_0 : List UInt8 := [42, 180, 0, 9, 27, 51, 8, 162, 0, 5, 3, 172, 3, 61, 42, 27, 182, 0, 44, 62, 27, 6, 96]
abbrev u149_0 : List UInt8 := w149_0 ++ u149_1
theorem s149_0 : (prog_21_method_23_code).data.toList.drop 0 = u149_0 := by decide +kernel
theorem s149_1 : (prog_21_method_23_code).data.toList.drop 23 = u149_1 := dk_seg s149_0 23 rfl rfl
theorem s149_2 : (prog_21_method_23_code).data.toList.drop 45 = u149_2 := dk_seg s149_1 22 rfl rfl
theorem s149_3 : (prog_21_method_23_code).data.toList.drop 69 = u149_3 := dk_seg s149_2 24 rfl rfl
theorem Fm149 {pc len : Nat} {i : Instr} (h : decode (prog_21_method_23_code) pc = .ok (i, len)) (hl : len = ilen i len) : ft 149 pc = some (8, 1, 0, i, len) := ft_mk rfl h hl
theorem f149_0 : ft 149 0 = some (8, 1, 0, .aload_n 0, 1) := Fm149 (dk_42 (dk_at s149_0 0 rfl rfl)) rfl
theorem f149_1 : ft 149 1 = some (8, 1, 0, .getfield 9, 3) := Fm149 (dk_180 0 9 (dk_at s149_0 1 rfl rfl)) rfl
theorem f149_4 : ft 149 4 = some (8, 1, 0, .iload_n 1, 1) := Fm149 (dk_27 (dk_at s149_0 4 rfl rfl)) rfl
theorem f149_5 : ft 149 5 = some (8, 1, 0, .baload, 1) := Fm149 (dk_51 (dk_at s149_0 5 rfl rfl)) rfl
theorem f149_6 : ft 149 6 = some (8, 1, 0, .iconst 5, 1) := Fm149 (dk_8 (dk_at s149_0 6 rfl rfl)) rfl
theorem f149_7 : ft 149 7 = some (8, 1, 0, .if_icmp .ge 5, 3) := Fm149 (dk_162 0 5 (dk_at s149_0 7 rfl rfl)) rfl
theorem f149_10 : ft 149 10 = some (8, 1, 0, .iconst 0, 1) := Fm149 (dk_3 (dk_at s149_0 10 rfl rfl)) rfl
theorem f149_11 : ft 149 11 = some (8, 1, 0, .ireturn, 1) := Fm149 (dk_172 (dk_at s149_0 11 rfl rfl)) rfl
theorem f149_12 : ft 149 12 = some (8, 1, 0, .iconst 0, 1) := Fm149 (dk_3 (dk_at s149_0 12 rfl rfl)) rfl
theorem f149_13 : ft 149 13 = some (8, 1, 0, .istore_n 2, 1) := Fm149 (dk_61 (dk_at s149_0 13 rfl rfl)) rfl
theorem f149_14 : ft 149 14 = some (8, 1, 0, .aload_n 0, 1) := Fm149 (dk_42 (dk_at s149_0 14 rfl rfl)) rfl
theorem f149_15 : ft 149 15 = some (8, 1, 0, .iload_n 1, 1) := Fm149 (dk_27 (dk_at s149_0 15 rfl rfl)) rfl
theorem f149_16 : ft 149 16 = some (8, 1, 0, .invokevirtual 44, 3) := Fm149 (dk_182 0 44 (dk_at s149_0 16 rfl rfl)) rfl
theorem f149_19 : ft 149 19 = some (8, 1, 0, .istore_n 3, 1) := Fm149 (dk_62 (dk_at s149_0 19 rfl rfl)) rfl
theorem f149_20 : ft 149 20 = some (8, 1, 0, .iload_n 1, 1) := Fm149 (dk_27 (dk_at s149_0 20 rfl rfl)) rfl
theorem f149_21 : ft 149 21 = some (8, 1, 0, .iconst 3, 1) := Fm149 (dk_6 (dk_at s149_0 21 rfl rfl)) rfl
theorem f149_22 : ft 149 22 = some (8, 1, 0, .iadd, 1) := Fm149 (dk_96 (dk_at s149_0 22 rfl rfl)) rfl
theorem f149_23 : ft 149 23 = some (8, 1, 0, .istore 4, 2) := Fm149 (dk_54 4 (dk_at s149_1 0 rfl rfl)) rfl
theorem f149_25 : ft 149 25 = some (8, 1, 0, .iload 4, 2) := Fm149 (dk_21 4 (dk_at s149_1 2 rfl rfl)) rfl
theorem f149_27 : ft 149 27 = some (8, 1, 0, .iload_n 3, 1) := Fm149 (dk_29 (dk_at s149_1 4 rfl rfl)) rfl
theorem f149_28 : ft 149 28 = some (8, 1, 0, .if_icmp .ge 49, 3) := Fm149 (dk_162 0 49 (dk_at s149_1 5 rfl rfl)) rfl
theorem f149_31 : ft 149 31 = some (8, 1, 0, .aload_n 0, 1) := Fm149 (dk_42 (dk_at s149_1 8 rfl rfl)) rfl
theorem f149_32 : ft 149 32 = some (8, 1, 0, .getfield 9, 3) := Fm149 (dk_180 0 9 (dk_at s149_1 9 rfl rfl)) rfl
theorem f149_35 : ft 149 35 = some (8, 1, 0, .iload_n 1, 1) := Fm149 (dk_27 (dk_at s149_1 12 rfl rfl)) rfl
theorem f149_36 : ft 149 36 = some (8, 1, 0, .baload, 1) := Fm149 (dk_51 (dk_at s149_1 13 rfl rfl)) rfl
theorem f149_37 : ft 149 37 = some (8, 1, 0, .bipush 6, 2) := Fm149 (dk_16 6 (dk_at s149_1 14 rfl rfl)) rfl
theorem f149_39 : ft 149 39 = some (8, 1, 0, .if_icmp .ne 12, 3) := Fm149 (dk_160 0 12 (dk_at s149_1 16 rfl rfl)) rfl
theorem f149_42 : ft 149 42 = some (8, 1, 0, .aload_n 0, 1) := Fm149 (dk_42 (dk_at s149_1 19 rfl rfl)) rfl
theorem f149_43 : ft 149 43 = some (8, 1, 0, .iload 4, 2) := Fm149 (dk_21 4 (dk_at s149_1 20 rfl rfl)) rfl
theorem f149_45 : ft 149 45 = some (8, 1, 0, .invokevirtual 51, 3) := Fm149 (dk_182 0 51 (dk_at s149_2 0 rfl rfl)) rfl
theorem f149_48 : ft 149 48 = some (8, 1, 0, .goto 5, 3) := Fm149 (dk_167 0 5 (dk_at s149_2 3 rfl rfl)) rfl
theorem f149_51 : ft 149 51 = some (8, 1, 0, .iload 4, 2) := Fm149 (dk_21 4 (dk_at s149_2 6 rfl rfl)) rfl
theorem f149_53 : ft 149 53 = some (8, 1, 0, .istore 5, 2) := Fm149 (dk_54 5 (dk_at s149_2 8 rfl rfl)) rfl
theorem f149_55 : ft 149 55 = some (8, 1, 0, .iload_n 2, 1) := Fm149 (dk_28 (dk_at s149_2 10 rfl rfl)) rfl
theorem f149_56 : ft 149 56 = some (8, 1, 0, .aload_n 0, 1) := Fm149 (dk_42 (dk_at s149_2 11 rfl rfl)) rfl
theorem f149_57 : ft 149 57 = some (8, 1, 0, .iload 5, 2) := Fm149 (dk_21 5 (dk_at s149_2 12 rfl rfl)) rfl
theorem f149_59 : ft 149 59 = some (8, 1, 0, .invokevirtual 72, 3) := Fm149 (dk_182 0 72 (dk_at s149_2 14 rfl rfl)) rfl
theorem f149_62 : ft 149 62 = some (8, 1, 0, .invokestatic 19, 3) := Fm149 (dk_184 0 19 (dk_at s149_2 17 rfl rfl)) rfl
theorem f149_65 : ft 149 65 = some (8, 1, 0, .istore_n 2, 1) := Fm149 (dk_61 (dk_at s149_2 20 rfl rfl)) rfl
theorem f149_66 : ft 149 66 = some (8, 1, 0, .aload_n 0, 1) := Fm149 (dk_42 (dk_at s149_2 21 rfl rfl)) rfl
theorem f149_67 : ft 149 67 = some (8, 1, 0, .iload 5, 2) := Fm149 (dk_21 5 (dk_at s149_2 22 rfl rfl)) rfl
theorem f149_69 : ft 149 69 = some (8, 1, 0, .invokevirtual 44, 3) := Fm149 (dk_182 0 44 (dk_at s149_3 0 rfl rfl)) rfl
theorem f149_72 : ft 149 72 = some (8, 1, 0, .istore 4, 2) := Fm149 (dk_54 4 (dk_at s149_3 3 rfl rfl)) rfl
theorem f149_74 : ft 149 74 = some (8, 1, 0, .goto (-49), 3) := Fm149 (dk_167 255 207 (dk_at s149_3 5 rfl rfl)) rfl
theorem f149_77 : ft 149 77 = some (8, 1, 0, .iconst 1, 1) := Fm149 (dk_4 (dk_at s149_3 8 rfl rfl)) rfl
theorem f149_78 : ft 149 78 = some (8, 1, 0, .iload_n 2, 1) := Fm149 (dk_28 (dk_at s149_3 9 rfl rfl)) rfl
theorem f149_79 : ft 149 79 = some (8, 1, 0, .iadd, 1) := Fm149 (dk_96 (dk_at s149_3 10 rfl rfl)) rfl
theorem f149_80 : ft 149 80 = some (8, 1, 0, .ireturn, 1) := Fm149 (dk_172 (dk_at s149_3 11 rfl rfl)) rfl
theorem q149 {d : Nat} {m : Mem} {a0 a1 : Int} (hd : 0 < d) (hz : TZ m) : le2 (gd (tg m a0 = 8) <| nm (vl m a0 0) fun v2 => gd (tg m v2 = 130103 ∨ tg m v2 = 132103) <| gd ((0 : Int) ≤ a1 ∧ a1 < ln m v2) <| if (vl m v2 a1) < 5 then (some (.inl (some (pI 0)), m)) else bI (cl (d - 1) 137 [pR a0, pI a1] m) fun v1 m1 => rn d 149 25 [pR a0, pI a1, pI 0, pI v1, pI (w32 (a1 + 3)), pU] [] m1) (cl d 149 [pR a0, pI a1] m) := by
  refine q_in (n := 6) (L := [pR a0, pI a1, pU, pU, pU, pU]) rfl rfl rfl ?_
  refine r_aln0 (p := 1) f149_0 rfl ?_
  refine le2_gd (fun h1 => ?_)
  refine r_gfR (f := 0) (p := 4) f149_1 rfl rfl rfl (Or.inl h1) rfl ?_
  refine r_nmR (fun v2 ev2 => ?_)
  refine r_iln1 (p := 5) f149_4 rfl ?_
  refine le2_gd (fun h2 => ?_)
  refine le2_gd (fun h3 => ?_)
  refine r_baload (p := 6) f149_5 rfl (dj2 (fun x => x % 1000 = 103 ∨ x % 1000 = 105) h2 (by decide) (by decide)) h3 rfl ?_
  refine r_iconst (p := 7) f149_6 rfl (pinD rfl rfl) ?_
  refine r_icge (t := 12) (p := 10) f149_7 (by decide) rfl rfl ?_ ?_
  · refine r_iconst (p := 11) f149_10 rfl (pinD rfl rfl) ?_
    exact r_iret1 f149_11
  · refine r_iconst (p := 13) f149_12 rfl (pinD rfl rfl) ?_
    refine r_isn2 (p := 14) f149_13 rfl rfl ?_
    refine r_aln0 (p := 15) f149_14 rfl ?_
    refine r_iln1 (p := 16) f149_15 rfl ?_
    refine r_invI (p := 19) f149_16 rfl rfl rfl (Or.inl h1) hd (Nat.le_of_ble_eq_true rfl) rfl rfl rfl (fun _ => rfl) (fun v1 m1 c1 => ?_)
    have hz1 := z_k c1 hz
    refine r_isn3 (p := 20) f149_19 rfl rfl ?_
    refine r_iln1 (p := 21) f149_20 rfl ?_
    refine r_iconst (p := 22) f149_21 rfl (pinD rfl rfl) ?_
    refine r_iadd (p := 23) f149_22 rfl ?_
    refine r_isw4 (p := 25) f149_23 rfl rfl ?_
    exact le2_refl _
theorem q149_25 {d : Nat} {m : Mem} {a0 a1 a2 a3 a4 : Int} {z5 : PV} (hd : 0 < d) (hz : TZ m) (hcz5 : cat z5 = 1) : le2 (if a4 < a3 then (gd (tg m a0 = 8) <| nm (vl m a0 0) fun v2 => gd (tg m v2 = 130103 ∨ tg m v2 = 132103) <| gd ((0 : Int) ≤ a1 ∧ a1 < ln m v2) <| if (vl m v2 a1) = 6 then (bI (cl (d - 1) 136 [pR a0, pI a4] m) fun v1 m1 => rn d 149 53 [pR a0, pI a1, pI a2, pI a3, pI a4, z5] [pI v1] m1) else rn d 149 53 [pR a0, pI a1, pI a2, pI a3, pI a4, z5] [pI a4] m) else some (.inl (some (pI (w32 (1 + a2)))), m)) (rn d 149 25 [pR a0, pI a1, pI a2, pI a3, pI a4, z5] [] m) := by
  refine r_ilw4 (p := 27) f149_25 rfl ?_
  refine r_iln3 (p := 28) f149_27 rfl ?_
  refine r_icge (t := 77) (p := 31) f149_28 (by decide) rfl rfl ?_ ?_
  · refine r_aln0 (p := 32) f149_31 rfl ?_
    refine le2_gd (fun h1 => ?_)
    refine r_gfR (f := 0) (p := 35) f149_32 rfl rfl rfl (Or.inl h1) rfl ?_
    refine r_nmR (fun v2 ev2 => ?_)
    refine r_iln1 (p := 36) f149_35 rfl ?_
    refine le2_gd (fun h2 => ?_)
    refine le2_gd (fun h3 => ?_)
    refine r_baload (p := 37) f149_36 rfl (dj2 (fun x => x % 1000 = 103 ∨ x % 1000 = 105) h2 (by decide) (by decide)) h3 rfl ?_
    refine r_bipush (p := 39) f149_37 rfl (pinD rfl rfl) ?_
    refine r_icne (t := 51) (p := 42) f149_39 (by decide) rfl rfl ?_ ?_
    · refine r_aln0 (p := 43) f149_42 rfl ?_
      refine r_ilw4 (p := 45) f149_43 rfl ?_
      refine r_invI (p := 48) f149_45 rfl rfl rfl (Or.inl h1) hd (Nat.le_of_ble_eq_true rfl) rfl rfl rfl (fun _ => rfl) (fun v1 m1 c1 => ?_)
      have hz1 := z_k c1 hz
      refine r_goto (p := 53) f149_48 (by decide) rfl ?_
      exact le2_refl _
    · refine r_ilw4 (p := 53) f149_51 rfl ?_
      exact le2_refl _
  · refine r_iconst (p := 78) f149_77 rfl (pinD rfl rfl) ?_
    refine r_iln2 (p := 79) f149_78 rfl ?_
    refine r_iadd (p := 80) f149_79 rfl ?_
    exact r_iret1 f149_80
theorem q149_53 {d : Nat} {m : Mem} {a0 a1 a2 a3 a4 s0 : Int} {z5 : PV} (hd : 0 < d) (hz : TZ m) (hcz5 : cat z5 = 1) : le2 (gd (tg m a0 = 8) <| bI (cl (d - 1) 149 [pR a0, pI s0] m) fun v1 m1 => bI (cl (d - 1) 137 [pR a0, pI s0] m1) fun v2 m2 => rn d 149 25 [pR a0, pI a1, pI (max a2 v1), pI a3, pI v2, pI s0] [] m2) (rn d 149 53 [pR a0, pI a1, pI a2, pI a3, pI a4, z5] [pI s0] m) := by
  refine r_isw5 (p := 55) f149_53 rfl rfl ?_
  refine r_iln2 (p := 56) f149_55 rfl ?_
  refine r_aln0 (p := 57) f149_56 rfl ?_
  refine r_ilw5 (p := 59) f149_57 rfl ?_
  refine le2_gd (fun h1 => ?_)
  refine r_invI (p := 62) f149_59 rfl rfl rfl (Or.inl h1) hd (Nat.le_of_ble_eq_true rfl) rfl rfl rfl (fun _ => rfl) (fun v1 m1 c1 => ?_)
  have hz1 := z_k c1 hz
  refine r_math6 (p := 65) f149_62 rfl rfl (Nat.le_of_ble_eq_true rfl) ?_
  refine r_isn2 (p := 66) f149_65 rfl rfl ?_
  refine r_aln0 (p := 67) f149_66 rfl ?_
  refine r_ilw5 (p := 69) f149_67 rfl ?_
  have h2 := k_t1 c1 hz h1 (by decide)
  refine r_invI (p := 72) f149_69 rfl rfl rfl (Or.inl h2) hd (Nat.le_of_ble_eq_true rfl) rfl rfl rfl (fun _ => rfl) (fun v2 m2 c2 => ?_)
  have hz2 := z_k c2 hz1
  refine r_isw4 (p := 74) f149_72 rfl rfl ?_
  refine r_goto (p := 25) f149_74 (by decide) rfl ?_
  exact le2_refl _
/-! 150 PathStore$Row.first (I)I -/
def w150_1 : List UInt8 := [167, 0, 10, 42, 27, 6, 96, 182, 0, 51, 172]
abbrev u150_1 : List UInt8 := w150_1 ++ []
def w150_0 : List UInt8 := [42, 180, 0, 9, 27, 51, 8, 159, 0, 13, 42, 27, 4, 96, 182, 0, 40, 154, 0, 9, 27, 6, 96]
abbrev u150_0 : List UInt8 := w150_0 ++ u150_1
theorem s150_0 : (prog_21_method_19_code).data.toList.drop 0 = u150_0 := by decide +kernel
theorem s150_1 : (prog_21_method_19_code).data.toList.drop 23 = u150_1 := dk_seg s150_0 23 rfl rfl
theorem Fm150 {pc len : Nat} {i : Instr} (h : decode (prog_21_method_19_code) pc = .ok (i, len)) (hl : len = ilen i len) : ft 150 pc = some (8, 1, 0, i, len) := ft_mk rfl h hl
theorem f150_0 : ft 150 0 = some (8, 1, 0, .aload_n 0, 1) := Fm150 (dk_42 (dk_at s150_0 0 rfl rfl)) rfl
theorem f150_1 : ft 150 1 = some (8, 1, 0, .getfield 9, 3) := Fm150 (dk_180 0 9 (dk_at s150_0 1 rfl rfl)) rfl
theorem f150_4 : ft 150 4 = some (8, 1, 0, .iload_n 1, 1) := Fm150 (dk_27 (dk_at s150_0 4 rfl rfl)) rfl
theorem f150_5 : ft 150 5 = some (8, 1, 0, .baload, 1) := Fm150 (dk_51 (dk_at s150_0 5 rfl rfl)) rfl
theorem f150_6 : ft 150 6 = some (8, 1, 0, .iconst 5, 1) := Fm150 (dk_8 (dk_at s150_0 6 rfl rfl)) rfl
theorem f150_7 : ft 150 7 = some (8, 1, 0, .if_icmp .eq 13, 3) := Fm150 (dk_159 0 13 (dk_at s150_0 7 rfl rfl)) rfl
theorem f150_10 : ft 150 10 = some (8, 1, 0, .aload_n 0, 1) := Fm150 (dk_42 (dk_at s150_0 10 rfl rfl)) rfl
theorem f150_11 : ft 150 11 = some (8, 1, 0, .iload_n 1, 1) := Fm150 (dk_27 (dk_at s150_0 11 rfl rfl)) rfl
theorem f150_12 : ft 150 12 = some (8, 1, 0, .iconst 1, 1) := Fm150 (dk_4 (dk_at s150_0 12 rfl rfl)) rfl
theorem f150_13 : ft 150 13 = some (8, 1, 0, .iadd, 1) := Fm150 (dk_96 (dk_at s150_0 13 rfl rfl)) rfl
theorem f150_14 : ft 150 14 = some (8, 1, 0, .invokevirtual 40, 3) := Fm150 (dk_182 0 40 (dk_at s150_0 14 rfl rfl)) rfl
theorem f150_17 : ft 150 17 = some (8, 1, 0, .ifCond .ne 9, 3) := Fm150 (dk_154 0 9 (dk_at s150_0 17 rfl rfl)) rfl
theorem f150_20 : ft 150 20 = some (8, 1, 0, .iload_n 1, 1) := Fm150 (dk_27 (dk_at s150_0 20 rfl rfl)) rfl
theorem f150_21 : ft 150 21 = some (8, 1, 0, .iconst 3, 1) := Fm150 (dk_6 (dk_at s150_0 21 rfl rfl)) rfl
theorem f150_22 : ft 150 22 = some (8, 1, 0, .iadd, 1) := Fm150 (dk_96 (dk_at s150_0 22 rfl rfl)) rfl
theorem f150_23 : ft 150 23 = some (8, 1, 0, .goto 10, 3) := Fm150 (dk_167 0 10 (dk_at s150_1 0 rfl rfl)) rfl
theorem f150_26 : ft 150 26 = some (8, 1, 0, .aload_n 0, 1) := Fm150 (dk_42 (dk_at s150_1 3 rfl rfl)) rfl
theorem f150_27 : ft 150 27 = some (8, 1, 0, .iload_n 1, 1) := Fm150 (dk_27 (dk_at s150_1 4 rfl rfl)) rfl
theorem f150_28 : ft 150 28 = some (8, 1, 0, .iconst 3, 1) := Fm150 (dk_6 (dk_at s150_1 5 rfl rfl)) rfl
theorem f150_29 : ft 150 29 = some (8, 1, 0, .iadd, 1) := Fm150 (dk_96 (dk_at s150_1 6 rfl rfl)) rfl
theorem f150_30 : ft 150 30 = some (8, 1, 0, .invokevirtual 51, 3) := Fm150 (dk_182 0 51 (dk_at s150_1 7 rfl rfl)) rfl
theorem f150_33 : ft 150 33 = some (8, 1, 0, .ireturn, 1) := Fm150 (dk_172 (dk_at s150_1 10 rfl rfl)) rfl
theorem q150 {d : Nat} {m : Mem} {a0 a1 : Int} (hd : 0 < d) (hz : TZ m) : le2 (gd (tg m a0 = 8) <| nm (vl m a0 0) fun v3 => gd (tg m v3 = 130103 ∨ tg m v3 = 132103) <| gd ((0 : Int) ≤ a1 ∧ a1 < ln m v3) <| if (vl m v3 a1) = 5 then (some (.inl (some (pI (w32 (a1 + 3)))), m)) else bI (cl (d - 1) 134 [pR a0, pI (w32 (a1 + 1))] m) fun v1 m1 => if v1 = 0 then (some (.inl (some (pI (w32 (a1 + 3)))), m1)) else bI (cl (d - 1) 136 [pR a0, pI (w32 (a1 + 3))] m1) fun v2 m2 => some (.inl (some (pI v2)), m2)) (cl d 150 [pR a0, pI a1] m) := by
  refine q_in (n := 2) (L := [pR a0, pI a1]) rfl rfl rfl ?_
  refine r_aln0 (p := 1) f150_0 rfl ?_
  refine le2_gd (fun h1 => ?_)
  refine r_gfR (f := 0) (p := 4) f150_1 rfl rfl rfl (Or.inl h1) rfl ?_
  refine r_nmR (fun v3 ev3 => ?_)
  refine r_iln1 (p := 5) f150_4 rfl ?_
  refine le2_gd (fun h2 => ?_)
  refine le2_gd (fun h3 => ?_)
  refine r_baload (p := 6) f150_5 rfl (dj2 (fun x => x % 1000 = 103 ∨ x % 1000 = 105) h2 (by decide) (by decide)) h3 rfl ?_
  refine r_iconst (p := 7) f150_6 rfl (pinD rfl rfl) ?_
  refine r_iceq (t := 20) (p := 10) f150_7 (by decide) rfl rfl ?_ ?_
  · refine r_iln1 (p := 21) f150_20 rfl ?_
    refine r_iconst (p := 22) f150_21 rfl (pinD rfl rfl) ?_
    refine r_iadd (p := 23) f150_22 rfl ?_
    refine r_goto (p := 33) f150_23 (by decide) rfl ?_
    exact r_iret1 f150_33
  · refine r_aln0 (p := 11) f150_10 rfl ?_
    refine r_iln1 (p := 12) f150_11 rfl ?_
    refine r_iconst (p := 13) f150_12 rfl (pinD rfl rfl) ?_
    refine r_iadd (p := 14) f150_13 rfl ?_
    refine r_invI (p := 17) f150_14 rfl rfl rfl (Or.inl h1) hd (Nat.le_of_ble_eq_true rfl) rfl rfl rfl (fun _ => rfl) (fun v1 m1 c1 => ?_)
    have hz1 := z_k c1 hz
    refine r_ifne (t := 26) (p := 20) f150_17 (by decide) rfl rfl ?_ ?_
    · refine r_iln1 (p := 21) f150_20 rfl ?_
      refine r_iconst (p := 22) f150_21 rfl (pinD rfl rfl) ?_
      refine r_iadd (p := 23) f150_22 rfl ?_
      refine r_goto (p := 33) f150_23 (by decide) rfl ?_
      exact r_iret1 f150_33
    · refine r_aln0 (p := 27) f150_26 rfl ?_
      refine r_iln1 (p := 28) f150_27 rfl ?_
      refine r_iconst (p := 29) f150_28 rfl (pinD rfl rfl) ?_
      refine r_iadd (p := 30) f150_29 rfl ?_
      have h4 := k_t1 c1 hz h1 (by decide)
      refine r_invI (p := 33) f150_30 rfl rfl rfl (Or.inl h4) hd (Nat.le_of_ble_eq_true rfl) rfl rfl rfl (fun _ => rfl) (fun v2 m2 c2 => ?_)
      have hz2 := z_k c2 hz1
      exact r_iret1 f150_33
/-! 151 PathStore$Row.next (II)I -/
def w151_1 : List UInt8 := [160, 0, 7, 29, 167, 0, 8, 42, 29, 182, 0, 51, 172]
abbrev u151_1 : List UInt8 := w151_1 ++ []
def w151_0 : List UInt8 := [42, 28, 182, 0, 44, 62, 42, 180, 0, 9, 27, 51, 8, 159, 0, 12, 29, 42, 27, 182, 0, 44]
abbrev u151_0 : List UInt8 := w151_0 ++ u151_1
theorem s151_0 : (prog_21_method_20_code).data.toList.drop 0 = u151_0 := by decide +kernel
theorem s151_1 : (prog_21_method_20_code).data.toList.drop 22 = u151_1 := dk_seg s151_0 22 rfl rfl
theorem Fm151 {pc len : Nat} {i : Instr} (h : decode (prog_21_method_20_code) pc = .ok (i, len)) (hl : len = ilen i len) : ft 151 pc = some (8, 1, 0, i, len) := ft_mk rfl h hl
theorem f151_0 : ft 151 0 = some (8, 1, 0, .aload_n 0, 1) := Fm151 (dk_42 (dk_at s151_0 0 rfl rfl)) rfl
theorem f151_1 : ft 151 1 = some (8, 1, 0, .iload_n 2, 1) := Fm151 (dk_28 (dk_at s151_0 1 rfl rfl)) rfl
theorem f151_2 : ft 151 2 = some (8, 1, 0, .invokevirtual 44, 3) := Fm151 (dk_182 0 44 (dk_at s151_0 2 rfl rfl)) rfl
theorem f151_5 : ft 151 5 = some (8, 1, 0, .istore_n 3, 1) := Fm151 (dk_62 (dk_at s151_0 5 rfl rfl)) rfl
theorem f151_6 : ft 151 6 = some (8, 1, 0, .aload_n 0, 1) := Fm151 (dk_42 (dk_at s151_0 6 rfl rfl)) rfl
theorem f151_7 : ft 151 7 = some (8, 1, 0, .getfield 9, 3) := Fm151 (dk_180 0 9 (dk_at s151_0 7 rfl rfl)) rfl
theorem f151_10 : ft 151 10 = some (8, 1, 0, .iload_n 1, 1) := Fm151 (dk_27 (dk_at s151_0 10 rfl rfl)) rfl
theorem f151_11 : ft 151 11 = some (8, 1, 0, .baload, 1) := Fm151 (dk_51 (dk_at s151_0 11 rfl rfl)) rfl
theorem f151_12 : ft 151 12 = some (8, 1, 0, .iconst 5, 1) := Fm151 (dk_8 (dk_at s151_0 12 rfl rfl)) rfl
theorem f151_13 : ft 151 13 = some (8, 1, 0, .if_icmp .eq 12, 3) := Fm151 (dk_159 0 12 (dk_at s151_0 13 rfl rfl)) rfl
theorem f151_16 : ft 151 16 = some (8, 1, 0, .iload_n 3, 1) := Fm151 (dk_29 (dk_at s151_0 16 rfl rfl)) rfl
theorem f151_17 : ft 151 17 = some (8, 1, 0, .aload_n 0, 1) := Fm151 (dk_42 (dk_at s151_0 17 rfl rfl)) rfl
theorem f151_18 : ft 151 18 = some (8, 1, 0, .iload_n 1, 1) := Fm151 (dk_27 (dk_at s151_0 18 rfl rfl)) rfl
theorem f151_19 : ft 151 19 = some (8, 1, 0, .invokevirtual 44, 3) := Fm151 (dk_182 0 44 (dk_at s151_0 19 rfl rfl)) rfl
theorem f151_22 : ft 151 22 = some (8, 1, 0, .if_icmp .ne 7, 3) := Fm151 (dk_160 0 7 (dk_at s151_1 0 rfl rfl)) rfl
theorem f151_25 : ft 151 25 = some (8, 1, 0, .iload_n 3, 1) := Fm151 (dk_29 (dk_at s151_1 3 rfl rfl)) rfl
theorem f151_26 : ft 151 26 = some (8, 1, 0, .goto 8, 3) := Fm151 (dk_167 0 8 (dk_at s151_1 4 rfl rfl)) rfl
theorem f151_29 : ft 151 29 = some (8, 1, 0, .aload_n 0, 1) := Fm151 (dk_42 (dk_at s151_1 7 rfl rfl)) rfl
theorem f151_30 : ft 151 30 = some (8, 1, 0, .iload_n 3, 1) := Fm151 (dk_29 (dk_at s151_1 8 rfl rfl)) rfl
theorem f151_31 : ft 151 31 = some (8, 1, 0, .invokevirtual 51, 3) := Fm151 (dk_182 0 51 (dk_at s151_1 9 rfl rfl)) rfl
theorem f151_34 : ft 151 34 = some (8, 1, 0, .ireturn, 1) := Fm151 (dk_172 (dk_at s151_1 12 rfl rfl)) rfl
theorem q151 {d : Nat} {m : Mem} {a0 a1 a2 : Int} (hd : 0 < d) (hz : TZ m) : le2 (gd (tg m a0 = 8) <| bI (cl (d - 1) 137 [pR a0, pI a2] m) fun v1 m1 => nm (vl m1 a0 0) fun v4 => gd (tg m1 v4 = 130103 ∨ tg m1 v4 = 132103) <| gd ((0 : Int) ≤ a1 ∧ a1 < ln m1 v4) <| if (vl m1 v4 a1) = 5 then (some (.inl (some (pI v1)), m1)) else bI (cl (d - 1) 137 [pR a0, pI a1] m1) fun v2 m2 => if v1 = v2 then (some (.inl (some (pI v1)), m2)) else bI (cl (d - 1) 136 [pR a0, pI v1] m2) fun v3 m3 => some (.inl (some (pI v3)), m3)) (cl d 151 [pR a0, pI a1, pI a2] m) := by
  refine q_in (n := 4) (L := [pR a0, pI a1, pI a2, pU]) rfl rfl rfl ?_
  refine r_aln0 (p := 1) f151_0 rfl ?_
  refine r_iln2 (p := 2) f151_1 rfl ?_
  refine le2_gd (fun h1 => ?_)
  refine r_invI (p := 5) f151_2 rfl rfl rfl (Or.inl h1) hd (Nat.le_of_ble_eq_true rfl) rfl rfl rfl (fun _ => rfl) (fun v1 m1 c1 => ?_)
  have hz1 := z_k c1 hz
  refine r_isn3 (p := 6) f151_5 rfl rfl ?_
  refine r_aln0 (p := 7) f151_6 rfl ?_
  have h2 := k_t1 c1 hz h1 (by decide)
  refine r_gfR (f := 0) (p := 10) f151_7 rfl rfl rfl (Or.inl h2) rfl ?_
  refine r_nmR (fun v4 ev4 => ?_)
  refine r_iln1 (p := 11) f151_10 rfl ?_
  refine le2_gd (fun h3 => ?_)
  refine le2_gd (fun h4 => ?_)
  refine r_baload (p := 12) f151_11 rfl (dj2 (fun x => x % 1000 = 103 ∨ x % 1000 = 105) h3 (by decide) (by decide)) h4 rfl ?_
  refine r_iconst (p := 13) f151_12 rfl (pinD rfl rfl) ?_
  refine r_iceq (t := 25) (p := 16) f151_13 (by decide) rfl rfl ?_ ?_
  · refine r_iln3 (p := 26) f151_25 rfl ?_
    refine r_goto (p := 34) f151_26 (by decide) rfl ?_
    exact r_iret1 f151_34
  · refine r_iln3 (p := 17) f151_16 rfl ?_
    refine r_aln0 (p := 18) f151_17 rfl ?_
    refine r_iln1 (p := 19) f151_18 rfl ?_
    refine r_invI (p := 22) f151_19 rfl rfl rfl (Or.inl h2) hd (Nat.le_of_ble_eq_true rfl) rfl rfl rfl (fun _ => rfl) (fun v2 m2 c2 => ?_)
    have hz2 := z_k c2 hz1
    refine r_icne (t := 29) (p := 25) f151_22 (by decide) rfl rfl ?_ ?_
    · refine r_iln3 (p := 26) f151_25 rfl ?_
      refine r_goto (p := 34) f151_26 (by decide) rfl ?_
      exact r_iret1 f151_34
    · refine r_aln0 (p := 30) f151_29 rfl ?_
      refine r_iln3 (p := 31) f151_30 rfl ?_
      have h5 := k_t1 c2 hz1 h2 (by decide)
      refine r_invI (p := 34) f151_31 rfl rfl rfl (Or.inl h5) hd (Nat.le_of_ble_eq_true rfl) rfl rfl rfl (fun _ => rfl) (fun v3 m3 c3 => ?_)
      have hz3 := z_k c3 hz2
      exact r_iret1 f151_34
