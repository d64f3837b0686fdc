/-! what methods do, written by wip/D-67560w/tools/gen_parts.py -/
set_option maxRecDepth 100000
set_option maxHeartbeats 4000000
/-! 51 PathStore$Sink.<init> (I)V -/
def w51_0 : List UInt8 := [42, 183, 0, 3, 42, 27, 188, 8, 181, 0, 9, 177]
abbrev u51_0 : List UInt8 := w51_0 ++ []
theorem s51_0 : (prog_25_method_1_code).data.toList.drop 0 = u51_0 := by decide +kernel
theorem Fm51 {pc len : Nat} {i : Instr} (h : decode (prog_25_method_1_code) pc = .ok (i, len)) (hl : len = ilen i len) : ft 51 pc = some (2, 0, 1, i, len) := ft_mk rfl h hl
theorem f51_0 : ft 51 0 = some (2, 0, 1, .aload_n 0, 1) := Fm51 (dk_42 (dk_at s51_0 0 rfl rfl)) rfl
theorem f51_1 : ft 51 1 = some (2, 0, 1, .invokespecial 3, 3) := Fm51 (dk_183 0 3 (dk_at s51_0 1 rfl rfl)) rfl
theorem f51_4 : ft 51 4 = some (2, 0, 1, .aload_n 0, 1) := Fm51 (dk_42 (dk_at s51_0 4 rfl rfl)) rfl
theorem f51_5 : ft 51 5 = some (2, 0, 1, .iload_n 1, 1) := Fm51 (dk_27 (dk_at s51_0 5 rfl rfl)) rfl
theorem f51_6 : ft 51 6 = some (2, 0, 1, .newarray .byte, 2) := Fm51 (dk_188_8 (dk_at s51_0 6 rfl rfl)) rfl
theorem f51_8 : ft 51 8 = some (2, 0, 1, .putfield 9, 3) := Fm51 (dk_181 0 9 (dk_at s51_0 8 rfl rfl)) rfl
theorem f51_11 : ft 51 11 = some (2, 0, 1, .return_, 1) := Fm51 (dk_177 (dk_at s51_0 11 rfl rfl)) rfl
theorem q51 {d : Nat} {m : Mem} {a0 a1 : Int} (hz : TZ m) : le2 (gd (tg m a0 = 2) <| gd ((0 : Int) ≤ a1 ∧ a1 ≤ 2000000) <| nw (nx m) (mal m 52103 a1) fun o1 m1 => some (.inl none, (mst m1 a0 0 o1))) (cl d 51 [pR a0, pI a1] m) := by
  refine q_in (n := 2) (L := [pR a0, pI a1]) rfl rfl rfl ?_
  refine r_aln0 (p := 1) f51_0 rfl ?_
  refine le2_gd (fun h1 => ?_)
  refine r_objinit (p := 4) f51_1 rfl rfl (dj1 (fun x => 0 < x ∧ x < 100) h1 (by decide)) (Nat.le_of_ble_eq_true rfl) ?_
  refine r_aln0 (p := 5) f51_4 rfl ?_
  refine r_iln1 (p := 6) f51_5 rfl ?_
  refine le2_gd (fun h2 => ?_)
  refine r_newa (t1 := 52103) (p := 8) f51_6 rfl rfl h2 rfl rfl (fun o1 m1 h3 k1 => ?_)
  have hz1 := z_k k1 hz
  have h4 := k_t1 k1 hz h1 (by decide)
  refine r_pfR (f := 0) (p := 11) f51_8 rfl rfl rfl (by decide) (by decide) (Or.inl h4) rfl ?_
  exact r_ret f51_11
/-! 52 PathStore$Sink.value (LPathStore$Row;I)V -/
def w52_4 : List UInt8 := [182, 0, 81, 177, 42, 43, 28, 182, 0, 85, 177]
abbrev u52_4 : List UInt8 := w52_4 ++ []
def w52_3 : List UInt8 := [4, 96, 182, 0, 70, 182, 0, 74, 177, 42, 43, 28, 6, 96, 43, 28, 4, 96, 182, 0, 78, 16, 34]
abbrev u52_3 : List UInt8 := w52_3 ++ u52_4
def w52_2 : List UInt8 := [42, 18, 60, 182, 0, 62, 177, 42, 18, 66, 182, 0, 62, 177, 42, 18, 68, 182, 0, 62, 177, 42, 43, 28]
abbrev u52_2 : List UInt8 := w52_2 ++ u52_3
def w52_1 : List UInt8 := [170, 0, 0, 0, 0, 0, 86, 0, 0, 0, 0, 0, 0, 0, 4, 0, 0, 0, 35, 0, 0, 0, 42, 0, 0, 0, 49, 0, 0, 0, 56, 0, 0, 0, 68]
abbrev u52_1 : List UInt8 := w52_1 ++ u52_2
def w52_0 : List UInt8 := [43, 28, 182, 0, 57]
abbrev u52_0 : List UInt8 := w52_0 ++ u52_1
theorem s52_0 : (prog_25_method_8_code).data.toList.drop 0 = u52_0 := by decide +kernel
theorem s52_1 : (prog_25_method_8_code).data.toList.drop 5 = u52_1 := dk_seg s52_0 5 rfl rfl
theorem s52_2 : (prog_25_method_8_code).data.toList.drop 40 = u52_2 := dk_seg s52_1 35 rfl rfl
theorem s52_3 : (prog_25_method_8_code).data.toList.drop 64 = u52_3 := dk_seg s52_2 24 rfl rfl
theorem s52_4 : (prog_25_method_8_code).data.toList.drop 87 = u52_4 := dk_seg s52_3 23 rfl rfl
theorem Fm52 {pc len : Nat} {i : Instr} (h : decode (prog_25_method_8_code) pc = .ok (i, len)) (hl : len = ilen i len) : ft 52 pc = some (2, 0, 0, i, len) := ft_mk rfl h hl
theorem f52_0 : ft 52 0 = some (2, 0, 0, .aload_n 1, 1) := Fm52 (dk_43 (dk_at s52_0 0 rfl rfl)) rfl
theorem f52_1 : ft 52 1 = some (2, 0, 0, .iload_n 2, 1) := Fm52 (dk_28 (dk_at s52_0 1 rfl rfl)) rfl
theorem f52_2 : ft 52 2 = some (2, 0, 0, .invokevirtual 57, 3) := Fm52 (dk_182 0 57 (dk_at s52_0 2 rfl rfl)) rfl
theorem f52_5 : ft 52 5 = some (2, 0, 0, .tableswitch 86 0 4 #[35, 42, 49, 56, 68], 35) := Fm52 (by decide +kernel) rfl
theorem f52_40 : ft 52 40 = some (2, 0, 0, .aload_n 0, 1) := Fm52 (dk_42 (dk_at s52_2 0 rfl rfl)) rfl
theorem f52_41 : ft 52 41 = some (2, 0, 0, .ldc 60, 2) := Fm52 (dk_18 60 (dk_at s52_2 1 rfl rfl)) rfl
theorem f52_43 : ft 52 43 = some (2, 0, 0, .invokevirtual 62, 3) := Fm52 (dk_182 0 62 (dk_at s52_2 3 rfl rfl)) rfl
theorem f52_46 : ft 52 46 = some (2, 0, 0, .return_, 1) := Fm52 (dk_177 (dk_at s52_2 6 rfl rfl)) rfl
theorem f52_47 : ft 52 47 = some (2, 0, 0, .aload_n 0, 1) := Fm52 (dk_42 (dk_at s52_2 7 rfl rfl)) rfl
theorem f52_48 : ft 52 48 = some (2, 0, 0, .ldc 66, 2) := Fm52 (dk_18 66 (dk_at s52_2 8 rfl rfl)) rfl
theorem f52_50 : ft 52 50 = some (2, 0, 0, .invokevirtual 62, 3) := Fm52 (dk_182 0 62 (dk_at s52_2 10 rfl rfl)) rfl
theorem f52_53 : ft 52 53 = some (2, 0, 0, .return_, 1) := Fm52 (dk_177 (dk_at s52_2 13 rfl rfl)) rfl
theorem f52_54 : ft 52 54 = some (2, 0, 0, .aload_n 0, 1) := Fm52 (dk_42 (dk_at s52_2 14 rfl rfl)) rfl
theorem f52_55 : ft 52 55 = some (2, 0, 0, .ldc 68, 2) := Fm52 (dk_18 68 (dk_at s52_2 15 rfl rfl)) rfl
theorem f52_57 : ft 52 57 = some (2, 0, 0, .invokevirtual 62, 3) := Fm52 (dk_182 0 62 (dk_at s52_2 17 rfl rfl)) rfl
theorem f52_60 : ft 52 60 = some (2, 0, 0, .return_, 1) := Fm52 (dk_177 (dk_at s52_2 20 rfl rfl)) rfl
theorem f52_61 : ft 52 61 = some (2, 0, 0, .aload_n 0, 1) := Fm52 (dk_42 (dk_at s52_2 21 rfl rfl)) rfl
theorem f52_62 : ft 52 62 = some (2, 0, 0, .aload_n 1, 1) := Fm52 (dk_43 (dk_at s52_2 22 rfl rfl)) rfl
theorem f52_63 : ft 52 63 = some (2, 0, 0, .iload_n 2, 1) := Fm52 (dk_28 (dk_at s52_2 23 rfl rfl)) rfl
theorem f52_64 : ft 52 64 = some (2, 0, 0, .iconst 1, 1) := Fm52 (dk_4 (dk_at s52_3 0 rfl rfl)) rfl
theorem f52_65 : ft 52 65 = some (2, 0, 0, .iadd, 1) := Fm52 (dk_96 (dk_at s52_3 1 rfl rfl)) rfl
theorem f52_66 : ft 52 66 = some (2, 0, 0, .invokevirtual 70, 3) := Fm52 (dk_182 0 70 (dk_at s52_3 2 rfl rfl)) rfl
theorem f52_69 : ft 52 69 = some (2, 0, 0, .invokevirtual 74, 3) := Fm52 (dk_182 0 74 (dk_at s52_3 5 rfl rfl)) rfl
theorem f52_72 : ft 52 72 = some (2, 0, 0, .return_, 1) := Fm52 (dk_177 (dk_at s52_3 8 rfl rfl)) rfl
theorem f52_73 : ft 52 73 = some (2, 0, 0, .aload_n 0, 1) := Fm52 (dk_42 (dk_at s52_3 9 rfl rfl)) rfl
theorem f52_74 : ft 52 74 = some (2, 0, 0, .aload_n 1, 1) := Fm52 (dk_43 (dk_at s52_3 10 rfl rfl)) rfl
theorem f52_75 : ft 52 75 = some (2, 0, 0, .iload_n 2, 1) := Fm52 (dk_28 (dk_at s52_3 11 rfl rfl)) rfl
theorem f52_76 : ft 52 76 = some (2, 0, 0, .iconst 3, 1) := Fm52 (dk_6 (dk_at s52_3 12 rfl rfl)) rfl
theorem f52_77 : ft 52 77 = some (2, 0, 0, .iadd, 1) := Fm52 (dk_96 (dk_at s52_3 13 rfl rfl)) rfl
theorem f52_78 : ft 52 78 = some (2, 0, 0, .aload_n 1, 1) := Fm52 (dk_43 (dk_at s52_3 14 rfl rfl)) rfl
theorem f52_79 : ft 52 79 = some (2, 0, 0, .iload_n 2, 1) := Fm52 (dk_28 (dk_at s52_3 15 rfl rfl)) rfl
theorem f52_80 : ft 52 80 = some (2, 0, 0, .iconst 1, 1) := Fm52 (dk_4 (dk_at s52_3 16 rfl rfl)) rfl
theorem f52_81 : ft 52 81 = some (2, 0, 0, .iadd, 1) := Fm52 (dk_96 (dk_at s52_3 17 rfl rfl)) rfl
theorem f52_82 : ft 52 82 = some (2, 0, 0, .invokevirtual 78, 3) := Fm52 (dk_182 0 78 (dk_at s52_3 18 rfl rfl)) rfl
theorem f52_85 : ft 52 85 = some (2, 0, 0, .bipush 34, 2) := Fm52 (dk_16 34 (dk_at s52_3 21 rfl rfl)) rfl
theorem f52_87 : ft 52 87 = some (2, 0, 0, .invokevirtual 81, 3) := Fm52 (dk_182 0 81 (dk_at s52_4 0 rfl rfl)) rfl
theorem f52_90 : ft 52 90 = some (2, 0, 0, .return_, 1) := Fm52 (dk_177 (dk_at s52_4 3 rfl rfl)) rfl
theorem f52_91 : ft 52 91 = some (2, 0, 0, .aload_n 0, 1) := Fm52 (dk_42 (dk_at s52_4 4 rfl rfl)) rfl
theorem f52_92 : ft 52 92 = some (2, 0, 0, .aload_n 1, 1) := Fm52 (dk_43 (dk_at s52_4 5 rfl rfl)) rfl
theorem f52_93 : ft 52 93 = some (2, 0, 0, .iload_n 2, 1) := Fm52 (dk_28 (dk_at s52_4 6 rfl rfl)) rfl
theorem f52_94 : ft 52 94 = some (2, 0, 0, .invokevirtual 85, 3) := Fm52 (dk_182 0 85 (dk_at s52_4 7 rfl rfl)) rfl
theorem f52_97 : ft 52 97 = some (2, 0, 0, .return_, 1) := Fm52 (dk_177 (dk_at s52_4 10 rfl rfl)) rfl
theorem q52 {d : Nat} {m : Mem} {a0 a1 a2 : Int} (hd : 0 < d) (hz : TZ m) : le2 (gd (tg m a1 = 8) <| bI (cl (d - 1) 139 [pR a1, pI a2] m) fun v1 m1 => if v1 = 0 then (gd (tg m1 a0 = 2) <| bV (cl (d - 1) 53 [pR a0, pR 16] m1) fun m9 => some (.inl none, m9)) else if v1 = 1 then (gd (tg m1 a0 = 2) <| bV (cl (d - 1) 53 [pR a0, pR 18] m1) fun m8 => some (.inl none, m8)) else if v1 = 2 then (gd (tg m1 a0 = 2) <| bV (cl (d - 1) 53 [pR a0, pR 20] m1) fun m7 => some (.inl none, m7)) else if v1 = 3 then (bL (cl (d - 1) 140 [pR a1, pI (w32 (a2 + 1))] m1) fun v5 m5 => gd (tg m5 a0 = 2) <| bV (cl (d - 1) 55 [pR a0, pL v5] m5) fun m6 => some (.inl none, m6)) else if v1 = 4 then (bI (cl (d - 1) 134 [pR a1, pI (w32 (a2 + 1))] m1) fun v3 m3 => gd (tg m3 a0 = 2) <| bV (cl (d - 1) 56 [pR a0, pR a1, pI (w32 (a2 + 3)), pI v3, pI 34] m3) fun m4 => some (.inl none, m4)) else gd (tg m1 a0 = 2) <| bV (cl (d - 1) 59 [pR a0, pR a1, pI a2] m1) fun m2 => some (.inl none, m2)) (cl d 52 [pR a0, pR a1, pI a2] m) := by
  refine q_in (n := 3) (L := [pR a0, pR a1, pI a2]) rfl rfl rfl ?_
  refine r_aln1 (p := 1) f52_0 rfl ?_
  refine r_iln2 (p := 2) f52_1 rfl ?_
  refine le2_gd (fun h1 => ?_)
  refine r_invI (p := 5) f52_2 rfl rfl rfl (Or.inl h1) hd (Nat.le_of_ble_eq_true rfl) rfl rfl rfl (fun _ => rfl) (fun v1 m1 c1 => ?_)
  have hz1 := z_k c1 hz
  refine le2_ite (fun h13 => ?_) (fun h13 => ?_)
  · refine r_tsI (off := 35) (t := 40) f52_5 h13 rfl rfl (by decide) rfl ?_
    refine r_aln0 (p := 41) f52_40 rfl ?_
    refine r_ldcR (p := 43) f52_41 rfl rfl ?_
    refine le2_gd (fun h14 => ?_)
    refine r_invV (p := 46) f52_43 rfl rfl rfl (Or.inl h14) hd (Nat.le_of_ble_eq_true rfl) rfl rfl rfl (fun _ => rfl) (fun m9 c9 => ?_)
    have hz9 := z_k c9 hz1
    exact r_ret f52_46
  · refine le2_ite (fun h11 => ?_) (fun h11 => ?_)
    · refine r_tsI (off := 42) (t := 47) f52_5 h11 rfl rfl (by decide) rfl ?_
      refine r_aln0 (p := 48) f52_47 rfl ?_
      refine r_ldcR (p := 50) f52_48 rfl rfl ?_
      refine le2_gd (fun h12 => ?_)
      refine r_invV (p := 53) f52_50 rfl rfl rfl (Or.inl h12) hd (Nat.le_of_ble_eq_true rfl) rfl rfl rfl (fun _ => rfl) (fun m8 c8 => ?_)
      have hz8 := z_k c8 hz1
      exact r_ret f52_53
    · refine le2_ite (fun h9 => ?_) (fun h9 => ?_)
      · refine r_tsI (off := 49) (t := 54) f52_5 h9 rfl rfl (by decide) rfl ?_
        refine r_aln0 (p := 55) f52_54 rfl ?_
        refine r_ldcR (p := 57) f52_55 rfl rfl ?_
        refine le2_gd (fun h10 => ?_)
        refine r_invV (p := 60) f52_57 rfl rfl rfl (Or.inl h10) hd (Nat.le_of_ble_eq_true rfl) rfl rfl rfl (fun _ => rfl) (fun m7 c7 => ?_)
        have hz7 := z_k c7 hz1
        exact r_ret f52_60
      · refine le2_ite (fun h6 => ?_) (fun h6 => ?_)
        · refine r_tsI (off := 56) (t := 61) f52_5 h6 rfl rfl (by decide) rfl ?_
          refine r_aln0 (p := 62) f52_61 rfl ?_
          refine r_aln1 (p := 63) f52_62 rfl ?_
          refine r_iln2 (p := 64) f52_63 rfl ?_
          refine r_iconst (p := 65) f52_64 rfl (pinD rfl rfl) ?_
          refine r_iadd (p := 66) f52_65 rfl ?_
          have h7 := k_t1 c1 hz h1 (by decide)
          refine r_invL (p := 69) f52_66 rfl rfl rfl (Or.inl h7) hd (Nat.le_of_ble_eq_true rfl) rfl rfl rfl (fun _ => rfl) (fun v5 m5 c5 => ?_)
          have hz5 := z_k c5 hz1
          refine le2_gd (fun h8 => ?_)
          refine r_invV (p := 72) f52_69 rfl rfl rfl (Or.inl h8) hd (Nat.le_of_ble_eq_true rfl) rfl rfl rfl (fun _ => rfl) (fun m6 c6 => ?_)
          have hz6 := z_k c6 hz5
          exact r_ret f52_72
        · refine le2_ite (fun h3 => ?_) (fun h3 => ?_)
          · refine r_tsI (off := 68) (t := 73) f52_5 h3 rfl rfl (by decide) rfl ?_
            refine r_aln0 (p := 74) f52_73 rfl ?_
            refine r_aln1 (p := 75) f52_74 rfl ?_
            refine r_iln2 (p := 76) f52_75 rfl ?_
            refine r_iconst (p := 77) f52_76 rfl (pinD rfl rfl) ?_
            refine r_iadd (p := 78) f52_77 rfl ?_
            refine r_aln1 (p := 79) f52_78 rfl ?_
            refine r_iln2 (p := 80) f52_79 rfl ?_
            refine r_iconst (p := 81) f52_80 rfl (pinD rfl rfl) ?_
            refine r_iadd (p := 82) f52_81 rfl ?_
            have h4 := k_t1 c1 hz h1 (by decide)
            refine r_invI (p := 85) f52_82 rfl rfl rfl (Or.inl h4) hd (Nat.le_of_ble_eq_true rfl) rfl rfl rfl (fun _ => rfl) (fun v3 m3 c3 => ?_)
            have hz3 := z_k c3 hz1
            refine r_bipush (p := 87) f52_85 rfl (pinD rfl rfl) ?_
            refine le2_gd (fun h5 => ?_)
            refine r_invV (p := 90) f52_87 rfl rfl rfl (Or.inl h5) hd (Nat.le_of_ble_eq_true rfl) rfl rfl rfl (fun _ => rfl) (fun m4 c4 => ?_)
            have hz4 := z_k c4 hz3
            exact r_ret f52_90
          · refine r_tsO (t := 91) f52_5 (by omega) (by decide) rfl ?_
            refine r_aln0 (p := 92) f52_91 rfl ?_
            refine r_aln1 (p := 93) f52_92 rfl ?_
            refine r_iln2 (p := 94) f52_93 rfl ?_
            refine le2_gd (fun h2 => ?_)
            refine r_invV (p := 97) f52_94 rfl rfl rfl (Or.inl h2) hd (Nat.le_of_ble_eq_true rfl) rfl rfl rfl (fun _ => rfl) (fun m2 c2 => ?_)
            have hz2 := z_k c2 hz1
            exact r_ret f52_97
/-! 53 PathStore$Sink.text (Ljava/lang/String;)V -/
def w53_1 : List UInt8 := [167, 255, 236, 177]
abbrev u53_1 : List UInt8 := w53_1 ++ []
def w53_0 : List UInt8 := [3, 61, 28, 43, 182, 0, 22, 162, 0, 18, 42, 43, 28, 182, 0, 28, 182, 0, 32, 132, 2, 1]
abbrev u53_0 : List UInt8 := w53_0 ++ u53_1
theorem s53_0 : (prog_25_method_3_code).data.toList.drop 0 = u53_0 := by decide +kernel
theorem s53_1 : (prog_25_method_3_code).data.toList.drop 22 = u53_1 := dk_seg s53_0 22 rfl rfl
theorem Fm53 {pc len : Nat} {i : Instr} (h : decode (prog_25_method_3_code) pc = .ok (i, len)) (hl : len = ilen i len) : ft 53 pc = some (2, 0, 0, i, len) := ft_mk rfl h hl
theorem f53_0 : ft 53 0 = some (2, 0, 0, .iconst 0, 1) := Fm53 (dk_3 (dk_at s53_0 0 rfl rfl)) rfl
theorem f53_1 : ft 53 1 = some (2, 0, 0, .istore_n 2, 1) := Fm53 (dk_61 (dk_at s53_0 1 rfl rfl)) rfl
theorem f53_2 : ft 53 2 = some (2, 0, 0, .iload_n 2, 1) := Fm53 (dk_28 (dk_at s53_0 2 rfl rfl)) rfl
theorem f53_3 : ft 53 3 = some (2, 0, 0, .aload_n 1, 1) := Fm53 (dk_43 (dk_at s53_0 3 rfl rfl)) rfl
theorem f53_4 : ft 53 4 = some (2, 0, 0, .invokevirtual 22, 3) := Fm53 (dk_182 0 22 (dk_at s53_0 4 rfl rfl)) rfl
theorem f53_7 : ft 53 7 = some (2, 0, 0, .if_icmp .ge 18, 3) := Fm53 (dk_162 0 18 (dk_at s53_0 7 rfl rfl)) rfl
theorem f53_10 : ft 53 10 = some (2, 0, 0, .aload_n 0, 1) := Fm53 (dk_42 (dk_at s53_0 10 rfl rfl)) rfl
theorem f53_11 : ft 53 11 = some (2, 0, 0, .aload_n 1, 1) := Fm53 (dk_43 (dk_at s53_0 11 rfl rfl)) rfl
theorem f53_12 : ft 53 12 = some (2, 0, 0, .iload_n 2, 1) := Fm53 (dk_28 (dk_at s53_0 12 rfl rfl)) rfl
theorem f53_13 : ft 53 13 = some (2, 0, 0, .invokevirtual 28, 3) := Fm53 (dk_182 0 28 (dk_at s53_0 13 rfl rfl)) rfl
theorem f53_16 : ft 53 16 = some (2, 0, 0, .invokevirtual 32, 3) := Fm53 (dk_182 0 32 (dk_at s53_0 16 rfl rfl)) rfl
theorem f53_19 : ft 53 19 = some (2, 0, 0, .iinc 2 1, 3) := Fm53 (dk_132 2 1 (dk_at s53_0 19 rfl rfl)) rfl
theorem f53_22 : ft 53 22 = some (2, 0, 0, .goto (-20), 3) := Fm53 (dk_167 255 236 (dk_at s53_1 0 rfl rfl)) rfl
theorem f53_25 : ft 53 25 = some (2, 0, 0, .return_, 1) := Fm53 (dk_177 (dk_at s53_1 3 rfl rfl)) rfl
theorem q53 {d : Nat} {m : Mem} {a0 a1 : Int} (hz : TZ m) : le2 (rn d 53 2 [pR a0, pR a1, pI 0] [] m) (cl d 53 [pR a0, pR a1] m) := by
  refine q_in (n := 3) (L := [pR a0, pR a1, pU]) rfl rfl rfl ?_
  refine r_iconst (p := 1) f53_0 rfl (pinD rfl rfl) ?_
  refine r_isn2 (p := 2) f53_1 rfl rfl ?_
  exact le2_refl _
theorem q53_2 {d : Nat} {m : Mem} {a0 a1 a2 : Int} (hd : 0 < d) (hz : TZ m) : le2 (gd (tg m a1 = 31) <| bI (cl (d - 1) 349 [pR a1] m) fun v1 m1 => if a2 < v1 then (bI (cl (d - 1) 351 [pR a1, pI a2] m1) fun v2 m2 => gd (tg m2 a0 = 2) <| bV (cl (d - 1) 54 [pR a0, pI v2] m2) fun m3 => rn d 53 2 [pR a0, pR a1, pI (w32 (a2 + 1))] [] m3) else some (.inl none, m1)) (rn d 53 2 [pR a0, pR a1, pI a2] [] m) := by
  refine r_iln2 (p := 3) f53_2 rfl ?_
  refine r_aln1 (p := 4) f53_3 rfl ?_
  refine le2_gd (fun h1 => ?_)
  refine r_invI (p := 7) f53_4 rfl rfl rfl (Or.inl h1) hd (Nat.le_of_ble_eq_true rfl) rfl rfl rfl (fun _ => rfl) (fun v1 m1 c1 => ?_)
  have hz1 := z_k c1 hz
  refine r_icge (t := 25) (p := 10) f53_7 (by decide) rfl rfl ?_ ?_
  · refine r_aln0 (p := 11) f53_10 rfl ?_
    refine r_aln1 (p := 12) f53_11 rfl ?_
    refine r_iln2 (p := 13) f53_12 rfl ?_
    have h2 := k_t1 c1 hz h1 (by decide)
    refine r_invI (p := 16) f53_13 rfl rfl rfl (Or.inl h2) hd (Nat.le_of_ble_eq_true rfl) rfl rfl rfl (fun _ => rfl) (fun v2 m2 c2 => ?_)
    have hz2 := z_k c2 hz1
    refine le2_gd (fun h3 => ?_)
    refine r_invV (p := 19) f53_16 rfl rfl rfl (Or.inl h3) hd (Nat.le_of_ble_eq_true rfl) rfl rfl rfl (fun _ => rfl) (fun m3 c3 => ?_)
    have hz3 := z_k c3 hz2
    refine r_iinc2 (p := 22) f53_19 rfl rfl ?_
    refine r_goto (p := 2) f53_22 (by decide) rfl ?_
    exact le2_refl _
  · exact r_ret f53_25
/-! 54 PathStore$Sink.put (I)V -/
def w54_1 : List UInt8 := [42, 89, 180, 0, 15, 90, 4, 96, 181, 0, 15, 27, 145, 84, 177]
abbrev u54_1 : List UInt8 := w54_1 ++ []
def w54_0 : List UInt8 := [42, 180, 0, 15, 42, 180, 0, 9, 190, 160, 0, 11, 187, 0, 19, 89, 183, 0, 21, 191, 42, 180, 0, 9]
abbrev u54_0 : List UInt8 := w54_0 ++ u54_1
theorem s54_0 : (prog_25_method_2_code).data.toList.drop 0 = u54_0 := by decide +kernel
theorem s54_1 : (prog_25_method_2_code).data.toList.drop 24 = u54_1 := dk_seg s54_0 24 rfl rfl
theorem Fm54 {pc len : Nat} {i : Instr} (h : decode (prog_25_method_2_code) pc = .ok (i, len)) (hl : len = ilen i len) : ft 54 pc = some (2, 0, 0, i, len) := ft_mk rfl h hl
theorem f54_0 : ft 54 0 = some (2, 0, 0, .aload_n 0, 1) := Fm54 (dk_42 (dk_at s54_0 0 rfl rfl)) rfl
theorem f54_1 : ft 54 1 = some (2, 0, 0, .getfield 15, 3) := Fm54 (dk_180 0 15 (dk_at s54_0 1 rfl rfl)) rfl
theorem f54_4 : ft 54 4 = some (2, 0, 0, .aload_n 0, 1) := Fm54 (dk_42 (dk_at s54_0 4 rfl rfl)) rfl
theorem f54_5 : ft 54 5 = some (2, 0, 0, .getfield 9, 3) := Fm54 (dk_180 0 9 (dk_at s54_0 5 rfl rfl)) rfl
theorem f54_8 : ft 54 8 = some (2, 0, 0, .arraylength, 1) := Fm54 (dk_190 (dk_at s54_0 8 rfl rfl)) rfl
theorem f54_9 : ft 54 9 = some (2, 0, 0, .if_icmp .ne 11, 3) := Fm54 (dk_160 0 11 (dk_at s54_0 9 rfl rfl)) rfl
theorem f54_12 : ft 54 12 = some (2, 0, 0, .new 19, 3) := Fm54 (dk_187 0 19 (dk_at s54_0 12 rfl rfl)) rfl
theorem f54_20 : ft 54 20 = some (2, 0, 0, .aload_n 0, 1) := Fm54 (dk_42 (dk_at s54_0 20 rfl rfl)) rfl
theorem f54_21 : ft 54 21 = some (2, 0, 0, .getfield 9, 3) := Fm54 (dk_180 0 9 (dk_at s54_0 21 rfl rfl)) rfl
theorem f54_24 : ft 54 24 = some (2, 0, 0, .aload_n 0, 1) := Fm54 (dk_42 (dk_at s54_1 0 rfl rfl)) rfl
theorem f54_25 : ft 54 25 = some (2, 0, 0, .dup, 1) := Fm54 (dk_89 (dk_at s54_1 1 rfl rfl)) rfl
theorem f54_26 : ft 54 26 = some (2, 0, 0, .getfield 15, 3) := Fm54 (dk_180 0 15 (dk_at s54_1 2 rfl rfl)) rfl
theorem f54_29 : ft 54 29 = some (2, 0, 0, .dup_x1, 1) := Fm54 (dk_90 (dk_at s54_1 5 rfl rfl)) rfl
theorem f54_30 : ft 54 30 = some (2, 0, 0, .iconst 1, 1) := Fm54 (dk_4 (dk_at s54_1 6 rfl rfl)) rfl
theorem f54_31 : ft 54 31 = some (2, 0, 0, .iadd, 1) := Fm54 (dk_96 (dk_at s54_1 7 rfl rfl)) rfl
theorem f54_32 : ft 54 32 = some (2, 0, 0, .putfield 15, 3) := Fm54 (dk_181 0 15 (dk_at s54_1 8 rfl rfl)) rfl
theorem f54_35 : ft 54 35 = some (2, 0, 0, .iload_n 1, 1) := Fm54 (dk_27 (dk_at s54_1 11 rfl rfl)) rfl
theorem f54_36 : ft 54 36 = some (2, 0, 0, .i2b, 1) := Fm54 (dk_145 (dk_at s54_1 12 rfl rfl)) rfl
theorem f54_37 : ft 54 37 = some (2, 0, 0, .bastore, 1) := Fm54 (dk_84 (dk_at s54_1 13 rfl rfl)) rfl
theorem f54_38 : ft 54 38 = some (2, 0, 0, .return_, 1) := Fm54 (dk_177 (dk_at s54_1 14 rfl rfl)) rfl
theorem q54 {d : Nat} {m : Mem} {a0 a1 : Int} (hz : TZ m) : le2 (gd (tg m a0 = 2) <| nm (vl m a0 1) fun v1 => nm (vl m a0 0) fun v2 => gd (tg m v2 = 52103) <| if v1 = (ln m v2) then (some (.inr 201, mal m 201 6)) else gd ((0 : Int) ≤ v1 ∧ v1 < ln m v2) <| some (.inl none, (mst (mst m a0 1 (w32 (v1 + 1))) v2 v1 (w8 (w8 a1))))) (cl d 54 [pR a0, pI a1] m) := by
  refine q_in (n := 2) (L := [pR a0, pI a1]) rfl rfl rfl ?_
  refine r_aln0 (p := 1) f54_0 rfl ?_
  refine le2_gd (fun h1 => ?_)
  refine r_gfI (f := 1) (p := 4) f54_1 rfl rfl rfl (Or.inl h1) rfl ?_
  refine r_nmI (fun v1 ev1 => ?_)
  refine r_aln0 (p := 5) f54_4 rfl ?_
  refine r_gfR (f := 0) (p := 8) f54_5 rfl rfl rfl (Or.inl h1) rfl ?_
  refine r_nmR (fun v2 ev2 => ?_)
  refine le2_gd (fun h2 => ?_)
  refine r_alen (p := 9) f54_8 rfl (dj1 (fun x => 100 < x % 1000 ∧ x % 1000 < 119) h2 (by decide)) ?_
  refine r_icne (t := 20) (p := 12) f54_9 (by decide) rfl rfl ?_ ?_
  · exact r_throw (e := 201) (f0 := 6) f54_12 rfl (by decide) (Nat.le_of_ble_eq_true rfl) rfl rfl
  · refine r_aln0 (p := 21) f54_20 rfl ?_
    refine r_gfR (f := 0) (p := 24) f54_21 rfl rfl rfl (Or.inl h1) ev2.symm ?_
    refine r_aln0 (p := 25) f54_24 rfl ?_
    refine r_dup (p := 26) f54_25 rfl rfl ?_
    refine r_gfI (f := 1) (p := 29) f54_26 rfl rfl rfl (Or.inl h1) ev1.symm ?_
    refine r_dup_x1 (p := 30) f54_29 rfl rfl rfl ?_
    refine r_iconst (p := 31) f54_30 rfl (pinD rfl rfl) ?_
    refine r_iadd (p := 32) f54_31 rfl ?_
    refine r_pfI (f := 1) (p := 35) f54_32 rfl rfl rfl (by decide) (by decide) (Or.inl h1) rfl ?_
    refine r_iln1 (p := 36) f54_35 rfl ?_
    refine r_i2b (p := 37) f54_36 rfl ?_
    refine le2_gd (fun h3 => ?_)
    refine r_bastore (p := 38) f54_37 rfl (dj1 (fun x => 1000 ≤ x ∧ x % 1000 = 103 ∧ Nat.testBit (eM 54) (bix x 0) = true) h2 (by decide)) h3 ?_
    exact r_ret f54_38
/-! 55 PathStore$Sink.number (J)V -/
def w55_3 : List UInt8 := [182, 0, 32, 22, 5, 20, 0, 38, 109, 55, 5, 167, 255, 224, 177]
abbrev u55_3 : List UInt8 := w55_3 ++ []
def w55_2 : List UInt8 := [167, 255, 237, 22, 5, 9, 148, 158, 0, 31, 42, 20, 0, 40, 33, 22, 5, 109, 20, 0, 38, 113, 97, 136]
abbrev u55_2 : List UInt8 := w55_2 ++ u55_3
def w55_1 : List UInt8 := [66, 10, 55, 5, 33, 22, 5, 109, 20, 0, 36, 148, 158, 0, 14, 22, 5, 20, 0, 38, 105, 55, 5]
abbrev u55_1 : List UInt8 := w55_1 ++ u55_2
def w55_0 : List UInt8 := [31, 9, 148, 156, 0, 9, 42, 16, 45, 182, 0, 32, 31, 9, 148, 156, 0, 8, 31, 117, 167, 0, 4, 31]
abbrev u55_0 : List UInt8 := w55_0 ++ u55_1
theorem s55_0 : (prog_25_method_4_code).data.toList.drop 0 = u55_0 := by decide +kernel
theorem s55_1 : (prog_25_method_4_code).data.toList.drop 24 = u55_1 := dk_seg s55_0 24 rfl rfl
theorem s55_2 : (prog_25_method_4_code).data.toList.drop 47 = u55_2 := dk_seg s55_1 23 rfl rfl
theorem s55_3 : (prog_25_method_4_code).data.toList.drop 71 = u55_3 := dk_seg s55_2 24 rfl rfl
theorem Fm55 {pc len : Nat} {i : Instr} (h : decode (prog_25_method_4_code) pc = .ok (i, len)) (hl : len = ilen i len) : ft 55 pc = some (2, 0, 0, i, len) := ft_mk rfl h hl
theorem f55_0 : ft 55 0 = some (2, 0, 0, .lload_n 1, 1) := Fm55 (dk_31 (dk_at s55_0 0 rfl rfl)) rfl
theorem f55_1 : ft 55 1 = some (2, 0, 0, .lconst 0, 1) := Fm55 (dk_9 (dk_at s55_0 1 rfl rfl)) rfl
theorem f55_2 : ft 55 2 = some (2, 0, 0, .lcmp, 1) := Fm55 (dk_148 (dk_at s55_0 2 rfl rfl)) rfl
theorem f55_3 : ft 55 3 = some (2, 0, 0, .ifCond .ge 9, 3) := Fm55 (dk_156 0 9 (dk_at s55_0 3 rfl rfl)) rfl
theorem f55_6 : ft 55 6 = some (2, 0, 0, .aload_n 0, 1) := Fm55 (dk_42 (dk_at s55_0 6 rfl rfl)) rfl
theorem f55_7 : ft 55 7 = some (2, 0, 0, .bipush 45, 2) := Fm55 (dk_16 45 (dk_at s55_0 7 rfl rfl)) rfl
theorem f55_9 : ft 55 9 = some (2, 0, 0, .invokevirtual 32, 3) := Fm55 (dk_182 0 32 (dk_at s55_0 9 rfl rfl)) rfl
theorem f55_12 : ft 55 12 = some (2, 0, 0, .lload_n 1, 1) := Fm55 (dk_31 (dk_at s55_0 12 rfl rfl)) rfl
theorem f55_13 : ft 55 13 = some (2, 0, 0, .lconst 0, 1) := Fm55 (dk_9 (dk_at s55_0 13 rfl rfl)) rfl
theorem f55_14 : ft 55 14 = some (2, 0, 0, .lcmp, 1) := Fm55 (dk_148 (dk_at s55_0 14 rfl rfl)) rfl
theorem f55_15 : ft 55 15 = some (2, 0, 0, .ifCond .ge 8, 3) := Fm55 (dk_156 0 8 (dk_at s55_0 15 rfl rfl)) rfl
theorem f55_18 : ft 55 18 = some (2, 0, 0, .lload_n 1, 1) := Fm55 (dk_31 (dk_at s55_0 18 rfl rfl)) rfl
theorem f55_19 : ft 55 19 = some (2, 0, 0, .lneg, 1) := Fm55 (dk_117 (dk_at s55_0 19 rfl rfl)) rfl
theorem f55_20 : ft 55 20 = some (2, 0, 0, .goto 4, 3) := Fm55 (dk_167 0 4 (dk_at s55_0 20 rfl rfl)) rfl
theorem f55_23 : ft 55 23 = some (2, 0, 0, .lload_n 1, 1) := Fm55 (dk_31 (dk_at s55_0 23 rfl rfl)) rfl
theorem f55_24 : ft 55 24 = some (2, 0, 0, .lstore_n 3, 1) := Fm55 (dk_66 (dk_at s55_1 0 rfl rfl)) rfl
theorem f55_25 : ft 55 25 = some (2, 0, 0, .lconst 1, 1) := Fm55 (dk_10 (dk_at s55_1 1 rfl rfl)) rfl
theorem f55_26 : ft 55 26 = some (2, 0, 0, .lstore 5, 2) := Fm55 (dk_55 5 (dk_at s55_1 2 rfl rfl)) rfl
theorem f55_28 : ft 55 28 = some (2, 0, 0, .lload_n 3, 1) := Fm55 (dk_33 (dk_at s55_1 4 rfl rfl)) rfl
theorem f55_29 : ft 55 29 = some (2, 0, 0, .lload 5, 2) := Fm55 (dk_22 5 (dk_at s55_1 5 rfl rfl)) rfl
theorem f55_31 : ft 55 31 = some (2, 0, 0, .ldiv, 1) := Fm55 (dk_109 (dk_at s55_1 7 rfl rfl)) rfl
theorem f55_32 : ft 55 32 = some (2, 0, 0, .ldc2_w 36, 3) := Fm55 (dk_20 0 36 (dk_at s55_1 8 rfl rfl)) rfl
theorem f55_35 : ft 55 35 = some (2, 0, 0, .lcmp, 1) := Fm55 (dk_148 (dk_at s55_1 11 rfl rfl)) rfl
theorem f55_36 : ft 55 36 = some (2, 0, 0, .ifCond .le 14, 3) := Fm55 (dk_158 0 14 (dk_at s55_1 12 rfl rfl)) rfl
theorem f55_39 : ft 55 39 = some (2, 0, 0, .lload 5, 2) := Fm55 (dk_22 5 (dk_at s55_1 15 rfl rfl)) rfl
theorem f55_41 : ft 55 41 = some (2, 0, 0, .ldc2_w 38, 3) := Fm55 (dk_20 0 38 (dk_at s55_1 17 rfl rfl)) rfl
theorem f55_44 : ft 55 44 = some (2, 0, 0, .lmul, 1) := Fm55 (dk_105 (dk_at s55_1 20 rfl rfl)) rfl
theorem f55_45 : ft 55 45 = some (2, 0, 0, .lstore 5, 2) := Fm55 (dk_55 5 (dk_at s55_1 21 rfl rfl)) rfl
theorem f55_47 : ft 55 47 = some (2, 0, 0, .goto (-19), 3) := Fm55 (dk_167 255 237 (dk_at s55_2 0 rfl rfl)) rfl
theorem f55_50 : ft 55 50 = some (2, 0, 0, .lload 5, 2) := Fm55 (dk_22 5 (dk_at s55_2 3 rfl rfl)) rfl
theorem f55_52 : ft 55 52 = some (2, 0, 0, .lconst 0, 1) := Fm55 (dk_9 (dk_at s55_2 5 rfl rfl)) rfl
theorem f55_53 : ft 55 53 = some (2, 0, 0, .lcmp, 1) := Fm55 (dk_148 (dk_at s55_2 6 rfl rfl)) rfl
theorem f55_54 : ft 55 54 = some (2, 0, 0, .ifCond .le 31, 3) := Fm55 (dk_158 0 31 (dk_at s55_2 7 rfl rfl)) rfl
theorem f55_57 : ft 55 57 = some (2, 0, 0, .aload_n 0, 1) := Fm55 (dk_42 (dk_at s55_2 10 rfl rfl)) rfl
theorem f55_58 : ft 55 58 = some (2, 0, 0, .ldc2_w 40, 3) := Fm55 (dk_20 0 40 (dk_at s55_2 11 rfl rfl)) rfl
theorem f55_61 : ft 55 61 = some (2, 0, 0, .lload_n 3, 1) := Fm55 (dk_33 (dk_at s55_2 14 rfl rfl)) rfl
theorem f55_62 : ft 55 62 = some (2, 0, 0, .lload 5, 2) := Fm55 (dk_22 5 (dk_at s55_2 15 rfl rfl)) rfl
theorem f55_64 : ft 55 64 = some (2, 0, 0, .ldiv, 1) := Fm55 (dk_109 (dk_at s55_2 17 rfl rfl)) rfl
theorem f55_65 : ft 55 65 = some (2, 0, 0, .ldc2_w 38, 3) := Fm55 (dk_20 0 38 (dk_at s55_2 18 rfl rfl)) rfl
theorem f55_68 : ft 55 68 = some (2, 0, 0, .lrem, 1) := Fm55 (dk_113 (dk_at s55_2 21 rfl rfl)) rfl
theorem f55_69 : ft 55 69 = some (2, 0, 0, .ladd, 1) := Fm55 (dk_97 (dk_at s55_2 22 rfl rfl)) rfl
theorem f55_70 : ft 55 70 = some (2, 0, 0, .l2i, 1) := Fm55 (dk_136 (dk_at s55_2 23 rfl rfl)) rfl
theorem f55_71 : ft 55 71 = some (2, 0, 0, .invokevirtual 32, 3) := Fm55 (dk_182 0 32 (dk_at s55_3 0 rfl rfl)) rfl
theorem f55_74 : ft 55 74 = some (2, 0, 0, .lload 5, 2) := Fm55 (dk_22 5 (dk_at s55_3 3 rfl rfl)) rfl
theorem f55_76 : ft 55 76 = some (2, 0, 0, .ldc2_w 38, 3) := Fm55 (dk_20 0 38 (dk_at s55_3 5 rfl rfl)) rfl
theorem f55_79 : ft 55 79 = some (2, 0, 0, .ldiv, 1) := Fm55 (dk_109 (dk_at s55_3 8 rfl rfl)) rfl
theorem f55_80 : ft 55 80 = some (2, 0, 0, .lstore 5, 2) := Fm55 (dk_55 5 (dk_at s55_3 9 rfl rfl)) rfl
theorem f55_82 : ft 55 82 = some (2, 0, 0, .goto (-32), 3) := Fm55 (dk_167 255 224 (dk_at s55_3 11 rfl rfl)) rfl
theorem f55_85 : ft 55 85 = some (2, 0, 0, .return_, 1) := Fm55 (dk_177 (dk_at s55_3 14 rfl rfl)) rfl
theorem q55 {d : Nat} {m : Mem} {a0 a1 : Int} (hd : 0 < d) (hz : TZ m) : le2 (if a1 < 0 then (gd (tg m a0 = 2) <| bV (cl (d - 1) 54 [pR a0, pI 45] m) fun m1 => rn d 55 12 [pR a0, pL a1, pU, pU, pU, pU, pU] [] m1) else rn d 55 12 [pR a0, pL a1, pU, pU, pU, pU, pU] [] m) (cl d 55 [pR a0, pL a1] m) := by
  refine q_in (n := 7) (L := [pR a0, pL a1, pU, pU, pU, pU, pU]) rfl rfl rfl ?_
  refine r_lln1 (p := 1) f55_0 rfl ?_
  refine r_lconst0 (p := 2) f55_1 rfl ?_
  refine r_lcge (p1 := 3) (t := 12) (p := 6) f55_2 rfl f55_3 (by decide) rfl rfl ?_ ?_
  · refine r_aln0 (p := 7) f55_6 rfl ?_
    refine r_bipush (p := 9) f55_7 rfl (pinD rfl rfl) ?_
    refine le2_gd (fun h1 => ?_)
    refine r_invV (p := 12) f55_9 rfl rfl rfl (Or.inl h1) hd (Nat.le_of_ble_eq_true rfl) rfl rfl rfl (fun _ => rfl) (fun m1 c1 => ?_)
    have hz1 := z_k c1 hz
    exact le2_refl _
  · exact le2_refl _
theorem q55_12 {d : Nat} {m : Mem} {a0 a1 : Int} (hz : TZ m) : le2 (if a1 < 0 then (rn d 55 28 [pR a0, pL a1, pU, pL (w64 (-a1)), pU, pL 1, pU] [] m) else rn d 55 28 [pR a0, pL a1, pU, pL a1, pU, pL 1, pU] [] m) (rn d 55 12 [pR a0, pL a1, pU, pU, pU, pU, pU] [] m) := by
  refine r_lln1 (p := 13) f55_12 rfl ?_
  refine r_lconst0 (p := 14) f55_13 rfl ?_
  refine r_lcge (p1 := 15) (t := 23) (p := 18) f55_14 rfl f55_15 (by decide) rfl rfl ?_ ?_
  · refine r_lln1 (p := 19) f55_18 rfl ?_
    refine r_lneg (p := 20) f55_19 rfl ?_
    refine r_goto (p := 24) f55_20 (by decide) rfl ?_
    refine r_lsn3 (p := 25) f55_24 rfl rfl ?_
    refine r_lconst1 (p := 26) f55_25 rfl ?_
    refine r_lsw5 (p := 28) f55_26 rfl rfl ?_
    exact le2_refl _
  · refine r_lln1 (p := 24) f55_23 rfl ?_
    refine r_lsn3 (p := 25) f55_24 rfl rfl ?_
    refine r_lconst1 (p := 26) f55_25 rfl ?_
    refine r_lsw5 (p := 28) f55_26 rfl rfl ?_
    exact le2_refl _
theorem q55_28 {d : Nat} {m : Mem} {a0 a1 a3 a5 : Int} (hz : TZ m) : le2 (gd (a5 ≠ 0) <| if 9 < (w64 (a3.tdiv a5)) then (rn d 55 28 [pR a0, pL a1, pU, pL a3, pU, pL (w64 (a5 * 10)), pU] [] m) else rn d 55 50 [pR a0, pL a1, pU, pL a3, pU, pL a5, pU] [] m) (rn d 55 28 [pR a0, pL a1, pU, pL a3, pU, pL a5, pU] [] m) := by
  refine r_lln3 (p := 29) f55_28 rfl ?_
  refine r_llw5 (p := 31) f55_29 rfl ?_
  refine le2_gd (fun h1 => ?_)
  refine r_ldiv (p := 32) f55_31 rfl h1 ?_
  refine r_ldc2 (p := 35) f55_32 rfl rfl (pinD rfl rfl) ?_
  refine r_lcle (p1 := 36) (t := 50) (p := 39) f55_35 rfl f55_36 (by decide) rfl rfl ?_ ?_
  · refine r_llw5 (p := 41) f55_39 rfl ?_
    refine r_ldc2 (p := 44) f55_41 rfl rfl (pinD rfl rfl) ?_
    refine r_lmul (p := 45) f55_44 rfl ?_
    refine r_lsw5 (p := 47) f55_45 rfl rfl ?_
    refine r_goto (p := 28) f55_47 (by decide) rfl ?_
    exact le2_refl _
  · exact le2_refl _
theorem q55_50 {d : Nat} {m : Mem} {a0 a1 a3 a5 : Int} (hd : 0 < d) (hz : TZ m) : le2 (if 0 < a5 then (gd (a5 ≠ 0) <| nm (w64 (a3.tdiv a5)) fun v2 => gd (tg m a0 = 2) <| bV (cl (d - 1) 54 [pR a0, pI (w32 (w64 (48 + (w64 (v2 - w64 (v2.tdiv 10) * 10)))))] m) fun m1 => rn d 55 50 [pR a0, pL a1, pU, pL a3, pU, pL (w64 (a5.tdiv 10)), pU] [] m1) else some (.inl none, m)) (rn d 55 50 [pR a0, pL a1, pU, pL a3, pU, pL a5, pU] [] m) := by
  refine r_llw5 (p := 52) f55_50 rfl ?_
  refine r_lconst0 (p := 53) f55_52 rfl ?_
  refine r_lcle (p1 := 54) (t := 85) (p := 57) f55_53 rfl f55_54 (by decide) rfl rfl ?_ ?_
  · refine r_aln0 (p := 58) f55_57 rfl ?_
    refine r_ldc2 (p := 61) f55_58 rfl rfl (pinD rfl rfl) ?_
    refine r_lln3 (p := 62) f55_61 rfl ?_
    refine r_llw5 (p := 64) f55_62 rfl ?_
    refine le2_gd (fun h1 => ?_)
    refine r_ldiv (p := 65) f55_64 rfl h1 ?_
    refine r_nmJ (fun v2 ev2 => ?_)
    refine r_ldc2 (p := 68) f55_65 rfl rfl (pinD rfl rfl) ?_
    refine r_lrem (p := 69) f55_68 rfl (by decide) ?_
    refine r_ladd (p := 70) f55_69 rfl ?_
    refine r_l2i (p := 71) f55_70 rfl ?_
    refine le2_gd (fun h2 => ?_)
    refine r_invV (p := 74) f55_71 rfl rfl rfl (Or.inl h2) hd (Nat.le_of_ble_eq_true rfl) rfl rfl rfl (fun _ => rfl) (fun m1 c1 => ?_)
    have hz1 := z_k c1 hz
    refine r_llw5 (p := 76) f55_74 rfl ?_
    refine r_ldc2 (p := 79) f55_76 rfl rfl (pinD rfl rfl) ?_
    refine r_ldiv (p := 80) f55_79 rfl (by decide) ?_
    refine r_lsw5 (p := 82) f55_80 rfl rfl ?_
    refine r_goto (p := 50) f55_82 (by decide) rfl ?_
    exact le2_refl _
  · exact r_ret f55_85
/-! 56 PathStore$Sink.string (LPathStore$Row;III)V -/
def w56_5 : List UInt8 := [182, 0, 54, 96, 54, 5, 167, 255, 145, 42, 21, 4, 182, 0, 32, 177]
abbrev u56_5 : List UInt8 := w56_5 ++ []
def w56_4 : List UInt8 := [164, 0, 12, 42, 21, 6, 182, 0, 51, 167, 0, 9, 42, 21, 6, 182, 0, 32, 21, 5, 43, 21, 5]
abbrev u56_4 : List UInt8 := w56_4 ++ u56_5
def w56_3 : List UInt8 := [21, 6, 184, 0, 48, 182, 0, 32, 167, 0, 32, 21, 6, 16, 32, 161, 0, 10, 21, 6, 16, 126]
abbrev u56_3 : List UInt8 := w56_3 ++ u56_4
def w56_2 : List UInt8 := [21, 6, 182, 0, 32, 167, 0, 58, 21, 6, 184, 0, 48, 153, 0, 21, 42, 16, 92, 182, 0, 32, 42]
abbrev u56_2 : List UInt8 := w56_2 ++ u56_3
def w56_1 : List UInt8 := [54, 6, 21, 6, 21, 4, 159, 0, 10, 21, 6, 16, 92, 160, 0, 18, 42, 16, 92, 182, 0, 32, 42]
abbrev u56_1 : List UInt8 := w56_1 ++ u56_2
def w56_0 : List UInt8 := [42, 21, 4, 182, 0, 32, 28, 54, 5, 21, 5, 28, 29, 96, 162, 0, 109, 43, 21, 5, 182, 0, 42]
abbrev u56_0 : List UInt8 := w56_0 ++ u56_1
theorem s56_0 : (prog_25_method_7_code).data.toList.drop 0 = u56_0 := by decide +kernel
theorem s56_1 : (prog_25_method_7_code).data.toList.drop 23 = u56_1 := dk_seg s56_0 23 rfl rfl
theorem s56_2 : (prog_25_method_7_code).data.toList.drop 46 = u56_2 := dk_seg s56_1 23 rfl rfl
theorem s56_3 : (prog_25_method_7_code).data.toList.drop 69 = u56_3 := dk_seg s56_2 23 rfl rfl
theorem s56_4 : (prog_25_method_7_code).data.toList.drop 91 = u56_4 := dk_seg s56_3 22 rfl rfl
theorem s56_5 : (prog_25_method_7_code).data.toList.drop 114 = u56_5 := dk_seg s56_4 23 rfl rfl
theorem Fm56 {pc len : Nat} {i : Instr} (h : decode (prog_25_method_7_code) pc = .ok (i, len)) (hl : len = ilen i len) : ft 56 pc = some (2, 0, 0, i, len) := ft_mk rfl h hl
theorem f56_0 : ft 56 0 = some (2, 0, 0, .aload_n 0, 1) := Fm56 (dk_42 (dk_at s56_0 0 rfl rfl)) rfl
theorem f56_1 : ft 56 1 = some (2, 0, 0, .iload 4, 2) := Fm56 (dk_21 4 (dk_at s56_0 1 rfl rfl)) rfl
theorem f56_3 : ft 56 3 = some (2, 0, 0, .invokevirtual 32, 3) := Fm56 (dk_182 0 32 (dk_at s56_0 3 rfl rfl)) rfl
theorem f56_6 : ft 56 6 = some (2, 0, 0, .iload_n 2, 1) := Fm56 (dk_28 (dk_at s56_0 6 rfl rfl)) rfl
theorem f56_7 : ft 56 7 = some (2, 0, 0, .istore 5, 2) := Fm56 (dk_54 5 (dk_at s56_0 7 rfl rfl)) rfl
theorem f56_9 : ft 56 9 = some (2, 0, 0, .iload 5, 2) := Fm56 (dk_21 5 (dk_at s56_0 9 rfl rfl)) rfl
theorem f56_11 : ft 56 11 = some (2, 0, 0, .iload_n 2, 1) := Fm56 (dk_28 (dk_at s56_0 11 rfl rfl)) rfl
theorem f56_12 : ft 56 12 = some (2, 0, 0, .iload_n 3, 1) := Fm56 (dk_29 (dk_at s56_0 12 rfl rfl)) rfl
theorem f56_13 : ft 56 13 = some (2, 0, 0, .iadd, 1) := Fm56 (dk_96 (dk_at s56_0 13 rfl rfl)) rfl
theorem f56_14 : ft 56 14 = some (2, 0, 0, .if_icmp .ge 109, 3) := Fm56 (dk_162 0 109 (dk_at s56_0 14 rfl rfl)) rfl
theorem f56_17 : ft 56 17 = some (2, 0, 0, .aload_n 1, 1) := Fm56 (dk_43 (dk_at s56_0 17 rfl rfl)) rfl
theorem f56_18 : ft 56 18 = some (2, 0, 0, .iload 5, 2) := Fm56 (dk_21 5 (dk_at s56_0 18 rfl rfl)) rfl
theorem f56_20 : ft 56 20 = some (2, 0, 0, .invokevirtual 42, 3) := Fm56 (dk_182 0 42 (dk_at s56_0 20 rfl rfl)) rfl
theorem f56_23 : ft 56 23 = some (2, 0, 0, .istore 6, 2) := Fm56 (dk_54 6 (dk_at s56_1 0 rfl rfl)) rfl
theorem f56_25 : ft 56 25 = some (2, 0, 0, .iload 6, 2) := Fm56 (dk_21 6 (dk_at s56_1 2 rfl rfl)) rfl
theorem f56_27 : ft 56 27 = some (2, 0, 0, .iload 4, 2) := Fm56 (dk_21 4 (dk_at s56_1 4 rfl rfl)) rfl
theorem f56_29 : ft 56 29 = some (2, 0, 0, .if_icmp .eq 10, 3) := Fm56 (dk_159 0 10 (dk_at s56_1 6 rfl rfl)) rfl
theorem f56_32 : ft 56 32 = some (2, 0, 0, .iload 6, 2) := Fm56 (dk_21 6 (dk_at s56_1 9 rfl rfl)) rfl
theorem f56_34 : ft 56 34 = some (2, 0, 0, .bipush 92, 2) := Fm56 (dk_16 92 (dk_at s56_1 11 rfl rfl)) rfl
theorem f56_36 : ft 56 36 = some (2, 0, 0, .if_icmp .ne 18, 3) := Fm56 (dk_160 0 18 (dk_at s56_1 13 rfl rfl)) rfl
theorem f56_39 : ft 56 39 = some (2, 0, 0, .aload_n 0, 1) := Fm56 (dk_42 (dk_at s56_1 16 rfl rfl)) rfl
theorem f56_40 : ft 56 40 = some (2, 0, 0, .bipush 92, 2) := Fm56 (dk_16 92 (dk_at s56_1 17 rfl rfl)) rfl
theorem f56_42 : ft 56 42 = some (2, 0, 0, .invokevirtual 32, 3) := Fm56 (dk_182 0 32 (dk_at s56_1 19 rfl rfl)) rfl
theorem f56_45 : ft 56 45 = some (2, 0, 0, .aload_n 0, 1) := Fm56 (dk_42 (dk_at s56_1 22 rfl rfl)) rfl
theorem f56_46 : ft 56 46 = some (2, 0, 0, .iload 6, 2) := Fm56 (dk_21 6 (dk_at s56_2 0 rfl rfl)) rfl
theorem f56_48 : ft 56 48 = some (2, 0, 0, .invokevirtual 32, 3) := Fm56 (dk_182 0 32 (dk_at s56_2 2 rfl rfl)) rfl
theorem f56_51 : ft 56 51 = some (2, 0, 0, .goto 58, 3) := Fm56 (dk_167 0 58 (dk_at s56_2 5 rfl rfl)) rfl
theorem f56_54 : ft 56 54 = some (2, 0, 0, .iload 6, 2) := Fm56 (dk_21 6 (dk_at s56_2 8 rfl rfl)) rfl
theorem f56_56 : ft 56 56 = some (2, 0, 0, .invokestatic 48, 3) := Fm56 (dk_184 0 48 (dk_at s56_2 10 rfl rfl)) rfl
theorem f56_59 : ft 56 59 = some (2, 0, 0, .ifCond .eq 21, 3) := Fm56 (dk_153 0 21 (dk_at s56_2 13 rfl rfl)) rfl
theorem f56_62 : ft 56 62 = some (2, 0, 0, .aload_n 0, 1) := Fm56 (dk_42 (dk_at s56_2 16 rfl rfl)) rfl
theorem f56_63 : ft 56 63 = some (2, 0, 0, .bipush 92, 2) := Fm56 (dk_16 92 (dk_at s56_2 17 rfl rfl)) rfl
theorem f56_65 : ft 56 65 = some (2, 0, 0, .invokevirtual 32, 3) := Fm56 (dk_182 0 32 (dk_at s56_2 19 rfl rfl)) rfl
theorem f56_68 : ft 56 68 = some (2, 0, 0, .aload_n 0, 1) := Fm56 (dk_42 (dk_at s56_2 22 rfl rfl)) rfl
theorem f56_69 : ft 56 69 = some (2, 0, 0, .iload 6, 2) := Fm56 (dk_21 6 (dk_at s56_3 0 rfl rfl)) rfl
theorem f56_71 : ft 56 71 = some (2, 0, 0, .invokestatic 48, 3) := Fm56 (dk_184 0 48 (dk_at s56_3 2 rfl rfl)) rfl
theorem f56_74 : ft 56 74 = some (2, 0, 0, .invokevirtual 32, 3) := Fm56 (dk_182 0 32 (dk_at s56_3 5 rfl rfl)) rfl
theorem f56_77 : ft 56 77 = some (2, 0, 0, .goto 32, 3) := Fm56 (dk_167 0 32 (dk_at s56_3 8 rfl rfl)) rfl
theorem f56_80 : ft 56 80 = some (2, 0, 0, .iload 6, 2) := Fm56 (dk_21 6 (dk_at s56_3 11 rfl rfl)) rfl
theorem f56_82 : ft 56 82 = some (2, 0, 0, .bipush 32, 2) := Fm56 (dk_16 32 (dk_at s56_3 13 rfl rfl)) rfl
theorem f56_84 : ft 56 84 = some (2, 0, 0, .if_icmp .lt 10, 3) := Fm56 (dk_161 0 10 (dk_at s56_3 15 rfl rfl)) rfl
theorem f56_87 : ft 56 87 = some (2, 0, 0, .iload 6, 2) := Fm56 (dk_21 6 (dk_at s56_3 18 rfl rfl)) rfl
theorem f56_89 : ft 56 89 = some (2, 0, 0, .bipush 126, 2) := Fm56 (dk_16 126 (dk_at s56_3 20 rfl rfl)) rfl
theorem f56_91 : ft 56 91 = some (2, 0, 0, .if_icmp .le 12, 3) := Fm56 (dk_164 0 12 (dk_at s56_4 0 rfl rfl)) rfl
theorem f56_94 : ft 56 94 = some (2, 0, 0, .aload_n 0, 1) := Fm56 (dk_42 (dk_at s56_4 3 rfl rfl)) rfl
theorem f56_95 : ft 56 95 = some (2, 0, 0, .iload 6, 2) := Fm56 (dk_21 6 (dk_at s56_4 4 rfl rfl)) rfl
theorem f56_97 : ft 56 97 = some (2, 0, 0, .invokevirtual 51, 3) := Fm56 (dk_182 0 51 (dk_at s56_4 6 rfl rfl)) rfl
theorem f56_100 : ft 56 100 = some (2, 0, 0, .goto 9, 3) := Fm56 (dk_167 0 9 (dk_at s56_4 9 rfl rfl)) rfl
theorem f56_103 : ft 56 103 = some (2, 0, 0, .aload_n 0, 1) := Fm56 (dk_42 (dk_at s56_4 12 rfl rfl)) rfl
theorem f56_104 : ft 56 104 = some (2, 0, 0, .iload 6, 2) := Fm56 (dk_21 6 (dk_at s56_4 13 rfl rfl)) rfl
theorem f56_106 : ft 56 106 = some (2, 0, 0, .invokevirtual 32, 3) := Fm56 (dk_182 0 32 (dk_at s56_4 15 rfl rfl)) rfl
theorem f56_109 : ft 56 109 = some (2, 0, 0, .iload 5, 2) := Fm56 (dk_21 5 (dk_at s56_4 18 rfl rfl)) rfl
theorem f56_111 : ft 56 111 = some (2, 0, 0, .aload_n 1, 1) := Fm56 (dk_43 (dk_at s56_4 20 rfl rfl)) rfl
theorem f56_112 : ft 56 112 = some (2, 0, 0, .iload 5, 2) := Fm56 (dk_21 5 (dk_at s56_4 21 rfl rfl)) rfl
theorem f56_114 : ft 56 114 = some (2, 0, 0, .invokevirtual 54, 3) := Fm56 (dk_182 0 54 (dk_at s56_5 0 rfl rfl)) rfl
theorem f56_117 : ft 56 117 = some (2, 0, 0, .iadd, 1) := Fm56 (dk_96 (dk_at s56_5 3 rfl rfl)) rfl
theorem f56_118 : ft 56 118 = some (2, 0, 0, .istore 5, 2) := Fm56 (dk_54 5 (dk_at s56_5 4 rfl rfl)) rfl
theorem f56_120 : ft 56 120 = some (2, 0, 0, .goto (-111), 3) := Fm56 (dk_167 255 145 (dk_at s56_5 6 rfl rfl)) rfl
theorem f56_123 : ft 56 123 = some (2, 0, 0, .aload_n 0, 1) := Fm56 (dk_42 (dk_at s56_5 9 rfl rfl)) rfl
theorem f56_124 : ft 56 124 = some (2, 0, 0, .iload 4, 2) := Fm56 (dk_21 4 (dk_at s56_5 10 rfl rfl)) rfl
theorem f56_126 : ft 56 126 = some (2, 0, 0, .invokevirtual 32, 3) := Fm56 (dk_182 0 32 (dk_at s56_5 12 rfl rfl)) rfl
theorem f56_129 : ft 56 129 = some (2, 0, 0, .return_, 1) := Fm56 (dk_177 (dk_at s56_5 15 rfl rfl)) rfl
theorem q56 {d : Nat} {m : Mem} {a0 a1 a2 a3 a4 : Int} (hd : 0 < d) (hz : TZ m) : le2 (gd (tg m a0 = 2) <| bV (cl (d - 1) 54 [pR a0, pI a4] m) fun m1 => rn d 56 9 [pR a0, pR a1, pI a2, pI a3, pI a4, pI a2, pU] [] m1) (cl d 56 [pR a0, pR a1, pI a2, pI a3, pI a4] m) := by
  refine q_in (n := 7) (L := [pR a0, pR a1, pI a2, pI a3, pI a4, pU, pU]) rfl rfl rfl ?_
  refine r_aln0 (p := 1) f56_0 rfl ?_
  refine r_ilw4 (p := 3) f56_1 rfl ?_
  refine le2_gd (fun h1 => ?_)
  refine r_invV (p := 6) f56_3 rfl rfl rfl (Or.inl h1) hd (Nat.le_of_ble_eq_true rfl) rfl rfl rfl (fun _ => rfl) (fun m1 c1 => ?_)
  have hz1 := z_k c1 hz
  refine r_iln2 (p := 7) f56_6 rfl ?_
  refine r_isw5 (p := 9) f56_7 rfl rfl ?_
  exact le2_refl _
theorem q56_9 {d : Nat} {m : Mem} {a0 a1 a2 a3 a4 a5 : Int} {z6 : PV} (hd : 0 < d) (hz : TZ m) (hcz6 : cat z6 = 1) : le2 (if a5 < (w32 (a2 + a3)) then (gd (tg m a1 = 8) <| bI (cl (d - 1) 141 [pR a1, pI a5] m) fun v2 m2 => if v2 = a4 then (rn d 56 39 [pR a0, pR a1, pI a2, pI a3, pI a4, pI a5, pI v2] [] m2) else if v2 = 92 then (rn d 56 39 [pR a0, pR a1, pI a2, pI a3, pI a4, pI a5, pI v2] [] m2) else bI (cl (d - 1) 57 [pI v2] m2) fun v3 m3 => if v3 = 0 then (if v2 < 32 then (rn d 56 94 [pR a0, pR a1, pI a2, pI a3, pI a4, pI a5, pI v2] [] m3) else if 126 < v2 then (rn d 56 94 [pR a0, pR a1, pI a2, pI a3, pI a4, pI a5, pI v2] [] m3) else gd (tg m3 a0 = 2) <| bV (cl (d - 1) 54 [pR a0, pI v2] m3) fun m4 => bI (cl (d - 1) 142 [pR a1, pI a5] m4) fun v5 m5 => rn d 56 9 [pR a0, pR a1, pI a2, pI a3, pI a4, pI (w32 (a5 + v5)), pI v2] [] m5) else gd (tg m3 a0 = 2) <| bV (cl (d - 1) 54 [pR a0, pI 92] m3) fun m6 => bI (cl (d - 1) 57 [pI v2] m6) fun v7 m7 => bV (cl (d - 1) 54 [pR a0, pI v7] m7) fun m8 => bI (cl (d - 1) 142 [pR a1, pI a5] m8) fun v9 m9 => rn d 56 9 [pR a0, pR a1, pI a2, pI a3, pI a4, pI (w32 (a5 + v9)), pI v2] [] m9) else gd (tg m a0 = 2) <| bV (cl (d - 1) 54 [pR a0, pI a4] m) fun m1 => some (.inl none, m1)) (rn d 56 9 [pR a0, pR a1, pI a2, pI a3, pI a4, pI a5, z6] [] m) := by
  refine r_ilw5 (p := 11) f56_9 rfl ?_
  refine r_iln2 (p := 12) f56_11 rfl ?_
  refine r_iln3 (p := 13) f56_12 rfl ?_
  refine r_iadd (p := 14) f56_13 rfl ?_
  refine r_icge (t := 123) (p := 17) f56_14 (by decide) rfl rfl ?_ ?_
  · refine r_aln1 (p := 18) f56_17 rfl ?_
    refine r_ilw5 (p := 20) f56_18 rfl ?_
    refine le2_gd (fun h2 => ?_)
    refine r_invI (p := 23) f56_20 rfl rfl rfl (Or.inl h2) hd (Nat.le_of_ble_eq_true rfl) rfl rfl rfl (fun _ => rfl) (fun v2 m2 c2 => ?_)
    have hz2 := z_k c2 hz
    refine r_isw6 (p := 25) f56_23 rfl rfl ?_
    refine r_ilw6 (p := 27) f56_25 rfl ?_
    refine r_ilw4 (p := 29) f56_27 rfl ?_
    refine r_iceq (t := 39) (p := 32) f56_29 (by decide) rfl rfl ?_ ?_
    · exact le2_refl _
    · refine r_ilw6 (p := 34) f56_32 rfl ?_
      refine r_bipush (p := 36) f56_34 rfl (pinD rfl rfl) ?_
      refine r_icne (t := 54) (p := 39) f56_36 (by decide) rfl rfl ?_ ?_
      · exact le2_refl _
      · refine r_ilw6 (p := 56) f56_54 rfl ?_
        refine r_istI (p := 59) f56_56 rfl rfl rfl hd (Nat.le_of_ble_eq_true rfl) rfl rfl rfl (fun _ => rfl) (fun v3 m3 c3 => ?_)
        have hz3 := z_k c3 hz2
        refine r_ifeq (t := 80) (p := 62) f56_59 (by decide) rfl rfl ?_ ?_
        · refine r_ilw6 (p := 82) f56_80 rfl ?_
          refine r_bipush (p := 84) f56_82 rfl (pinD rfl rfl) ?_
          refine r_iclt (t := 94) (p := 87) f56_84 (by decide) rfl rfl ?_ ?_
          · exact le2_refl _
          · refine r_ilw6 (p := 89) f56_87 rfl ?_
            refine r_bipush (p := 91) f56_89 rfl (pinD rfl rfl) ?_
            refine r_icle (t := 103) (p := 94) f56_91 (by decide) rfl rfl ?_ ?_
            · exact le2_refl _
            · refine r_aln0 (p := 104) f56_103 rfl ?_
              refine r_ilw6 (p := 106) f56_104 rfl ?_
              refine le2_gd (fun h3 => ?_)
              refine r_invV (p := 109) f56_106 rfl rfl rfl (Or.inl h3) hd (Nat.le_of_ble_eq_true rfl) rfl rfl rfl (fun _ => rfl) (fun m4 c4 => ?_)
              have hz4 := z_k c4 hz3
              refine r_ilw5 (p := 111) f56_109 rfl ?_
              refine r_aln1 (p := 112) f56_111 rfl ?_
              refine r_ilw5 (p := 114) f56_112 rfl ?_
              have h4 := k_t1 c2 hz h2 (by decide)
              have h5 := k_t1 c3 hz2 h4 (by decide)
              have h6 := k_t1 c4 hz3 h5 (by decide)
              refine r_invI (p := 117) f56_114 rfl rfl rfl (Or.inl h6) hd (Nat.le_of_ble_eq_true rfl) rfl rfl rfl (fun _ => rfl) (fun v5 m5 c5 => ?_)
              have hz5 := z_k c5 hz4
              refine r_iadd (p := 118) f56_117 rfl ?_
              refine r_isw5 (p := 120) f56_118 rfl rfl ?_
              refine r_goto (p := 9) f56_120 (by decide) rfl ?_
              exact le2_refl _
        · refine r_aln0 (p := 63) f56_62 rfl ?_
          refine r_bipush (p := 65) f56_63 rfl (pinD rfl rfl) ?_
          refine le2_gd (fun h7 => ?_)
          refine r_invV (p := 68) f56_65 rfl rfl rfl (Or.inl h7) hd (Nat.le_of_ble_eq_true rfl) rfl rfl rfl (fun _ => rfl) (fun m6 c6 => ?_)
          have hz6 := z_k c6 hz3
          refine r_aln0 (p := 69) f56_68 rfl ?_
          refine r_ilw6 (p := 71) f56_69 rfl ?_
          refine r_istI (p := 74) f56_71 rfl rfl rfl hd (Nat.le_of_ble_eq_true rfl) rfl rfl rfl (fun _ => rfl) (fun v7 m7 c7 => ?_)
          have hz7 := z_k c7 hz6
          have h8 := k_t1 c6 hz3 h7 (by decide)
          have h9 := k_t1 c7 hz6 h8 (by decide)
          refine r_invV (p := 77) f56_74 rfl rfl rfl (Or.inl h9) hd (Nat.le_of_ble_eq_true rfl) rfl rfl rfl (fun _ => rfl) (fun m8 c8 => ?_)
          have hz8 := z_k c8 hz7
          refine r_goto (p := 109) f56_77 (by decide) rfl ?_
          refine r_ilw5 (p := 111) f56_109 rfl ?_
          refine r_aln1 (p := 112) f56_111 rfl ?_
          refine r_ilw5 (p := 114) f56_112 rfl ?_
          have h10 := k_t1 c2 hz h2 (by decide)
          have h11 := k_t1 c3 hz2 h10 (by decide)
          have h12 := k_t1 c6 hz3 h11 (by decide)
          have h13 := k_t1 c7 hz6 h12 (by decide)
          have h14 := k_t1 c8 hz7 h13 (by decide)
          refine r_invI (p := 117) f56_114 rfl rfl rfl (Or.inl h14) hd (Nat.le_of_ble_eq_true rfl) rfl rfl rfl (fun _ => rfl) (fun v9 m9 c9 => ?_)
          have hz9 := z_k c9 hz8
          refine r_iadd (p := 118) f56_117 rfl ?_
          refine r_isw5 (p := 120) f56_118 rfl rfl ?_
          refine r_goto (p := 9) f56_120 (by decide) rfl ?_
          exact le2_refl _
  · refine r_aln0 (p := 124) f56_123 rfl ?_
    refine r_ilw4 (p := 126) f56_124 rfl ?_
    refine le2_gd (fun h1 => ?_)
    refine r_invV (p := 129) f56_126 rfl rfl rfl (Or.inl h1) hd (Nat.le_of_ble_eq_true rfl) rfl rfl rfl (fun _ => rfl) (fun m1 c1 => ?_)
    have hz1 := z_k c1 hz
    exact r_ret f56_129
theorem q56_39 {d : Nat} {m : Mem} {a0 a1 a2 a3 a4 a5 a6 : Int} (hd : 0 < d) (hz : TZ m) : le2 (gd (tg m a0 = 2) <| bV (cl (d - 1) 54 [pR a0, pI 92] m) fun m1 => bV (cl (d - 1) 54 [pR a0, pI a6] m1) fun m2 => gd (tg m2 a1 = 8) <| bI (cl (d - 1) 142 [pR a1, pI a5] m2) fun v3 m3 => rn d 56 9 [pR a0, pR a1, pI a2, pI a3, pI a4, pI (w32 (a5 + v3)), pI a6] [] m3) (rn d 56 39 [pR a0, pR a1, pI a2, pI a3, pI a4, pI a5, pI a6] [] m) := by
  refine r_aln0 (p := 40) f56_39 rfl ?_
  refine r_bipush (p := 42) f56_40 rfl (pinD rfl rfl) ?_
  refine le2_gd (fun h1 => ?_)
  refine r_invV (p := 45) f56_42 rfl rfl rfl (Or.inl h1) hd (Nat.le_of_ble_eq_true rfl) rfl rfl rfl (fun _ => rfl) (fun m1 c1 => ?_)
  have hz1 := z_k c1 hz
  refine r_aln0 (p := 46) f56_45 rfl ?_
  refine r_ilw6 (p := 48) f56_46 rfl ?_
  have h2 := k_t1 c1 hz h1 (by decide)
  refine r_invV (p := 51) f56_48 rfl rfl rfl (Or.inl h2) hd (Nat.le_of_ble_eq_true rfl) rfl rfl rfl (fun _ => rfl) (fun m2 c2 => ?_)
  have hz2 := z_k c2 hz1
  refine r_goto (p := 109) f56_51 (by decide) rfl ?_
  refine r_ilw5 (p := 111) f56_109 rfl ?_
  refine r_aln1 (p := 112) f56_111 rfl ?_
  refine r_ilw5 (p := 114) f56_112 rfl ?_
  refine le2_gd (fun h3 => ?_)
  refine r_invI (p := 117) f56_114 rfl rfl rfl (Or.inl h3) hd (Nat.le_of_ble_eq_true rfl) rfl rfl rfl (fun _ => rfl) (fun v3 m3 c3 => ?_)
  have hz3 := z_k c3 hz2
  refine r_iadd (p := 118) f56_117 rfl ?_
  refine r_isw5 (p := 120) f56_118 rfl rfl ?_
  refine r_goto (p := 9) f56_120 (by decide) rfl ?_
  exact le2_refl _
theorem q56_94 {d : Nat} {m : Mem} {a0 a1 a2 a3 a4 a5 a6 : Int} (hd : 0 < d) (hz : TZ m) : le2 (gd (tg m a0 = 2) <| bV (cl (d - 1) 58 [pR a0, pI a6] m) fun m1 => gd (tg m1 a1 = 8) <| bI (cl (d - 1) 142 [pR a1, pI a5] m1) fun v2 m2 => rn d 56 9 [pR a0, pR a1, pI a2, pI a3, pI a4, pI (w32 (a5 + v2)), pI a6] [] m2) (rn d 56 94 [pR a0, pR a1, pI a2, pI a3, pI a4, pI a5, pI a6] [] m) := by
  refine r_aln0 (p := 95) f56_94 rfl ?_
  refine r_ilw6 (p := 97) f56_95 rfl ?_
  refine le2_gd (fun h1 => ?_)
  refine r_invV (p := 100) f56_97 rfl rfl rfl (Or.inl h1) hd (Nat.le_of_ble_eq_true rfl) rfl rfl rfl (fun _ => rfl) (fun m1 c1 => ?_)
  have hz1 := z_k c1 hz
  refine r_goto (p := 109) f56_100 (by decide) rfl ?_
  refine r_ilw5 (p := 111) f56_109 rfl ?_
  refine r_aln1 (p := 112) f56_111 rfl ?_
  refine r_ilw5 (p := 114) f56_112 rfl ?_
  refine le2_gd (fun h2 => ?_)
  refine r_invI (p := 117) f56_114 rfl rfl rfl (Or.inl h2) hd (Nat.le_of_ble_eq_true rfl) rfl rfl rfl (fun _ => rfl) (fun v2 m2 c2 => ?_)
  have hz2 := z_k c2 hz1
  refine r_iadd (p := 118) f56_117 rfl ?_
  refine r_isw5 (p := 120) f56_118 rfl rfl ?_
  refine r_goto (p := 9) f56_120 (by decide) rfl ?_
  exact le2_refl _
/-! 57 PathStore$Sink.letter (I)I -/
def w57_2 : List UInt8 := [16, 98, 172, 16, 116, 172, 16, 110, 172, 16, 102, 172, 16, 114, 172, 3, 172]
abbrev u57_2 : List UInt8 := w57_2 ++ []
def w57_1 : List UInt8 := [170, 0, 0, 0, 0, 0, 54, 0, 0, 0, 8, 0, 0, 0, 13, 0, 0, 0, 39, 0, 0, 0, 42, 0, 0, 0, 45, 0, 0, 0, 54, 0, 0, 0, 48, 0, 0, 0, 51]
abbrev u57_1 : List UInt8 := w57_1 ++ u57_2
def w57_0 : List UInt8 := [26]
abbrev u57_0 : List UInt8 := w57_0 ++ u57_1
theorem s57_0 : (prog_25_method_6_code).data.toList.drop 0 = u57_0 := by decide +kernel
theorem s57_1 : (prog_25_method_6_code).data.toList.drop 1 = u57_1 := dk_seg s57_0 1 rfl rfl
theorem s57_2 : (prog_25_method_6_code).data.toList.drop 40 = u57_2 := dk_seg s57_1 39 rfl rfl
theorem Fm57 {pc len : Nat} {i : Instr} (h : decode (prog_25_method_6_code) pc = .ok (i, len)) (hl : len = ilen i len) : ft 57 pc = some (2, 1, 0, i, len) := ft_mk rfl h hl
theorem f57_0 : ft 57 0 = some (2, 1, 0, .iload_n 0, 1) := Fm57 (dk_26 (dk_at s57_0 0 rfl rfl)) rfl
theorem f57_1 : ft 57 1 = some (2, 1, 0, .tableswitch 54 8 13 #[39, 42, 45, 54, 48, 51], 39) := Fm57 (by decide +kernel) rfl
theorem f57_40 : ft 57 40 = some (2, 1, 0, .bipush 98, 2) := Fm57 (dk_16 98 (dk_at s57_2 0 rfl rfl)) rfl
theorem f57_42 : ft 57 42 = some (2, 1, 0, .ireturn, 1) := Fm57 (dk_172 (dk_at s57_2 2 rfl rfl)) rfl
theorem f57_43 : ft 57 43 = some (2, 1, 0, .bipush 116, 2) := Fm57 (dk_16 116 (dk_at s57_2 3 rfl rfl)) rfl
theorem f57_45 : ft 57 45 = some (2, 1, 0, .ireturn, 1) := Fm57 (dk_172 (dk_at s57_2 5 rfl rfl)) rfl
theorem f57_46 : ft 57 46 = some (2, 1, 0, .bipush 110, 2) := Fm57 (dk_16 110 (dk_at s57_2 6 rfl rfl)) rfl
theorem f57_48 : ft 57 48 = some (2, 1, 0, .ireturn, 1) := Fm57 (dk_172 (dk_at s57_2 8 rfl rfl)) rfl
theorem f57_49 : ft 57 49 = some (2, 1, 0, .bipush 102, 2) := Fm57 (dk_16 102 (dk_at s57_2 9 rfl rfl)) rfl
theorem f57_51 : ft 57 51 = some (2, 1, 0, .ireturn, 1) := Fm57 (dk_172 (dk_at s57_2 11 rfl rfl)) rfl
theorem f57_52 : ft 57 52 = some (2, 1, 0, .bipush 114, 2) := Fm57 (dk_16 114 (dk_at s57_2 12 rfl rfl)) rfl
theorem f57_54 : ft 57 54 = some (2, 1, 0, .ireturn, 1) := Fm57 (dk_172 (dk_at s57_2 14 rfl rfl)) rfl
theorem f57_55 : ft 57 55 = some (2, 1, 0, .iconst 0, 1) := Fm57 (dk_3 (dk_at s57_2 15 rfl rfl)) rfl
theorem f57_56 : ft 57 56 = some (2, 1, 0, .ireturn, 1) := Fm57 (dk_172 (dk_at s57_2 16 rfl rfl)) rfl
theorem q57 {d : Nat} {m : Mem} {a0 : Int} (hz : TZ m) : le2 (if a0 = 8 then (some (.inl (some (pI 98)), m)) else if a0 = 9 then (some (.inl (some (pI 116)), m)) else if a0 = 10 then (some (.inl (some (pI 110)), m)) else if a0 = 12 then (some (.inl (some (pI 102)), m)) else if a0 = 13 then (some (.inl (some (pI 114)), m)) else if a0 = 11 then (some (.inl (some (pI 0)), m)) else some (.inl (some (pI 0)), m)) (cl d 57 [pI a0] m) := by
  refine q_in (n := 1) (L := [pI a0]) rfl rfl rfl ?_
  refine r_iln0 (p := 1) f57_0 rfl ?_
  refine le2_ite (fun h6 => ?_) (fun h6 => ?_)
  · refine r_tsI (off := 39) (t := 40) f57_1 h6 rfl rfl (by decide) rfl ?_
    refine r_bipush (p := 42) f57_40 rfl (pinD rfl rfl) ?_
    exact r_iret1 f57_42
  · refine le2_ite (fun h5 => ?_) (fun h5 => ?_)
    · refine r_tsI (off := 42) (t := 43) f57_1 h5 rfl rfl (by decide) rfl ?_
      refine r_bipush (p := 45) f57_43 rfl (pinD rfl rfl) ?_
      exact r_iret1 f57_45
    · refine le2_ite (fun h4 => ?_) (fun h4 => ?_)
      · refine r_tsI (off := 45) (t := 46) f57_1 h4 rfl rfl (by decide) rfl ?_
        refine r_bipush (p := 48) f57_46 rfl (pinD rfl rfl) ?_
        exact r_iret1 f57_48
      · refine le2_ite (fun h3 => ?_) (fun h3 => ?_)
        · refine r_tsI (off := 48) (t := 49) f57_1 h3 rfl rfl (by decide) rfl ?_
          refine r_bipush (p := 51) f57_49 rfl (pinD rfl rfl) ?_
          exact r_iret1 f57_51
        · refine le2_ite (fun h2 => ?_) (fun h2 => ?_)
          · refine r_tsI (off := 51) (t := 52) f57_1 h2 rfl rfl (by decide) rfl ?_
            refine r_bipush (p := 54) f57_52 rfl (pinD rfl rfl) ?_
            exact r_iret1 f57_54
          · refine le2_ite (fun h1 => ?_) (fun h1 => ?_)
            · refine r_tsI (off := 54) (t := 55) f57_1 h1 rfl rfl (by decide) rfl ?_
              refine r_iconst (p := 56) f57_55 rfl (pinD rfl rfl) ?_
              exact r_iret1 f57_56
            · refine r_tsO (t := 55) f57_1 (by omega) (by decide) rfl ?_
              refine r_iconst (p := 56) f57_55 rfl (pinD rfl rfl) ?_
              exact r_iret1 f57_56
/-! 58 PathStore$Sink.hex (I)V -/
def w58_2 : List UInt8 := [182, 0, 32, 132, 2, 252, 167, 255, 218, 177]
abbrev u58_2 : List UInt8 := w58_2 ++ []
def w58_1 : List UInt8 := [126, 62, 42, 29, 16, 10, 162, 0, 10, 16, 48, 29, 96, 167, 0, 10, 16, 97, 29, 96, 16, 10, 100]
abbrev u58_1 : List UInt8 := w58_1 ++ u58_2
def w58_0 : List UInt8 := [42, 16, 92, 182, 0, 32, 42, 16, 117, 182, 0, 32, 16, 12, 61, 28, 155, 0, 40, 27, 28, 122, 16, 15]
abbrev u58_0 : List UInt8 := w58_0 ++ u58_1
theorem s58_0 : (prog_25_method_5_code).data.toList.drop 0 = u58_0 := by decide +kernel
theorem s58_1 : (prog_25_method_5_code).data.toList.drop 24 = u58_1 := dk_seg s58_0 24 rfl rfl
theorem s58_2 : (prog_25_method_5_code).data.toList.drop 47 = u58_2 := dk_seg s58_1 23 rfl rfl
theorem Fm58 {pc len : Nat} {i : Instr} (h : decode (prog_25_method_5_code) pc = .ok (i, len)) (hl : len = ilen i len) : ft 58 pc = some (2, 0, 0, i, len) := ft_mk rfl h hl
theorem f58_0 : ft 58 0 = some (2, 0, 0, .aload_n 0, 1) := Fm58 (dk_42 (dk_at s58_0 0 rfl rfl)) rfl
theorem f58_1 : ft 58 1 = some (2, 0, 0, .bipush 92, 2) := Fm58 (dk_16 92 (dk_at s58_0 1 rfl rfl)) rfl
theorem f58_3 : ft 58 3 = some (2, 0, 0, .invokevirtual 32, 3) := Fm58 (dk_182 0 32 (dk_at s58_0 3 rfl rfl)) rfl
theorem f58_6 : ft 58 6 = some (2, 0, 0, .aload_n 0, 1) := Fm58 (dk_42 (dk_at s58_0 6 rfl rfl)) rfl
theorem f58_7 : ft 58 7 = some (2, 0, 0, .bipush 117, 2) := Fm58 (dk_16 117 (dk_at s58_0 7 rfl rfl)) rfl
theorem f58_9 : ft 58 9 = some (2, 0, 0, .invokevirtual 32, 3) := Fm58 (dk_182 0 32 (dk_at s58_0 9 rfl rfl)) rfl
theorem f58_12 : ft 58 12 = some (2, 0, 0, .bipush 12, 2) := Fm58 (dk_16 12 (dk_at s58_0 12 rfl rfl)) rfl
theorem f58_14 : ft 58 14 = some (2, 0, 0, .istore_n 2, 1) := Fm58 (dk_61 (dk_at s58_0 14 rfl rfl)) rfl
theorem f58_15 : ft 58 15 = some (2, 0, 0, .iload_n 2, 1) := Fm58 (dk_28 (dk_at s58_0 15 rfl rfl)) rfl
theorem f58_16 : ft 58 16 = some (2, 0, 0, .ifCond .lt 40, 3) := Fm58 (dk_155 0 40 (dk_at s58_0 16 rfl rfl)) rfl
theorem f58_19 : ft 58 19 = some (2, 0, 0, .iload_n 1, 1) := Fm58 (dk_27 (dk_at s58_0 19 rfl rfl)) rfl
theorem f58_20 : ft 58 20 = some (2, 0, 0, .iload_n 2, 1) := Fm58 (dk_28 (dk_at s58_0 20 rfl rfl)) rfl
theorem f58_21 : ft 58 21 = some (2, 0, 0, .ishr, 1) := Fm58 (dk_122 (dk_at s58_0 21 rfl rfl)) rfl
theorem f58_22 : ft 58 22 = some (2, 0, 0, .bipush 15, 2) := Fm58 (dk_16 15 (dk_at s58_0 22 rfl rfl)) rfl
theorem f58_24 : ft 58 24 = some (2, 0, 0, .iand, 1) := Fm58 (dk_126 (dk_at s58_1 0 rfl rfl)) rfl
theorem f58_25 : ft 58 25 = some (2, 0, 0, .istore_n 3, 1) := Fm58 (dk_62 (dk_at s58_1 1 rfl rfl)) rfl
theorem f58_26 : ft 58 26 = some (2, 0, 0, .aload_n 0, 1) := Fm58 (dk_42 (dk_at s58_1 2 rfl rfl)) rfl
theorem f58_27 : ft 58 27 = some (2, 0, 0, .iload_n 3, 1) := Fm58 (dk_29 (dk_at s58_1 3 rfl rfl)) rfl
theorem f58_28 : ft 58 28 = some (2, 0, 0, .bipush 10, 2) := Fm58 (dk_16 10 (dk_at s58_1 4 rfl rfl)) rfl
theorem f58_30 : ft 58 30 = some (2, 0, 0, .if_icmp .ge 10, 3) := Fm58 (dk_162 0 10 (dk_at s58_1 6 rfl rfl)) rfl
theorem f58_33 : ft 58 33 = some (2, 0, 0, .bipush 48, 2) := Fm58 (dk_16 48 (dk_at s58_1 9 rfl rfl)) rfl
theorem f58_35 : ft 58 35 = some (2, 0, 0, .iload_n 3, 1) := Fm58 (dk_29 (dk_at s58_1 11 rfl rfl)) rfl
theorem f58_36 : ft 58 36 = some (2, 0, 0, .iadd, 1) := Fm58 (dk_96 (dk_at s58_1 12 rfl rfl)) rfl
theorem f58_37 : ft 58 37 = some (2, 0, 0, .goto 10, 3) := Fm58 (dk_167 0 10 (dk_at s58_1 13 rfl rfl)) rfl
theorem f58_40 : ft 58 40 = some (2, 0, 0, .bipush 97, 2) := Fm58 (dk_16 97 (dk_at s58_1 16 rfl rfl)) rfl
theorem f58_42 : ft 58 42 = some (2, 0, 0, .iload_n 3, 1) := Fm58 (dk_29 (dk_at s58_1 18 rfl rfl)) rfl
theorem f58_43 : ft 58 43 = some (2, 0, 0, .iadd, 1) := Fm58 (dk_96 (dk_at s58_1 19 rfl rfl)) rfl
theorem f58_44 : ft 58 44 = some (2, 0, 0, .bipush 10, 2) := Fm58 (dk_16 10 (dk_at s58_1 20 rfl rfl)) rfl
theorem f58_46 : ft 58 46 = some (2, 0, 0, .isub, 1) := Fm58 (dk_100 (dk_at s58_1 22 rfl rfl)) rfl
theorem f58_47 : ft 58 47 = some (2, 0, 0, .invokevirtual 32, 3) := Fm58 (dk_182 0 32 (dk_at s58_2 0 rfl rfl)) rfl
theorem f58_50 : ft 58 50 = some (2, 0, 0, .iinc 2 (-4), 3) := Fm58 (dk_132 2 252 (dk_at s58_2 3 rfl rfl)) rfl
theorem f58_53 : ft 58 53 = some (2, 0, 0, .goto (-38), 3) := Fm58 (dk_167 255 218 (dk_at s58_2 6 rfl rfl)) rfl
theorem f58_56 : ft 58 56 = some (2, 0, 0, .return_, 1) := Fm58 (dk_177 (dk_at s58_2 9 rfl rfl)) rfl
theorem q58 {d : Nat} {m : Mem} {a0 a1 : Int} (hd : 0 < d) (hz : TZ m) : le2 (gd (tg m a0 = 2) <| bV (cl (d - 1) 54 [pR a0, pI 92] m) fun m1 => bV (cl (d - 1) 54 [pR a0, pI 117] m1) fun m2 => rn d 58 15 [pR a0, pI a1, pI 12, pU] [] m2) (cl d 58 [pR a0, pI a1] m) := by
  refine q_in (n := 4) (L := [pR a0, pI a1, pU, pU]) rfl rfl rfl ?_
  refine r_aln0 (p := 1) f58_0 rfl ?_
  refine r_bipush (p := 3) f58_1 rfl (pinD rfl rfl) ?_
  refine le2_gd (fun h1 => ?_)
  refine r_invV (p := 6) f58_3 rfl rfl rfl (Or.inl h1) hd (Nat.le_of_ble_eq_true rfl) rfl rfl rfl (fun _ => rfl) (fun m1 c1 => ?_)
  have hz1 := z_k c1 hz
  refine r_aln0 (p := 7) f58_6 rfl ?_
  refine r_bipush (p := 9) f58_7 rfl (pinD rfl rfl) ?_
  have h2 := k_t1 c1 hz h1 (by decide)
  refine r_invV (p := 12) f58_9 rfl rfl rfl (Or.inl h2) hd (Nat.le_of_ble_eq_true rfl) rfl rfl rfl (fun _ => rfl) (fun m2 c2 => ?_)
  have hz2 := z_k c2 hz1
  refine r_bipush (p := 14) f58_12 rfl (pinD rfl rfl) ?_
  refine r_isn2 (p := 15) f58_14 rfl rfl ?_
  exact le2_refl _
theorem q58_15 {d : Nat} {m : Mem} {a0 a1 a2 : Int} {z3 : PV} (hd : 0 < d) (hz : TZ m) (hcz3 : cat z3 = 1) : le2 (if a2 < 0 then (some (.inl none, m)) else nm (pAnd (pShr a1 a2) 15) fun v3 => if v3 < 10 then (gd (tg m a0 = 2) <| bV (cl (d - 1) 54 [pR a0, pI (w32 (48 + v3))] m) fun m2 => rn d 58 15 [pR a0, pI a1, pI (w32 (a2 + (-4))), pI v3] [] m2) else gd (tg m a0 = 2) <| bV (cl (d - 1) 54 [pR a0, pI (w32 ((w32 (97 + v3)) - 10))] m) fun m1 => rn d 58 15 [pR a0, pI a1, pI (w32 (a2 + (-4))), pI v3] [] m1) (rn d 58 15 [pR a0, pI a1, pI a2, z3] [] m) := by
  refine r_iln2 (p := 16) f58_15 rfl ?_
  refine r_iflt (t := 56) (p := 19) f58_16 (by decide) rfl rfl ?_ ?_
  · exact r_ret f58_56
  · refine r_iln1 (p := 20) f58_19 rfl ?_
    refine r_iln2 (p := 21) f58_20 rfl ?_
    refine r_ishr (p := 22) f58_21 rfl ?_
    refine r_bipush (p := 24) f58_22 rfl (pinD rfl rfl) ?_
    refine r_iand (p := 25) f58_24 rfl ?_
    refine r_nmI (fun v3 ev3 => ?_)
    refine r_isn3 (p := 26) f58_25 rfl rfl ?_
    refine r_aln0 (p := 27) f58_26 rfl ?_
    refine r_iln3 (p := 28) f58_27 rfl ?_
    refine r_bipush (p := 30) f58_28 rfl (pinD rfl rfl) ?_
    refine r_icge (t := 40) (p := 33) f58_30 (by decide) rfl rfl ?_ ?_
    · refine r_bipush (p := 35) f58_33 rfl (pinD rfl rfl) ?_
      refine r_iln3 (p := 36) f58_35 rfl ?_
      refine r_iadd (p := 37) f58_36 rfl ?_
      refine r_goto (p := 47) f58_37 (by decide) rfl ?_
      refine le2_gd (fun h2 => ?_)
      refine r_invV (p := 50) f58_47 rfl rfl rfl (Or.inl h2) hd (Nat.le_of_ble_eq_true rfl) rfl rfl rfl (fun _ => rfl) (fun m2 c2 => ?_)
      have hz2 := z_k c2 hz
      refine r_iinc2 (p := 53) f58_50 rfl rfl ?_
      refine r_goto (p := 15) f58_53 (by decide) rfl ?_
      exact le2_refl _
    · refine r_bipush (p := 42) f58_40 rfl (pinD rfl rfl) ?_
      refine r_iln3 (p := 43) f58_42 rfl ?_
      refine r_iadd (p := 44) f58_43 rfl ?_
      refine r_bipush (p := 46) f58_44 rfl (pinD rfl rfl) ?_
      refine r_isub (p := 47) f58_46 rfl ?_
      refine le2_gd (fun h1 => ?_)
      refine r_invV (p := 50) f58_47 rfl rfl rfl (Or.inl h1) hd (Nat.le_of_ble_eq_true rfl) rfl rfl rfl (fun _ => rfl) (fun m1 c1 => ?_)
      have hz1 := z_k c1 hz
      refine r_iinc2 (p := 53) f58_50 rfl rfl ?_
      refine r_goto (p := 15) f58_53 (by decide) rfl ?_
      exact le2_refl _
/-! 59 PathStore$Sink.many (LPathStore$Row;I)V -/
def w59_5 : List UInt8 := [54, 5, 167, 255, 181, 42, 29, 153, 0, 8, 16, 125, 167, 0, 5, 16, 93, 182, 0, 32, 177]
abbrev u59_5 : List UInt8 := w59_5 ++ []
def w59_4 : List UInt8 := [182, 0, 32, 43, 21, 5, 182, 0, 92, 54, 6, 42, 43, 21, 6, 182, 0, 95, 43, 21, 6, 182, 0, 89]
abbrev u59_4 : List UInt8 := w59_4 ++ u59_5
def w59_3 : List UInt8 := [153, 0, 34, 42, 43, 21, 5, 5, 96, 43, 21, 5, 182, 0, 78, 16, 34, 182, 0, 81, 42, 16, 58]
abbrev u59_3 : List UInt8 := w59_3 ++ u59_4
def w59_2 : List UInt8 := [162, 0, 74, 21, 5, 28, 6, 96, 164, 0, 9, 42, 16, 44, 182, 0, 32, 21, 5, 54, 6, 29]
abbrev u59_2 : List UInt8 := w59_2 ++ u59_3
def w59_1 : List UInt8 := [167, 0, 5, 16, 91, 182, 0, 32, 43, 28, 182, 0, 89, 54, 4, 28, 6, 96, 54, 5, 21, 5, 21, 4]
abbrev u59_1 : List UInt8 := w59_1 ++ u59_2
def w59_0 : List UInt8 := [43, 28, 182, 0, 57, 16, 6, 160, 0, 7, 4, 167, 0, 4, 3, 62, 42, 29, 153, 0, 8, 16, 123]
abbrev u59_0 : List UInt8 := w59_0 ++ u59_1
theorem s59_0 : (prog_25_method_9_code).data.toList.drop 0 = u59_0 := by decide +kernel
theorem s59_1 : (prog_25_method_9_code).data.toList.drop 23 = u59_1 := dk_seg s59_0 23 rfl rfl
theorem s59_2 : (prog_25_method_9_code).data.toList.drop 47 = u59_2 := dk_seg s59_1 24 rfl rfl
theorem s59_3 : (prog_25_method_9_code).data.toList.drop 69 = u59_3 := dk_seg s59_2 22 rfl rfl
theorem s59_4 : (prog_25_method_9_code).data.toList.drop 92 = u59_4 := dk_seg s59_3 23 rfl rfl
theorem s59_5 : (prog_25_method_9_code).data.toList.drop 116 = u59_5 := dk_seg s59_4 24 rfl rfl
theorem Fm59 {pc len : Nat} {i : Instr} (h : decode (prog_25_method_9_code) pc = .ok (i, len)) (hl : len = ilen i len) : ft 59 pc = some (2, 0, 0, i, len) := ft_mk rfl h hl
theorem f59_0 : ft 59 0 = some (2, 0, 0, .aload_n 1, 1) := Fm59 (dk_43 (dk_at s59_0 0 rfl rfl)) rfl
theorem f59_1 : ft 59 1 = some (2, 0, 0, .iload_n 2, 1) := Fm59 (dk_28 (dk_at s59_0 1 rfl rfl)) rfl
theorem f59_2 : ft 59 2 = some (2, 0, 0, .invokevirtual 57, 3) := Fm59 (dk_182 0 57 (dk_at s59_0 2 rfl rfl)) rfl
theorem f59_5 : ft 59 5 = some (2, 0, 0, .bipush 6, 2) := Fm59 (dk_16 6 (dk_at s59_0 5 rfl rfl)) rfl
theorem f59_7 : ft 59 7 = some (2, 0, 0, .if_icmp .ne 7, 3) := Fm59 (dk_160 0 7 (dk_at s59_0 7 rfl rfl)) rfl
theorem f59_10 : ft 59 10 = some (2, 0, 0, .iconst 1, 1) := Fm59 (dk_4 (dk_at s59_0 10 rfl rfl)) rfl
theorem f59_11 : ft 59 11 = some (2, 0, 0, .goto 4, 3) := Fm59 (dk_167 0 4 (dk_at s59_0 11 rfl rfl)) rfl
theorem f59_14 : ft 59 14 = some (2, 0, 0, .iconst 0, 1) := Fm59 (dk_3 (dk_at s59_0 14 rfl rfl)) rfl
theorem f59_15 : ft 59 15 = some (2, 0, 0, .istore_n 3, 1) := Fm59 (dk_62 (dk_at s59_0 15 rfl rfl)) rfl
theorem f59_16 : ft 59 16 = some (2, 0, 0, .aload_n 0, 1) := Fm59 (dk_42 (dk_at s59_0 16 rfl rfl)) rfl
theorem f59_17 : ft 59 17 = some (2, 0, 0, .iload_n 3, 1) := Fm59 (dk_29 (dk_at s59_0 17 rfl rfl)) rfl
theorem f59_18 : ft 59 18 = some (2, 0, 0, .ifCond .eq 8, 3) := Fm59 (dk_153 0 8 (dk_at s59_0 18 rfl rfl)) rfl
theorem f59_21 : ft 59 21 = some (2, 0, 0, .bipush 123, 2) := Fm59 (dk_16 123 (dk_at s59_0 21 rfl rfl)) rfl
theorem f59_23 : ft 59 23 = some (2, 0, 0, .goto 5, 3) := Fm59 (dk_167 0 5 (dk_at s59_1 0 rfl rfl)) rfl
theorem f59_26 : ft 59 26 = some (2, 0, 0, .bipush 91, 2) := Fm59 (dk_16 91 (dk_at s59_1 3 rfl rfl)) rfl
theorem f59_28 : ft 59 28 = some (2, 0, 0, .invokevirtual 32, 3) := Fm59 (dk_182 0 32 (dk_at s59_1 5 rfl rfl)) rfl
theorem f59_31 : ft 59 31 = some (2, 0, 0, .aload_n 1, 1) := Fm59 (dk_43 (dk_at s59_1 8 rfl rfl)) rfl
theorem f59_32 : ft 59 32 = some (2, 0, 0, .iload_n 2, 1) := Fm59 (dk_28 (dk_at s59_1 9 rfl rfl)) rfl
theorem f59_33 : ft 59 33 = some (2, 0, 0, .invokevirtual 89, 3) := Fm59 (dk_182 0 89 (dk_at s59_1 10 rfl rfl)) rfl
theorem f59_36 : ft 59 36 = some (2, 0, 0, .istore 4, 2) := Fm59 (dk_54 4 (dk_at s59_1 13 rfl rfl)) rfl
theorem f59_38 : ft 59 38 = some (2, 0, 0, .iload_n 2, 1) := Fm59 (dk_28 (dk_at s59_1 15 rfl rfl)) rfl
theorem f59_39 : ft 59 39 = some (2, 0, 0, .iconst 3, 1) := Fm59 (dk_6 (dk_at s59_1 16 rfl rfl)) rfl
theorem f59_40 : ft 59 40 = some (2, 0, 0, .iadd, 1) := Fm59 (dk_96 (dk_at s59_1 17 rfl rfl)) rfl
theorem f59_41 : ft 59 41 = some (2, 0, 0, .istore 5, 2) := Fm59 (dk_54 5 (dk_at s59_1 18 rfl rfl)) rfl
theorem f59_43 : ft 59 43 = some (2, 0, 0, .iload 5, 2) := Fm59 (dk_21 5 (dk_at s59_1 20 rfl rfl)) rfl
theorem f59_45 : ft 59 45 = some (2, 0, 0, .iload 4, 2) := Fm59 (dk_21 4 (dk_at s59_1 22 rfl rfl)) rfl
theorem f59_47 : ft 59 47 = some (2, 0, 0, .if_icmp .ge 74, 3) := Fm59 (dk_162 0 74 (dk_at s59_2 0 rfl rfl)) rfl
theorem f59_50 : ft 59 50 = some (2, 0, 0, .iload 5, 2) := Fm59 (dk_21 5 (dk_at s59_2 3 rfl rfl)) rfl
theorem f59_52 : ft 59 52 = some (2, 0, 0, .iload_n 2, 1) := Fm59 (dk_28 (dk_at s59_2 5 rfl rfl)) rfl
theorem f59_53 : ft 59 53 = some (2, 0, 0, .iconst 3, 1) := Fm59 (dk_6 (dk_at s59_2 6 rfl rfl)) rfl
theorem f59_54 : ft 59 54 = some (2, 0, 0, .iadd, 1) := Fm59 (dk_96 (dk_at s59_2 7 rfl rfl)) rfl
theorem f59_55 : ft 59 55 = some (2, 0, 0, .if_icmp .le 9, 3) := Fm59 (dk_164 0 9 (dk_at s59_2 8 rfl rfl)) rfl
theorem f59_58 : ft 59 58 = some (2, 0, 0, .aload_n 0, 1) := Fm59 (dk_42 (dk_at s59_2 11 rfl rfl)) rfl
theorem f59_59 : ft 59 59 = some (2, 0, 0, .bipush 44, 2) := Fm59 (dk_16 44 (dk_at s59_2 12 rfl rfl)) rfl
theorem f59_61 : ft 59 61 = some (2, 0, 0, .invokevirtual 32, 3) := Fm59 (dk_182 0 32 (dk_at s59_2 14 rfl rfl)) rfl
theorem f59_64 : ft 59 64 = some (2, 0, 0, .iload 5, 2) := Fm59 (dk_21 5 (dk_at s59_2 17 rfl rfl)) rfl
theorem f59_66 : ft 59 66 = some (2, 0, 0, .istore 6, 2) := Fm59 (dk_54 6 (dk_at s59_2 19 rfl rfl)) rfl
theorem f59_68 : ft 59 68 = some (2, 0, 0, .iload_n 3, 1) := Fm59 (dk_29 (dk_at s59_2 21 rfl rfl)) rfl
theorem f59_69 : ft 59 69 = some (2, 0, 0, .ifCond .eq 34, 3) := Fm59 (dk_153 0 34 (dk_at s59_3 0 rfl rfl)) rfl
theorem f59_72 : ft 59 72 = some (2, 0, 0, .aload_n 0, 1) := Fm59 (dk_42 (dk_at s59_3 3 rfl rfl)) rfl
theorem f59_73 : ft 59 73 = some (2, 0, 0, .aload_n 1, 1) := Fm59 (dk_43 (dk_at s59_3 4 rfl rfl)) rfl
theorem f59_74 : ft 59 74 = some (2, 0, 0, .iload 5, 2) := Fm59 (dk_21 5 (dk_at s59_3 5 rfl rfl)) rfl
theorem f59_76 : ft 59 76 = some (2, 0, 0, .iconst 2, 1) := Fm59 (dk_5 (dk_at s59_3 7 rfl rfl)) rfl
theorem f59_77 : ft 59 77 = some (2, 0, 0, .iadd, 1) := Fm59 (dk_96 (dk_at s59_3 8 rfl rfl)) rfl
theorem f59_78 : ft 59 78 = some (2, 0, 0, .aload_n 1, 1) := Fm59 (dk_43 (dk_at s59_3 9 rfl rfl)) rfl
theorem f59_79 : ft 59 79 = some (2, 0, 0, .iload 5, 2) := Fm59 (dk_21 5 (dk_at s59_3 10 rfl rfl)) rfl
theorem f59_81 : ft 59 81 = some (2, 0, 0, .invokevirtual 78, 3) := Fm59 (dk_182 0 78 (dk_at s59_3 12 rfl rfl)) rfl
theorem f59_84 : ft 59 84 = some (2, 0, 0, .bipush 34, 2) := Fm59 (dk_16 34 (dk_at s59_3 15 rfl rfl)) rfl
theorem f59_86 : ft 59 86 = some (2, 0, 0, .invokevirtual 81, 3) := Fm59 (dk_182 0 81 (dk_at s59_3 17 rfl rfl)) rfl
theorem f59_89 : ft 59 89 = some (2, 0, 0, .aload_n 0, 1) := Fm59 (dk_42 (dk_at s59_3 20 rfl rfl)) rfl
theorem f59_90 : ft 59 90 = some (2, 0, 0, .bipush 58, 2) := Fm59 (dk_16 58 (dk_at s59_3 21 rfl rfl)) rfl
theorem f59_92 : ft 59 92 = some (2, 0, 0, .invokevirtual 32, 3) := Fm59 (dk_182 0 32 (dk_at s59_4 0 rfl rfl)) rfl
theorem f59_95 : ft 59 95 = some (2, 0, 0, .aload_n 1, 1) := Fm59 (dk_43 (dk_at s59_4 3 rfl rfl)) rfl
theorem f59_96 : ft 59 96 = some (2, 0, 0, .iload 5, 2) := Fm59 (dk_21 5 (dk_at s59_4 4 rfl rfl)) rfl
theorem f59_98 : ft 59 98 = some (2, 0, 0, .invokevirtual 92, 3) := Fm59 (dk_182 0 92 (dk_at s59_4 6 rfl rfl)) rfl
theorem f59_101 : ft 59 101 = some (2, 0, 0, .istore 6, 2) := Fm59 (dk_54 6 (dk_at s59_4 9 rfl rfl)) rfl
theorem f59_103 : ft 59 103 = some (2, 0, 0, .aload_n 0, 1) := Fm59 (dk_42 (dk_at s59_4 11 rfl rfl)) rfl
theorem f59_104 : ft 59 104 = some (2, 0, 0, .aload_n 1, 1) := Fm59 (dk_43 (dk_at s59_4 12 rfl rfl)) rfl
theorem f59_105 : ft 59 105 = some (2, 0, 0, .iload 6, 2) := Fm59 (dk_21 6 (dk_at s59_4 13 rfl rfl)) rfl
theorem f59_107 : ft 59 107 = some (2, 0, 0, .invokevirtual 95, 3) := Fm59 (dk_182 0 95 (dk_at s59_4 15 rfl rfl)) rfl
theorem f59_110 : ft 59 110 = some (2, 0, 0, .aload_n 1, 1) := Fm59 (dk_43 (dk_at s59_4 18 rfl rfl)) rfl
theorem f59_111 : ft 59 111 = some (2, 0, 0, .iload 6, 2) := Fm59 (dk_21 6 (dk_at s59_4 19 rfl rfl)) rfl
theorem f59_113 : ft 59 113 = some (2, 0, 0, .invokevirtual 89, 3) := Fm59 (dk_182 0 89 (dk_at s59_4 21 rfl rfl)) rfl
theorem f59_116 : ft 59 116 = some (2, 0, 0, .istore 5, 2) := Fm59 (dk_54 5 (dk_at s59_5 0 rfl rfl)) rfl
theorem f59_118 : ft 59 118 = some (2, 0, 0, .goto (-75), 3) := Fm59 (dk_167 255 181 (dk_at s59_5 2 rfl rfl)) rfl
theorem f59_121 : ft 59 121 = some (2, 0, 0, .aload_n 0, 1) := Fm59 (dk_42 (dk_at s59_5 5 rfl rfl)) rfl
theorem f59_122 : ft 59 122 = some (2, 0, 0, .iload_n 3, 1) := Fm59 (dk_29 (dk_at s59_5 6 rfl rfl)) rfl
theorem f59_123 : ft 59 123 = some (2, 0, 0, .ifCond .eq 8, 3) := Fm59 (dk_153 0 8 (dk_at s59_5 7 rfl rfl)) rfl
theorem f59_126 : ft 59 126 = some (2, 0, 0, .bipush 125, 2) := Fm59 (dk_16 125 (dk_at s59_5 10 rfl rfl)) rfl
theorem f59_128 : ft 59 128 = some (2, 0, 0, .goto 5, 3) := Fm59 (dk_167 0 5 (dk_at s59_5 12 rfl rfl)) rfl
theorem f59_131 : ft 59 131 = some (2, 0, 0, .bipush 93, 2) := Fm59 (dk_16 93 (dk_at s59_5 15 rfl rfl)) rfl
theorem f59_133 : ft 59 133 = some (2, 0, 0, .invokevirtual 32, 3) := Fm59 (dk_182 0 32 (dk_at s59_5 17 rfl rfl)) rfl
theorem f59_136 : ft 59 136 = some (2, 0, 0, .return_, 1) := Fm59 (dk_177 (dk_at s59_5 20 rfl rfl)) rfl
theorem q59 {d : Nat} {m : Mem} {a0 a1 a2 : Int} (hd : 0 < d) (hz : TZ m) : le2 (gd (tg m a1 = 8) <| bI (cl (d - 1) 139 [pR a1, pI a2] m) fun v1 m1 => if v1 = 6 then (if (1 : Int) = 0 then (rn d 59 28 [pR a0, pR a1, pI a2, pI 1, pU, pU, pU] [pI 91, pR a0] m1) else rn d 59 28 [pR a0, pR a1, pI a2, pI 1, pU, pU, pU] [pI 123, pR a0] m1) else if (0 : Int) = 0 then (rn d 59 28 [pR a0, pR a1, pI a2, pI 0, pU, pU, pU] [pI 91, pR a0] m1) else rn d 59 28 [pR a0, pR a1, pI a2, pI 0, pU, pU, pU] [pI 123, pR a0] m1) (cl d 59 [pR a0, pR a1, pI a2] m) := by
  refine q_in (n := 7) (L := [pR a0, pR a1, pI a2, pU, pU, pU, pU]) rfl rfl rfl ?_
  refine r_aln1 (p := 1) f59_0 rfl ?_
  refine r_iln2 (p := 2) f59_1 rfl ?_
  refine le2_gd (fun h1 => ?_)
  refine r_invI (p := 5) f59_2 rfl rfl rfl (Or.inl h1) hd (Nat.le_of_ble_eq_true rfl) rfl rfl rfl (fun _ => rfl) (fun v1 m1 c1 => ?_)
  have hz1 := z_k c1 hz
  refine r_bipush (p := 7) f59_5 rfl (pinD rfl rfl) ?_
  refine r_icne (t := 14) (p := 10) f59_7 (by decide) rfl rfl ?_ ?_
  · refine r_iconst (p := 11) f59_10 rfl (pinD rfl rfl) ?_
    refine r_goto (p := 15) f59_11 (by decide) rfl ?_
    refine r_isn3 (p := 16) f59_15 rfl rfl ?_
    refine r_aln0 (p := 17) f59_16 rfl ?_
    refine r_iln3 (p := 18) f59_17 rfl ?_
    refine r_ifeq (t := 26) (p := 21) f59_18 (by decide) rfl rfl ?_ ?_
    · refine r_bipush (p := 28) f59_26 rfl (pinD rfl rfl) ?_
      exact le2_refl _
    · refine r_bipush (p := 23) f59_21 rfl (pinD rfl rfl) ?_
      refine r_goto (p := 28) f59_23 (by decide) rfl ?_
      exact le2_refl _
  · refine r_iconst (p := 15) f59_14 rfl (pinD rfl rfl) ?_
    refine r_isn3 (p := 16) f59_15 rfl rfl ?_
    refine r_aln0 (p := 17) f59_16 rfl ?_
    refine r_iln3 (p := 18) f59_17 rfl ?_
    refine r_ifeq (t := 26) (p := 21) f59_18 (by decide) rfl rfl ?_ ?_
    · refine r_bipush (p := 28) f59_26 rfl (pinD rfl rfl) ?_
      exact le2_refl _
    · refine r_bipush (p := 23) f59_21 rfl (pinD rfl rfl) ?_
      refine r_goto (p := 28) f59_23 (by decide) rfl ?_
      exact le2_refl _
theorem q59_28 {d : Nat} {m : Mem} {a0 a1 a2 a3 s1 s0 : Int} (hd : 0 < d) (hz : TZ m) : le2 (gd (tg m s0 = 2) <| bV (cl (d - 1) 54 [pR s0, pI s1] m) fun m1 => gd (tg m1 a1 = 8) <| bI (cl (d - 1) 137 [pR a1, pI a2] m1) fun v2 m2 => rn d 59 43 [pR a0, pR a1, pI a2, pI a3, pI v2, pI (w32 (a2 + 3)), pU] [] m2) (rn d 59 28 [pR a0, pR a1, pI a2, pI a3, pU, pU, pU] [pI s1, pR s0] m) := by
  refine le2_gd (fun h1 => ?_)
  refine r_invV (p := 31) f59_28 rfl rfl rfl (Or.inl h1) hd (Nat.le_of_ble_eq_true rfl) rfl rfl rfl (fun _ => rfl) (fun m1 c1 => ?_)
  have hz1 := z_k c1 hz
  refine r_aln1 (p := 32) f59_31 rfl ?_
  refine r_iln2 (p := 33) f59_32 rfl ?_
  refine le2_gd (fun h2 => ?_)
  refine r_invI (p := 36) f59_33 rfl rfl rfl (Or.inl h2) hd (Nat.le_of_ble_eq_true rfl) rfl rfl rfl (fun _ => rfl) (fun v2 m2 c2 => ?_)
  have hz2 := z_k c2 hz1
  refine r_isw4 (p := 38) f59_36 rfl rfl ?_
  refine r_iln2 (p := 39) f59_38 rfl ?_
  refine r_iconst (p := 40) f59_39 rfl (pinD rfl rfl) ?_
  refine r_iadd (p := 41) f59_40 rfl ?_
  refine r_isw5 (p := 43) f59_41 rfl rfl ?_
  exact le2_refl _
theorem q59_43 {d : Nat} {m : Mem} {a0 a1 a2 a3 a4 a5 : Int} {z6 : PV} (hd : 0 < d) (hz : TZ m) (hcz6 : cat z6 = 1) : le2 (if a5 < a4 then (if (w32 (a2 + 3)) < a5 then (gd (tg m a0 = 2) <| bV (cl (d - 1) 54 [pR a0, pI 44] m) fun m3 => rn d 59 64 [pR a0, pR a1, pI a2, pI a3, pI a4, pI a5, z6] [] m3) else rn d 59 64 [pR a0, pR a1, pI a2, pI a3, pI a4, pI a5, z6] [] m) else if a3 = 0 then (gd (tg m a0 = 2) <| bV (cl (d - 1) 54 [pR a0, pI 93] m) fun m1 => some (.inl none, m1)) else gd (tg m a0 = 2) <| bV (cl (d - 1) 54 [pR a0, pI 125] m) fun m2 => some (.inl none, m2)) (rn d 59 43 [pR a0, pR a1, pI a2, pI a3, pI a4, pI a5, z6] [] m) := by
  refine r_ilw5 (p := 45) f59_43 rfl ?_
  refine r_ilw4 (p := 47) f59_45 rfl ?_
  refine r_icge (t := 121) (p := 50) f59_47 (by decide) rfl rfl ?_ ?_
  · refine r_ilw5 (p := 52) f59_50 rfl ?_
    refine r_iln2 (p := 53) f59_52 rfl ?_
    refine r_iconst (p := 54) f59_53 rfl (pinD rfl rfl) ?_
    refine r_iadd (p := 55) f59_54 rfl ?_
    refine r_icle (t := 64) (p := 58) f59_55 (by decide) rfl rfl ?_ ?_
    · refine r_aln0 (p := 59) f59_58 rfl ?_
      refine r_bipush (p := 61) f59_59 rfl (pinD rfl rfl) ?_
      refine le2_gd (fun h3 => ?_)
      refine r_invV (p := 64) f59_61 rfl rfl rfl (Or.inl h3) hd (Nat.le_of_ble_eq_true rfl) rfl rfl rfl (fun _ => rfl) (fun m3 c3 => ?_)
      have hz3 := z_k c3 hz
      exact le2_refl _
    · exact le2_refl _
  · refine r_aln0 (p := 122) f59_121 rfl ?_
    refine r_iln3 (p := 123) f59_122 rfl ?_
    refine r_ifeq (t := 131) (p := 126) f59_123 (by decide) rfl rfl ?_ ?_
    · refine r_bipush (p := 133) f59_131 rfl (pinD rfl rfl) ?_
      refine le2_gd (fun h1 => ?_)
      refine r_invV (p := 136) f59_133 rfl rfl rfl (Or.inl h1) hd (Nat.le_of_ble_eq_true rfl) rfl rfl rfl (fun _ => rfl) (fun m1 c1 => ?_)
      have hz1 := z_k c1 hz
      exact r_ret f59_136
    · refine r_bipush (p := 128) f59_126 rfl (pinD rfl rfl) ?_
      refine r_goto (p := 133) f59_128 (by decide) rfl ?_
      refine le2_gd (fun h2 => ?_)
      refine r_invV (p := 136) f59_133 rfl rfl rfl (Or.inl h2) hd (Nat.le_of_ble_eq_true rfl) rfl rfl rfl (fun _ => rfl) (fun m2 c2 => ?_)
      have hz2 := z_k c2 hz
      exact r_ret f59_136
theorem q59_64 {d : Nat} {m : Mem} {a0 a1 a2 a3 a4 a5 : Int} {z6 : PV} (hd : 0 < d) (hz : TZ m) (hcz6 : cat z6 = 1) : le2 (if a3 = 0 then (rn d 59 103 [pR a0, pR a1, pI a2, pI a3, pI a4, pI a5, pI a5] [] m) else gd (tg m a1 = 8) <| bI (cl (d - 1) 134 [pR a1, pI a5] m) fun v1 m1 => gd (tg m1 a0 = 2) <| bV (cl (d - 1) 56 [pR a0, pR a1, pI (w32 (a5 + 2)), pI v1, pI 34] m1) fun m2 => bV (cl (d - 1) 54 [pR a0, pI 58] m2) fun m3 => bI (cl (d - 1) 136 [pR a1, pI a5] m3) fun v4 m4 => rn d 59 103 [pR a0, pR a1, pI a2, pI a3, pI a4, pI a5, pI v4] [] m4) (rn d 59 64 [pR a0, pR a1, pI a2, pI a3, pI a4, pI a5, z6] [] m) := by
  refine r_ilw5 (p := 66) f59_64 rfl ?_
  refine r_isw6 (p := 68) f59_66 rfl rfl ?_
  refine r_iln3 (p := 69) f59_68 rfl ?_
  refine r_ifeq (t := 103) (p := 72) f59_69 (by decide) rfl rfl ?_ ?_
  · exact le2_refl _
  · refine r_aln0 (p := 73) f59_72 rfl ?_
    refine r_aln1 (p := 74) f59_73 rfl ?_
    refine r_ilw5 (p := 76) f59_74 rfl ?_
    refine r_iconst (p := 77) f59_76 rfl (pinD rfl rfl) ?_
    refine r_iadd (p := 78) f59_77 rfl ?_
    refine r_aln1 (p := 79) f59_78 rfl ?_
    refine r_ilw5 (p := 81) f59_79 rfl ?_
    refine le2_gd (fun h1 => ?_)
    refine r_invI (p := 84) f59_81 rfl rfl rfl (Or.inl h1) hd (Nat.le_of_ble_eq_true rfl) rfl rfl rfl (fun _ => rfl) (fun v1 m1 c1 => ?_)
    have hz1 := z_k c1 hz
    refine r_bipush (p := 86) f59_84 rfl (pinD rfl rfl) ?_
    refine le2_gd (fun h2 => ?_)
    refine r_invV (p := 89) f59_86 rfl rfl rfl (Or.inl h2) hd (Nat.le_of_ble_eq_true rfl) rfl rfl rfl (fun _ => rfl) (fun m2 c2 => ?_)
    have hz2 := z_k c2 hz1
    refine r_aln0 (p := 90) f59_89 rfl ?_
    refine r_bipush (p := 92) f59_90 rfl (pinD rfl rfl) ?_
    have h3 := k_t1 c2 hz1 h2 (by decide)
    refine r_invV (p := 95) f59_92 rfl rfl rfl (Or.inl h3) hd (Nat.le_of_ble_eq_true rfl) rfl rfl rfl (fun _ => rfl) (fun m3 c3 => ?_)
    have hz3 := z_k c3 hz2
    refine r_aln1 (p := 96) f59_95 rfl ?_
    refine r_ilw5 (p := 98) f59_96 rfl ?_
    have h4 := k_t1 c1 hz h1 (by decide)
    have h5 := k_t1 c2 hz1 h4 (by decide)
    have h6 := k_t1 c3 hz2 h5 (by decide)
    refine r_invI (p := 101) f59_98 rfl rfl rfl (Or.inl h6) hd (Nat.le_of_ble_eq_true rfl) rfl rfl rfl (fun _ => rfl) (fun v4 m4 c4 => ?_)
    have hz4 := z_k c4 hz3
    refine r_isw6 (p := 103) f59_101 rfl rfl ?_
    exact le2_refl _
theorem q59_103 {d : Nat} {m : Mem} {a0 a1 a2 a3 a4 a5 a6 : Int} (hd : 0 < d) (hz : TZ m) : le2 (gd (tg m a0 = 2) <| bV (cl (d - 1) 52 [pR a0, pR a1, pI a6] m) fun m1 => gd (tg m1 a1 = 8) <| bI (cl (d - 1) 137 [pR a1, pI a6] m1) fun v2 m2 => rn d 59 43 [pR a0, pR a1, pI a2, pI a3, pI a4, pI v2, pI a6] [] m2) (rn d 59 103 [pR a0, pR a1, pI a2, pI a3, pI a4, pI a5, pI a6] [] m) := by
  refine r_aln0 (p := 104) f59_103 rfl ?_
  refine r_aln1 (p := 105) f59_104 rfl ?_
  refine r_ilw6 (p := 107) f59_105 rfl ?_
  refine le2_gd (fun h1 => ?_)
  refine r_invV (p := 110) f59_107 rfl rfl rfl (Or.inl h1) hd (Nat.le_of_ble_eq_true rfl) rfl rfl rfl (fun _ => rfl) (fun m1 c1 => ?_)
  have hz1 := z_k c1 hz
  refine r_aln1 (p := 111) f59_110 rfl ?_
  refine r_ilw6 (p := 113) f59_111 rfl ?_
  refine le2_gd (fun h2 => ?_)
  refine r_invI (p := 116) f59_113 rfl rfl rfl (Or.inl h2) hd (Nat.le_of_ble_eq_true rfl) rfl rfl rfl (fun _ => rfl) (fun v2 m2 c2 => ?_)
  have hz2 := z_k c2 hz1
  refine r_isw5 (p := 118) f59_116 rfl rfl ?_
  refine r_goto (p := 43) f59_118 (by decide) rfl ?_
  exact le2_refl _
/-! 60 PathStore$Text.<init> ()V -/
theorem Fm60 {pc len : Nat} {i : Instr} (h : decode (prog_29_method_1_code) pc = .ok (i, len)) (hl : len = ilen i len) : ft 60 pc = some (3, 0, 1, i, len) := ft_mk rfl h hl
theorem f60_0 : ft 60 0 = some (3, 0, 1, .aload_n 0, 1) := Fm60 (by decide +kernel) rfl
theorem f60_1 : ft 60 1 = some (3, 0, 1, .invokespecial 1, 3) := Fm60 (by decide +kernel) rfl
theorem f60_4 : ft 60 4 = some (3, 0, 1, .return_, 1) := Fm60 (by decide +kernel) rfl
theorem q60 {d : Nat} {m : Mem} {a0 : Int} (hz : TZ m) : le2 (gd (tg m a0 = 4 ∨ tg m a0 = 5) <| some (.inl none, m)) (cl d 60 [pR a0] m) := by
  refine q_in (n := 1) (L := [pR a0]) rfl rfl rfl ?_
  refine r_aln0 (p := 1) f60_0 rfl ?_
  refine le2_gd (fun h1 => ?_)
  refine r_objinit (p := 4) f60_1 rfl rfl (dj2 (fun x => 0 < x ∧ x < 100) h1 (by decide) (by decide)) (Nat.le_of_ble_eq_true rfl) ?_
  exact r_ret f60_4
/-! 61 PathStore$Text.over ([BI)V -/
def w61_0 : List UInt8 := [42, 43, 181, 0, 7, 42, 28, 181, 0, 13, 42, 3, 181, 0, 17, 177]
abbrev u61_0 : List UInt8 := w61_0 ++ []
theorem s61_0 : (prog_29_method_2_code).data.toList.drop 0 = u61_0 := by decide +kernel
theorem Fm61 {pc len : Nat} {i : Instr} (h : decode (prog_29_method_2_code) pc = .ok (i, len)) (hl : len = ilen i len) : ft 61 pc = some (3, 0, 0, i, len) := ft_mk rfl h hl
theorem f61_0 : ft 61 0 = some (3, 0, 0, .aload_n 0, 1) := Fm61 (dk_42 (dk_at s61_0 0 rfl rfl)) rfl
theorem f61_1 : ft 61 1 = some (3, 0, 0, .aload_n 1, 1) := Fm61 (dk_43 (dk_at s61_0 1 rfl rfl)) rfl
theorem f61_2 : ft 61 2 = some (3, 0, 0, .putfield 7, 3) := Fm61 (dk_181 0 7 (dk_at s61_0 2 rfl rfl)) rfl
theorem f61_5 : ft 61 5 = some (3, 0, 0, .aload_n 0, 1) := Fm61 (dk_42 (dk_at s61_0 5 rfl rfl)) rfl
theorem f61_6 : ft 61 6 = some (3, 0, 0, .iload_n 2, 1) := Fm61 (dk_28 (dk_at s61_0 6 rfl rfl)) rfl
theorem f61_7 : ft 61 7 = some (3, 0, 0, .putfield 13, 3) := Fm61 (dk_181 0 13 (dk_at s61_0 7 rfl rfl)) rfl
theorem f61_10 : ft 61 10 = some (3, 0, 0, .aload_n 0, 1) := Fm61 (dk_42 (dk_at s61_0 10 rfl rfl)) rfl
theorem f61_11 : ft 61 11 = some (3, 0, 0, .iconst 0, 1) := Fm61 (dk_3 (dk_at s61_0 11 rfl rfl)) rfl
theorem f61_12 : ft 61 12 = some (3, 0, 0, .putfield 17, 3) := Fm61 (dk_181 0 17 (dk_at s61_0 12 rfl rfl)) rfl
theorem f61_15 : ft 61 15 = some (3, 0, 0, .return_, 1) := Fm61 (dk_177 (dk_at s61_0 15 rfl rfl)) rfl
theorem q61 {d : Nat} {m : Mem} {a0 a1 a2 : Int} (hz : TZ m) : le2 (gd (tg m a0 = 4 ∨ tg m a0 = 5) <| some (.inl none, (mst (mst (mst m a0 0 a1) a0 1 a2) a0 2 0))) (cl d 61 [pR a0, pR a1, pI a2] m) := by
  refine q_in (n := 3) (L := [pR a0, pR a1, pI a2]) rfl rfl rfl ?_
  refine r_aln0 (p := 1) f61_0 rfl ?_
  refine r_aln1 (p := 2) f61_1 rfl ?_
  refine le2_gd (fun h1 => ?_)
  refine r_pfR2 (f := 0) (p := 5) f61_2 rfl rfl rfl (by decide) (by decide) h1 rfl rfl ?_
  refine r_aln0 (p := 6) f61_5 rfl ?_
  refine r_iln2 (p := 7) f61_6 rfl ?_
  refine r_pfI2 (f := 1) (p := 10) f61_7 rfl rfl rfl (by decide) (by decide) h1 rfl rfl ?_
  refine r_aln0 (p := 11) f61_10 rfl ?_
  refine r_iconst (p := 12) f61_11 rfl (pinD rfl rfl) ?_
  refine r_pfI2 (f := 2) (p := 15) f61_12 rfl rfl rfl (by decide) (by decide) h1 rfl rfl ?_
  exact r_ret f61_15
/-! 62 PathStore$Text.blanks ()V -/
def w62_2 : List UInt8 := [167, 255, 210, 177]
abbrev u62_2 : List UInt8 := w62_2 ++ []
def w62_1 : List UInt8 := [159, 0, 12, 42, 182, 0, 30, 16, 32, 160, 0, 16, 42, 89, 180, 0, 17, 4, 96, 181, 0, 17]
abbrev u62_1 : List UInt8 := w62_1 ++ u62_2
def w62_0 : List UInt8 := [42, 182, 0, 30, 16, 9, 159, 0, 30, 42, 182, 0, 30, 16, 10, 159, 0, 21, 42, 182, 0, 30, 16, 13]
abbrev u62_0 : List UInt8 := w62_0 ++ u62_1
theorem s62_0 : (prog_29_method_9_code).data.toList.drop 0 = u62_0 := by decide +kernel
theorem s62_1 : (prog_29_method_9_code).data.toList.drop 24 = u62_1 := dk_seg s62_0 24 rfl rfl
theorem s62_2 : (prog_29_method_9_code).data.toList.drop 46 = u62_2 := dk_seg s62_1 22 rfl rfl
theorem Fm62 {pc len : Nat} {i : Instr} (h : decode (prog_29_method_9_code) pc = .ok (i, len)) (hl : len = ilen i len) : ft 62 pc = some (3, 0, 0, i, len) := ft_mk rfl h hl
theorem f62_0 : ft 62 0 = some (3, 0, 0, .aload_n 0, 1) := Fm62 (dk_42 (dk_at s62_0 0 rfl rfl)) rfl
theorem f62_1 : ft 62 1 = some (3, 0, 0, .invokevirtual 30, 3) := Fm62 (dk_182 0 30 (dk_at s62_0 1 rfl rfl)) rfl
theorem f62_4 : ft 62 4 = some (3, 0, 0, .bipush 9, 2) := Fm62 (dk_16 9 (dk_at s62_0 4 rfl rfl)) rfl
theorem f62_6 : ft 62 6 = some (3, 0, 0, .if_icmp .eq 30, 3) := Fm62 (dk_159 0 30 (dk_at s62_0 6 rfl rfl)) rfl
theorem f62_9 : ft 62 9 = some (3, 0, 0, .aload_n 0, 1) := Fm62 (dk_42 (dk_at s62_0 9 rfl rfl)) rfl
theorem f62_10 : ft 62 10 = some (3, 0, 0, .invokevirtual 30, 3) := Fm62 (dk_182 0 30 (dk_at s62_0 10 rfl rfl)) rfl
theorem f62_13 : ft 62 13 = some (3, 0, 0, .bipush 10, 2) := Fm62 (dk_16 10 (dk_at s62_0 13 rfl rfl)) rfl
theorem f62_15 : ft 62 15 = some (3, 0, 0, .if_icmp .eq 21, 3) := Fm62 (dk_159 0 21 (dk_at s62_0 15 rfl rfl)) rfl
theorem f62_18 : ft 62 18 = some (3, 0, 0, .aload_n 0, 1) := Fm62 (dk_42 (dk_at s62_0 18 rfl rfl)) rfl
theorem f62_19 : ft 62 19 = some (3, 0, 0, .invokevirtual 30, 3) := Fm62 (dk_182 0 30 (dk_at s62_0 19 rfl rfl)) rfl
theorem f62_22 : ft 62 22 = some (3, 0, 0, .bipush 13, 2) := Fm62 (dk_16 13 (dk_at s62_0 22 rfl rfl)) rfl
theorem f62_24 : ft 62 24 = some (3, 0, 0, .if_icmp .eq 12, 3) := Fm62 (dk_159 0 12 (dk_at s62_1 0 rfl rfl)) rfl
theorem f62_27 : ft 62 27 = some (3, 0, 0, .aload_n 0, 1) := Fm62 (dk_42 (dk_at s62_1 3 rfl rfl)) rfl
theorem f62_28 : ft 62 28 = some (3, 0, 0, .invokevirtual 30, 3) := Fm62 (dk_182 0 30 (dk_at s62_1 4 rfl rfl)) rfl
theorem f62_31 : ft 62 31 = some (3, 0, 0, .bipush 32, 2) := Fm62 (dk_16 32 (dk_at s62_1 7 rfl rfl)) rfl
theorem f62_33 : ft 62 33 = some (3, 0, 0, .if_icmp .ne 16, 3) := Fm62 (dk_160 0 16 (dk_at s62_1 9 rfl rfl)) rfl
theorem f62_36 : ft 62 36 = some (3, 0, 0, .aload_n 0, 1) := Fm62 (dk_42 (dk_at s62_1 12 rfl rfl)) rfl
theorem f62_37 : ft 62 37 = some (3, 0, 0, .dup, 1) := Fm62 (dk_89 (dk_at s62_1 13 rfl rfl)) rfl
theorem f62_38 : ft 62 38 = some (3, 0, 0, .getfield 17, 3) := Fm62 (dk_180 0 17 (dk_at s62_1 14 rfl rfl)) rfl
theorem f62_41 : ft 62 41 = some (3, 0, 0, .iconst 1, 1) := Fm62 (dk_4 (dk_at s62_1 17 rfl rfl)) rfl
theorem f62_42 : ft 62 42 = some (3, 0, 0, .iadd, 1) := Fm62 (dk_96 (dk_at s62_1 18 rfl rfl)) rfl
theorem f62_43 : ft 62 43 = some (3, 0, 0, .putfield 17, 3) := Fm62 (dk_181 0 17 (dk_at s62_1 19 rfl rfl)) rfl
theorem f62_46 : ft 62 46 = some (3, 0, 0, .goto (-46), 3) := Fm62 (dk_167 255 210 (dk_at s62_2 0 rfl rfl)) rfl
theorem f62_49 : ft 62 49 = some (3, 0, 0, .return_, 1) := Fm62 (dk_177 (dk_at s62_2 3 rfl rfl)) rfl
theorem q62 {d : Nat} {m : Mem} {a0 : Int} (hz : TZ m) : le2 (rn d 62 0 [pR a0] [] m) (cl d 62 [pR a0] m) := by
  refine q_in (n := 1) (L := [pR a0]) rfl rfl rfl ?_
  exact le2_refl _
theorem q62_0 {d : Nat} {m : Mem} {a0 : Int} (hd : 0 < d) (hz : TZ m) : le2 (gd (tg m a0 = 4 ∨ tg m a0 = 5) <| bI (cl (d - 1) 63 [pR a0] m) fun v1 m1 => if v1 = 9 then (rn d 62 0 [pR a0] [] (mst m1 a0 2 (w32 ((vl m1 a0 2) + 1)))) else bI (cl (d - 1) 63 [pR a0] m1) fun v2 m2 => if v2 = 10 then (rn d 62 0 [pR a0] [] (mst m2 a0 2 (w32 ((vl m2 a0 2) + 1)))) else bI (cl (d - 1) 63 [pR a0] m2) fun v3 m3 => if v3 = 13 then (rn d 62 0 [pR a0] [] (mst m3 a0 2 (w32 ((vl m3 a0 2) + 1)))) else bI (cl (d - 1) 63 [pR a0] m3) fun v4 m4 => if v4 = 32 then (rn d 62 0 [pR a0] [] (mst m4 a0 2 (w32 ((vl m4 a0 2) + 1)))) else some (.inl none, m4)) (rn d 62 0 [pR a0] [] m) := by
  refine r_aln0 (p := 1) f62_0 rfl ?_
  refine le2_gd (fun h1 => ?_)
  refine r_invI (p := 4) f62_1 rfl rfl rfl h1 hd (Nat.le_of_ble_eq_true rfl) rfl rfl rfl (fun _ => rfl) (fun v1 m1 c1 => ?_)
  have hz1 := z_k c1 hz
  refine r_bipush (p := 6) f62_4 rfl (pinD rfl rfl) ?_
  refine r_iceq (t := 36) (p := 9) f62_6 (by decide) rfl rfl ?_ ?_
  · refine r_aln0 (p := 37) f62_36 rfl ?_
    refine r_dup (p := 38) f62_37 rfl rfl ?_
    have h2 := k_t2 c1 hz h1 (by decide) (by decide)
    refine r_gfI (f := 2) (p := 41) f62_38 rfl rfl rfl h2 rfl ?_
    refine r_iconst (p := 42) f62_41 rfl (pinD rfl rfl) ?_
    refine r_iadd (p := 43) f62_42 rfl ?_
    refine r_pfI2 (f := 2) (p := 46) f62_43 rfl rfl rfl (by decide) (by decide) h2 rfl rfl ?_
    refine r_goto (p := 0) f62_46 (by decide) rfl ?_
    exact le2_refl _
  · refine r_aln0 (p := 10) f62_9 rfl ?_
    have h3 := k_t2 c1 hz h1 (by decide) (by decide)
    refine r_invI (p := 13) f62_10 rfl rfl rfl h3 hd (Nat.le_of_ble_eq_true rfl) rfl rfl rfl (fun _ => rfl) (fun v2 m2 c2 => ?_)
    have hz2 := z_k c2 hz1
    refine r_bipush (p := 15) f62_13 rfl (pinD rfl rfl) ?_
    refine r_iceq (t := 36) (p := 18) f62_15 (by decide) rfl rfl ?_ ?_
    · refine r_aln0 (p := 37) f62_36 rfl ?_
      refine r_dup (p := 38) f62_37 rfl rfl ?_
      have h4 := k_t2 c2 hz1 h3 (by decide) (by decide)
      refine r_gfI (f := 2) (p := 41) f62_38 rfl rfl rfl h4 rfl ?_
      refine r_iconst (p := 42) f62_41 rfl (pinD rfl rfl) ?_
      refine r_iadd (p := 43) f62_42 rfl ?_
      refine r_pfI2 (f := 2) (p := 46) f62_43 rfl rfl rfl (by decide) (by decide) h4 rfl rfl ?_
      refine r_goto (p := 0) f62_46 (by decide) rfl ?_
      exact le2_refl _
    · refine r_aln0 (p := 19) f62_18 rfl ?_
      have h5 := k_t2 c2 hz1 h3 (by decide) (by decide)
      refine r_invI (p := 22) f62_19 rfl rfl rfl h5 hd (Nat.le_of_ble_eq_true rfl) rfl rfl rfl (fun _ => rfl) (fun v3 m3 c3 => ?_)
      have hz3 := z_k c3 hz2
      refine r_bipush (p := 24) f62_22 rfl (pinD rfl rfl) ?_
      refine r_iceq (t := 36) (p := 27) f62_24 (by decide) rfl rfl ?_ ?_
      · refine r_aln0 (p := 37) f62_36 rfl ?_
        refine r_dup (p := 38) f62_37 rfl rfl ?_
        have h6 := k_t2 c3 hz2 h5 (by decide) (by decide)
        refine r_gfI (f := 2) (p := 41) f62_38 rfl rfl rfl h6 rfl ?_
        refine r_iconst (p := 42) f62_41 rfl (pinD rfl rfl) ?_
        refine r_iadd (p := 43) f62_42 rfl ?_
        refine r_pfI2 (f := 2) (p := 46) f62_43 rfl rfl rfl (by decide) (by decide) h6 rfl rfl ?_
        refine r_goto (p := 0) f62_46 (by decide) rfl ?_
        exact le2_refl _
      · refine r_aln0 (p := 28) f62_27 rfl ?_
        have h7 := k_t2 c3 hz2 h5 (by decide) (by decide)
        refine r_invI (p := 31) f62_28 rfl rfl rfl h7 hd (Nat.le_of_ble_eq_true rfl) rfl rfl rfl (fun _ => rfl) (fun v4 m4 c4 => ?_)
        have hz4 := z_k c4 hz3
        refine r_bipush (p := 33) f62_31 rfl (pinD rfl rfl) ?_
        refine r_icne (t := 49) (p := 36) f62_33 (by decide) rfl rfl ?_ ?_
        · refine r_aln0 (p := 37) f62_36 rfl ?_
          refine r_dup (p := 38) f62_37 rfl rfl ?_
          have h8 := k_t2 c4 hz3 h7 (by decide) (by decide)
          refine r_gfI (f := 2) (p := 41) f62_38 rfl rfl rfl h8 rfl ?_
          refine r_iconst (p := 42) f62_41 rfl (pinD rfl rfl) ?_
          refine r_iadd (p := 43) f62_42 rfl ?_
          refine r_pfI2 (f := 2) (p := 46) f62_43 rfl rfl rfl (by decide) (by decide) h8 rfl rfl ?_
          refine r_goto (p := 0) f62_46 (by decide) rfl ?_
          exact le2_refl _
        · exact r_ret f62_49
/-! 63 PathStore$Text.peek ()I -/
def w63_1 : List UInt8 := [167, 0, 4, 2, 172]
abbrev u63_1 : List UInt8 := w63_1 ++ []
def w63_0 : List UInt8 := [42, 180, 0, 17, 42, 180, 0, 13, 162, 0, 19, 42, 180, 0, 7, 42, 180, 0, 17, 51, 17, 0, 255, 126]
abbrev u63_0 : List UInt8 := w63_0 ++ u63_1
theorem s63_0 : (prog_29_method_3_code).data.toList.drop 0 = u63_0 := by decide +kernel
theorem s63_1 : (prog_29_method_3_code).data.toList.drop 24 = u63_1 := dk_seg s63_0 24 rfl rfl
theorem Fm63 {pc len : Nat} {i : Instr} (h : decode (prog_29_method_3_code) pc = .ok (i, len)) (hl : len = ilen i len) : ft 63 pc = some (3, 1, 0, i, len) := ft_mk rfl h hl
theorem f63_0 : ft 63 0 = some (3, 1, 0, .aload_n 0, 1) := Fm63 (dk_42 (dk_at s63_0 0 rfl rfl)) rfl
theorem f63_1 : ft 63 1 = some (3, 1, 0, .getfield 17, 3) := Fm63 (dk_180 0 17 (dk_at s63_0 1 rfl rfl)) rfl
theorem f63_4 : ft 63 4 = some (3, 1, 0, .aload_n 0, 1) := Fm63 (dk_42 (dk_at s63_0 4 rfl rfl)) rfl
theorem f63_5 : ft 63 5 = some (3, 1, 0, .getfield 13, 3) := Fm63 (dk_180 0 13 (dk_at s63_0 5 rfl rfl)) rfl
theorem f63_8 : ft 63 8 = some (3, 1, 0, .if_icmp .ge 19, 3) := Fm63 (dk_162 0 19 (dk_at s63_0 8 rfl rfl)) rfl
theorem f63_11 : ft 63 11 = some (3, 1, 0, .aload_n 0, 1) := Fm63 (dk_42 (dk_at s63_0 11 rfl rfl)) rfl
theorem f63_12 : ft 63 12 = some (3, 1, 0, .getfield 7, 3) := Fm63 (dk_180 0 7 (dk_at s63_0 12 rfl rfl)) rfl
theorem f63_15 : ft 63 15 = some (3, 1, 0, .aload_n 0, 1) := Fm63 (dk_42 (dk_at s63_0 15 rfl rfl)) rfl
theorem f63_16 : ft 63 16 = some (3, 1, 0, .getfield 17, 3) := Fm63 (dk_180 0 17 (dk_at s63_0 16 rfl rfl)) rfl
theorem f63_19 : ft 63 19 = some (3, 1, 0, .baload, 1) := Fm63 (dk_51 (dk_at s63_0 19 rfl rfl)) rfl
theorem f63_20 : ft 63 20 = some (3, 1, 0, .sipush 255, 3) := Fm63 (dk_17 0 255 (dk_at s63_0 20 rfl rfl)) rfl
theorem f63_23 : ft 63 23 = some (3, 1, 0, .iand, 1) := Fm63 (dk_126 (dk_at s63_0 23 rfl rfl)) rfl
theorem f63_24 : ft 63 24 = some (3, 1, 0, .goto 4, 3) := Fm63 (dk_167 0 4 (dk_at s63_1 0 rfl rfl)) rfl
theorem f63_27 : ft 63 27 = some (3, 1, 0, .iconst (-1), 1) := Fm63 (dk_2 (dk_at s63_1 3 rfl rfl)) rfl
theorem f63_28 : ft 63 28 = some (3, 1, 0, .ireturn, 1) := Fm63 (dk_172 (dk_at s63_1 4 rfl rfl)) rfl
theorem q63 {d : Nat} {m : Mem} {a0 : Int} (hz : TZ m) : le2 (gd (tg m a0 = 4 ∨ tg m a0 = 5) <| nm (vl m a0 2) fun v1 => if v1 < (vl m a0 1) then (nm (vl m a0 0) fun v2 => gd (tg m v2 = 17103) <| gd ((0 : Int) ≤ v1 ∧ v1 < ln m v2) <| some (.inl (some (pI (pAnd (vl m v2 v1) 255))), m)) else some (.inl (some (pI (-1))), m)) (cl d 63 [pR a0] m) := by
  refine q_in (n := 1) (L := [pR a0]) rfl rfl rfl ?_
  refine r_aln0 (p := 1) f63_0 rfl ?_
  refine le2_gd (fun h1 => ?_)
  refine r_gfI (f := 2) (p := 4) f63_1 rfl rfl rfl h1 rfl ?_
  refine r_nmI (fun v1 ev1 => ?_)
  refine r_aln0 (p := 5) f63_4 rfl ?_
  refine r_gfI (f := 1) (p := 8) f63_5 rfl rfl rfl h1 rfl ?_
  refine r_icge (t := 27) (p := 11) f63_8 (by decide) rfl rfl ?_ ?_
  · refine r_aln0 (p := 12) f63_11 rfl ?_
    refine r_gfR (f := 0) (p := 15) f63_12 rfl rfl rfl h1 rfl ?_
    refine r_nmR (fun v2 ev2 => ?_)
    refine r_aln0 (p := 16) f63_15 rfl ?_
    refine r_gfI (f := 2) (p := 19) f63_16 rfl rfl rfl h1 ev1.symm ?_
    refine le2_gd (fun h2 => ?_)
    refine le2_gd (fun h3 => ?_)
    refine r_baload (p := 20) f63_19 rfl (dj1 (fun x => x % 1000 = 103 ∨ x % 1000 = 105) h2 (by decide)) h3 rfl ?_
    refine r_sipush (p := 23) f63_20 rfl (pinD rfl rfl) ?_
    refine r_iand (p := 24) f63_23 rfl ?_
    refine r_goto (p := 28) f63_24 (by decide) rfl ?_
    exact r_iret1 f63_28
  · refine r_iconst (p := 28) f63_27 rfl (pinD rfl rfl) ?_
    exact r_iret1 f63_28
/-! 64 PathStore$Text.word (Ljava/lang/String;)V -/
def w64_1 : List UInt8 := [167, 255, 236, 177]
abbrev u64_1 : List UInt8 := w64_1 ++ []
def w64_0 : List UInt8 := [3, 61, 28, 43, 182, 0, 38, 162, 0, 18, 42, 43, 28, 182, 0, 43, 182, 0, 47, 132, 2, 1]
abbrev u64_0 : List UInt8 := w64_0 ++ u64_1
theorem s64_0 : (prog_29_method_7_code).data.toList.drop 0 = u64_0 := by decide +kernel
theorem s64_1 : (prog_29_method_7_code).data.toList.drop 22 = u64_1 := dk_seg s64_0 22 rfl rfl
theorem Fm64 {pc len : Nat} {i : Instr} (h : decode (prog_29_method_7_code) pc = .ok (i, len)) (hl : len = ilen i len) : ft 64 pc = some (3, 0, 0, i, len) := ft_mk rfl h hl
theorem f64_0 : ft 64 0 = some (3, 0, 0, .iconst 0, 1) := Fm64 (dk_3 (dk_at s64_0 0 rfl rfl)) rfl
theorem f64_1 : ft 64 1 = some (3, 0, 0, .istore_n 2, 1) := Fm64 (dk_61 (dk_at s64_0 1 rfl rfl)) rfl
theorem f64_2 : ft 64 2 = some (3, 0, 0, .iload_n 2, 1) := Fm64 (dk_28 (dk_at s64_0 2 rfl rfl)) rfl
theorem f64_3 : ft 64 3 = some (3, 0, 0, .aload_n 1, 1) := Fm64 (dk_43 (dk_at s64_0 3 rfl rfl)) rfl
theorem f64_4 : ft 64 4 = some (3, 0, 0, .invokevirtual 38, 3) := Fm64 (dk_182 0 38 (dk_at s64_0 4 rfl rfl)) rfl
theorem f64_7 : ft 64 7 = some (3, 0, 0, .if_icmp .ge 18, 3) := Fm64 (dk_162 0 18 (dk_at s64_0 7 rfl rfl)) rfl
theorem f64_10 : ft 64 10 = some (3, 0, 0, .aload_n 0, 1) := Fm64 (dk_42 (dk_at s64_0 10 rfl rfl)) rfl
theorem f64_11 : ft 64 11 = some (3, 0, 0, .aload_n 1, 1) := Fm64 (dk_43 (dk_at s64_0 11 rfl rfl)) rfl
theorem f64_12 : ft 64 12 = some (3, 0, 0, .iload_n 2, 1) := Fm64 (dk_28 (dk_at s64_0 12 rfl rfl)) rfl
theorem f64_13 : ft 64 13 = some (3, 0, 0, .invokevirtual 43, 3) := Fm64 (dk_182 0 43 (dk_at s64_0 13 rfl rfl)) rfl
theorem f64_16 : ft 64 16 = some (3, 0, 0, .invokevirtual 47, 3) := Fm64 (dk_182 0 47 (dk_at s64_0 16 rfl rfl)) rfl
theorem f64_19 : ft 64 19 = some (3, 0, 0, .iinc 2 1, 3) := Fm64 (dk_132 2 1 (dk_at s64_0 19 rfl rfl)) rfl
theorem f64_22 : ft 64 22 = some (3, 0, 0, .goto (-20), 3) := Fm64 (dk_167 255 236 (dk_at s64_1 0 rfl rfl)) rfl
theorem f64_25 : ft 64 25 = some (3, 0, 0, .return_, 1) := Fm64 (dk_177 (dk_at s64_1 3 rfl rfl)) rfl
theorem q64 {d : Nat} {m : Mem} {a0 a1 : Int} (hz : TZ m) : le2 (rn d 64 2 [pR a0, pR a1, pI 0] [] m) (cl d 64 [pR a0, pR a1] m) := by
  refine q_in (n := 3) (L := [pR a0, pR a1, pU]) rfl rfl rfl ?_
  refine r_iconst (p := 1) f64_0 rfl (pinD rfl rfl) ?_
  refine r_isn2 (p := 2) f64_1 rfl rfl ?_
  exact le2_refl _
theorem q64_2 {d : Nat} {m : Mem} {a0 a1 a2 : Int} (hd : 0 < d) (hz : TZ m) : le2 (gd (tg m a1 = 31) <| bI (cl (d - 1) 349 [pR a1] m) fun v1 m1 => if a2 < v1 then (bI (cl (d - 1) 351 [pR a1, pI a2] m1) fun v2 m2 => gd (tg m2 a0 = 4 ∨ tg m2 a0 = 5) <| bV (cl (d - 1) 65 [pR a0, pI v2] m2) fun m3 => rn d 64 2 [pR a0, pR a1, pI (w32 (a2 + 1))] [] m3) else some (.inl none, m1)) (rn d 64 2 [pR a0, pR a1, pI a2] [] m) := by
  refine r_iln2 (p := 3) f64_2 rfl ?_
  refine r_aln1 (p := 4) f64_3 rfl ?_
  refine le2_gd (fun h1 => ?_)
  refine r_invI (p := 7) f64_4 rfl rfl rfl (Or.inl h1) hd (Nat.le_of_ble_eq_true rfl) rfl rfl rfl (fun _ => rfl) (fun v1 m1 c1 => ?_)
  have hz1 := z_k c1 hz
  refine r_icge (t := 25) (p := 10) f64_7 (by decide) rfl rfl ?_ ?_
  · refine r_aln0 (p := 11) f64_10 rfl ?_
    refine r_aln1 (p := 12) f64_11 rfl ?_
    refine r_iln2 (p := 13) f64_12 rfl ?_
    have h2 := k_t1 c1 hz h1 (by decide)
    refine r_invI (p := 16) f64_13 rfl rfl rfl (Or.inl h2) hd (Nat.le_of_ble_eq_true rfl) rfl rfl rfl (fun _ => rfl) (fun v2 m2 c2 => ?_)
    have hz2 := z_k c2 hz1
    refine le2_gd (fun h3 => ?_)
    refine r_invV (p := 19) f64_16 rfl rfl rfl h3 hd (Nat.le_of_ble_eq_true rfl) rfl rfl rfl (fun _ => rfl) (fun m3 c3 => ?_)
    have hz3 := z_k c3 hz2
    refine r_iinc2 (p := 22) f64_19 rfl rfl ?_
    refine r_goto (p := 2) f64_22 (by decide) rfl ?_
    exact le2_refl _
  · exact r_ret f64_25
/-! 65 PathStore$Text.expect (I)V -/
def w65_1 : List UInt8 := [181, 0, 17, 177]
abbrev u65_1 : List UInt8 := w65_1 ++ []
def w65_0 : List UInt8 := [42, 42, 182, 0, 30, 27, 160, 0, 7, 4, 167, 0, 4, 3, 182, 0, 34, 42, 89, 180, 0, 17, 4, 96]
abbrev u65_0 : List UInt8 := w65_0 ++ u65_1
theorem s65_0 : (prog_29_method_6_code).data.toList.drop 0 = u65_0 := by decide +kernel
theorem s65_1 : (prog_29_method_6_code).data.toList.drop 24 = u65_1 := dk_seg s65_0 24 rfl rfl
theorem Fm65 {pc len : Nat} {i : Instr} (h : decode (prog_29_method_6_code) pc = .ok (i, len)) (hl : len = ilen i len) : ft 65 pc = some (3, 0, 0, i, len) := ft_mk rfl h hl
theorem f65_0 : ft 65 0 = some (3, 0, 0, .aload_n 0, 1) := Fm65 (dk_42 (dk_at s65_0 0 rfl rfl)) rfl
theorem f65_1 : ft 65 1 = some (3, 0, 0, .aload_n 0, 1) := Fm65 (dk_42 (dk_at s65_0 1 rfl rfl)) rfl
theorem f65_2 : ft 65 2 = some (3, 0, 0, .invokevirtual 30, 3) := Fm65 (dk_182 0 30 (dk_at s65_0 2 rfl rfl)) rfl
theorem f65_5 : ft 65 5 = some (3, 0, 0, .iload_n 1, 1) := Fm65 (dk_27 (dk_at s65_0 5 rfl rfl)) rfl
theorem f65_6 : ft 65 6 = some (3, 0, 0, .if_icmp .ne 7, 3) := Fm65 (dk_160 0 7 (dk_at s65_0 6 rfl rfl)) rfl
theorem f65_9 : ft 65 9 = some (3, 0, 0, .iconst 1, 1) := Fm65 (dk_4 (dk_at s65_0 9 rfl rfl)) rfl
theorem f65_10 : ft 65 10 = some (3, 0, 0, .goto 4, 3) := Fm65 (dk_167 0 4 (dk_at s65_0 10 rfl rfl)) rfl
theorem f65_13 : ft 65 13 = some (3, 0, 0, .iconst 0, 1) := Fm65 (dk_3 (dk_at s65_0 13 rfl rfl)) rfl
theorem f65_14 : ft 65 14 = some (3, 0, 0, .invokevirtual 34, 3) := Fm65 (dk_182 0 34 (dk_at s65_0 14 rfl rfl)) rfl
theorem f65_17 : ft 65 17 = some (3, 0, 0, .aload_n 0, 1) := Fm65 (dk_42 (dk_at s65_0 17 rfl rfl)) rfl
theorem f65_18 : ft 65 18 = some (3, 0, 0, .dup, 1) := Fm65 (dk_89 (dk_at s65_0 18 rfl rfl)) rfl
theorem f65_19 : ft 65 19 = some (3, 0, 0, .getfield 17, 3) := Fm65 (dk_180 0 17 (dk_at s65_0 19 rfl rfl)) rfl
theorem f65_22 : ft 65 22 = some (3, 0, 0, .iconst 1, 1) := Fm65 (dk_4 (dk_at s65_0 22 rfl rfl)) rfl
theorem f65_23 : ft 65 23 = some (3, 0, 0, .iadd, 1) := Fm65 (dk_96 (dk_at s65_0 23 rfl rfl)) rfl
theorem f65_24 : ft 65 24 = some (3, 0, 0, .putfield 17, 3) := Fm65 (dk_181 0 17 (dk_at s65_1 0 rfl rfl)) rfl
theorem f65_27 : ft 65 27 = some (3, 0, 0, .return_, 1) := Fm65 (dk_177 (dk_at s65_1 3 rfl rfl)) rfl
theorem q65 {d : Nat} {m : Mem} {a0 a1 : Int} (hd : 0 < d) (hz : TZ m) : le2 (gd (tg m a0 = 4 ∨ tg m a0 = 5) <| bI (cl (d - 1) 63 [pR a0] m) fun v1 m1 => if v1 = a1 then (bV (cl (d - 1) 66 [pR a0, pI 1] m1) fun m3 => some (.inl none, (mst m3 a0 2 (w32 ((vl m3 a0 2) + 1))))) else bV (cl (d - 1) 66 [pR a0, pI 0] m1) fun m2 => some (.inl none, (mst m2 a0 2 (w32 ((vl m2 a0 2) + 1))))) (cl d 65 [pR a0, pI a1] m) := by
  refine q_in (n := 2) (L := [pR a0, pI a1]) rfl rfl rfl ?_
  refine r_aln0 (p := 1) f65_0 rfl ?_
  refine r_aln0 (p := 2) f65_1 rfl ?_
  refine le2_gd (fun h1 => ?_)
  refine r_invI (p := 5) f65_2 rfl rfl rfl h1 hd (Nat.le_of_ble_eq_true rfl) rfl rfl rfl (fun _ => rfl) (fun v1 m1 c1 => ?_)
  have hz1 := z_k c1 hz
  refine r_iln1 (p := 6) f65_5 rfl ?_
  refine r_icne (t := 13) (p := 9) f65_6 (by decide) rfl rfl ?_ ?_
  · refine r_iconst (p := 10) f65_9 rfl (pinD rfl rfl) ?_
    refine r_goto (p := 14) f65_10 (by decide) rfl ?_
    have h4 := k_t2 c1 hz h1 (by decide) (by decide)
    refine r_invV (p := 17) f65_14 rfl rfl rfl h4 hd (Nat.le_of_ble_eq_true rfl) rfl rfl rfl (fun _ => rfl) (fun m3 c3 => ?_)
    have hz3 := z_k c3 hz1
    refine r_aln0 (p := 18) f65_17 rfl ?_
    refine r_dup (p := 19) f65_18 rfl rfl ?_
    have h5 := k_t2 c3 hz1 h4 (by decide) (by decide)
    refine r_gfI (f := 2) (p := 22) f65_19 rfl rfl rfl h5 rfl ?_
    refine r_iconst (p := 23) f65_22 rfl (pinD rfl rfl) ?_
    refine r_iadd (p := 24) f65_23 rfl ?_
    refine r_pfI2 (f := 2) (p := 27) f65_24 rfl rfl rfl (by decide) (by decide) h5 rfl rfl ?_
    exact r_ret f65_27
  · refine r_iconst (p := 14) f65_13 rfl (pinD rfl rfl) ?_
    have h2 := k_t2 c1 hz h1 (by decide) (by decide)
    refine r_invV (p := 17) f65_14 rfl rfl rfl h2 hd (Nat.le_of_ble_eq_true rfl) rfl rfl rfl (fun _ => rfl) (fun m2 c2 => ?_)
    have hz2 := z_k c2 hz1
    refine r_aln0 (p := 18) f65_17 rfl ?_
    refine r_dup (p := 19) f65_18 rfl rfl ?_
    have h3 := k_t2 c2 hz1 h2 (by decide) (by decide)
    refine r_gfI (f := 2) (p := 22) f65_19 rfl rfl rfl h3 rfl ?_
    refine r_iconst (p := 23) f65_22 rfl (pinD rfl rfl) ?_
    refine r_iadd (p := 24) f65_23 rfl ?_
    refine r_pfI2 (f := 2) (p := 27) f65_24 rfl rfl rfl (by decide) (by decide) h3 rfl rfl ?_
    exact r_ret f65_27
/-! 66 PathStore$Text.can (Z)V -/
def w66_0 : List UInt8 := [27, 154, 0, 11, 42, 42, 180, 0, 17, 182, 0, 26, 177]
abbrev u66_0 : List UInt8 := w66_0 ++ []
theorem s66_0 : (prog_29_method_5_code).data.toList.drop 0 = u66_0 := by decide +kernel
theorem Fm66 {pc len : Nat} {i : Instr} (h : decode (prog_29_method_5_code) pc = .ok (i, len)) (hl : len = ilen i len) : ft 66 pc = some (3, 0, 0, i, len) := ft_mk rfl h hl
theorem f66_0 : ft 66 0 = some (3, 0, 0, .iload_n 1, 1) := Fm66 (dk_27 (dk_at s66_0 0 rfl rfl)) rfl
theorem f66_1 : ft 66 1 = some (3, 0, 0, .ifCond .ne 11, 3) := Fm66 (dk_154 0 11 (dk_at s66_0 1 rfl rfl)) rfl
theorem f66_4 : ft 66 4 = some (3, 0, 0, .aload_n 0, 1) := Fm66 (dk_42 (dk_at s66_0 4 rfl rfl)) rfl
theorem f66_5 : ft 66 5 = some (3, 0, 0, .aload_n 0, 1) := Fm66 (dk_42 (dk_at s66_0 5 rfl rfl)) rfl
theorem f66_6 : ft 66 6 = some (3, 0, 0, .getfield 17, 3) := Fm66 (dk_180 0 17 (dk_at s66_0 6 rfl rfl)) rfl
theorem f66_9 : ft 66 9 = some (3, 0, 0, .invokevirtual 26, 3) := Fm66 (dk_182 0 26 (dk_at s66_0 9 rfl rfl)) rfl
theorem f66_12 : ft 66 12 = some (3, 0, 0, .return_, 1) := Fm66 (dk_177 (dk_at s66_0 12 rfl rfl)) rfl
theorem q66 {d : Nat} {m : Mem} {a0 a1 : Int} (hd : 0 < d) (hz : TZ m) : le2 (if a1 = 0 then (gd (tg m a0 = 4 ∨ tg m a0 = 5) <| bV (cl (d - 1) 67 [pR a0, pI (vl m a0 2)] m) fun m1 => some (.inl none, m1)) else some (.inl none, m)) (cl d 66 [pR a0, pI a1] m) := by
  refine q_in (n := 2) (L := [pR a0, pI a1]) rfl rfl rfl ?_
  refine r_iln1 (p := 1) f66_0 rfl ?_
  refine r_ifne (t := 12) (p := 4) f66_1 (by decide) rfl rfl ?_ ?_
  · refine r_aln0 (p := 5) f66_4 rfl ?_
    refine r_aln0 (p := 6) f66_5 rfl ?_
    refine le2_gd (fun h1 => ?_)
    refine r_gfI (f := 2) (p := 9) f66_6 rfl rfl rfl h1 rfl ?_
    refine r_invV (p := 12) f66_9 rfl rfl rfl h1 hd (Nat.le_of_ble_eq_true rfl) rfl rfl rfl (fun _ => rfl) (fun m1 c1 => ?_)
    have hz1 := z_k c1 hz
    exact r_ret f66_12
  · exact r_ret f66_12
/-! 67 PathStore$Text.broken (I)V -/
def w67_0 : List UInt8 := [42, 27, 181, 0, 20, 187, 0, 23, 89, 183, 0, 25, 191]
abbrev u67_0 : List UInt8 := w67_0 ++ []
theorem s67_0 : (prog_29_method_4_code).data.toList.drop 0 = u67_0 := by decide +kernel
theorem Fm67 {pc len : Nat} {i : Instr} (h : decode (prog_29_method_4_code) pc = .ok (i, len)) (hl : len = ilen i len) : ft 67 pc = some (3, 0, 0, i, len) := ft_mk rfl h hl
theorem f67_0 : ft 67 0 = some (3, 0, 0, .aload_n 0, 1) := Fm67 (dk_42 (dk_at s67_0 0 rfl rfl)) rfl
theorem f67_1 : ft 67 1 = some (3, 0, 0, .iload_n 1, 1) := Fm67 (dk_27 (dk_at s67_0 1 rfl rfl)) rfl
theorem f67_2 : ft 67 2 = some (3, 0, 0, .putfield 20, 3) := Fm67 (dk_181 0 20 (dk_at s67_0 2 rfl rfl)) rfl
theorem f67_5 : ft 67 5 = some (3, 0, 0, .new 23, 3) := Fm67 (dk_187 0 23 (dk_at s67_0 5 rfl rfl)) rfl
theorem q67 {d : Nat} {m : Mem} {a0 a1 : Int} (hz : TZ m) : le2 (gd (tg m a0 = 4 ∨ tg m a0 = 5) <| some (.inr 204, mal (mst m a0 3 a1) 204 6)) (cl d 67 [pR a0, pI a1] m) := by
  refine q_in (n := 2) (L := [pR a0, pI a1]) rfl rfl rfl ?_
  refine r_aln0 (p := 1) f67_0 rfl ?_
  refine r_iln1 (p := 2) f67_1 rfl ?_
  refine le2_gd (fun h1 => ?_)
  refine r_pfI2 (f := 3) (p := 5) f67_2 rfl rfl rfl (by decide) (by decide) h1 rfl rfl ?_
  exact r_throw (e := 204) (f0 := 6) f67_5 rfl (by decide) (Nat.le_of_ble_eq_true rfl) rfl rfl
/-! 68 PathStore$Text.quoted (LPathStore$Row;I)V -/
def w68_2 : List UInt8 := [180, 0, 17, 4, 96, 181, 0, 17, 43, 29, 43, 180, 0, 75, 29, 100, 5, 100, 182, 0, 84, 177]
abbrev u68_2 : List UInt8 := w68_2 ++ []
def w68_1 : List UInt8 := [181, 0, 17, 42, 182, 0, 30, 28, 159, 0, 12, 42, 43, 28, 182, 0, 81, 167, 255, 242, 42, 89]
abbrev u68_1 : List UInt8 := w68_1 ++ u68_2
def w68_0 : List UInt8 := [43, 180, 0, 75, 62, 43, 3, 182, 0, 78, 43, 3, 182, 0, 78, 42, 89, 180, 0, 17, 4, 96]
abbrev u68_0 : List UInt8 := w68_0 ++ u68_1
theorem s68_0 : (prog_29_method_14_code).data.toList.drop 0 = u68_0 := by decide +kernel
theorem s68_1 : (prog_29_method_14_code).data.toList.drop 22 = u68_1 := dk_seg s68_0 22 rfl rfl
theorem s68_2 : (prog_29_method_14_code).data.toList.drop 44 = u68_2 := dk_seg s68_1 22 rfl rfl
theorem Fm68 {pc len : Nat} {i : Instr} (h : decode (prog_29_method_14_code) pc = .ok (i, len)) (hl : len = ilen i len) : ft 68 pc = some (3, 0, 0, i, len) := ft_mk rfl h hl
theorem f68_0 : ft 68 0 = some (3, 0, 0, .aload_n 1, 1) := Fm68 (dk_43 (dk_at s68_0 0 rfl rfl)) rfl
theorem f68_1 : ft 68 1 = some (3, 0, 0, .getfield 75, 3) := Fm68 (dk_180 0 75 (dk_at s68_0 1 rfl rfl)) rfl
theorem f68_4 : ft 68 4 = some (3, 0, 0, .istore_n 3, 1) := Fm68 (dk_62 (dk_at s68_0 4 rfl rfl)) rfl
theorem f68_5 : ft 68 5 = some (3, 0, 0, .aload_n 1, 1) := Fm68 (dk_43 (dk_at s68_0 5 rfl rfl)) rfl
theorem f68_6 : ft 68 6 = some (3, 0, 0, .iconst 0, 1) := Fm68 (dk_3 (dk_at s68_0 6 rfl rfl)) rfl
theorem f68_7 : ft 68 7 = some (3, 0, 0, .invokevirtual 78, 3) := Fm68 (dk_182 0 78 (dk_at s68_0 7 rfl rfl)) rfl
theorem f68_10 : ft 68 10 = some (3, 0, 0, .aload_n 1, 1) := Fm68 (dk_43 (dk_at s68_0 10 rfl rfl)) rfl
theorem f68_11 : ft 68 11 = some (3, 0, 0, .iconst 0, 1) := Fm68 (dk_3 (dk_at s68_0 11 rfl rfl)) rfl
theorem f68_12 : ft 68 12 = some (3, 0, 0, .invokevirtual 78, 3) := Fm68 (dk_182 0 78 (dk_at s68_0 12 rfl rfl)) rfl
theorem f68_15 : ft 68 15 = some (3, 0, 0, .aload_n 0, 1) := Fm68 (dk_42 (dk_at s68_0 15 rfl rfl)) rfl
theorem f68_16 : ft 68 16 = some (3, 0, 0, .dup, 1) := Fm68 (dk_89 (dk_at s68_0 16 rfl rfl)) rfl
theorem f68_17 : ft 68 17 = some (3, 0, 0, .getfield 17, 3) := Fm68 (dk_180 0 17 (dk_at s68_0 17 rfl rfl)) rfl
theorem f68_20 : ft 68 20 = some (3, 0, 0, .iconst 1, 1) := Fm68 (dk_4 (dk_at s68_0 20 rfl rfl)) rfl
theorem f68_21 : ft 68 21 = some (3, 0, 0, .iadd, 1) := Fm68 (dk_96 (dk_at s68_0 21 rfl rfl)) rfl
theorem f68_22 : ft 68 22 = some (3, 0, 0, .putfield 17, 3) := Fm68 (dk_181 0 17 (dk_at s68_1 0 rfl rfl)) rfl
theorem f68_25 : ft 68 25 = some (3, 0, 0, .aload_n 0, 1) := Fm68 (dk_42 (dk_at s68_1 3 rfl rfl)) rfl
theorem f68_26 : ft 68 26 = some (3, 0, 0, .invokevirtual 30, 3) := Fm68 (dk_182 0 30 (dk_at s68_1 4 rfl rfl)) rfl
theorem f68_29 : ft 68 29 = some (3, 0, 0, .iload_n 2, 1) := Fm68 (dk_28 (dk_at s68_1 7 rfl rfl)) rfl
theorem f68_30 : ft 68 30 = some (3, 0, 0, .if_icmp .eq 12, 3) := Fm68 (dk_159 0 12 (dk_at s68_1 8 rfl rfl)) rfl
theorem f68_33 : ft 68 33 = some (3, 0, 0, .aload_n 0, 1) := Fm68 (dk_42 (dk_at s68_1 11 rfl rfl)) rfl
theorem f68_34 : ft 68 34 = some (3, 0, 0, .aload_n 1, 1) := Fm68 (dk_43 (dk_at s68_1 12 rfl rfl)) rfl
theorem f68_35 : ft 68 35 = some (3, 0, 0, .iload_n 2, 1) := Fm68 (dk_28 (dk_at s68_1 13 rfl rfl)) rfl
theorem f68_36 : ft 68 36 = some (3, 0, 0, .invokevirtual 81, 3) := Fm68 (dk_182 0 81 (dk_at s68_1 14 rfl rfl)) rfl
theorem f68_39 : ft 68 39 = some (3, 0, 0, .goto (-14), 3) := Fm68 (dk_167 255 242 (dk_at s68_1 17 rfl rfl)) rfl
theorem f68_42 : ft 68 42 = some (3, 0, 0, .aload_n 0, 1) := Fm68 (dk_42 (dk_at s68_1 20 rfl rfl)) rfl
theorem f68_43 : ft 68 43 = some (3, 0, 0, .dup, 1) := Fm68 (dk_89 (dk_at s68_1 21 rfl rfl)) rfl
theorem f68_44 : ft 68 44 = some (3, 0, 0, .getfield 17, 3) := Fm68 (dk_180 0 17 (dk_at s68_2 0 rfl rfl)) rfl
theorem f68_47 : ft 68 47 = some (3, 0, 0, .iconst 1, 1) := Fm68 (dk_4 (dk_at s68_2 3 rfl rfl)) rfl
theorem f68_48 : ft 68 48 = some (3, 0, 0, .iadd, 1) := Fm68 (dk_96 (dk_at s68_2 4 rfl rfl)) rfl
theorem f68_49 : ft 68 49 = some (3, 0, 0, .putfield 17, 3) := Fm68 (dk_181 0 17 (dk_at s68_2 5 rfl rfl)) rfl
theorem f68_52 : ft 68 52 = some (3, 0, 0, .aload_n 1, 1) := Fm68 (dk_43 (dk_at s68_2 8 rfl rfl)) rfl
theorem f68_53 : ft 68 53 = some (3, 0, 0, .iload_n 3, 1) := Fm68 (dk_29 (dk_at s68_2 9 rfl rfl)) rfl
theorem f68_54 : ft 68 54 = some (3, 0, 0, .aload_n 1, 1) := Fm68 (dk_43 (dk_at s68_2 10 rfl rfl)) rfl
theorem f68_55 : ft 68 55 = some (3, 0, 0, .getfield 75, 3) := Fm68 (dk_180 0 75 (dk_at s68_2 11 rfl rfl)) rfl
theorem f68_58 : ft 68 58 = some (3, 0, 0, .iload_n 3, 1) := Fm68 (dk_29 (dk_at s68_2 14 rfl rfl)) rfl
theorem f68_59 : ft 68 59 = some (3, 0, 0, .isub, 1) := Fm68 (dk_100 (dk_at s68_2 15 rfl rfl)) rfl
theorem f68_60 : ft 68 60 = some (3, 0, 0, .iconst 2, 1) := Fm68 (dk_5 (dk_at s68_2 16 rfl rfl)) rfl
theorem f68_61 : ft 68 61 = some (3, 0, 0, .isub, 1) := Fm68 (dk_100 (dk_at s68_2 17 rfl rfl)) rfl
theorem f68_62 : ft 68 62 = some (3, 0, 0, .invokevirtual 84, 3) := Fm68 (dk_182 0 84 (dk_at s68_2 18 rfl rfl)) rfl
theorem f68_65 : ft 68 65 = some (3, 0, 0, .return_, 1) := Fm68 (dk_177 (dk_at s68_2 21 rfl rfl)) rfl
theorem q68 {d : Nat} {m : Mem} {a0 a1 a2 : Int} (hd : 0 < d) (hz : TZ m) : le2 (gd (tg m a1 = 8) <| bV (cl (d - 1) 130 [pR a1, pI 0] m) fun m1 => bV (cl (d - 1) 130 [pR a1, pI 0] m1) fun m2 => gd (tg m2 a0 = 4 ∨ tg m2 a0 = 5) <| rn d 68 25 [pR a0, pR a1, pI a2, pI (vl m a1 1)] [] (mst m2 a0 2 (w32 ((vl m2 a0 2) + 1)))) (cl d 68 [pR a0, pR a1, pI a2] m) := by
  refine q_in (n := 4) (L := [pR a0, pR a1, pI a2, pU]) rfl rfl rfl ?_
  refine r_aln1 (p := 1) f68_0 rfl ?_
  refine le2_gd (fun h1 => ?_)
  refine r_gfI (f := 1) (p := 4) f68_1 rfl rfl rfl (Or.inl h1) rfl ?_
  refine r_isn3 (p := 5) f68_4 rfl rfl ?_
  refine r_aln1 (p := 6) f68_5 rfl ?_
  refine r_iconst (p := 7) f68_6 rfl (pinD rfl rfl) ?_
  refine r_invV (p := 10) f68_7 rfl rfl rfl (Or.inl h1) hd (Nat.le_of_ble_eq_true rfl) rfl rfl rfl (fun _ => rfl) (fun m1 c1 => ?_)
  have hz1 := z_k c1 hz
  refine r_aln1 (p := 11) f68_10 rfl ?_
  refine r_iconst (p := 12) f68_11 rfl (pinD rfl rfl) ?_
  have h2 := k_t1 c1 hz h1 (by decide)
  refine r_invV (p := 15) f68_12 rfl rfl rfl (Or.inl h2) hd (Nat.le_of_ble_eq_true rfl) rfl rfl rfl (fun _ => rfl) (fun m2 c2 => ?_)
  have hz2 := z_k c2 hz1
  refine r_aln0 (p := 16) f68_15 rfl ?_
  refine r_dup (p := 17) f68_16 rfl rfl ?_
  refine le2_gd (fun h3 => ?_)
  refine r_gfI (f := 2) (p := 20) f68_17 rfl rfl rfl h3 rfl ?_
  refine r_iconst (p := 21) f68_20 rfl (pinD rfl rfl) ?_
  refine r_iadd (p := 22) f68_21 rfl ?_
  refine r_pfI2 (f := 2) (p := 25) f68_22 rfl rfl rfl (by decide) (by decide) h3 rfl rfl ?_
  exact le2_refl _
theorem q68_25 {d : Nat} {m : Mem} {a0 a1 a2 a3 : Int} (hd : 0 < d) (hz : TZ m) : le2 (gd (tg m a0 = 4 ∨ tg m a0 = 5) <| bI (cl (d - 1) 63 [pR a0] m) fun v1 m1 => if v1 = a2 then (gd (tg m1 a1 = 8) <| bV (cl (d - 1) 133 [pR a1, pI a3, pI (w32 ((w32 ((vl m1 a1 1) - a3)) - 2))] (mst m1 a0 2 (w32 ((vl m1 a0 2) + 1)))) fun m2 => some (.inl none, m2)) else bV (cl (d - 1) 69 [pR a0, pR a1, pI a2] m1) fun m3 => rn d 68 25 [pR a0, pR a1, pI a2, pI a3] [] m3) (rn d 68 25 [pR a0, pR a1, pI a2, pI a3] [] m) := by
  refine r_aln0 (p := 26) f68_25 rfl ?_
  refine le2_gd (fun h1 => ?_)
  refine r_invI (p := 29) f68_26 rfl rfl rfl h1 hd (Nat.le_of_ble_eq_true rfl) rfl rfl rfl (fun _ => rfl) (fun v1 m1 c1 => ?_)
  have hz1 := z_k c1 hz
  refine r_iln2 (p := 30) f68_29 rfl ?_
  refine r_iceq (t := 42) (p := 33) f68_30 (by decide) rfl rfl ?_ ?_
  · refine r_aln0 (p := 43) f68_42 rfl ?_
    refine r_dup (p := 44) f68_43 rfl rfl ?_
    have h2 := k_t2 c1 hz h1 (by decide) (by decide)
    refine r_gfI (f := 2) (p := 47) f68_44 rfl rfl rfl h2 rfl ?_
    refine r_iconst (p := 48) f68_47 rfl (pinD rfl rfl) ?_
    refine r_iadd (p := 49) f68_48 rfl ?_
    refine r_pfI2 (f := 2) (p := 52) f68_49 rfl rfl rfl (by decide) (by decide) h2 rfl rfl ?_
    refine r_aln1 (p := 53) f68_52 rfl ?_
    refine r_iln3 (p := 54) f68_53 rfl ?_
    refine r_aln1 (p := 55) f68_54 rfl ?_
    refine le2_gd (fun h3 => ?_)
    refine r_gfI (f := 1) (p := 58) f68_55 rfl rfl rfl (Or.inl h3) (sk_f (by decide)) ?_
    refine r_iln3 (p := 59) f68_58 rfl ?_
    refine r_isub (p := 60) f68_59 rfl ?_
    refine r_iconst (p := 61) f68_60 rfl (pinD rfl rfl) ?_
    refine r_isub (p := 62) f68_61 rfl ?_
    refine r_invV (p := 65) f68_62 rfl rfl rfl (Or.inl h3) hd (Nat.le_of_ble_eq_true rfl) rfl rfl rfl (fun _ => rfl) (fun m2 c2 => ?_)
    have hz2 := z_k c2 hz1
    exact r_ret f68_65
  · refine r_aln0 (p := 34) f68_33 rfl ?_
    refine r_aln1 (p := 35) f68_34 rfl ?_
    refine r_iln2 (p := 36) f68_35 rfl ?_
    have h4 := k_t2 c1 hz h1 (by decide) (by decide)
    refine r_invV (p := 39) f68_36 rfl rfl rfl h4 hd (Nat.le_of_ble_eq_true rfl) rfl rfl rfl (fun _ => rfl) (fun m3 c3 => ?_)
    have hz3 := z_k c3 hz1
    refine r_goto (p := 25) f68_39 (by decide) rfl ?_
    exact le2_refl _
/-! 69 PathStore$Text.character (LPathStore$Row;I)V -/
def w69_8 : List UInt8 := [177, 21, 5, 28, 159, 0, 8, 42, 29, 182, 0, 26, 43, 21, 5, 182, 0, 58, 177]
abbrev u69_8 : List UInt8 := w69_8 ++ []
def w69_7 : List UInt8 := [182, 0, 58, 177, 43, 16, 12, 182, 0, 58, 177, 43, 16, 13, 182, 0, 58, 177, 42, 43, 29, 182, 0, 63]
abbrev u69_7 : List UInt8 := w69_7 ++ u69_8
def w69_6 : List UInt8 := [43, 21, 5, 182, 0, 58, 177, 43, 16, 8, 182, 0, 58, 177, 43, 16, 9, 182, 0, 58, 177, 43, 16, 10]
abbrev u69_6 : List UInt8 := w69_6 ++ u69_7
def w69_5 : List UInt8 := [171, 0, 0, 0, 0, 0, 0, 125, 0, 0, 0, 8, 0, 0, 0, 47, 0, 0, 0, 76, 0, 0, 0, 92, 0, 0, 0, 76, 0, 0, 0, 98, 0, 0, 0, 83, 0, 0, 0, 102, 0, 0, 0, 104, 0, 0, 0, 110, 0, 0, 0, 97, 0, 0, 0, 114, 0, 0, 0, 111, 0, 0, 0, 116, 0, 0, 0, 90, 0, 0, 0, 117, 0, 0, 0, 118]
abbrev u69_5 : List UInt8 := w69_5 ++ u69_6
def w69_4 : List UInt8 := [21, 5]
abbrev u69_4 : List UInt8 := w69_4 ++ u69_5
def w69_3 : List UInt8 := [4, 167, 0, 4, 3, 182, 0, 34, 42, 182, 0, 30, 54, 5, 42, 89, 180, 0, 17, 4, 96, 181, 0, 17]
abbrev u69_3 : List UInt8 := w69_3 ++ u69_4
def w69_2 : List UInt8 := [16, 92, 159, 0, 10, 43, 21, 4, 182, 0, 58, 177, 42, 42, 180, 0, 17, 42, 180, 0, 13, 162, 0, 7]
abbrev u69_2 : List UInt8 := w69_2 ++ u69_3
def w69_1 : List UInt8 := [163, 0, 7, 4, 167, 0, 4, 3, 182, 0, 34, 42, 89, 180, 0, 17, 4, 96, 181, 0, 17, 21, 4]
abbrev u69_1 : List UInt8 := w69_1 ++ u69_2
def w69_0 : List UInt8 := [42, 180, 0, 17, 62, 42, 182, 0, 30, 54, 4, 42, 21, 4, 16, 32, 161, 0, 14, 21, 4, 16, 126]
abbrev u69_0 : List UInt8 := w69_0 ++ u69_1
theorem s69_0 : (prog_29_method_12_code).data.toList.drop 0 = u69_0 := by decide +kernel
theorem s69_1 : (prog_29_method_12_code).data.toList.drop 23 = u69_1 := dk_seg s69_0 23 rfl rfl
theorem s69_2 : (prog_29_method_12_code).data.toList.drop 46 = u69_2 := dk_seg s69_1 23 rfl rfl
theorem s69_3 : (prog_29_method_12_code).data.toList.drop 70 = u69_3 := dk_seg s69_2 24 rfl rfl
theorem s69_4 : (prog_29_method_12_code).data.toList.drop 94 = u69_4 := dk_seg s69_3 24 rfl rfl
theorem s69_5 : (prog_29_method_12_code).data.toList.drop 96 = u69_5 := dk_seg s69_4 2 rfl rfl
theorem s69_6 : (prog_29_method_12_code).data.toList.drop 172 = u69_6 := dk_seg s69_5 76 rfl rfl
theorem s69_7 : (prog_29_method_12_code).data.toList.drop 196 = u69_7 := dk_seg s69_6 24 rfl rfl
theorem s69_8 : (prog_29_method_12_code).data.toList.drop 220 = u69_8 := dk_seg s69_7 24 rfl rfl
theorem Fm69 {pc len : Nat} {i : Instr} (h : decode (prog_29_method_12_code) pc = .ok (i, len)) (hl : len = ilen i len) : ft 69 pc = some (3, 0, 0, i, len) := ft_mk rfl h hl
theorem f69_0 : ft 69 0 = some (3, 0, 0, .aload_n 0, 1) := Fm69 (dk_42 (dk_at s69_0 0 rfl rfl)) rfl
theorem f69_1 : ft 69 1 = some (3, 0, 0, .getfield 17, 3) := Fm69 (dk_180 0 17 (dk_at s69_0 1 rfl rfl)) rfl
theorem f69_4 : ft 69 4 = some (3, 0, 0, .istore_n 3, 1) := Fm69 (dk_62 (dk_at s69_0 4 rfl rfl)) rfl
theorem f69_5 : ft 69 5 = some (3, 0, 0, .aload_n 0, 1) := Fm69 (dk_42 (dk_at s69_0 5 rfl rfl)) rfl
theorem f69_6 : ft 69 6 = some (3, 0, 0, .invokevirtual 30, 3) := Fm69 (dk_182 0 30 (dk_at s69_0 6 rfl rfl)) rfl
theorem f69_9 : ft 69 9 = some (3, 0, 0, .istore 4, 2) := Fm69 (dk_54 4 (dk_at s69_0 9 rfl rfl)) rfl
theorem f69_11 : ft 69 11 = some (3, 0, 0, .aload_n 0, 1) := Fm69 (dk_42 (dk_at s69_0 11 rfl rfl)) rfl
theorem f69_12 : ft 69 12 = some (3, 0, 0, .iload 4, 2) := Fm69 (dk_21 4 (dk_at s69_0 12 rfl rfl)) rfl
theorem f69_14 : ft 69 14 = some (3, 0, 0, .bipush 32, 2) := Fm69 (dk_16 32 (dk_at s69_0 14 rfl rfl)) rfl
theorem f69_16 : ft 69 16 = some (3, 0, 0, .if_icmp .lt 14, 3) := Fm69 (dk_161 0 14 (dk_at s69_0 16 rfl rfl)) rfl
theorem f69_19 : ft 69 19 = some (3, 0, 0, .iload 4, 2) := Fm69 (dk_21 4 (dk_at s69_0 19 rfl rfl)) rfl
theorem f69_21 : ft 69 21 = some (3, 0, 0, .bipush 126, 2) := Fm69 (dk_16 126 (dk_at s69_0 21 rfl rfl)) rfl
theorem f69_23 : ft 69 23 = some (3, 0, 0, .if_icmp .gt 7, 3) := Fm69 (dk_163 0 7 (dk_at s69_1 0 rfl rfl)) rfl
theorem f69_26 : ft 69 26 = some (3, 0, 0, .iconst 1, 1) := Fm69 (dk_4 (dk_at s69_1 3 rfl rfl)) rfl
theorem f69_27 : ft 69 27 = some (3, 0, 0, .goto 4, 3) := Fm69 (dk_167 0 4 (dk_at s69_1 4 rfl rfl)) rfl
theorem f69_30 : ft 69 30 = some (3, 0, 0, .iconst 0, 1) := Fm69 (dk_3 (dk_at s69_1 7 rfl rfl)) rfl
theorem f69_31 : ft 69 31 = some (3, 0, 0, .invokevirtual 34, 3) := Fm69 (dk_182 0 34 (dk_at s69_1 8 rfl rfl)) rfl
theorem f69_34 : ft 69 34 = some (3, 0, 0, .aload_n 0, 1) := Fm69 (dk_42 (dk_at s69_1 11 rfl rfl)) rfl
theorem f69_35 : ft 69 35 = some (3, 0, 0, .dup, 1) := Fm69 (dk_89 (dk_at s69_1 12 rfl rfl)) rfl
theorem f69_36 : ft 69 36 = some (3, 0, 0, .getfield 17, 3) := Fm69 (dk_180 0 17 (dk_at s69_1 13 rfl rfl)) rfl
theorem f69_39 : ft 69 39 = some (3, 0, 0, .iconst 1, 1) := Fm69 (dk_4 (dk_at s69_1 16 rfl rfl)) rfl
theorem f69_40 : ft 69 40 = some (3, 0, 0, .iadd, 1) := Fm69 (dk_96 (dk_at s69_1 17 rfl rfl)) rfl
theorem f69_41 : ft 69 41 = some (3, 0, 0, .putfield 17, 3) := Fm69 (dk_181 0 17 (dk_at s69_1 18 rfl rfl)) rfl
theorem f69_44 : ft 69 44 = some (3, 0, 0, .iload 4, 2) := Fm69 (dk_21 4 (dk_at s69_1 21 rfl rfl)) rfl
theorem f69_46 : ft 69 46 = some (3, 0, 0, .bipush 92, 2) := Fm69 (dk_16 92 (dk_at s69_2 0 rfl rfl)) rfl
theorem f69_48 : ft 69 48 = some (3, 0, 0, .if_icmp .eq 10, 3) := Fm69 (dk_159 0 10 (dk_at s69_2 2 rfl rfl)) rfl
theorem f69_51 : ft 69 51 = some (3, 0, 0, .aload_n 1, 1) := Fm69 (dk_43 (dk_at s69_2 5 rfl rfl)) rfl
theorem f69_52 : ft 69 52 = some (3, 0, 0, .iload 4, 2) := Fm69 (dk_21 4 (dk_at s69_2 6 rfl rfl)) rfl
theorem f69_54 : ft 69 54 = some (3, 0, 0, .invokevirtual 58, 3) := Fm69 (dk_182 0 58 (dk_at s69_2 8 rfl rfl)) rfl
theorem f69_57 : ft 69 57 = some (3, 0, 0, .return_, 1) := Fm69 (dk_177 (dk_at s69_2 11 rfl rfl)) rfl
theorem f69_58 : ft 69 58 = some (3, 0, 0, .aload_n 0, 1) := Fm69 (dk_42 (dk_at s69_2 12 rfl rfl)) rfl
theorem f69_59 : ft 69 59 = some (3, 0, 0, .aload_n 0, 1) := Fm69 (dk_42 (dk_at s69_2 13 rfl rfl)) rfl
theorem f69_60 : ft 69 60 = some (3, 0, 0, .getfield 17, 3) := Fm69 (dk_180 0 17 (dk_at s69_2 14 rfl rfl)) rfl
theorem f69_63 : ft 69 63 = some (3, 0, 0, .aload_n 0, 1) := Fm69 (dk_42 (dk_at s69_2 17 rfl rfl)) rfl
theorem f69_64 : ft 69 64 = some (3, 0, 0, .getfield 13, 3) := Fm69 (dk_180 0 13 (dk_at s69_2 18 rfl rfl)) rfl
theorem f69_67 : ft 69 67 = some (3, 0, 0, .if_icmp .ge 7, 3) := Fm69 (dk_162 0 7 (dk_at s69_2 21 rfl rfl)) rfl
theorem f69_70 : ft 69 70 = some (3, 0, 0, .iconst 1, 1) := Fm69 (dk_4 (dk_at s69_3 0 rfl rfl)) rfl
theorem f69_71 : ft 69 71 = some (3, 0, 0, .goto 4, 3) := Fm69 (dk_167 0 4 (dk_at s69_3 1 rfl rfl)) rfl
theorem f69_74 : ft 69 74 = some (3, 0, 0, .iconst 0, 1) := Fm69 (dk_3 (dk_at s69_3 4 rfl rfl)) rfl
theorem f69_75 : ft 69 75 = some (3, 0, 0, .invokevirtual 34, 3) := Fm69 (dk_182 0 34 (dk_at s69_3 5 rfl rfl)) rfl
theorem f69_78 : ft 69 78 = some (3, 0, 0, .aload_n 0, 1) := Fm69 (dk_42 (dk_at s69_3 8 rfl rfl)) rfl
theorem f69_79 : ft 69 79 = some (3, 0, 0, .invokevirtual 30, 3) := Fm69 (dk_182 0 30 (dk_at s69_3 9 rfl rfl)) rfl
theorem f69_82 : ft 69 82 = some (3, 0, 0, .istore 5, 2) := Fm69 (dk_54 5 (dk_at s69_3 12 rfl rfl)) rfl
theorem f69_84 : ft 69 84 = some (3, 0, 0, .aload_n 0, 1) := Fm69 (dk_42 (dk_at s69_3 14 rfl rfl)) rfl
theorem f69_85 : ft 69 85 = some (3, 0, 0, .dup, 1) := Fm69 (dk_89 (dk_at s69_3 15 rfl rfl)) rfl
theorem f69_86 : ft 69 86 = some (3, 0, 0, .getfield 17, 3) := Fm69 (dk_180 0 17 (dk_at s69_3 16 rfl rfl)) rfl
theorem f69_89 : ft 69 89 = some (3, 0, 0, .iconst 1, 1) := Fm69 (dk_4 (dk_at s69_3 19 rfl rfl)) rfl
theorem f69_90 : ft 69 90 = some (3, 0, 0, .iadd, 1) := Fm69 (dk_96 (dk_at s69_3 20 rfl rfl)) rfl
theorem f69_91 : ft 69 91 = some (3, 0, 0, .putfield 17, 3) := Fm69 (dk_181 0 17 (dk_at s69_3 21 rfl rfl)) rfl
theorem f69_94 : ft 69 94 = some (3, 0, 0, .iload 5, 2) := Fm69 (dk_21 5 (dk_at s69_4 0 rfl rfl)) rfl
theorem f69_96 : ft 69 96 = some (3, 0, 0, .lookupswitch 125 #[(47, 76), (92, 76), (98, 83), (102, 104), (110, 97), (114, 111), (116, 90), (117, 118)], 76) := Fm69 (by decide +kernel) rfl
theorem f69_172 : ft 69 172 = some (3, 0, 0, .aload_n 1, 1) := Fm69 (dk_43 (dk_at s69_6 0 rfl rfl)) rfl
theorem f69_173 : ft 69 173 = some (3, 0, 0, .iload 5, 2) := Fm69 (dk_21 5 (dk_at s69_6 1 rfl rfl)) rfl
theorem f69_175 : ft 69 175 = some (3, 0, 0, .invokevirtual 58, 3) := Fm69 (dk_182 0 58 (dk_at s69_6 3 rfl rfl)) rfl
theorem f69_178 : ft 69 178 = some (3, 0, 0, .return_, 1) := Fm69 (dk_177 (dk_at s69_6 6 rfl rfl)) rfl
theorem f69_179 : ft 69 179 = some (3, 0, 0, .aload_n 1, 1) := Fm69 (dk_43 (dk_at s69_6 7 rfl rfl)) rfl
theorem f69_180 : ft 69 180 = some (3, 0, 0, .bipush 8, 2) := Fm69 (dk_16 8 (dk_at s69_6 8 rfl rfl)) rfl
theorem f69_182 : ft 69 182 = some (3, 0, 0, .invokevirtual 58, 3) := Fm69 (dk_182 0 58 (dk_at s69_6 10 rfl rfl)) rfl
theorem f69_185 : ft 69 185 = some (3, 0, 0, .return_, 1) := Fm69 (dk_177 (dk_at s69_6 13 rfl rfl)) rfl
theorem f69_186 : ft 69 186 = some (3, 0, 0, .aload_n 1, 1) := Fm69 (dk_43 (dk_at s69_6 14 rfl rfl)) rfl
theorem f69_187 : ft 69 187 = some (3, 0, 0, .bipush 9, 2) := Fm69 (dk_16 9 (dk_at s69_6 15 rfl rfl)) rfl
theorem f69_189 : ft 69 189 = some (3, 0, 0, .invokevirtual 58, 3) := Fm69 (dk_182 0 58 (dk_at s69_6 17 rfl rfl)) rfl
theorem f69_192 : ft 69 192 = some (3, 0, 0, .return_, 1) := Fm69 (dk_177 (dk_at s69_6 20 rfl rfl)) rfl
theorem f69_193 : ft 69 193 = some (3, 0, 0, .aload_n 1, 1) := Fm69 (dk_43 (dk_at s69_6 21 rfl rfl)) rfl
theorem f69_194 : ft 69 194 = some (3, 0, 0, .bipush 10, 2) := Fm69 (dk_16 10 (dk_at s69_6 22 rfl rfl)) rfl
theorem f69_196 : ft 69 196 = some (3, 0, 0, .invokevirtual 58, 3) := Fm69 (dk_182 0 58 (dk_at s69_7 0 rfl rfl)) rfl
theorem f69_199 : ft 69 199 = some (3, 0, 0, .return_, 1) := Fm69 (dk_177 (dk_at s69_7 3 rfl rfl)) rfl
theorem f69_200 : ft 69 200 = some (3, 0, 0, .aload_n 1, 1) := Fm69 (dk_43 (dk_at s69_7 4 rfl rfl)) rfl
theorem f69_201 : ft 69 201 = some (3, 0, 0, .bipush 12, 2) := Fm69 (dk_16 12 (dk_at s69_7 5 rfl rfl)) rfl
theorem f69_203 : ft 69 203 = some (3, 0, 0, .invokevirtual 58, 3) := Fm69 (dk_182 0 58 (dk_at s69_7 7 rfl rfl)) rfl
theorem f69_206 : ft 69 206 = some (3, 0, 0, .return_, 1) := Fm69 (dk_177 (dk_at s69_7 10 rfl rfl)) rfl
theorem f69_207 : ft 69 207 = some (3, 0, 0, .aload_n 1, 1) := Fm69 (dk_43 (dk_at s69_7 11 rfl rfl)) rfl
theorem f69_208 : ft 69 208 = some (3, 0, 0, .bipush 13, 2) := Fm69 (dk_16 13 (dk_at s69_7 12 rfl rfl)) rfl
theorem f69_210 : ft 69 210 = some (3, 0, 0, .invokevirtual 58, 3) := Fm69 (dk_182 0 58 (dk_at s69_7 14 rfl rfl)) rfl
theorem f69_213 : ft 69 213 = some (3, 0, 0, .return_, 1) := Fm69 (dk_177 (dk_at s69_7 17 rfl rfl)) rfl
theorem f69_214 : ft 69 214 = some (3, 0, 0, .aload_n 0, 1) := Fm69 (dk_42 (dk_at s69_7 18 rfl rfl)) rfl
theorem f69_215 : ft 69 215 = some (3, 0, 0, .aload_n 1, 1) := Fm69 (dk_43 (dk_at s69_7 19 rfl rfl)) rfl
theorem f69_216 : ft 69 216 = some (3, 0, 0, .iload_n 3, 1) := Fm69 (dk_29 (dk_at s69_7 20 rfl rfl)) rfl
theorem f69_217 : ft 69 217 = some (3, 0, 0, .invokevirtual 63, 3) := Fm69 (dk_182 0 63 (dk_at s69_7 21 rfl rfl)) rfl
theorem f69_220 : ft 69 220 = some (3, 0, 0, .return_, 1) := Fm69 (dk_177 (dk_at s69_8 0 rfl rfl)) rfl
theorem f69_221 : ft 69 221 = some (3, 0, 0, .iload 5, 2) := Fm69 (dk_21 5 (dk_at s69_8 1 rfl rfl)) rfl
theorem f69_223 : ft 69 223 = some (3, 0, 0, .iload_n 2, 1) := Fm69 (dk_28 (dk_at s69_8 3 rfl rfl)) rfl
theorem f69_224 : ft 69 224 = some (3, 0, 0, .if_icmp .eq 8, 3) := Fm69 (dk_159 0 8 (dk_at s69_8 4 rfl rfl)) rfl
theorem f69_227 : ft 69 227 = some (3, 0, 0, .aload_n 0, 1) := Fm69 (dk_42 (dk_at s69_8 7 rfl rfl)) rfl
theorem f69_228 : ft 69 228 = some (3, 0, 0, .iload_n 3, 1) := Fm69 (dk_29 (dk_at s69_8 8 rfl rfl)) rfl
theorem f69_229 : ft 69 229 = some (3, 0, 0, .invokevirtual 26, 3) := Fm69 (dk_182 0 26 (dk_at s69_8 9 rfl rfl)) rfl
theorem f69_232 : ft 69 232 = some (3, 0, 0, .aload_n 1, 1) := Fm69 (dk_43 (dk_at s69_8 12 rfl rfl)) rfl
theorem f69_233 : ft 69 233 = some (3, 0, 0, .iload 5, 2) := Fm69 (dk_21 5 (dk_at s69_8 13 rfl rfl)) rfl
theorem f69_235 : ft 69 235 = some (3, 0, 0, .invokevirtual 58, 3) := Fm69 (dk_182 0 58 (dk_at s69_8 15 rfl rfl)) rfl
theorem f69_238 : ft 69 238 = some (3, 0, 0, .return_, 1) := Fm69 (dk_177 (dk_at s69_8 18 rfl rfl)) rfl
theorem q69 {d : Nat} {m : Mem} {a0 a1 a2 : Int} (hd : 0 < d) (hz : TZ m) : le2 (gd (tg m a0 = 4 ∨ tg m a0 = 5) <| nm (vl m a0 2) fun v2 => bI (cl (d - 1) 63 [pR a0] m) fun v1 m1 => if v1 < 32 then (rn d 69 31 [pR a0, pR a1, pI a2, pI v2, pI v1, pU] [pI 0, pR a0] m1) else if 126 < v1 then (rn d 69 31 [pR a0, pR a1, pI a2, pI v2, pI v1, pU] [pI 0, pR a0] m1) else rn d 69 31 [pR a0, pR a1, pI a2, pI v2, pI v1, pU] [pI 1, pR a0] m1) (cl d 69 [pR a0, pR a1, pI a2] m) := by
  refine q_in (n := 6) (L := [pR a0, pR a1, pI a2, pU, pU, pU]) rfl rfl rfl ?_
  refine r_aln0 (p := 1) f69_0 rfl ?_
  refine le2_gd (fun h1 => ?_)
  refine r_gfI (f := 2) (p := 4) f69_1 rfl rfl rfl h1 rfl ?_
  refine r_nmI (fun v2 ev2 => ?_)
  refine r_isn3 (p := 5) f69_4 rfl rfl ?_
  refine r_aln0 (p := 6) f69_5 rfl ?_
  refine r_invI (p := 9) f69_6 rfl rfl rfl h1 hd (Nat.le_of_ble_eq_true rfl) rfl rfl rfl (fun _ => rfl) (fun v1 m1 c1 => ?_)
  have hz1 := z_k c1 hz
  refine r_isw4 (p := 11) f69_9 rfl rfl ?_
  refine r_aln0 (p := 12) f69_11 rfl ?_
  refine r_ilw4 (p := 14) f69_12 rfl ?_
  refine r_bipush (p := 16) f69_14 rfl (pinD rfl rfl) ?_
  refine r_iclt (t := 30) (p := 19) f69_16 (by decide) rfl rfl ?_ ?_
  · refine r_iconst (p := 31) f69_30 rfl (pinD rfl rfl) ?_
    exact le2_refl _
  · refine r_ilw4 (p := 21) f69_19 rfl ?_
    refine r_bipush (p := 23) f69_21 rfl (pinD rfl rfl) ?_
    refine r_icgt (t := 30) (p := 26) f69_23 (by decide) rfl rfl ?_ ?_
    · refine r_iconst (p := 31) f69_30 rfl (pinD rfl rfl) ?_
      exact le2_refl _
    · refine r_iconst (p := 27) f69_26 rfl (pinD rfl rfl) ?_
      refine r_goto (p := 31) f69_27 (by decide) rfl ?_
      exact le2_refl _
theorem q69_31 {d : Nat} {m : Mem} {a0 a1 a2 a3 a4 s1 s0 : Int} (hd : 0 < d) (hz : TZ m) : le2 (gd (tg m s0 = 4 ∨ tg m s0 = 5) <| bV (cl (d - 1) 66 [pR s0, pI s1] m) fun m1 => gd (tg m1 a0 = 4 ∨ tg m1 a0 = 5) <| nm (w32 ((vl m1 a0 2) + 1)) fun v3 => if a4 = 92 then (if v3 < (vl m1 a0 1) then (rn d 69 75 [pR a0, pR a1, pI a2, pI a3, pI a4, pU] [pI 1, pR a0] (mst m1 a0 2 v3)) else rn d 69 75 [pR a0, pR a1, pI a2, pI a3, pI a4, pU] [pI 0, pR a0] (mst m1 a0 2 v3)) else gd (tg m1 a1 = 8) <| bV (cl (d - 1) 132 [pR a1, pI a4] (mst m1 a0 2 v3)) fun m2 => some (.inl none, m2)) (rn d 69 31 [pR a0, pR a1, pI a2, pI a3, pI a4, pU] [pI s1, pR s0] m) := by
  refine le2_gd (fun h1 => ?_)
  refine r_invV (p := 34) f69_31 rfl rfl rfl h1 hd (Nat.le_of_ble_eq_true rfl) rfl rfl rfl (fun _ => rfl) (fun m1 c1 => ?_)
  have hz1 := z_k c1 hz
  refine r_aln0 (p := 35) f69_34 rfl ?_
  refine r_dup (p := 36) f69_35 rfl rfl ?_
  refine le2_gd (fun h2 => ?_)
  refine r_gfI (f := 2) (p := 39) f69_36 rfl rfl rfl h2 rfl ?_
  refine r_iconst (p := 40) f69_39 rfl (pinD rfl rfl) ?_
  refine r_iadd (p := 41) f69_40 rfl ?_
  refine r_nmI (fun v3 ev3 => ?_)
  refine r_pfI2 (f := 2) (p := 44) f69_41 rfl rfl rfl (by decide) (by decide) h2 rfl rfl ?_
  refine r_ilw4 (p := 46) f69_44 rfl ?_
  refine r_bipush (p := 48) f69_46 rfl (pinD rfl rfl) ?_
  refine r_iceq (t := 58) (p := 51) f69_48 (by decide) rfl rfl ?_ ?_
  · refine r_aln0 (p := 59) f69_58 rfl ?_
    refine r_aln0 (p := 60) f69_59 rfl ?_
    refine r_gfI (f := 2) (p := 63) f69_60 rfl rfl rfl h2 sk_s ?_
    refine r_aln0 (p := 64) f69_63 rfl ?_
    refine r_gfI (f := 1) (p := 67) f69_64 rfl rfl rfl h2 (sk_f (by decide)) ?_
    refine r_icge (t := 74) (p := 70) f69_67 (by decide) rfl rfl ?_ ?_
    · refine r_iconst (p := 71) f69_70 rfl (pinD rfl rfl) ?_
      refine r_goto (p := 75) f69_71 (by decide) rfl ?_
      exact le2_refl _
    · refine r_iconst (p := 75) f69_74 rfl (pinD rfl rfl) ?_
      exact le2_refl _
  · refine r_aln1 (p := 52) f69_51 rfl ?_
    refine r_ilw4 (p := 54) f69_52 rfl ?_
    refine le2_gd (fun h3 => ?_)
    refine r_invV (p := 57) f69_54 rfl rfl rfl (Or.inl h3) hd (Nat.le_of_ble_eq_true rfl) rfl rfl rfl (fun _ => rfl) (fun m2 c2 => ?_)
    have hz2 := z_k c2 hz1
    exact r_ret f69_57
theorem q69_75 {d : Nat} {m : Mem} {a0 a1 a2 a3 a4 s1 s0 : Int} (hd : 0 < d) (hz : TZ m) : le2 (gd (tg m s0 = 4 ∨ tg m s0 = 5) <| bV (cl (d - 1) 66 [pR s0, pI s1] m) fun m1 => gd (tg m1 a0 = 4 ∨ tg m1 a0 = 5) <| bI (cl (d - 1) 63 [pR a0] m1) fun v2 m2 => if v2 = 47 ∨ v2 = 92 then (gd (tg m2 a1 = 8) <| bV (cl (d - 1) 132 [pR a1, pI v2] (mst m2 a0 2 (w32 ((vl m2 a0 2) + 1)))) fun m12 => some (.inl none, m12)) else if v2 = 98 then (gd (tg m2 a1 = 8) <| bV (cl (d - 1) 132 [pR a1, pI 8] (mst m2 a0 2 (w32 ((vl m2 a0 2) + 1)))) fun m11 => some (.inl none, m11)) else if v2 = 102 then (gd (tg m2 a1 = 8) <| bV (cl (d - 1) 132 [pR a1, pI 12] (mst m2 a0 2 (w32 ((vl m2 a0 2) + 1)))) fun m10 => some (.inl none, m10)) else if v2 = 110 then (gd (tg m2 a1 = 8) <| bV (cl (d - 1) 132 [pR a1, pI 10] (mst m2 a0 2 (w32 ((vl m2 a0 2) + 1)))) fun m9 => some (.inl none, m9)) else if v2 = 114 then (gd (tg m2 a1 = 8) <| bV (cl (d - 1) 132 [pR a1, pI 13] (mst m2 a0 2 (w32 ((vl m2 a0 2) + 1)))) fun m8 => some (.inl none, m8)) else if v2 = 116 then (gd (tg m2 a1 = 8) <| bV (cl (d - 1) 132 [pR a1, pI 9] (mst m2 a0 2 (w32 ((vl m2 a0 2) + 1)))) fun m7 => some (.inl none, m7)) else if v2 = 117 then (bV (cl (d - 1) 70 [pR a0, pR a1, pI a3] (mst m2 a0 2 (w32 ((vl m2 a0 2) + 1)))) fun m6 => some (.inl none, m6)) else if v2 = a2 then (gd (tg m2 a1 = 8) <| bV (cl (d - 1) 132 [pR a1, pI v2] (mst m2 a0 2 (w32 ((vl m2 a0 2) + 1)))) fun m3 => some (.inl none, m3)) else bV (cl (d - 1) 67 [pR a0, pI a3] (mst m2 a0 2 (w32 ((vl m2 a0 2) + 1)))) fun m4 => gd (tg m4 a1 = 8) <| bV (cl (d - 1) 132 [pR a1, pI v2] m4) fun m5 => some (.inl none, m5)) (rn d 69 75 [pR a0, pR a1, pI a2, pI a3, pI a4, pU] [pI s1, pR s0] m) := by
  refine le2_gd (fun h1 => ?_)
  refine r_invV (p := 78) f69_75 rfl rfl rfl h1 hd (Nat.le_of_ble_eq_true rfl) rfl rfl rfl (fun _ => rfl) (fun m1 c1 => ?_)
  have hz1 := z_k c1 hz
  refine r_aln0 (p := 79) f69_78 rfl ?_
  refine le2_gd (fun h2 => ?_)
  refine r_invI (p := 82) f69_79 rfl rfl rfl h2 hd (Nat.le_of_ble_eq_true rfl) rfl rfl rfl (fun _ => rfl) (fun v2 m2 c2 => ?_)
  have hz2 := z_k c2 hz1
  refine r_isw5 (p := 84) f69_82 rfl rfl ?_
  refine r_aln0 (p := 85) f69_84 rfl ?_
  refine r_dup (p := 86) f69_85 rfl rfl ?_
  have h3 := k_t2 c2 hz1 h2 (by decide) (by decide)
  refine r_gfI (f := 2) (p := 89) f69_86 rfl rfl rfl h3 rfl ?_
  refine r_iconst (p := 90) f69_89 rfl (pinD rfl rfl) ?_
  refine r_iadd (p := 91) f69_90 rfl ?_
  refine r_pfI2 (f := 2) (p := 94) f69_91 rfl rfl rfl (by decide) (by decide) h3 rfl rfl ?_
  refine r_ilw5 (p := 96) f69_94 rfl ?_
  refine le2_ite (fun h4 => ?_) (fun h4 => ?_)
  · refine r_lsw (off := 76) (t := 172) f69_96 rfl (by rcases h4 with h | h <;> rw [h] <;> rfl) (by decide) rfl ?_
    refine r_aln1 (p := 173) f69_172 rfl ?_
    refine r_ilw5 (p := 175) f69_173 rfl ?_
    refine le2_gd (fun h18 => ?_)
    refine r_invV (p := 178) f69_175 rfl rfl rfl (Or.inl h18) hd (Nat.le_of_ble_eq_true rfl) rfl rfl rfl (fun _ => rfl) (fun m12 c12 => ?_)
    have hz12 := z_k c12 hz2
    exact r_ret f69_178
  · refine le2_ite (fun h5 => ?_) (fun h5 => ?_)
    · refine r_lsw (off := 83) (t := 179) f69_96 rfl (by rw [h5]; rfl) (by decide) rfl ?_
      refine r_aln1 (p := 180) f69_179 rfl ?_
      refine r_bipush (p := 182) f69_180 rfl (pinD rfl rfl) ?_
      refine le2_gd (fun h17 => ?_)
      refine r_invV (p := 185) f69_182 rfl rfl rfl (Or.inl h17) hd (Nat.le_of_ble_eq_true rfl) rfl rfl rfl (fun _ => rfl) (fun m11 c11 => ?_)
      have hz11 := z_k c11 hz2
      exact r_ret f69_185
    · refine le2_ite (fun h6 => ?_) (fun h6 => ?_)
      · refine r_lsw (off := 104) (t := 200) f69_96 rfl (by rw [h6]; rfl) (by decide) rfl ?_
        refine r_aln1 (p := 201) f69_200 rfl ?_
        refine r_bipush (p := 203) f69_201 rfl (pinD rfl rfl) ?_
        refine le2_gd (fun h16 => ?_)
        refine r_invV (p := 206) f69_203 rfl rfl rfl (Or.inl h16) hd (Nat.le_of_ble_eq_true rfl) rfl rfl rfl (fun _ => rfl) (fun m10 c10 => ?_)
        have hz10 := z_k c10 hz2
        exact r_ret f69_206
      · refine le2_ite (fun h7 => ?_) (fun h7 => ?_)
        · refine r_lsw (off := 97) (t := 193) f69_96 rfl (by rw [h7]; rfl) (by decide) rfl ?_
          refine r_aln1 (p := 194) f69_193 rfl ?_
          refine r_bipush (p := 196) f69_194 rfl (pinD rfl rfl) ?_
          refine le2_gd (fun h15 => ?_)
          refine r_invV (p := 199) f69_196 rfl rfl rfl (Or.inl h15) hd (Nat.le_of_ble_eq_true rfl) rfl rfl rfl (fun _ => rfl) (fun m9 c9 => ?_)
          have hz9 := z_k c9 hz2
          exact r_ret f69_199
        · refine le2_ite (fun h8 => ?_) (fun h8 => ?_)
          · refine r_lsw (off := 111) (t := 207) f69_96 rfl (by rw [h8]; rfl) (by decide) rfl ?_
            refine r_aln1 (p := 208) f69_207 rfl ?_
            refine r_bipush (p := 210) f69_208 rfl (pinD rfl rfl) ?_
            refine le2_gd (fun h14 => ?_)
            refine r_invV (p := 213) f69_210 rfl rfl rfl (Or.inl h14) hd (Nat.le_of_ble_eq_true rfl) rfl rfl rfl (fun _ => rfl) (fun m8 c8 => ?_)
            have hz8 := z_k c8 hz2
            exact r_ret f69_213
          · refine le2_ite (fun h9 => ?_) (fun h9 => ?_)
            · refine r_lsw (off := 90) (t := 186) f69_96 rfl (by rw [h9]; rfl) (by decide) rfl ?_
              refine r_aln1 (p := 187) f69_186 rfl ?_
              refine r_bipush (p := 189) f69_187 rfl (pinD rfl rfl) ?_
              refine le2_gd (fun h13 => ?_)
              refine r_invV (p := 192) f69_189 rfl rfl rfl (Or.inl h13) hd (Nat.le_of_ble_eq_true rfl) rfl rfl rfl (fun _ => rfl) (fun m7 c7 => ?_)
              have hz7 := z_k c7 hz2
              exact r_ret f69_192
            · refine le2_ite (fun h10 => ?_) (fun h10 => ?_)
              · refine r_lsw (off := 118) (t := 214) f69_96 rfl (by rw [h10]; rfl) (by decide) rfl ?_
                refine r_aln0 (p := 215) f69_214 rfl ?_
                refine r_aln1 (p := 216) f69_215 rfl ?_
                refine r_iln3 (p := 217) f69_216 rfl ?_
                refine r_invV (p := 220) f69_217 rfl rfl rfl h3 hd (Nat.le_of_ble_eq_true rfl) rfl rfl rfl (fun _ => rfl) (fun m6 c6 => ?_)
                have hz6 := z_k c6 hz2
                exact r_ret f69_220
              · refine r_lsw (off := 125) (t := 221) f69_96 rfl (by show Op.lookupswitch.offset [(47, 76), (92, 76), (98, 83), (102, 104), (110, 97), (114, 111), (116, 90), (117, 118)] 125 _ = 125; rw [Op.lookupswitch.offset_cons, if_neg (by omega), Op.lookupswitch.offset_cons, if_neg (by omega), Op.lookupswitch.offset_cons, if_neg (by omega), Op.lookupswitch.offset_cons, if_neg (by omega), Op.lookupswitch.offset_cons, if_neg (by omega), Op.lookupswitch.offset_cons, if_neg (by omega), Op.lookupswitch.offset_cons, if_neg (by omega), Op.lookupswitch.offset_cons, if_neg (by omega), Op.lookupswitch.offset_nil]) (by decide) rfl ?_
                refine r_ilw5 (p := 223) f69_221 rfl ?_
                refine r_iln2 (p := 224) f69_223 rfl ?_
                refine r_iceq (t := 232) (p := 227) f69_224 (by decide) rfl rfl ?_ ?_
                · refine r_aln1 (p := 233) f69_232 rfl ?_
                  refine r_ilw5 (p := 235) f69_233 rfl ?_
                  refine le2_gd (fun h11 => ?_)
                  refine r_invV (p := 238) f69_235 rfl rfl rfl (Or.inl h11) hd (Nat.le_of_ble_eq_true rfl) rfl rfl rfl (fun _ => rfl) (fun m3 c3 => ?_)
                  have hz3 := z_k c3 hz2
                  exact r_ret f69_238
                · refine r_aln0 (p := 228) f69_227 rfl ?_
                  refine r_iln3 (p := 229) f69_228 rfl ?_
                  refine r_invV (p := 232) f69_229 rfl rfl rfl h3 hd (Nat.le_of_ble_eq_true rfl) rfl rfl rfl (fun _ => rfl) (fun m4 c4 => ?_)
                  have hz4 := z_k c4 hz2
                  refine r_aln1 (p := 233) f69_232 rfl ?_
                  refine r_ilw5 (p := 235) f69_233 rfl ?_
                  refine le2_gd (fun h12 => ?_)
                  refine r_invV (p := 238) f69_235 rfl rfl rfl (Or.inl h12) hd (Nat.le_of_ble_eq_true rfl) rfl rfl rfl (fun _ => rfl) (fun m5 c5 => ?_)
                  have hz5 := z_k c5 hz4
                  exact r_ret f69_238
/-! 70 PathStore$Text.units (LPathStore$Row;I)V -/
def w70_6 : List UInt8 := [161, 0, 10, 21, 4, 18, 74, 164, 0, 8, 42, 28, 182, 0, 26, 43, 21, 4, 182, 0, 58, 177]
abbrev u70_6 : List UInt8 := w70_6 ++ []
def w70_5 : List UInt8 := [182, 0, 26, 42, 89, 180, 0, 17, 4, 96, 181, 0, 17, 42, 28, 182, 0, 67, 54, 4, 21, 4, 18, 70]
abbrev u70_5 : List UInt8 := w70_5 ++ u70_6
def w70_4 : List UInt8 := [162, 0, 7, 4, 167, 0, 4, 3, 182, 0, 34, 42, 182, 0, 30, 16, 117, 159, 0, 8, 42, 28]
abbrev u70_4 : List UInt8 := w70_4 ++ u70_5
def w70_3 : List UInt8 := [28, 182, 0, 26, 42, 89, 180, 0, 17, 4, 96, 181, 0, 17, 42, 42, 180, 0, 17, 42, 180, 0, 13]
abbrev u70_3 : List UInt8 := w70_3 ++ u70_4
def w70_2 : List UInt8 := [180, 0, 13, 162, 0, 7, 4, 167, 0, 4, 3, 182, 0, 34, 42, 182, 0, 30, 16, 92, 159, 0, 8, 42]
abbrev u70_2 : List UInt8 := w70_2 ++ u70_3
def w70_1 : List UInt8 := [29, 182, 0, 58, 29, 18, 72, 161, 0, 9, 29, 18, 73, 164, 0, 4, 177, 42, 42, 180, 0, 17, 42]
abbrev u70_1 : List UInt8 := w70_1 ++ u70_2
def w70_0 : List UInt8 := [42, 28, 182, 0, 67, 62, 29, 18, 70, 161, 0, 14, 29, 18, 71, 162, 0, 8, 42, 28, 182, 0, 26, 43]
abbrev u70_0 : List UInt8 := w70_0 ++ u70_1
theorem s70_0 : (prog_29_method_13_code).data.toList.drop 0 = u70_0 := by decide +kernel
theorem s70_1 : (prog_29_method_13_code).data.toList.drop 24 = u70_1 := dk_seg s70_0 24 rfl rfl
theorem s70_2 : (prog_29_method_13_code).data.toList.drop 47 = u70_2 := dk_seg s70_1 23 rfl rfl
theorem s70_3 : (prog_29_method_13_code).data.toList.drop 71 = u70_3 := dk_seg s70_2 24 rfl rfl
theorem s70_4 : (prog_29_method_13_code).data.toList.drop 94 = u70_4 := dk_seg s70_3 23 rfl rfl
theorem s70_5 : (prog_29_method_13_code).data.toList.drop 116 = u70_5 := dk_seg s70_4 22 rfl rfl
theorem s70_6 : (prog_29_method_13_code).data.toList.drop 140 = u70_6 := dk_seg s70_5 24 rfl rfl
theorem Fm70 {pc len : Nat} {i : Instr} (h : decode (prog_29_method_13_code) pc = .ok (i, len)) (hl : len = ilen i len) : ft 70 pc = some (3, 0, 0, i, len) := ft_mk rfl h hl
theorem f70_0 : ft 70 0 = some (3, 0, 0, .aload_n 0, 1) := Fm70 (dk_42 (dk_at s70_0 0 rfl rfl)) rfl
theorem f70_1 : ft 70 1 = some (3, 0, 0, .iload_n 2, 1) := Fm70 (dk_28 (dk_at s70_0 1 rfl rfl)) rfl
theorem f70_2 : ft 70 2 = some (3, 0, 0, .invokevirtual 67, 3) := Fm70 (dk_182 0 67 (dk_at s70_0 2 rfl rfl)) rfl
theorem f70_5 : ft 70 5 = some (3, 0, 0, .istore_n 3, 1) := Fm70 (dk_62 (dk_at s70_0 5 rfl rfl)) rfl
theorem f70_6 : ft 70 6 = some (3, 0, 0, .iload_n 3, 1) := Fm70 (dk_29 (dk_at s70_0 6 rfl rfl)) rfl
theorem f70_7 : ft 70 7 = some (3, 0, 0, .ldc 70, 2) := Fm70 (dk_18 70 (dk_at s70_0 7 rfl rfl)) rfl
theorem f70_9 : ft 70 9 = some (3, 0, 0, .if_icmp .lt 14, 3) := Fm70 (dk_161 0 14 (dk_at s70_0 9 rfl rfl)) rfl
theorem f70_12 : ft 70 12 = some (3, 0, 0, .iload_n 3, 1) := Fm70 (dk_29 (dk_at s70_0 12 rfl rfl)) rfl
theorem f70_13 : ft 70 13 = some (3, 0, 0, .ldc 71, 2) := Fm70 (dk_18 71 (dk_at s70_0 13 rfl rfl)) rfl
theorem f70_15 : ft 70 15 = some (3, 0, 0, .if_icmp .ge 8, 3) := Fm70 (dk_162 0 8 (dk_at s70_0 15 rfl rfl)) rfl
theorem f70_18 : ft 70 18 = some (3, 0, 0, .aload_n 0, 1) := Fm70 (dk_42 (dk_at s70_0 18 rfl rfl)) rfl
theorem f70_19 : ft 70 19 = some (3, 0, 0, .iload_n 2, 1) := Fm70 (dk_28 (dk_at s70_0 19 rfl rfl)) rfl
theorem f70_20 : ft 70 20 = some (3, 0, 0, .invokevirtual 26, 3) := Fm70 (dk_182 0 26 (dk_at s70_0 20 rfl rfl)) rfl
theorem f70_23 : ft 70 23 = some (3, 0, 0, .aload_n 1, 1) := Fm70 (dk_43 (dk_at s70_0 23 rfl rfl)) rfl
theorem f70_24 : ft 70 24 = some (3, 0, 0, .iload_n 3, 1) := Fm70 (dk_29 (dk_at s70_1 0 rfl rfl)) rfl
theorem f70_25 : ft 70 25 = some (3, 0, 0, .invokevirtual 58, 3) := Fm70 (dk_182 0 58 (dk_at s70_1 1 rfl rfl)) rfl
theorem f70_28 : ft 70 28 = some (3, 0, 0, .iload_n 3, 1) := Fm70 (dk_29 (dk_at s70_1 4 rfl rfl)) rfl
theorem f70_29 : ft 70 29 = some (3, 0, 0, .ldc 72, 2) := Fm70 (dk_18 72 (dk_at s70_1 5 rfl rfl)) rfl
theorem f70_31 : ft 70 31 = some (3, 0, 0, .if_icmp .lt 9, 3) := Fm70 (dk_161 0 9 (dk_at s70_1 7 rfl rfl)) rfl
theorem f70_34 : ft 70 34 = some (3, 0, 0, .iload_n 3, 1) := Fm70 (dk_29 (dk_at s70_1 10 rfl rfl)) rfl
theorem f70_35 : ft 70 35 = some (3, 0, 0, .ldc 73, 2) := Fm70 (dk_18 73 (dk_at s70_1 11 rfl rfl)) rfl
theorem f70_37 : ft 70 37 = some (3, 0, 0, .if_icmp .le 4, 3) := Fm70 (dk_164 0 4 (dk_at s70_1 13 rfl rfl)) rfl
theorem f70_40 : ft 70 40 = some (3, 0, 0, .return_, 1) := Fm70 (dk_177 (dk_at s70_1 16 rfl rfl)) rfl
theorem f70_41 : ft 70 41 = some (3, 0, 0, .aload_n 0, 1) := Fm70 (dk_42 (dk_at s70_1 17 rfl rfl)) rfl
theorem f70_42 : ft 70 42 = some (3, 0, 0, .aload_n 0, 1) := Fm70 (dk_42 (dk_at s70_1 18 rfl rfl)) rfl
theorem f70_43 : ft 70 43 = some (3, 0, 0, .getfield 17, 3) := Fm70 (dk_180 0 17 (dk_at s70_1 19 rfl rfl)) rfl
theorem f70_46 : ft 70 46 = some (3, 0, 0, .aload_n 0, 1) := Fm70 (dk_42 (dk_at s70_1 22 rfl rfl)) rfl
theorem f70_47 : ft 70 47 = some (3, 0, 0, .getfield 13, 3) := Fm70 (dk_180 0 13 (dk_at s70_2 0 rfl rfl)) rfl
theorem f70_50 : ft 70 50 = some (3, 0, 0, .if_icmp .ge 7, 3) := Fm70 (dk_162 0 7 (dk_at s70_2 3 rfl rfl)) rfl
theorem f70_53 : ft 70 53 = some (3, 0, 0, .iconst 1, 1) := Fm70 (dk_4 (dk_at s70_2 6 rfl rfl)) rfl
theorem f70_54 : ft 70 54 = some (3, 0, 0, .goto 4, 3) := Fm70 (dk_167 0 4 (dk_at s70_2 7 rfl rfl)) rfl
theorem f70_57 : ft 70 57 = some (3, 0, 0, .iconst 0, 1) := Fm70 (dk_3 (dk_at s70_2 10 rfl rfl)) rfl
theorem f70_58 : ft 70 58 = some (3, 0, 0, .invokevirtual 34, 3) := Fm70 (dk_182 0 34 (dk_at s70_2 11 rfl rfl)) rfl
theorem f70_61 : ft 70 61 = some (3, 0, 0, .aload_n 0, 1) := Fm70 (dk_42 (dk_at s70_2 14 rfl rfl)) rfl
theorem f70_62 : ft 70 62 = some (3, 0, 0, .invokevirtual 30, 3) := Fm70 (dk_182 0 30 (dk_at s70_2 15 rfl rfl)) rfl
theorem f70_65 : ft 70 65 = some (3, 0, 0, .bipush 92, 2) := Fm70 (dk_16 92 (dk_at s70_2 18 rfl rfl)) rfl
theorem f70_67 : ft 70 67 = some (3, 0, 0, .if_icmp .eq 8, 3) := Fm70 (dk_159 0 8 (dk_at s70_2 20 rfl rfl)) rfl
theorem f70_70 : ft 70 70 = some (3, 0, 0, .aload_n 0, 1) := Fm70 (dk_42 (dk_at s70_2 23 rfl rfl)) rfl
theorem f70_71 : ft 70 71 = some (3, 0, 0, .iload_n 2, 1) := Fm70 (dk_28 (dk_at s70_3 0 rfl rfl)) rfl
theorem f70_72 : ft 70 72 = some (3, 0, 0, .invokevirtual 26, 3) := Fm70 (dk_182 0 26 (dk_at s70_3 1 rfl rfl)) rfl
theorem f70_75 : ft 70 75 = some (3, 0, 0, .aload_n 0, 1) := Fm70 (dk_42 (dk_at s70_3 4 rfl rfl)) rfl
theorem f70_76 : ft 70 76 = some (3, 0, 0, .dup, 1) := Fm70 (dk_89 (dk_at s70_3 5 rfl rfl)) rfl
theorem f70_77 : ft 70 77 = some (3, 0, 0, .getfield 17, 3) := Fm70 (dk_180 0 17 (dk_at s70_3 6 rfl rfl)) rfl
theorem f70_80 : ft 70 80 = some (3, 0, 0, .iconst 1, 1) := Fm70 (dk_4 (dk_at s70_3 9 rfl rfl)) rfl
theorem f70_81 : ft 70 81 = some (3, 0, 0, .iadd, 1) := Fm70 (dk_96 (dk_at s70_3 10 rfl rfl)) rfl
theorem f70_82 : ft 70 82 = some (3, 0, 0, .putfield 17, 3) := Fm70 (dk_181 0 17 (dk_at s70_3 11 rfl rfl)) rfl
theorem f70_85 : ft 70 85 = some (3, 0, 0, .aload_n 0, 1) := Fm70 (dk_42 (dk_at s70_3 14 rfl rfl)) rfl
theorem f70_86 : ft 70 86 = some (3, 0, 0, .aload_n 0, 1) := Fm70 (dk_42 (dk_at s70_3 15 rfl rfl)) rfl
theorem f70_87 : ft 70 87 = some (3, 0, 0, .getfield 17, 3) := Fm70 (dk_180 0 17 (dk_at s70_3 16 rfl rfl)) rfl
theorem f70_90 : ft 70 90 = some (3, 0, 0, .aload_n 0, 1) := Fm70 (dk_42 (dk_at s70_3 19 rfl rfl)) rfl
theorem f70_91 : ft 70 91 = some (3, 0, 0, .getfield 13, 3) := Fm70 (dk_180 0 13 (dk_at s70_3 20 rfl rfl)) rfl
theorem f70_94 : ft 70 94 = some (3, 0, 0, .if_icmp .ge 7, 3) := Fm70 (dk_162 0 7 (dk_at s70_4 0 rfl rfl)) rfl
theorem f70_97 : ft 70 97 = some (3, 0, 0, .iconst 1, 1) := Fm70 (dk_4 (dk_at s70_4 3 rfl rfl)) rfl
theorem f70_98 : ft 70 98 = some (3, 0, 0, .goto 4, 3) := Fm70 (dk_167 0 4 (dk_at s70_4 4 rfl rfl)) rfl
theorem f70_101 : ft 70 101 = some (3, 0, 0, .iconst 0, 1) := Fm70 (dk_3 (dk_at s70_4 7 rfl rfl)) rfl
theorem f70_102 : ft 70 102 = some (3, 0, 0, .invokevirtual 34, 3) := Fm70 (dk_182 0 34 (dk_at s70_4 8 rfl rfl)) rfl
theorem f70_105 : ft 70 105 = some (3, 0, 0, .aload_n 0, 1) := Fm70 (dk_42 (dk_at s70_4 11 rfl rfl)) rfl
theorem f70_106 : ft 70 106 = some (3, 0, 0, .invokevirtual 30, 3) := Fm70 (dk_182 0 30 (dk_at s70_4 12 rfl rfl)) rfl
theorem f70_109 : ft 70 109 = some (3, 0, 0, .bipush 117, 2) := Fm70 (dk_16 117 (dk_at s70_4 15 rfl rfl)) rfl
theorem f70_111 : ft 70 111 = some (3, 0, 0, .if_icmp .eq 8, 3) := Fm70 (dk_159 0 8 (dk_at s70_4 17 rfl rfl)) rfl
theorem f70_114 : ft 70 114 = some (3, 0, 0, .aload_n 0, 1) := Fm70 (dk_42 (dk_at s70_4 20 rfl rfl)) rfl
theorem f70_115 : ft 70 115 = some (3, 0, 0, .iload_n 2, 1) := Fm70 (dk_28 (dk_at s70_4 21 rfl rfl)) rfl
theorem f70_116 : ft 70 116 = some (3, 0, 0, .invokevirtual 26, 3) := Fm70 (dk_182 0 26 (dk_at s70_5 0 rfl rfl)) rfl
theorem f70_119 : ft 70 119 = some (3, 0, 0, .aload_n 0, 1) := Fm70 (dk_42 (dk_at s70_5 3 rfl rfl)) rfl
theorem f70_120 : ft 70 120 = some (3, 0, 0, .dup, 1) := Fm70 (dk_89 (dk_at s70_5 4 rfl rfl)) rfl
theorem f70_121 : ft 70 121 = some (3, 0, 0, .getfield 17, 3) := Fm70 (dk_180 0 17 (dk_at s70_5 5 rfl rfl)) rfl
theorem f70_124 : ft 70 124 = some (3, 0, 0, .iconst 1, 1) := Fm70 (dk_4 (dk_at s70_5 8 rfl rfl)) rfl
theorem f70_125 : ft 70 125 = some (3, 0, 0, .iadd, 1) := Fm70 (dk_96 (dk_at s70_5 9 rfl rfl)) rfl
theorem f70_126 : ft 70 126 = some (3, 0, 0, .putfield 17, 3) := Fm70 (dk_181 0 17 (dk_at s70_5 10 rfl rfl)) rfl
theorem f70_129 : ft 70 129 = some (3, 0, 0, .aload_n 0, 1) := Fm70 (dk_42 (dk_at s70_5 13 rfl rfl)) rfl
theorem f70_130 : ft 70 130 = some (3, 0, 0, .iload_n 2, 1) := Fm70 (dk_28 (dk_at s70_5 14 rfl rfl)) rfl
theorem f70_131 : ft 70 131 = some (3, 0, 0, .invokevirtual 67, 3) := Fm70 (dk_182 0 67 (dk_at s70_5 15 rfl rfl)) rfl
theorem f70_134 : ft 70 134 = some (3, 0, 0, .istore 4, 2) := Fm70 (dk_54 4 (dk_at s70_5 18 rfl rfl)) rfl
theorem f70_136 : ft 70 136 = some (3, 0, 0, .iload 4, 2) := Fm70 (dk_21 4 (dk_at s70_5 20 rfl rfl)) rfl
theorem f70_138 : ft 70 138 = some (3, 0, 0, .ldc 70, 2) := Fm70 (dk_18 70 (dk_at s70_5 22 rfl rfl)) rfl
theorem f70_140 : ft 70 140 = some (3, 0, 0, .if_icmp .lt 10, 3) := Fm70 (dk_161 0 10 (dk_at s70_6 0 rfl rfl)) rfl
theorem f70_143 : ft 70 143 = some (3, 0, 0, .iload 4, 2) := Fm70 (dk_21 4 (dk_at s70_6 3 rfl rfl)) rfl
theorem f70_145 : ft 70 145 = some (3, 0, 0, .ldc 74, 2) := Fm70 (dk_18 74 (dk_at s70_6 5 rfl rfl)) rfl
theorem f70_147 : ft 70 147 = some (3, 0, 0, .if_icmp .le 8, 3) := Fm70 (dk_164 0 8 (dk_at s70_6 7 rfl rfl)) rfl
theorem f70_150 : ft 70 150 = some (3, 0, 0, .aload_n 0, 1) := Fm70 (dk_42 (dk_at s70_6 10 rfl rfl)) rfl
theorem f70_151 : ft 70 151 = some (3, 0, 0, .iload_n 2, 1) := Fm70 (dk_28 (dk_at s70_6 11 rfl rfl)) rfl
theorem f70_152 : ft 70 152 = some (3, 0, 0, .invokevirtual 26, 3) := Fm70 (dk_182 0 26 (dk_at s70_6 12 rfl rfl)) rfl
theorem f70_155 : ft 70 155 = some (3, 0, 0, .aload_n 1, 1) := Fm70 (dk_43 (dk_at s70_6 15 rfl rfl)) rfl
theorem f70_156 : ft 70 156 = some (3, 0, 0, .iload 4, 2) := Fm70 (dk_21 4 (dk_at s70_6 16 rfl rfl)) rfl
theorem f70_158 : ft 70 158 = some (3, 0, 0, .invokevirtual 58, 3) := Fm70 (dk_182 0 58 (dk_at s70_6 18 rfl rfl)) rfl
theorem f70_161 : ft 70 161 = some (3, 0, 0, .return_, 1) := Fm70 (dk_177 (dk_at s70_6 21 rfl rfl)) rfl
theorem q70 {d : Nat} {m : Mem} {a0 a1 a2 : Int} (hd : 0 < d) (hz : TZ m) : le2 (gd (tg m a0 = 4 ∨ tg m a0 = 5) <| bI (cl (d - 1) 71 [pR a0, pI a2] m) fun v1 m1 => if v1 < 56320 then (rn d 70 23 [pR a0, pR a1, pI a2, pI v1, pU] [] m1) else if v1 < 57344 then (bV (cl (d - 1) 67 [pR a0, pI a2] m1) fun m2 => rn d 70 23 [pR a0, pR a1, pI a2, pI v1, pU] [] m2) else rn d 70 23 [pR a0, pR a1, pI a2, pI v1, pU] [] m1) (cl d 70 [pR a0, pR a1, pI a2] m) := by
  refine q_in (n := 5) (L := [pR a0, pR a1, pI a2, pU, pU]) rfl rfl rfl ?_
  refine r_aln0 (p := 1) f70_0 rfl ?_
  refine r_iln2 (p := 2) f70_1 rfl ?_
  refine le2_gd (fun h1 => ?_)
  refine r_invI (p := 5) f70_2 rfl rfl rfl h1 hd (Nat.le_of_ble_eq_true rfl) rfl rfl rfl (fun _ => rfl) (fun v1 m1 c1 => ?_)
  have hz1 := z_k c1 hz
  refine r_isn3 (p := 6) f70_5 rfl rfl ?_
  refine r_iln3 (p := 7) f70_6 rfl ?_
  refine r_ldcI (p := 9) f70_7 rfl rfl (pinD rfl rfl) ?_
  refine r_iclt (t := 23) (p := 12) f70_9 (by decide) rfl rfl ?_ ?_
  · exact le2_refl _
  · refine r_iln3 (p := 13) f70_12 rfl ?_
    refine r_ldcI (p := 15) f70_13 rfl rfl (pinD rfl rfl) ?_
    refine r_icge (t := 23) (p := 18) f70_15 (by decide) rfl rfl ?_ ?_
    · refine r_aln0 (p := 19) f70_18 rfl ?_
      refine r_iln2 (p := 20) f70_19 rfl ?_
      have h2 := k_t2 c1 hz h1 (by decide) (by decide)
      refine r_invV (p := 23) f70_20 rfl rfl rfl h2 hd (Nat.le_of_ble_eq_true rfl) rfl rfl rfl (fun _ => rfl) (fun m2 c2 => ?_)
      have hz2 := z_k c2 hz1
      exact le2_refl _
    · exact le2_refl _
theorem q70_23 {d : Nat} {m : Mem} {a0 a1 a2 a3 : Int} (hd : 0 < d) (hz : TZ m) : le2 (gd (tg m a1 = 8) <| bV (cl (d - 1) 132 [pR a1, pI a3] m) fun m1 => if a3 < 55296 then (some (.inl none, m1)) else if 56319 < a3 then (some (.inl none, m1)) else gd (tg m1 a0 = 4 ∨ tg m1 a0 = 5) <| if (vl m1 a0 2) < (vl m1 a0 1) then (rn d 70 58 [pR a0, pR a1, pI a2, pI a3, pU] [pI 1, pR a0] m1) else rn d 70 58 [pR a0, pR a1, pI a2, pI a3, pU] [pI 0, pR a0] m1) (rn d 70 23 [pR a0, pR a1, pI a2, pI a3, pU] [] m) := by
  refine r_aln1 (p := 24) f70_23 rfl ?_
  refine r_iln3 (p := 25) f70_24 rfl ?_
  refine le2_gd (fun h1 => ?_)
  refine r_invV (p := 28) f70_25 rfl rfl rfl (Or.inl h1) hd (Nat.le_of_ble_eq_true rfl) rfl rfl rfl (fun _ => rfl) (fun m1 c1 => ?_)
  have hz1 := z_k c1 hz
  refine r_iln3 (p := 29) f70_28 rfl ?_
  refine r_ldcI (p := 31) f70_29 rfl rfl (pinD rfl rfl) ?_
  refine r_iclt (t := 40) (p := 34) f70_31 (by decide) rfl rfl ?_ ?_
  · exact r_ret f70_40
  · refine r_iln3 (p := 35) f70_34 rfl ?_
    refine r_ldcI (p := 37) f70_35 rfl rfl (pinD rfl rfl) ?_
    refine r_icle (t := 41) (p := 40) f70_37 (by decide) rfl rfl ?_ ?_
    · exact r_ret f70_40
    · refine r_aln0 (p := 42) f70_41 rfl ?_
      refine r_aln0 (p := 43) f70_42 rfl ?_
      refine le2_gd (fun h2 => ?_)
      refine r_gfI (f := 2) (p := 46) f70_43 rfl rfl rfl h2 rfl ?_
      refine r_aln0 (p := 47) f70_46 rfl ?_
      refine r_gfI (f := 1) (p := 50) f70_47 rfl rfl rfl h2 rfl ?_
      refine r_icge (t := 57) (p := 53) f70_50 (by decide) rfl rfl ?_ ?_
      · refine r_iconst (p := 54) f70_53 rfl (pinD rfl rfl) ?_
        refine r_goto (p := 58) f70_54 (by decide) rfl ?_
        exact le2_refl _
      · refine r_iconst (p := 58) f70_57 rfl (pinD rfl rfl) ?_
        exact le2_refl _
theorem q70_58 {d : Nat} {m : Mem} {a0 a1 a2 a3 s1 s0 : Int} (hd : 0 < d) (hz : TZ m) : le2 (gd (tg m s0 = 4 ∨ tg m s0 = 5) <| bV (cl (d - 1) 66 [pR s0, pI s1] m) fun m1 => gd (tg m1 a0 = 4 ∨ tg m1 a0 = 5) <| bI (cl (d - 1) 63 [pR a0] m1) fun v2 m2 => if v2 = 92 then (rn d 70 75 [pR a0, pR a1, pI a2, pI a3, pU] [] m2) else bV (cl (d - 1) 67 [pR a0, pI a2] m2) fun m3 => rn d 70 75 [pR a0, pR a1, pI a2, pI a3, pU] [] m3) (rn d 70 58 [pR a0, pR a1, pI a2, pI a3, pU] [pI s1, pR s0] m) := by
  refine le2_gd (fun h1 => ?_)
  refine r_invV (p := 61) f70_58 rfl rfl rfl h1 hd (Nat.le_of_ble_eq_true rfl) rfl rfl rfl (fun _ => rfl) (fun m1 c1 => ?_)
  have hz1 := z_k c1 hz
  refine r_aln0 (p := 62) f70_61 rfl ?_
  refine le2_gd (fun h2 => ?_)
  refine r_invI (p := 65) f70_62 rfl rfl rfl h2 hd (Nat.le_of_ble_eq_true rfl) rfl rfl rfl (fun _ => rfl) (fun v2 m2 c2 => ?_)
  have hz2 := z_k c2 hz1
  refine r_bipush (p := 67) f70_65 rfl (pinD rfl rfl) ?_
  refine r_iceq (t := 75) (p := 70) f70_67 (by decide) rfl rfl ?_ ?_
  · exact le2_refl _
  · refine r_aln0 (p := 71) f70_70 rfl ?_
    refine r_iln2 (p := 72) f70_71 rfl ?_
    have h3 := k_t2 c2 hz1 h2 (by decide) (by decide)
    refine r_invV (p := 75) f70_72 rfl rfl rfl h3 hd (Nat.le_of_ble_eq_true rfl) rfl rfl rfl (fun _ => rfl) (fun m3 c3 => ?_)
    have hz3 := z_k c3 hz2
    exact le2_refl _
theorem q70_75 {d : Nat} {m : Mem} {a0 a1 a2 a3 : Int} (hz : TZ m) : le2 (gd (tg m a0 = 4 ∨ tg m a0 = 5) <| nm (w32 ((vl m a0 2) + 1)) fun v1 => if v1 < (vl m a0 1) then (rn d 70 102 [pR a0, pR a1, pI a2, pI a3, pU] [pI 1, pR a0] (mst m a0 2 v1)) else rn d 70 102 [pR a0, pR a1, pI a2, pI a3, pU] [pI 0, pR a0] (mst m a0 2 v1)) (rn d 70 75 [pR a0, pR a1, pI a2, pI a3, pU] [] m) := by
  refine r_aln0 (p := 76) f70_75 rfl ?_
  refine r_dup (p := 77) f70_76 rfl rfl ?_
  refine le2_gd (fun h1 => ?_)
  refine r_gfI (f := 2) (p := 80) f70_77 rfl rfl rfl h1 rfl ?_
  refine r_iconst (p := 81) f70_80 rfl (pinD rfl rfl) ?_
  refine r_iadd (p := 82) f70_81 rfl ?_
  refine r_nmI (fun v1 ev1 => ?_)
  refine r_pfI2 (f := 2) (p := 85) f70_82 rfl rfl rfl (by decide) (by decide) h1 rfl rfl ?_
  refine r_aln0 (p := 86) f70_85 rfl ?_
  refine r_aln0 (p := 87) f70_86 rfl ?_
  refine r_gfI (f := 2) (p := 90) f70_87 rfl rfl rfl h1 sk_s ?_
  refine r_aln0 (p := 91) f70_90 rfl ?_
  refine r_gfI (f := 1) (p := 94) f70_91 rfl rfl rfl h1 (sk_f (by decide)) ?_
  refine r_icge (t := 101) (p := 97) f70_94 (by decide) rfl rfl ?_ ?_
  · refine r_iconst (p := 98) f70_97 rfl (pinD rfl rfl) ?_
    refine r_goto (p := 102) f70_98 (by decide) rfl ?_
    exact le2_refl _
  · refine r_iconst (p := 102) f70_101 rfl (pinD rfl rfl) ?_
    exact le2_refl _
theorem q70_102 {d : Nat} {m : Mem} {a0 a1 a2 a3 s1 s0 : Int} (hd : 0 < d) (hz : TZ m) : le2 (gd (tg m s0 = 4 ∨ tg m s0 = 5) <| bV (cl (d - 1) 66 [pR s0, pI s1] m) fun m1 => gd (tg m1 a0 = 4 ∨ tg m1 a0 = 5) <| bI (cl (d - 1) 63 [pR a0] m1) fun v2 m2 => if v2 = 117 then (rn d 70 119 [pR a0, pR a1, pI a2, pI a3, pU] [] m2) else bV (cl (d - 1) 67 [pR a0, pI a2] m2) fun m3 => rn d 70 119 [pR a0, pR a1, pI a2, pI a3, pU] [] m3) (rn d 70 102 [pR a0, pR a1, pI a2, pI a3, pU] [pI s1, pR s0] m) := by
  refine le2_gd (fun h1 => ?_)
  refine r_invV (p := 105) f70_102 rfl rfl rfl h1 hd (Nat.le_of_ble_eq_true rfl) rfl rfl rfl (fun _ => rfl) (fun m1 c1 => ?_)
  have hz1 := z_k c1 hz
  refine r_aln0 (p := 106) f70_105 rfl ?_
  refine le2_gd (fun h2 => ?_)
  refine r_invI (p := 109) f70_106 rfl rfl rfl h2 hd (Nat.le_of_ble_eq_true rfl) rfl rfl rfl (fun _ => rfl) (fun v2 m2 c2 => ?_)
  have hz2 := z_k c2 hz1
  refine r_bipush (p := 111) f70_109 rfl (pinD rfl rfl) ?_
  refine r_iceq (t := 119) (p := 114) f70_111 (by decide) rfl rfl ?_ ?_
  · exact le2_refl _
  · refine r_aln0 (p := 115) f70_114 rfl ?_
    refine r_iln2 (p := 116) f70_115 rfl ?_
    have h3 := k_t2 c2 hz1 h2 (by decide) (by decide)
    refine r_invV (p := 119) f70_116 rfl rfl rfl h3 hd (Nat.le_of_ble_eq_true rfl) rfl rfl rfl (fun _ => rfl) (fun m3 c3 => ?_)
    have hz3 := z_k c3 hz2
    exact le2_refl _
theorem q70_119 {d : Nat} {m : Mem} {a0 a1 a2 a3 : Int} (hd : 0 < d) (hz : TZ m) : le2 (gd (tg m a0 = 4 ∨ tg m a0 = 5) <| bI (cl (d - 1) 71 [pR a0, pI a2] (mst m a0 2 (w32 ((vl m a0 2) + 1)))) fun v1 m1 => if v1 < 56320 then (rn d 70 150 [pR a0, pR a1, pI a2, pI a3, pI v1] [] m1) else if 57343 < v1 then (rn d 70 150 [pR a0, pR a1, pI a2, pI a3, pI v1] [] m1) else gd (tg m1 a1 = 8) <| bV (cl (d - 1) 132 [pR a1, pI v1] m1) fun m2 => some (.inl none, m2)) (rn d 70 119 [pR a0, pR a1, pI a2, pI a3, pU] [] m) := by
  refine r_aln0 (p := 120) f70_119 rfl ?_
  refine r_dup (p := 121) f70_120 rfl rfl ?_
  refine le2_gd (fun h1 => ?_)
  refine r_gfI (f := 2) (p := 124) f70_121 rfl rfl rfl h1 rfl ?_
  refine r_iconst (p := 125) f70_124 rfl (pinD rfl rfl) ?_
  refine r_iadd (p := 126) f70_125 rfl ?_
  refine r_pfI2 (f := 2) (p := 129) f70_126 rfl rfl rfl (by decide) (by decide) h1 rfl rfl ?_
  refine r_aln0 (p := 130) f70_129 rfl ?_
  refine r_iln2 (p := 131) f70_130 rfl ?_
  refine r_invI (p := 134) f70_131 rfl rfl rfl h1 hd (Nat.le_of_ble_eq_true rfl) rfl rfl rfl (fun _ => rfl) (fun v1 m1 c1 => ?_)
  have hz1 := z_k c1 hz
  refine r_isw4 (p := 136) f70_134 rfl rfl ?_
  refine r_ilw4 (p := 138) f70_136 rfl ?_
  refine r_ldcI (p := 140) f70_138 rfl rfl (pinD rfl rfl) ?_
  refine r_iclt (t := 150) (p := 143) f70_140 (by decide) rfl rfl ?_ ?_
  · exact le2_refl _
  · refine r_ilw4 (p := 145) f70_143 rfl ?_
    refine r_ldcI (p := 147) f70_145 rfl rfl (pinD rfl rfl) ?_
    refine r_icle (t := 155) (p := 150) f70_147 (by decide) rfl rfl ?_ ?_
    · exact le2_refl _
    · refine r_aln1 (p := 156) f70_155 rfl ?_
      refine r_ilw4 (p := 158) f70_156 rfl ?_
      refine le2_gd (fun h2 => ?_)
      refine r_invV (p := 161) f70_158 rfl rfl rfl (Or.inl h2) hd (Nat.le_of_ble_eq_true rfl) rfl rfl rfl (fun _ => rfl) (fun m2 c2 => ?_)
      have hz2 := z_k c2 hz1
      exact r_ret f70_161
theorem q70_150 {d : Nat} {m : Mem} {a0 a1 a2 a3 a4 : Int} (hd : 0 < d) (hz : TZ m) : le2 (gd (tg m a0 = 4 ∨ tg m a0 = 5) <| bV (cl (d - 1) 67 [pR a0, pI a2] m) fun m1 => gd (tg m1 a1 = 8) <| bV (cl (d - 1) 132 [pR a1, pI a4] m1) fun m2 => some (.inl none, m2)) (rn d 70 150 [pR a0, pR a1, pI a2, pI a3, pI a4] [] m) := by
  refine r_aln0 (p := 151) f70_150 rfl ?_
  refine r_iln2 (p := 152) f70_151 rfl ?_
  refine le2_gd (fun h1 => ?_)
  refine r_invV (p := 155) f70_152 rfl rfl rfl h1 hd (Nat.le_of_ble_eq_true rfl) rfl rfl rfl (fun _ => rfl) (fun m1 c1 => ?_)
  have hz1 := z_k c1 hz
  refine r_aln1 (p := 156) f70_155 rfl ?_
  refine r_ilw4 (p := 158) f70_156 rfl ?_
  refine le2_gd (fun h2 => ?_)
  refine r_invV (p := 161) f70_158 rfl rfl rfl (Or.inl h2) hd (Nat.le_of_ble_eq_true rfl) rfl rfl rfl (fun _ => rfl) (fun m2 c2 => ?_)
  have hz2 := z_k c2 hz1
  exact r_ret f70_161
/-! 71 PathStore$Text.four (I)I -/
def w71_3 : List UInt8 := [167, 255, 191, 28, 172]
abbrev u71_3 : List UInt8 := w71_3 ++ []
def w71_2 : List UInt8 := [182, 0, 26, 16, 16, 28, 104, 21, 4, 96, 61, 42, 89, 180, 0, 17, 4, 96, 181, 0, 17, 132, 3, 1]
abbrev u71_2 : List UInt8 := w71_2 ++ u71_3
def w71_1 : List UInt8 := [167, 0, 4, 3, 182, 0, 34, 42, 182, 0, 30, 184, 0, 54, 54, 4, 21, 4, 156, 0, 8, 42, 27]
abbrev u71_1 : List UInt8 := w71_1 ++ u71_2
def w71_0 : List UInt8 := [3, 61, 3, 62, 29, 7, 162, 0, 66, 42, 42, 180, 0, 17, 42, 180, 0, 13, 162, 0, 7, 4]
abbrev u71_0 : List UInt8 := w71_0 ++ u71_1
theorem s71_0 : (prog_29_method_11_code).data.toList.drop 0 = u71_0 := by decide +kernel
theorem s71_1 : (prog_29_method_11_code).data.toList.drop 22 = u71_1 := dk_seg s71_0 22 rfl rfl
theorem s71_2 : (prog_29_method_11_code).data.toList.drop 45 = u71_2 := dk_seg s71_1 23 rfl rfl
theorem s71_3 : (prog_29_method_11_code).data.toList.drop 69 = u71_3 := dk_seg s71_2 24 rfl rfl
theorem Fm71 {pc len : Nat} {i : Instr} (h : decode (prog_29_method_11_code) pc = .ok (i, len)) (hl : len = ilen i len) : ft 71 pc = some (3, 1, 0, i, len) := ft_mk rfl h hl
theorem f71_0 : ft 71 0 = some (3, 1, 0, .iconst 0, 1) := Fm71 (dk_3 (dk_at s71_0 0 rfl rfl)) rfl
theorem f71_1 : ft 71 1 = some (3, 1, 0, .istore_n 2, 1) := Fm71 (dk_61 (dk_at s71_0 1 rfl rfl)) rfl
theorem f71_2 : ft 71 2 = some (3, 1, 0, .iconst 0, 1) := Fm71 (dk_3 (dk_at s71_0 2 rfl rfl)) rfl
theorem f71_3 : ft 71 3 = some (3, 1, 0, .istore_n 3, 1) := Fm71 (dk_62 (dk_at s71_0 3 rfl rfl)) rfl
theorem f71_4 : ft 71 4 = some (3, 1, 0, .iload_n 3, 1) := Fm71 (dk_29 (dk_at s71_0 4 rfl rfl)) rfl
theorem f71_5 : ft 71 5 = some (3, 1, 0, .iconst 4, 1) := Fm71 (dk_7 (dk_at s71_0 5 rfl rfl)) rfl
theorem f71_6 : ft 71 6 = some (3, 1, 0, .if_icmp .ge 66, 3) := Fm71 (dk_162 0 66 (dk_at s71_0 6 rfl rfl)) rfl
theorem f71_9 : ft 71 9 = some (3, 1, 0, .aload_n 0, 1) := Fm71 (dk_42 (dk_at s71_0 9 rfl rfl)) rfl
theorem f71_10 : ft 71 10 = some (3, 1, 0, .aload_n 0, 1) := Fm71 (dk_42 (dk_at s71_0 10 rfl rfl)) rfl
theorem f71_11 : ft 71 11 = some (3, 1, 0, .getfield 17, 3) := Fm71 (dk_180 0 17 (dk_at s71_0 11 rfl rfl)) rfl
theorem f71_14 : ft 71 14 = some (3, 1, 0, .aload_n 0, 1) := Fm71 (dk_42 (dk_at s71_0 14 rfl rfl)) rfl
theorem f71_15 : ft 71 15 = some (3, 1, 0, .getfield 13, 3) := Fm71 (dk_180 0 13 (dk_at s71_0 15 rfl rfl)) rfl
theorem f71_18 : ft 71 18 = some (3, 1, 0, .if_icmp .ge 7, 3) := Fm71 (dk_162 0 7 (dk_at s71_0 18 rfl rfl)) rfl
theorem f71_21 : ft 71 21 = some (3, 1, 0, .iconst 1, 1) := Fm71 (dk_4 (dk_at s71_0 21 rfl rfl)) rfl
theorem f71_22 : ft 71 22 = some (3, 1, 0, .goto 4, 3) := Fm71 (dk_167 0 4 (dk_at s71_1 0 rfl rfl)) rfl
theorem f71_25 : ft 71 25 = some (3, 1, 0, .iconst 0, 1) := Fm71 (dk_3 (dk_at s71_1 3 rfl rfl)) rfl
theorem f71_26 : ft 71 26 = some (3, 1, 0, .invokevirtual 34, 3) := Fm71 (dk_182 0 34 (dk_at s71_1 4 rfl rfl)) rfl
theorem f71_29 : ft 71 29 = some (3, 1, 0, .aload_n 0, 1) := Fm71 (dk_42 (dk_at s71_1 7 rfl rfl)) rfl
theorem f71_30 : ft 71 30 = some (3, 1, 0, .invokevirtual 30, 3) := Fm71 (dk_182 0 30 (dk_at s71_1 8 rfl rfl)) rfl
theorem f71_33 : ft 71 33 = some (3, 1, 0, .invokestatic 54, 3) := Fm71 (dk_184 0 54 (dk_at s71_1 11 rfl rfl)) rfl
theorem f71_36 : ft 71 36 = some (3, 1, 0, .istore 4, 2) := Fm71 (dk_54 4 (dk_at s71_1 14 rfl rfl)) rfl
theorem f71_38 : ft 71 38 = some (3, 1, 0, .iload 4, 2) := Fm71 (dk_21 4 (dk_at s71_1 16 rfl rfl)) rfl
theorem f71_40 : ft 71 40 = some (3, 1, 0, .ifCond .ge 8, 3) := Fm71 (dk_156 0 8 (dk_at s71_1 18 rfl rfl)) rfl
theorem f71_43 : ft 71 43 = some (3, 1, 0, .aload_n 0, 1) := Fm71 (dk_42 (dk_at s71_1 21 rfl rfl)) rfl
theorem f71_44 : ft 71 44 = some (3, 1, 0, .iload_n 1, 1) := Fm71 (dk_27 (dk_at s71_1 22 rfl rfl)) rfl
theorem f71_45 : ft 71 45 = some (3, 1, 0, .invokevirtual 26, 3) := Fm71 (dk_182 0 26 (dk_at s71_2 0 rfl rfl)) rfl
theorem f71_48 : ft 71 48 = some (3, 1, 0, .bipush 16, 2) := Fm71 (dk_16 16 (dk_at s71_2 3 rfl rfl)) rfl
theorem f71_50 : ft 71 50 = some (3, 1, 0, .iload_n 2, 1) := Fm71 (dk_28 (dk_at s71_2 5 rfl rfl)) rfl
theorem f71_51 : ft 71 51 = some (3, 1, 0, .imul, 1) := Fm71 (dk_104 (dk_at s71_2 6 rfl rfl)) rfl
theorem f71_52 : ft 71 52 = some (3, 1, 0, .iload 4, 2) := Fm71 (dk_21 4 (dk_at s71_2 7 rfl rfl)) rfl
theorem f71_54 : ft 71 54 = some (3, 1, 0, .iadd, 1) := Fm71 (dk_96 (dk_at s71_2 9 rfl rfl)) rfl
theorem f71_55 : ft 71 55 = some (3, 1, 0, .istore_n 2, 1) := Fm71 (dk_61 (dk_at s71_2 10 rfl rfl)) rfl
theorem f71_56 : ft 71 56 = some (3, 1, 0, .aload_n 0, 1) := Fm71 (dk_42 (dk_at s71_2 11 rfl rfl)) rfl
theorem f71_57 : ft 71 57 = some (3, 1, 0, .dup, 1) := Fm71 (dk_89 (dk_at s71_2 12 rfl rfl)) rfl
theorem f71_58 : ft 71 58 = some (3, 1, 0, .getfield 17, 3) := Fm71 (dk_180 0 17 (dk_at s71_2 13 rfl rfl)) rfl
theorem f71_61 : ft 71 61 = some (3, 1, 0, .iconst 1, 1) := Fm71 (dk_4 (dk_at s71_2 16 rfl rfl)) rfl
theorem f71_62 : ft 71 62 = some (3, 1, 0, .iadd, 1) := Fm71 (dk_96 (dk_at s71_2 17 rfl rfl)) rfl
theorem f71_63 : ft 71 63 = some (3, 1, 0, .putfield 17, 3) := Fm71 (dk_181 0 17 (dk_at s71_2 18 rfl rfl)) rfl
theorem f71_66 : ft 71 66 = some (3, 1, 0, .iinc 3 1, 3) := Fm71 (dk_132 3 1 (dk_at s71_2 21 rfl rfl)) rfl
theorem f71_69 : ft 71 69 = some (3, 1, 0, .goto (-65), 3) := Fm71 (dk_167 255 191 (dk_at s71_3 0 rfl rfl)) rfl
theorem f71_72 : ft 71 72 = some (3, 1, 0, .iload_n 2, 1) := Fm71 (dk_28 (dk_at s71_3 3 rfl rfl)) rfl
theorem f71_73 : ft 71 73 = some (3, 1, 0, .ireturn, 1) := Fm71 (dk_172 (dk_at s71_3 4 rfl rfl)) rfl
theorem q71 {d : Nat} {m : Mem} {a0 a1 : Int} (hz : TZ m) : le2 (rn d 71 4 [pR a0, pI a1, pI 0, pI 0, pU] [] m) (cl d 71 [pR a0, pI a1] m) := by
  refine q_in (n := 5) (L := [pR a0, pI a1, pU, pU, pU]) rfl rfl rfl ?_
  refine r_iconst (p := 1) f71_0 rfl (pinD rfl rfl) ?_
  refine r_isn2 (p := 2) f71_1 rfl rfl ?_
  refine r_iconst (p := 3) f71_2 rfl (pinD rfl rfl) ?_
  refine r_isn3 (p := 4) f71_3 rfl rfl ?_
  exact le2_refl _
theorem q71_4 {d : Nat} {m : Mem} {a0 a1 a2 a3 : Int} {z4 : PV} (hz : TZ m) (hcz4 : cat z4 = 1) : le2 (if a3 < 4 then (gd (tg m a0 = 4 ∨ tg m a0 = 5) <| if (vl m a0 2) < (vl m a0 1) then (rn d 71 26 [pR a0, pI a1, pI a2, pI a3, z4] [pI 1, pR a0] m) else rn d 71 26 [pR a0, pI a1, pI a2, pI a3, z4] [pI 0, pR a0] m) else some (.inl (some (pI a2)), m)) (rn d 71 4 [pR a0, pI a1, pI a2, pI a3, z4] [] m) := by
  refine r_iln3 (p := 5) f71_4 rfl ?_
  refine r_iconst (p := 6) f71_5 rfl (pinD rfl rfl) ?_
  refine r_icge (t := 72) (p := 9) f71_6 (by decide) rfl rfl ?_ ?_
  · refine r_aln0 (p := 10) f71_9 rfl ?_
    refine r_aln0 (p := 11) f71_10 rfl ?_
    refine le2_gd (fun h1 => ?_)
    refine r_gfI (f := 2) (p := 14) f71_11 rfl rfl rfl h1 rfl ?_
    refine r_aln0 (p := 15) f71_14 rfl ?_
    refine r_gfI (f := 1) (p := 18) f71_15 rfl rfl rfl h1 rfl ?_
    refine r_icge (t := 25) (p := 21) f71_18 (by decide) rfl rfl ?_ ?_
    · refine r_iconst (p := 22) f71_21 rfl (pinD rfl rfl) ?_
      refine r_goto (p := 26) f71_22 (by decide) rfl ?_
      exact le2_refl _
    · refine r_iconst (p := 26) f71_25 rfl (pinD rfl rfl) ?_
      exact le2_refl _
  · refine r_iln2 (p := 73) f71_72 rfl ?_
    exact r_iret1 f71_73
theorem q71_26 {d : Nat} {m : Mem} {a0 a1 a2 a3 s1 s0 : Int} {z4 : PV} (hd : 0 < d) (hz : TZ m) (hcz4 : cat z4 = 1) : le2 (gd (tg m s0 = 4 ∨ tg m s0 = 5) <| bV (cl (d - 1) 66 [pR s0, pI s1] m) fun m1 => gd (tg m1 a0 = 4 ∨ tg m1 a0 = 5) <| bI (cl (d - 1) 63 [pR a0] m1) fun v2 m2 => bI (cl (d - 1) 72 [pI v2] m2) fun v3 m3 => if v3 < 0 then (bV (cl (d - 1) 67 [pR a0, pI a1] m3) fun m4 => rn d 71 48 [pR a0, pI a1, pI a2, pI a3, pI v3] [] m4) else rn d 71 48 [pR a0, pI a1, pI a2, pI a3, pI v3] [] m3) (rn d 71 26 [pR a0, pI a1, pI a2, pI a3, z4] [pI s1, pR s0] m) := by
  refine le2_gd (fun h1 => ?_)
  refine r_invV (p := 29) f71_26 rfl rfl rfl h1 hd (Nat.le_of_ble_eq_true rfl) rfl rfl rfl (fun _ => rfl) (fun m1 c1 => ?_)
  have hz1 := z_k c1 hz
  refine r_aln0 (p := 30) f71_29 rfl ?_
  refine le2_gd (fun h2 => ?_)
  refine r_invI (p := 33) f71_30 rfl rfl rfl h2 hd (Nat.le_of_ble_eq_true rfl) rfl rfl rfl (fun _ => rfl) (fun v2 m2 c2 => ?_)
  have hz2 := z_k c2 hz1
  refine r_istI (p := 36) f71_33 rfl rfl rfl hd (Nat.le_of_ble_eq_true rfl) rfl rfl rfl (fun _ => rfl) (fun v3 m3 c3 => ?_)
  have hz3 := z_k c3 hz2
  refine r_isw4 (p := 38) f71_36 rfl rfl ?_
  refine r_ilw4 (p := 40) f71_38 rfl ?_
  refine r_ifge (t := 48) (p := 43) f71_40 (by decide) rfl rfl ?_ ?_
  · refine r_aln0 (p := 44) f71_43 rfl ?_
    refine r_iln1 (p := 45) f71_44 rfl ?_
    have h3 := k_t2 c2 hz1 h2 (by decide) (by decide)
    have h4 := k_t2 c3 hz2 h3 (by decide) (by decide)
    refine r_invV (p := 48) f71_45 rfl rfl rfl h4 hd (Nat.le_of_ble_eq_true rfl) rfl rfl rfl (fun _ => rfl) (fun m4 c4 => ?_)
    have hz4 := z_k c4 hz3
    exact le2_refl _
  · exact le2_refl _
theorem q71_48 {d : Nat} {m : Mem} {a0 a1 a2 a3 a4 : Int} (hz : TZ m) : le2 (gd (tg m a0 = 4 ∨ tg m a0 = 5) <| rn d 71 4 [pR a0, pI a1, pI (w32 ((w32 (16 * a2)) + a4)), pI (w32 (a3 + 1)), pI a4] [] (mst m a0 2 (w32 ((vl m a0 2) + 1)))) (rn d 71 48 [pR a0, pI a1, pI a2, pI a3, pI a4] [] m) := by
  refine r_bipush (p := 50) f71_48 rfl (pinD rfl rfl) ?_
  refine r_iln2 (p := 51) f71_50 rfl ?_
  refine r_imul (p := 52) f71_51 rfl ?_
  refine r_ilw4 (p := 54) f71_52 rfl ?_
  refine r_iadd (p := 55) f71_54 rfl ?_
  refine r_isn2 (p := 56) f71_55 rfl rfl ?_
  refine r_aln0 (p := 57) f71_56 rfl ?_
  refine r_dup (p := 58) f71_57 rfl rfl ?_
  refine le2_gd (fun h1 => ?_)
  refine r_gfI (f := 2) (p := 61) f71_58 rfl rfl rfl h1 rfl ?_
  refine r_iconst (p := 62) f71_61 rfl (pinD rfl rfl) ?_
  refine r_iadd (p := 63) f71_62 rfl ?_
  refine r_pfI2 (f := 2) (p := 66) f71_63 rfl rfl rfl (by decide) (by decide) h1 rfl rfl ?_
  refine r_iinc3 (p := 69) f71_66 rfl rfl ?_
  refine r_goto (p := 4) f71_69 (by decide) rfl ?_
  exact le2_refl _
/-! 72 PathStore$Text.hex (I)I -/
def w72_2 : List UInt8 := [16, 65, 100, 16, 10, 96, 167, 0, 4, 2, 172]
abbrev u72_2 : List UInt8 := w72_2 ++ []
def w72_1 : List UInt8 := [26, 16, 97, 100, 16, 10, 96, 167, 0, 26, 26, 16, 65, 161, 0, 19, 26, 16, 70, 163, 0, 13, 26]
abbrev u72_1 : List UInt8 := w72_1 ++ u72_2
def w72_0 : List UInt8 := [26, 184, 0, 50, 153, 0, 8, 26, 16, 48, 100, 172, 26, 16, 97, 161, 0, 19, 26, 16, 102, 163, 0, 13]
abbrev u72_0 : List UInt8 := w72_0 ++ u72_1
theorem s72_0 : (prog_29_method_10_code).data.toList.drop 0 = u72_0 := by decide +kernel
theorem s72_1 : (prog_29_method_10_code).data.toList.drop 24 = u72_1 := dk_seg s72_0 24 rfl rfl
theorem s72_2 : (prog_29_method_10_code).data.toList.drop 47 = u72_2 := dk_seg s72_1 23 rfl rfl
theorem Fm72 {pc len : Nat} {i : Instr} (h : decode (prog_29_method_10_code) pc = .ok (i, len)) (hl : len = ilen i len) : ft 72 pc = some (3, 1, 0, i, len) := ft_mk rfl h hl
theorem f72_0 : ft 72 0 = some (3, 1, 0, .iload_n 0, 1) := Fm72 (dk_26 (dk_at s72_0 0 rfl rfl)) rfl
theorem f72_1 : ft 72 1 = some (3, 1, 0, .invokestatic 50, 3) := Fm72 (dk_184 0 50 (dk_at s72_0 1 rfl rfl)) rfl
theorem f72_4 : ft 72 4 = some (3, 1, 0, .ifCond .eq 8, 3) := Fm72 (dk_153 0 8 (dk_at s72_0 4 rfl rfl)) rfl
theorem f72_7 : ft 72 7 = some (3, 1, 0, .iload_n 0, 1) := Fm72 (dk_26 (dk_at s72_0 7 rfl rfl)) rfl
theorem f72_8 : ft 72 8 = some (3, 1, 0, .bipush 48, 2) := Fm72 (dk_16 48 (dk_at s72_0 8 rfl rfl)) rfl
theorem f72_10 : ft 72 10 = some (3, 1, 0, .isub, 1) := Fm72 (dk_100 (dk_at s72_0 10 rfl rfl)) rfl
theorem f72_11 : ft 72 11 = some (3, 1, 0, .ireturn, 1) := Fm72 (dk_172 (dk_at s72_0 11 rfl rfl)) rfl
theorem f72_12 : ft 72 12 = some (3, 1, 0, .iload_n 0, 1) := Fm72 (dk_26 (dk_at s72_0 12 rfl rfl)) rfl
theorem f72_13 : ft 72 13 = some (3, 1, 0, .bipush 97, 2) := Fm72 (dk_16 97 (dk_at s72_0 13 rfl rfl)) rfl
theorem f72_15 : ft 72 15 = some (3, 1, 0, .if_icmp .lt 19, 3) := Fm72 (dk_161 0 19 (dk_at s72_0 15 rfl rfl)) rfl
theorem f72_18 : ft 72 18 = some (3, 1, 0, .iload_n 0, 1) := Fm72 (dk_26 (dk_at s72_0 18 rfl rfl)) rfl
theorem f72_19 : ft 72 19 = some (3, 1, 0, .bipush 102, 2) := Fm72 (dk_16 102 (dk_at s72_0 19 rfl rfl)) rfl
theorem f72_21 : ft 72 21 = some (3, 1, 0, .if_icmp .gt 13, 3) := Fm72 (dk_163 0 13 (dk_at s72_0 21 rfl rfl)) rfl
theorem f72_24 : ft 72 24 = some (3, 1, 0, .iload_n 0, 1) := Fm72 (dk_26 (dk_at s72_1 0 rfl rfl)) rfl
theorem f72_25 : ft 72 25 = some (3, 1, 0, .bipush 97, 2) := Fm72 (dk_16 97 (dk_at s72_1 1 rfl rfl)) rfl
theorem f72_27 : ft 72 27 = some (3, 1, 0, .isub, 1) := Fm72 (dk_100 (dk_at s72_1 3 rfl rfl)) rfl
theorem f72_28 : ft 72 28 = some (3, 1, 0, .bipush 10, 2) := Fm72 (dk_16 10 (dk_at s72_1 4 rfl rfl)) rfl
theorem f72_30 : ft 72 30 = some (3, 1, 0, .iadd, 1) := Fm72 (dk_96 (dk_at s72_1 6 rfl rfl)) rfl
theorem f72_31 : ft 72 31 = some (3, 1, 0, .goto 26, 3) := Fm72 (dk_167 0 26 (dk_at s72_1 7 rfl rfl)) rfl
theorem f72_34 : ft 72 34 = some (3, 1, 0, .iload_n 0, 1) := Fm72 (dk_26 (dk_at s72_1 10 rfl rfl)) rfl
theorem f72_35 : ft 72 35 = some (3, 1, 0, .bipush 65, 2) := Fm72 (dk_16 65 (dk_at s72_1 11 rfl rfl)) rfl
theorem f72_37 : ft 72 37 = some (3, 1, 0, .if_icmp .lt 19, 3) := Fm72 (dk_161 0 19 (dk_at s72_1 13 rfl rfl)) rfl
theorem f72_40 : ft 72 40 = some (3, 1, 0, .iload_n 0, 1) := Fm72 (dk_26 (dk_at s72_1 16 rfl rfl)) rfl
theorem f72_41 : ft 72 41 = some (3, 1, 0, .bipush 70, 2) := Fm72 (dk_16 70 (dk_at s72_1 17 rfl rfl)) rfl
theorem f72_43 : ft 72 43 = some (3, 1, 0, .if_icmp .gt 13, 3) := Fm72 (dk_163 0 13 (dk_at s72_1 19 rfl rfl)) rfl
theorem f72_46 : ft 72 46 = some (3, 1, 0, .iload_n 0, 1) := Fm72 (dk_26 (dk_at s72_1 22 rfl rfl)) rfl
theorem f72_47 : ft 72 47 = some (3, 1, 0, .bipush 65, 2) := Fm72 (dk_16 65 (dk_at s72_2 0 rfl rfl)) rfl
theorem f72_49 : ft 72 49 = some (3, 1, 0, .isub, 1) := Fm72 (dk_100 (dk_at s72_2 2 rfl rfl)) rfl
theorem f72_50 : ft 72 50 = some (3, 1, 0, .bipush 10, 2) := Fm72 (dk_16 10 (dk_at s72_2 3 rfl rfl)) rfl
theorem f72_52 : ft 72 52 = some (3, 1, 0, .iadd, 1) := Fm72 (dk_96 (dk_at s72_2 5 rfl rfl)) rfl
theorem f72_53 : ft 72 53 = some (3, 1, 0, .goto 4, 3) := Fm72 (dk_167 0 4 (dk_at s72_2 6 rfl rfl)) rfl
theorem f72_56 : ft 72 56 = some (3, 1, 0, .iconst (-1), 1) := Fm72 (dk_2 (dk_at s72_2 9 rfl rfl)) rfl
theorem f72_57 : ft 72 57 = some (3, 1, 0, .ireturn, 1) := Fm72 (dk_172 (dk_at s72_2 10 rfl rfl)) rfl
theorem q72 {d : Nat} {m : Mem} {a0 : Int} (hd : 0 < d) (hz : TZ m) : le2 (bI (cl (d - 1) 73 [pI a0] m) fun v1 m1 => if v1 = 0 then (if a0 < 97 then (rn d 72 34 [pI a0] [] m1) else if 102 < a0 then (rn d 72 34 [pI a0] [] m1) else some (.inl (some (pI (w32 ((w32 (a0 - 97)) + 10)))), m1)) else some (.inl (some (pI (w32 (a0 - 48)))), m1)) (cl d 72 [pI a0] m) := by
  refine q_in (n := 1) (L := [pI a0]) rfl rfl rfl ?_
  refine r_iln0 (p := 1) f72_0 rfl ?_
  refine r_istI (p := 4) f72_1 rfl rfl rfl hd (Nat.le_of_ble_eq_true rfl) rfl rfl rfl (fun _ => rfl) (fun v1 m1 c1 => ?_)
  have hz1 := z_k c1 hz
  refine r_ifeq (t := 12) (p := 7) f72_4 (by decide) rfl rfl ?_ ?_
  · refine r_iln0 (p := 13) f72_12 rfl ?_
    refine r_bipush (p := 15) f72_13 rfl (pinD rfl rfl) ?_
    refine r_iclt (t := 34) (p := 18) f72_15 (by decide) rfl rfl ?_ ?_
    · exact le2_refl _
    · refine r_iln0 (p := 19) f72_18 rfl ?_
      refine r_bipush (p := 21) f72_19 rfl (pinD rfl rfl) ?_
      refine r_icgt (t := 34) (p := 24) f72_21 (by decide) rfl rfl ?_ ?_
      · exact le2_refl _
      · refine r_iln0 (p := 25) f72_24 rfl ?_
        refine r_bipush (p := 27) f72_25 rfl (pinD rfl rfl) ?_
        refine r_isub (p := 28) f72_27 rfl ?_
        refine r_bipush (p := 30) f72_28 rfl (pinD rfl rfl) ?_
        refine r_iadd (p := 31) f72_30 rfl ?_
        refine r_goto (p := 57) f72_31 (by decide) rfl ?_
        exact r_iret1 f72_57
  · refine r_iln0 (p := 8) f72_7 rfl ?_
    refine r_bipush (p := 10) f72_8 rfl (pinD rfl rfl) ?_
    refine r_isub (p := 11) f72_10 rfl ?_
    exact r_iret1 f72_11
theorem q72_34 {d : Nat} {m : Mem} {a0 : Int} (hz : TZ m) : le2 (if a0 < 65 then (some (.inl (some (pI (-1))), m)) else if 70 < a0 then (some (.inl (some (pI (-1))), m)) else some (.inl (some (pI (w32 ((w32 (a0 - 65)) + 10)))), m)) (rn d 72 34 [pI a0] [] m) := by
  refine r_iln0 (p := 35) f72_34 rfl ?_
  refine r_bipush (p := 37) f72_35 rfl (pinD rfl rfl) ?_
  refine r_iclt (t := 56) (p := 40) f72_37 (by decide) rfl rfl ?_ ?_
  · refine r_iconst (p := 57) f72_56 rfl (pinD rfl rfl) ?_
    exact r_iret1 f72_57
  · refine r_iln0 (p := 41) f72_40 rfl ?_
    refine r_bipush (p := 43) f72_41 rfl (pinD rfl rfl) ?_
    refine r_icgt (t := 56) (p := 46) f72_43 (by decide) rfl rfl ?_ ?_
    · refine r_iconst (p := 57) f72_56 rfl (pinD rfl rfl) ?_
      exact r_iret1 f72_57
    · refine r_iln0 (p := 47) f72_46 rfl ?_
      refine r_bipush (p := 49) f72_47 rfl (pinD rfl rfl) ?_
      refine r_isub (p := 50) f72_49 rfl ?_
      refine r_bipush (p := 52) f72_50 rfl (pinD rfl rfl) ?_
      refine r_iadd (p := 53) f72_52 rfl ?_
      refine r_goto (p := 57) f72_53 (by decide) rfl ?_
      exact r_iret1 f72_57
/-! 73 PathStore$Text.digit (I)Z -/
def w73_0 : List UInt8 := [26, 16, 48, 161, 0, 13, 26, 16, 57, 163, 0, 7, 4, 167, 0, 4, 3, 172]
abbrev u73_0 : List UInt8 := w73_0 ++ []
theorem s73_0 : (prog_29_method_8_code).data.toList.drop 0 = u73_0 := by decide +kernel
theorem Fm73 {pc len : Nat} {i : Instr} (h : decode (prog_29_method_8_code) pc = .ok (i, len)) (hl : len = ilen i len) : ft 73 pc = some (3, 4, 0, i, len) := ft_mk rfl h hl
theorem f73_0 : ft 73 0 = some (3, 4, 0, .iload_n 0, 1) := Fm73 (dk_26 (dk_at s73_0 0 rfl rfl)) rfl
theorem f73_1 : ft 73 1 = some (3, 4, 0, .bipush 48, 2) := Fm73 (dk_16 48 (dk_at s73_0 1 rfl rfl)) rfl
theorem f73_3 : ft 73 3 = some (3, 4, 0, .if_icmp .lt 13, 3) := Fm73 (dk_161 0 13 (dk_at s73_0 3 rfl rfl)) rfl
theorem f73_6 : ft 73 6 = some (3, 4, 0, .iload_n 0, 1) := Fm73 (dk_26 (dk_at s73_0 6 rfl rfl)) rfl
theorem f73_7 : ft 73 7 = some (3, 4, 0, .bipush 57, 2) := Fm73 (dk_16 57 (dk_at s73_0 7 rfl rfl)) rfl
theorem f73_9 : ft 73 9 = some (3, 4, 0, .if_icmp .gt 7, 3) := Fm73 (dk_163 0 7 (dk_at s73_0 9 rfl rfl)) rfl
theorem f73_12 : ft 73 12 = some (3, 4, 0, .iconst 1, 1) := Fm73 (dk_4 (dk_at s73_0 12 rfl rfl)) rfl
theorem f73_13 : ft 73 13 = some (3, 4, 0, .goto 4, 3) := Fm73 (dk_167 0 4 (dk_at s73_0 13 rfl rfl)) rfl
theorem f73_16 : ft 73 16 = some (3, 4, 0, .iconst 0, 1) := Fm73 (dk_3 (dk_at s73_0 16 rfl rfl)) rfl
theorem f73_17 : ft 73 17 = some (3, 4, 0, .ireturn, 1) := Fm73 (dk_172 (dk_at s73_0 17 rfl rfl)) rfl
theorem q73 {d : Nat} {m : Mem} {a0 : Int} (hz : TZ m) : le2 (if a0 < 48 then (some (.inl (some (pI 0)), m)) else if 57 < a0 then (some (.inl (some (pI 0)), m)) else some (.inl (some (pI 1)), m)) (cl d 73 [pI a0] m) := by
  refine q_in (n := 1) (L := [pI a0]) rfl rfl rfl ?_
  refine r_iln0 (p := 1) f73_0 rfl ?_
  refine r_bipush (p := 3) f73_1 rfl (pinD rfl rfl) ?_
  refine r_iclt (t := 16) (p := 6) f73_3 (by decide) rfl rfl ?_ ?_
  · refine r_iconst (p := 17) f73_16 rfl (pinD rfl rfl) ?_
    exact r_iret4 f73_17 (by decide)
  · refine r_iln0 (p := 7) f73_6 rfl ?_
    refine r_bipush (p := 9) f73_7 rfl (pinD rfl rfl) ?_
    refine r_icgt (t := 16) (p := 12) f73_9 (by decide) rfl rfl ?_ ?_
    · refine r_iconst (p := 17) f73_16 rfl (pinD rfl rfl) ?_
      exact r_iret4 f73_17 (by decide)
    · refine r_iconst (p := 13) f73_12 rfl (pinD rfl rfl) ?_
      refine r_goto (p := 17) f73_13 (by decide) rfl ?_
      exact r_iret4 f73_17 (by decide)
/-! 74 PathStore$Reader.<init> ()V -/
theorem Fm74 {pc len : Nat} {i : Instr} (h : decode (prog_19_method_1_code) pc = .ok (i, len)) (hl : len = ilen i len) : ft 74 pc = some (4, 0, 1, i, len) := ft_mk rfl h hl
theorem f74_0 : ft 74 0 = some (4, 0, 1, .aload_n 0, 1) := Fm74 (by decide +kernel) rfl
theorem f74_1 : ft 74 1 = some (4, 0, 1, .invokespecial 3, 3) := Fm74 (by decide +kernel) rfl
theorem f74_4 : ft 74 4 = some (4, 0, 1, .return_, 1) := Fm74 (by decide +kernel) rfl
theorem q74 {d : Nat} {m : Mem} {a0 : Int} (hd : 0 < d) (hz : TZ m) : le2 (gd (tg m a0 = 4 ∨ tg m a0 = 5) <| bV (cl (d - 1) 60 [pR a0] m) fun m1 => some (.inl none, m1)) (cl d 74 [pR a0] m) := by
  refine q_in (n := 1) (L := [pR a0]) rfl rfl rfl ?_
  refine r_aln0 (p := 1) f74_0 rfl ?_
  refine le2_gd (fun h1 => ?_)
  refine r_ispV (p := 4) f74_1 rfl rfl rfl h1 hd (Nat.le_of_ble_eq_true rfl) rfl rfl rfl (fun _ => rfl) (fun m1 c1 => ?_)
  have hz1 := z_k c1 hz
  exact r_ret f74_4
/-! 75 PathStore$Reader.read ([BILPathStore$Row;)V -/
def w75_1 : List UInt8 := [42, 42, 180, 0, 26, 42, 180, 0, 29, 160, 0, 7, 4, 167, 0, 4, 3, 182, 0, 32, 177]
abbrev u75_1 : List UInt8 := w75_1 ++ []
def w75_0 : List UInt8 := [42, 43, 28, 182, 0, 9, 42, 3, 181, 0, 15, 42, 182, 0, 19, 42, 45, 182, 0, 22, 42, 182, 0, 19]
abbrev u75_0 : List UInt8 := w75_0 ++ u75_1
theorem s75_0 : (prog_19_method_2_code).data.toList.drop 0 = u75_0 := by decide +kernel
theorem s75_1 : (prog_19_method_2_code).data.toList.drop 24 = u75_1 := dk_seg s75_0 24 rfl rfl
theorem Fm75 {pc len : Nat} {i : Instr} (h : decode (prog_19_method_2_code) pc = .ok (i, len)) (hl : len = ilen i len) : ft 75 pc = some (4, 0, 0, i, len) := ft_mk rfl h hl
theorem f75_0 : ft 75 0 = some (4, 0, 0, .aload_n 0, 1) := Fm75 (dk_42 (dk_at s75_0 0 rfl rfl)) rfl
theorem f75_1 : ft 75 1 = some (4, 0, 0, .aload_n 1, 1) := Fm75 (dk_43 (dk_at s75_0 1 rfl rfl)) rfl
theorem f75_2 : ft 75 2 = some (4, 0, 0, .iload_n 2, 1) := Fm75 (dk_28 (dk_at s75_0 2 rfl rfl)) rfl
theorem f75_3 : ft 75 3 = some (4, 0, 0, .invokevirtual 9, 3) := Fm75 (dk_182 0 9 (dk_at s75_0 3 rfl rfl)) rfl
theorem f75_6 : ft 75 6 = some (4, 0, 0, .aload_n 0, 1) := Fm75 (dk_42 (dk_at s75_0 6 rfl rfl)) rfl
theorem f75_7 : ft 75 7 = some (4, 0, 0, .iconst 0, 1) := Fm75 (dk_3 (dk_at s75_0 7 rfl rfl)) rfl
theorem f75_8 : ft 75 8 = some (4, 0, 0, .putfield 15, 3) := Fm75 (dk_181 0 15 (dk_at s75_0 8 rfl rfl)) rfl
theorem f75_11 : ft 75 11 = some (4, 0, 0, .aload_n 0, 1) := Fm75 (dk_42 (dk_at s75_0 11 rfl rfl)) rfl
theorem f75_12 : ft 75 12 = some (4, 0, 0, .invokevirtual 19, 3) := Fm75 (dk_182 0 19 (dk_at s75_0 12 rfl rfl)) rfl
theorem f75_15 : ft 75 15 = some (4, 0, 0, .aload_n 0, 1) := Fm75 (dk_42 (dk_at s75_0 15 rfl rfl)) rfl
theorem f75_16 : ft 75 16 = some (4, 0, 0, .aload_n 3, 1) := Fm75 (dk_45 (dk_at s75_0 16 rfl rfl)) rfl
theorem f75_17 : ft 75 17 = some (4, 0, 0, .invokevirtual 22, 3) := Fm75 (dk_182 0 22 (dk_at s75_0 17 rfl rfl)) rfl
theorem f75_20 : ft 75 20 = some (4, 0, 0, .aload_n 0, 1) := Fm75 (dk_42 (dk_at s75_0 20 rfl rfl)) rfl
theorem f75_21 : ft 75 21 = some (4, 0, 0, .invokevirtual 19, 3) := Fm75 (dk_182 0 19 (dk_at s75_0 21 rfl rfl)) rfl
theorem f75_24 : ft 75 24 = some (4, 0, 0, .aload_n 0, 1) := Fm75 (dk_42 (dk_at s75_1 0 rfl rfl)) rfl
theorem f75_25 : ft 75 25 = some (4, 0, 0, .aload_n 0, 1) := Fm75 (dk_42 (dk_at s75_1 1 rfl rfl)) rfl
theorem f75_26 : ft 75 26 = some (4, 0, 0, .getfield 26, 3) := Fm75 (dk_180 0 26 (dk_at s75_1 2 rfl rfl)) rfl
theorem f75_29 : ft 75 29 = some (4, 0, 0, .aload_n 0, 1) := Fm75 (dk_42 (dk_at s75_1 5 rfl rfl)) rfl
theorem f75_30 : ft 75 30 = some (4, 0, 0, .getfield 29, 3) := Fm75 (dk_180 0 29 (dk_at s75_1 6 rfl rfl)) rfl
theorem f75_33 : ft 75 33 = some (4, 0, 0, .if_icmp .ne 7, 3) := Fm75 (dk_160 0 7 (dk_at s75_1 9 rfl rfl)) rfl
theorem f75_36 : ft 75 36 = some (4, 0, 0, .iconst 1, 1) := Fm75 (dk_4 (dk_at s75_1 12 rfl rfl)) rfl
theorem f75_37 : ft 75 37 = some (4, 0, 0, .goto 4, 3) := Fm75 (dk_167 0 4 (dk_at s75_1 13 rfl rfl)) rfl
theorem f75_40 : ft 75 40 = some (4, 0, 0, .iconst 0, 1) := Fm75 (dk_3 (dk_at s75_1 16 rfl rfl)) rfl
theorem f75_41 : ft 75 41 = some (4, 0, 0, .invokevirtual 32, 3) := Fm75 (dk_182 0 32 (dk_at s75_1 17 rfl rfl)) rfl
theorem f75_44 : ft 75 44 = some (4, 0, 0, .return_, 1) := Fm75 (dk_177 (dk_at s75_1 20 rfl rfl)) rfl
theorem q75 {d : Nat} {m : Mem} {a0 a1 a2 a3 : Int} (hd : 0 < d) (hz : TZ m) : le2 (gd (tg m a0 = 4) <| bV (cl (d - 1) 61 [pR a0, pR a1, pI a2] m) fun m1 => bV (cl (d - 1) 62 [pR a0] (mst m1 a0 4 0)) fun m2 => bV (cl (d - 1) 76 [pR a0, pR a3] m2) fun m3 => bV (cl (d - 1) 62 [pR a0] m3) fun m4 => if (vl m4 a0 2) = (vl m4 a0 1) then (bV (cl (d - 1) 66 [pR a0, pI 1] m4) fun m6 => some (.inl none, m6)) else bV (cl (d - 1) 66 [pR a0, pI 0] m4) fun m5 => some (.inl none, m5)) (cl d 75 [pR a0, pR a1, pI a2, pR a3] m) := by
  refine q_in (n := 4) (L := [pR a0, pR a1, pI a2, pR a3]) rfl rfl rfl ?_
  refine r_aln0 (p := 1) f75_0 rfl ?_
  refine r_aln1 (p := 2) f75_1 rfl ?_
  refine r_iln2 (p := 3) f75_2 rfl ?_
  refine le2_gd (fun h1 => ?_)
  refine r_invV (p := 6) f75_3 rfl rfl rfl (Or.inl h1) hd (Nat.le_of_ble_eq_true rfl) rfl rfl rfl (fun _ => rfl) (fun m1 c1 => ?_)
  have hz1 := z_k c1 hz
  refine r_aln0 (p := 7) f75_6 rfl ?_
  refine r_iconst (p := 8) f75_7 rfl (pinD rfl rfl) ?_
  have h2 := k_t1 c1 hz h1 (by decide)
  refine r_pfI (f := 4) (p := 11) f75_8 rfl rfl rfl (by decide) (by decide) (Or.inl h2) rfl ?_
  refine r_aln0 (p := 12) f75_11 rfl ?_
  refine r_invV (p := 15) f75_12 rfl rfl rfl (Or.inl h2) hd (Nat.le_of_ble_eq_true rfl) rfl rfl rfl (fun _ => rfl) (fun m2 c2 => ?_)
  have hz2 := z_k c2 hz1
  refine r_aln0 (p := 16) f75_15 rfl ?_
  refine r_aln3 (p := 17) f75_16 rfl ?_
  have h3 := k_t1 c2 hz1 h2 (by decide)
  refine r_invV (p := 20) f75_17 rfl rfl rfl (Or.inl h3) hd (Nat.le_of_ble_eq_true rfl) rfl rfl rfl (fun _ => rfl) (fun m3 c3 => ?_)
  have hz3 := z_k c3 hz2
  refine r_aln0 (p := 21) f75_20 rfl ?_
  have h4 := k_t1 c3 hz2 h3 (by decide)
  refine r_invV (p := 24) f75_21 rfl rfl rfl (Or.inl h4) hd (Nat.le_of_ble_eq_true rfl) rfl rfl rfl (fun _ => rfl) (fun m4 c4 => ?_)
  have hz4 := z_k c4 hz3
  refine r_aln0 (p := 25) f75_24 rfl ?_
  refine r_aln0 (p := 26) f75_25 rfl ?_
  have h5 := k_t1 c4 hz3 h4 (by decide)
  refine r_gfI (f := 2) (p := 29) f75_26 rfl rfl rfl (Or.inl h5) rfl ?_
  refine r_aln0 (p := 30) f75_29 rfl ?_
  refine r_gfI (f := 1) (p := 33) f75_30 rfl rfl rfl (Or.inl h5) rfl ?_
  refine r_icne (t := 40) (p := 36) f75_33 (by decide) rfl rfl ?_ ?_
  · refine r_iconst (p := 37) f75_36 rfl (pinD rfl rfl) ?_
    refine r_goto (p := 41) f75_37 (by decide) rfl ?_
    refine r_invV (p := 44) f75_41 rfl rfl rfl (Or.inl h5) hd (Nat.le_of_ble_eq_true rfl) rfl rfl rfl (fun _ => rfl) (fun m6 c6 => ?_)
    have hz6 := z_k c6 hz4
    exact r_ret f75_44
  · refine r_iconst (p := 41) f75_40 rfl (pinD rfl rfl) ?_
    refine r_invV (p := 44) f75_41 rfl rfl rfl (Or.inl h5) hd (Nat.le_of_ble_eq_true rfl) rfl rfl rfl (fun _ => rfl) (fun m5 c5 => ?_)
    have hz5 := z_k c5 hz4
    exact r_ret f75_44
/-! 76 PathStore$Reader.value (LPathStore$Row;)V -/
def w76_4 : List UInt8 := [177, 42, 43, 182, 0, 60, 177, 42, 43, 182, 0, 63, 177]
abbrev u76_4 : List UInt8 := w76_4 ++ []
def w76_3 : List UInt8 := [42, 18, 54, 182, 0, 42, 43, 5, 182, 0, 46, 177, 43, 7, 182, 0, 46, 42, 43, 16, 34, 182, 0, 56]
abbrev u76_3 : List UInt8 := w76_3 ++ u76_4
def w76_2 : List UInt8 := [42, 18, 40, 182, 0, 42, 43, 3, 182, 0, 46, 177, 42, 18, 52, 182, 0, 42, 43, 4, 182, 0, 46, 177]
abbrev u76_2 : List UInt8 := w76_2 ++ u76_3
def w76_1 : List UInt8 := [171, 0, 0, 0, 0, 0, 0, 115, 0, 0, 0, 6, 0, 0, 0, 34, 0, 0, 0, 96, 0, 0, 0, 91, 0, 0, 0, 109, 0, 0, 0, 102, 0, 0, 0, 72, 0, 0, 0, 110, 0, 0, 0, 60, 0, 0, 0, 116, 0, 0, 0, 84, 0, 0, 0, 123, 0, 0, 0, 109]
abbrev u76_1 : List UInt8 := w76_1 ++ u76_2
def w76_0 : List UInt8 := [42, 182, 0, 36]
abbrev u76_0 : List UInt8 := w76_0 ++ u76_1
theorem s76_0 : (prog_19_method_3_code).data.toList.drop 0 = u76_0 := by decide +kernel
theorem s76_1 : (prog_19_method_3_code).data.toList.drop 4 = u76_1 := dk_seg s76_0 4 rfl rfl
theorem s76_2 : (prog_19_method_3_code).data.toList.drop 64 = u76_2 := dk_seg s76_1 60 rfl rfl
theorem s76_3 : (prog_19_method_3_code).data.toList.drop 88 = u76_3 := dk_seg s76_2 24 rfl rfl
theorem s76_4 : (prog_19_method_3_code).data.toList.drop 112 = u76_4 := dk_seg s76_3 24 rfl rfl
theorem Fm76 {pc len : Nat} {i : Instr} (h : decode (prog_19_method_3_code) pc = .ok (i, len)) (hl : len = ilen i len) : ft 76 pc = some (4, 0, 0, i, len) := ft_mk rfl h hl
theorem f76_0 : ft 76 0 = some (4, 0, 0, .aload_n 0, 1) := Fm76 (dk_42 (dk_at s76_0 0 rfl rfl)) rfl
theorem f76_1 : ft 76 1 = some (4, 0, 0, .invokevirtual 36, 3) := Fm76 (dk_182 0 36 (dk_at s76_0 1 rfl rfl)) rfl
theorem f76_4 : ft 76 4 = some (4, 0, 0, .lookupswitch 115 #[(34, 96), (91, 109), (102, 72), (110, 60), (116, 84), (123, 109)], 60) := Fm76 (by decide +kernel) rfl
theorem f76_64 : ft 76 64 = some (4, 0, 0, .aload_n 0, 1) := Fm76 (dk_42 (dk_at s76_2 0 rfl rfl)) rfl
theorem f76_65 : ft 76 65 = some (4, 0, 0, .ldc 40, 2) := Fm76 (dk_18 40 (dk_at s76_2 1 rfl rfl)) rfl
theorem f76_67 : ft 76 67 = some (4, 0, 0, .invokevirtual 42, 3) := Fm76 (dk_182 0 42 (dk_at s76_2 3 rfl rfl)) rfl
theorem f76_70 : ft 76 70 = some (4, 0, 0, .aload_n 1, 1) := Fm76 (dk_43 (dk_at s76_2 6 rfl rfl)) rfl
theorem f76_71 : ft 76 71 = some (4, 0, 0, .iconst 0, 1) := Fm76 (dk_3 (dk_at s76_2 7 rfl rfl)) rfl
theorem f76_72 : ft 76 72 = some (4, 0, 0, .invokevirtual 46, 3) := Fm76 (dk_182 0 46 (dk_at s76_2 8 rfl rfl)) rfl
theorem f76_75 : ft 76 75 = some (4, 0, 0, .return_, 1) := Fm76 (dk_177 (dk_at s76_2 11 rfl rfl)) rfl
theorem f76_76 : ft 76 76 = some (4, 0, 0, .aload_n 0, 1) := Fm76 (dk_42 (dk_at s76_2 12 rfl rfl)) rfl
theorem f76_77 : ft 76 77 = some (4, 0, 0, .ldc 52, 2) := Fm76 (dk_18 52 (dk_at s76_2 13 rfl rfl)) rfl
theorem f76_79 : ft 76 79 = some (4, 0, 0, .invokevirtual 42, 3) := Fm76 (dk_182 0 42 (dk_at s76_2 15 rfl rfl)) rfl
theorem f76_82 : ft 76 82 = some (4, 0, 0, .aload_n 1, 1) := Fm76 (dk_43 (dk_at s76_2 18 rfl rfl)) rfl
theorem f76_83 : ft 76 83 = some (4, 0, 0, .iconst 1, 1) := Fm76 (dk_4 (dk_at s76_2 19 rfl rfl)) rfl
theorem f76_84 : ft 76 84 = some (4, 0, 0, .invokevirtual 46, 3) := Fm76 (dk_182 0 46 (dk_at s76_2 20 rfl rfl)) rfl
theorem f76_87 : ft 76 87 = some (4, 0, 0, .return_, 1) := Fm76 (dk_177 (dk_at s76_2 23 rfl rfl)) rfl
theorem f76_88 : ft 76 88 = some (4, 0, 0, .aload_n 0, 1) := Fm76 (dk_42 (dk_at s76_3 0 rfl rfl)) rfl
theorem f76_89 : ft 76 89 = some (4, 0, 0, .ldc 54, 2) := Fm76 (dk_18 54 (dk_at s76_3 1 rfl rfl)) rfl
theorem f76_91 : ft 76 91 = some (4, 0, 0, .invokevirtual 42, 3) := Fm76 (dk_182 0 42 (dk_at s76_3 3 rfl rfl)) rfl
theorem f76_94 : ft 76 94 = some (4, 0, 0, .aload_n 1, 1) := Fm76 (dk_43 (dk_at s76_3 6 rfl rfl)) rfl
theorem f76_95 : ft 76 95 = some (4, 0, 0, .iconst 2, 1) := Fm76 (dk_5 (dk_at s76_3 7 rfl rfl)) rfl
theorem f76_96 : ft 76 96 = some (4, 0, 0, .invokevirtual 46, 3) := Fm76 (dk_182 0 46 (dk_at s76_3 8 rfl rfl)) rfl
theorem f76_99 : ft 76 99 = some (4, 0, 0, .return_, 1) := Fm76 (dk_177 (dk_at s76_3 11 rfl rfl)) rfl
theorem f76_100 : ft 76 100 = some (4, 0, 0, .aload_n 1, 1) := Fm76 (dk_43 (dk_at s76_3 12 rfl rfl)) rfl
theorem f76_101 : ft 76 101 = some (4, 0, 0, .iconst 4, 1) := Fm76 (dk_7 (dk_at s76_3 13 rfl rfl)) rfl
theorem f76_102 : ft 76 102 = some (4, 0, 0, .invokevirtual 46, 3) := Fm76 (dk_182 0 46 (dk_at s76_3 14 rfl rfl)) rfl
theorem f76_105 : ft 76 105 = some (4, 0, 0, .aload_n 0, 1) := Fm76 (dk_42 (dk_at s76_3 17 rfl rfl)) rfl
theorem f76_106 : ft 76 106 = some (4, 0, 0, .aload_n 1, 1) := Fm76 (dk_43 (dk_at s76_3 18 rfl rfl)) rfl
theorem f76_107 : ft 76 107 = some (4, 0, 0, .bipush 34, 2) := Fm76 (dk_16 34 (dk_at s76_3 19 rfl rfl)) rfl
theorem f76_109 : ft 76 109 = some (4, 0, 0, .invokevirtual 56, 3) := Fm76 (dk_182 0 56 (dk_at s76_3 21 rfl rfl)) rfl
theorem f76_112 : ft 76 112 = some (4, 0, 0, .return_, 1) := Fm76 (dk_177 (dk_at s76_4 0 rfl rfl)) rfl
theorem f76_113 : ft 76 113 = some (4, 0, 0, .aload_n 0, 1) := Fm76 (dk_42 (dk_at s76_4 1 rfl rfl)) rfl
theorem f76_114 : ft 76 114 = some (4, 0, 0, .aload_n 1, 1) := Fm76 (dk_43 (dk_at s76_4 2 rfl rfl)) rfl
theorem f76_115 : ft 76 115 = some (4, 0, 0, .invokevirtual 60, 3) := Fm76 (dk_182 0 60 (dk_at s76_4 3 rfl rfl)) rfl
theorem f76_118 : ft 76 118 = some (4, 0, 0, .return_, 1) := Fm76 (dk_177 (dk_at s76_4 6 rfl rfl)) rfl
theorem f76_119 : ft 76 119 = some (4, 0, 0, .aload_n 0, 1) := Fm76 (dk_42 (dk_at s76_4 7 rfl rfl)) rfl
theorem f76_120 : ft 76 120 = some (4, 0, 0, .aload_n 1, 1) := Fm76 (dk_43 (dk_at s76_4 8 rfl rfl)) rfl
theorem f76_121 : ft 76 121 = some (4, 0, 0, .invokevirtual 63, 3) := Fm76 (dk_182 0 63 (dk_at s76_4 9 rfl rfl)) rfl
theorem f76_124 : ft 76 124 = some (4, 0, 0, .return_, 1) := Fm76 (dk_177 (dk_at s76_4 12 rfl rfl)) rfl
theorem q76 {d : Nat} {m : Mem} {a0 a1 : Int} (hd : 0 < d) (hz : TZ m) : le2 (gd (tg m a0 = 4) <| bI (cl (d - 1) 63 [pR a0] m) fun v1 m1 => if v1 = 34 then (gd (tg m1 a1 = 8) <| bV (cl (d - 1) 130 [pR a1, pI 4] m1) fun m10 => bV (cl (d - 1) 68 [pR a0, pR a1, pI 34] m10) fun m11 => some (.inl none, m11)) else if v1 = 91 ∨ v1 = 123 then (bV (cl (d - 1) 77 [pR a0, pR a1] m1) fun m9 => some (.inl none, m9)) else if v1 = 102 then (bV (cl (d - 1) 64 [pR a0, pR 12] m1) fun m7 => gd (tg m7 a1 = 8) <| bV (cl (d - 1) 130 [pR a1, pI 1] m7) fun m8 => some (.inl none, m8)) else if v1 = 110 then (bV (cl (d - 1) 64 [pR a0, pR 10] m1) fun m5 => gd (tg m5 a1 = 8) <| bV (cl (d - 1) 130 [pR a1, pI 0] m5) fun m6 => some (.inl none, m6)) else if v1 = 116 then (bV (cl (d - 1) 64 [pR a0, pR 14] m1) fun m3 => gd (tg m3 a1 = 8) <| bV (cl (d - 1) 130 [pR a1, pI 2] m3) fun m4 => some (.inl none, m4)) else bV (cl (d - 1) 79 [pR a0, pR a1] m1) fun m2 => some (.inl none, m2)) (cl d 76 [pR a0, pR a1] m) := by
  refine q_in (n := 2) (L := [pR a0, pR a1]) rfl rfl rfl ?_
  refine r_aln0 (p := 1) f76_0 rfl ?_
  refine le2_gd (fun h1 => ?_)
  refine r_invI (p := 4) f76_1 rfl rfl rfl (Or.inl h1) hd (Nat.le_of_ble_eq_true rfl) rfl rfl rfl (fun _ => rfl) (fun v1 m1 c1 => ?_)
  have hz1 := z_k c1 hz
  refine le2_ite (fun h2 => ?_) (fun h2 => ?_)
  · refine r_lsw (off := 96) (t := 100) f76_4 rfl (by rw [h2]; rfl) (by decide) rfl ?_
    refine r_aln1 (p := 101) f76_100 rfl ?_
    refine r_iconst (p := 102) f76_101 rfl (pinD rfl rfl) ?_
    refine le2_gd (fun h15 => ?_)
    refine r_invV (p := 105) f76_102 rfl rfl rfl (Or.inl h15) hd (Nat.le_of_ble_eq_true rfl) rfl rfl rfl (fun _ => rfl) (fun m10 c10 => ?_)
    have hz10 := z_k c10 hz1
    refine r_aln0 (p := 106) f76_105 rfl ?_
    refine r_aln1 (p := 107) f76_106 rfl ?_
    refine r_bipush (p := 109) f76_107 rfl (pinD rfl rfl) ?_
    have h16 := k_t1 c1 hz h1 (by decide)
    have h17 := k_t1 c10 hz1 h16 (by decide)
    refine r_invV (p := 112) f76_109 rfl rfl rfl (Or.inl h17) hd (Nat.le_of_ble_eq_true rfl) rfl rfl rfl (fun _ => rfl) (fun m11 c11 => ?_)
    have hz11 := z_k c11 hz10
    exact r_ret f76_112
  · refine le2_ite (fun h3 => ?_) (fun h3 => ?_)
    · refine r_lsw (off := 109) (t := 113) f76_4 rfl (by rcases h3 with h | h <;> rw [h] <;> rfl) (by decide) rfl ?_
      refine r_aln0 (p := 114) f76_113 rfl ?_
      refine r_aln1 (p := 115) f76_114 rfl ?_
      have h14 := k_t1 c1 hz h1 (by decide)
      refine r_invV (p := 118) f76_115 rfl rfl rfl (Or.inl h14) hd (Nat.le_of_ble_eq_true rfl) rfl rfl rfl (fun _ => rfl) (fun m9 c9 => ?_)
      have hz9 := z_k c9 hz1
      exact r_ret f76_118
    · refine le2_ite (fun h4 => ?_) (fun h4 => ?_)
      · refine r_lsw (off := 72) (t := 76) f76_4 rfl (by rw [h4]; rfl) (by decide) rfl ?_
        refine r_aln0 (p := 77) f76_76 rfl ?_
        refine r_ldcR (p := 79) f76_77 rfl rfl ?_
        have h12 := k_t1 c1 hz h1 (by decide)
        refine r_invV (p := 82) f76_79 rfl rfl rfl (Or.inl h12) hd (Nat.le_of_ble_eq_true rfl) rfl rfl rfl (fun _ => rfl) (fun m7 c7 => ?_)
        have hz7 := z_k c7 hz1
        refine r_aln1 (p := 83) f76_82 rfl ?_
        refine r_iconst (p := 84) f76_83 rfl (pinD rfl rfl) ?_
        refine le2_gd (fun h13 => ?_)
        refine r_invV (p := 87) f76_84 rfl rfl rfl (Or.inl h13) hd (Nat.le_of_ble_eq_true rfl) rfl rfl rfl (fun _ => rfl) (fun m8 c8 => ?_)
        have hz8 := z_k c8 hz7
        exact r_ret f76_87
      · refine le2_ite (fun h5 => ?_) (fun h5 => ?_)
        · refine r_lsw (off := 60) (t := 64) f76_4 rfl (by rw [h5]; rfl) (by decide) rfl ?_
          refine r_aln0 (p := 65) f76_64 rfl ?_
          refine r_ldcR (p := 67) f76_65 rfl rfl ?_
          have h10 := k_t1 c1 hz h1 (by decide)
          refine r_invV (p := 70) f76_67 rfl rfl rfl (Or.inl h10) hd (Nat.le_of_ble_eq_true rfl) rfl rfl rfl (fun _ => rfl) (fun m5 c5 => ?_)
          have hz5 := z_k c5 hz1
          refine r_aln1 (p := 71) f76_70 rfl ?_
          refine r_iconst (p := 72) f76_71 rfl (pinD rfl rfl) ?_
          refine le2_gd (fun h11 => ?_)
          refine r_invV (p := 75) f76_72 rfl rfl rfl (Or.inl h11) hd (Nat.le_of_ble_eq_true rfl) rfl rfl rfl (fun _ => rfl) (fun m6 c6 => ?_)
          have hz6 := z_k c6 hz5
          exact r_ret f76_75
        · refine le2_ite (fun h6 => ?_) (fun h6 => ?_)
          · refine r_lsw (off := 84) (t := 88) f76_4 rfl (by rw [h6]; rfl) (by decide) rfl ?_
            refine r_aln0 (p := 89) f76_88 rfl ?_
            refine r_ldcR (p := 91) f76_89 rfl rfl ?_
            have h8 := k_t1 c1 hz h1 (by decide)
            refine r_invV (p := 94) f76_91 rfl rfl rfl (Or.inl h8) hd (Nat.le_of_ble_eq_true rfl) rfl rfl rfl (fun _ => rfl) (fun m3 c3 => ?_)
            have hz3 := z_k c3 hz1
            refine r_aln1 (p := 95) f76_94 rfl ?_
            refine r_iconst (p := 96) f76_95 rfl (pinD rfl rfl) ?_
            refine le2_gd (fun h9 => ?_)
            refine r_invV (p := 99) f76_96 rfl rfl rfl (Or.inl h9) hd (Nat.le_of_ble_eq_true rfl) rfl rfl rfl (fun _ => rfl) (fun m4 c4 => ?_)
            have hz4 := z_k c4 hz3
            exact r_ret f76_99
          · refine r_lsw (off := 115) (t := 119) f76_4 rfl (by show Op.lookupswitch.offset [(34, 96), (91, 109), (102, 72), (110, 60), (116, 84), (123, 109)] 115 _ = 115; rw [Op.lookupswitch.offset_cons, if_neg (by omega), Op.lookupswitch.offset_cons, if_neg (by omega), Op.lookupswitch.offset_cons, if_neg (by omega), Op.lookupswitch.offset_cons, if_neg (by omega), Op.lookupswitch.offset_cons, if_neg (by omega), Op.lookupswitch.offset_cons, if_neg (by omega), Op.lookupswitch.offset_nil]) (by decide) rfl ?_
            refine r_aln0 (p := 120) f76_119 rfl ?_
            refine r_aln1 (p := 121) f76_120 rfl ?_
            have h7 := k_t1 c1 hz h1 (by decide)
            refine r_invV (p := 124) f76_121 rfl rfl rfl (Or.inl h7) hd (Nat.le_of_ble_eq_true rfl) rfl rfl rfl (fun _ => rfl) (fun m2 c2 => ?_)
            have hz2 := z_k c2 hz1
            exact r_ret f76_124
/-! 77 PathStore$Reader.many (LPathStore$Row;)V -/
def w77_7 : List UInt8 := [21, 4, 4, 96, 43, 180, 0, 90, 21, 4, 100, 6, 100, 182, 0, 100, 177]
abbrev u77_7 : List UInt8 := w77_7 ++ []
def w77_6 : List UInt8 := [167, 255, 230, 42, 89, 180, 0, 26, 4, 96, 181, 0, 26, 42, 89, 180, 0, 15, 4, 100, 181, 0, 15, 43]
abbrev u77_6 : List UInt8 := w77_6 ++ u77_7
def w77_5 : List UInt8 := [29, 159, 0, 24, 42, 16, 44, 182, 0, 97, 42, 182, 0, 19, 42, 43, 21, 4, 28, 182, 0, 93]
abbrev u77_5 : List UInt8 := w77_5 ++ u77_6
def w77_4 : List UInt8 := [42, 182, 0, 19, 42, 182, 0, 36, 29, 159, 0, 40, 42, 43, 21, 4, 28, 182, 0, 93, 42, 182, 0, 36]
abbrev u77_4 : List UInt8 := w77_4 ++ u77_5
def w77_3 : List UInt8 := [43, 28, 153, 0, 8, 16, 6, 167, 0, 4, 8, 182, 0, 46, 43, 3, 182, 0, 46, 43, 3, 182, 0, 46]
abbrev u77_3 : List UInt8 := w77_3 ++ u77_4
def w77_2 : List UInt8 := [180, 0, 15, 4, 96, 181, 0, 15, 42, 89, 180, 0, 26, 4, 96, 181, 0, 26, 43, 180, 0, 90, 54, 4]
abbrev u77_2 : List UInt8 := w77_2 ++ u77_3
def w77_1 : List UInt8 := [16, 93, 62, 42, 42, 180, 0, 15, 16, 32, 162, 0, 7, 4, 167, 0, 4, 3, 182, 0, 32, 42, 89]
abbrev u77_1 : List UInt8 := w77_1 ++ u77_2
def w77_0 : List UInt8 := [42, 182, 0, 36, 16, 123, 160, 0, 7, 4, 167, 0, 4, 3, 61, 28, 153, 0, 8, 16, 125, 167, 0, 5]
abbrev u77_0 : List UInt8 := w77_0 ++ u77_1
theorem s77_0 : (prog_19_method_5_code).data.toList.drop 0 = u77_0 := by decide +kernel
theorem s77_1 : (prog_19_method_5_code).data.toList.drop 24 = u77_1 := dk_seg s77_0 24 rfl rfl
theorem s77_2 : (prog_19_method_5_code).data.toList.drop 47 = u77_2 := dk_seg s77_1 23 rfl rfl
theorem s77_3 : (prog_19_method_5_code).data.toList.drop 71 = u77_3 := dk_seg s77_2 24 rfl rfl
theorem s77_4 : (prog_19_method_5_code).data.toList.drop 95 = u77_4 := dk_seg s77_3 24 rfl rfl
theorem s77_5 : (prog_19_method_5_code).data.toList.drop 119 = u77_5 := dk_seg s77_4 24 rfl rfl
theorem s77_6 : (prog_19_method_5_code).data.toList.drop 141 = u77_6 := dk_seg s77_5 22 rfl rfl
theorem s77_7 : (prog_19_method_5_code).data.toList.drop 165 = u77_7 := dk_seg s77_6 24 rfl rfl
theorem Fm77 {pc len : Nat} {i : Instr} (h : decode (prog_19_method_5_code) pc = .ok (i, len)) (hl : len = ilen i len) : ft 77 pc = some (4, 0, 0, i, len) := ft_mk rfl h hl
theorem f77_0 : ft 77 0 = some (4, 0, 0, .aload_n 0, 1) := Fm77 (dk_42 (dk_at s77_0 0 rfl rfl)) rfl
theorem f77_1 : ft 77 1 = some (4, 0, 0, .invokevirtual 36, 3) := Fm77 (dk_182 0 36 (dk_at s77_0 1 rfl rfl)) rfl
theorem f77_4 : ft 77 4 = some (4, 0, 0, .bipush 123, 2) := Fm77 (dk_16 123 (dk_at s77_0 4 rfl rfl)) rfl
theorem f77_6 : ft 77 6 = some (4, 0, 0, .if_icmp .ne 7, 3) := Fm77 (dk_160 0 7 (dk_at s77_0 6 rfl rfl)) rfl
theorem f77_9 : ft 77 9 = some (4, 0, 0, .iconst 1, 1) := Fm77 (dk_4 (dk_at s77_0 9 rfl rfl)) rfl
theorem f77_10 : ft 77 10 = some (4, 0, 0, .goto 4, 3) := Fm77 (dk_167 0 4 (dk_at s77_0 10 rfl rfl)) rfl
theorem f77_13 : ft 77 13 = some (4, 0, 0, .iconst 0, 1) := Fm77 (dk_3 (dk_at s77_0 13 rfl rfl)) rfl
theorem f77_14 : ft 77 14 = some (4, 0, 0, .istore_n 2, 1) := Fm77 (dk_61 (dk_at s77_0 14 rfl rfl)) rfl
theorem f77_15 : ft 77 15 = some (4, 0, 0, .iload_n 2, 1) := Fm77 (dk_28 (dk_at s77_0 15 rfl rfl)) rfl
theorem f77_16 : ft 77 16 = some (4, 0, 0, .ifCond .eq 8, 3) := Fm77 (dk_153 0 8 (dk_at s77_0 16 rfl rfl)) rfl
theorem f77_19 : ft 77 19 = some (4, 0, 0, .bipush 125, 2) := Fm77 (dk_16 125 (dk_at s77_0 19 rfl rfl)) rfl
theorem f77_21 : ft 77 21 = some (4, 0, 0, .goto 5, 3) := Fm77 (dk_167 0 5 (dk_at s77_0 21 rfl rfl)) rfl
theorem f77_24 : ft 77 24 = some (4, 0, 0, .bipush 93, 2) := Fm77 (dk_16 93 (dk_at s77_1 0 rfl rfl)) rfl
theorem f77_26 : ft 77 26 = some (4, 0, 0, .istore_n 3, 1) := Fm77 (dk_62 (dk_at s77_1 2 rfl rfl)) rfl
theorem f77_27 : ft 77 27 = some (4, 0, 0, .aload_n 0, 1) := Fm77 (dk_42 (dk_at s77_1 3 rfl rfl)) rfl
theorem f77_28 : ft 77 28 = some (4, 0, 0, .aload_n 0, 1) := Fm77 (dk_42 (dk_at s77_1 4 rfl rfl)) rfl
theorem f77_29 : ft 77 29 = some (4, 0, 0, .getfield 15, 3) := Fm77 (dk_180 0 15 (dk_at s77_1 5 rfl rfl)) rfl
theorem f77_32 : ft 77 32 = some (4, 0, 0, .bipush 32, 2) := Fm77 (dk_16 32 (dk_at s77_1 8 rfl rfl)) rfl
theorem f77_34 : ft 77 34 = some (4, 0, 0, .if_icmp .ge 7, 3) := Fm77 (dk_162 0 7 (dk_at s77_1 10 rfl rfl)) rfl
theorem f77_37 : ft 77 37 = some (4, 0, 0, .iconst 1, 1) := Fm77 (dk_4 (dk_at s77_1 13 rfl rfl)) rfl
theorem f77_38 : ft 77 38 = some (4, 0, 0, .goto 4, 3) := Fm77 (dk_167 0 4 (dk_at s77_1 14 rfl rfl)) rfl
theorem f77_41 : ft 77 41 = some (4, 0, 0, .iconst 0, 1) := Fm77 (dk_3 (dk_at s77_1 17 rfl rfl)) rfl
theorem f77_42 : ft 77 42 = some (4, 0, 0, .invokevirtual 32, 3) := Fm77 (dk_182 0 32 (dk_at s77_1 18 rfl rfl)) rfl
theorem f77_45 : ft 77 45 = some (4, 0, 0, .aload_n 0, 1) := Fm77 (dk_42 (dk_at s77_1 21 rfl rfl)) rfl
theorem f77_46 : ft 77 46 = some (4, 0, 0, .dup, 1) := Fm77 (dk_89 (dk_at s77_1 22 rfl rfl)) rfl
theorem f77_47 : ft 77 47 = some (4, 0, 0, .getfield 15, 3) := Fm77 (dk_180 0 15 (dk_at s77_2 0 rfl rfl)) rfl
theorem f77_50 : ft 77 50 = some (4, 0, 0, .iconst 1, 1) := Fm77 (dk_4 (dk_at s77_2 3 rfl rfl)) rfl
theorem f77_51 : ft 77 51 = some (4, 0, 0, .iadd, 1) := Fm77 (dk_96 (dk_at s77_2 4 rfl rfl)) rfl
theorem f77_52 : ft 77 52 = some (4, 0, 0, .putfield 15, 3) := Fm77 (dk_181 0 15 (dk_at s77_2 5 rfl rfl)) rfl
theorem f77_55 : ft 77 55 = some (4, 0, 0, .aload_n 0, 1) := Fm77 (dk_42 (dk_at s77_2 8 rfl rfl)) rfl
theorem f77_56 : ft 77 56 = some (4, 0, 0, .dup, 1) := Fm77 (dk_89 (dk_at s77_2 9 rfl rfl)) rfl
theorem f77_57 : ft 77 57 = some (4, 0, 0, .getfield 26, 3) := Fm77 (dk_180 0 26 (dk_at s77_2 10 rfl rfl)) rfl
theorem f77_60 : ft 77 60 = some (4, 0, 0, .iconst 1, 1) := Fm77 (dk_4 (dk_at s77_2 13 rfl rfl)) rfl
theorem f77_61 : ft 77 61 = some (4, 0, 0, .iadd, 1) := Fm77 (dk_96 (dk_at s77_2 14 rfl rfl)) rfl
theorem f77_62 : ft 77 62 = some (4, 0, 0, .putfield 26, 3) := Fm77 (dk_181 0 26 (dk_at s77_2 15 rfl rfl)) rfl
theorem f77_65 : ft 77 65 = some (4, 0, 0, .aload_n 1, 1) := Fm77 (dk_43 (dk_at s77_2 18 rfl rfl)) rfl
theorem f77_66 : ft 77 66 = some (4, 0, 0, .getfield 90, 3) := Fm77 (dk_180 0 90 (dk_at s77_2 19 rfl rfl)) rfl
theorem f77_69 : ft 77 69 = some (4, 0, 0, .istore 4, 2) := Fm77 (dk_54 4 (dk_at s77_2 22 rfl rfl)) rfl
theorem f77_71 : ft 77 71 = some (4, 0, 0, .aload_n 1, 1) := Fm77 (dk_43 (dk_at s77_3 0 rfl rfl)) rfl
theorem f77_72 : ft 77 72 = some (4, 0, 0, .iload_n 2, 1) := Fm77 (dk_28 (dk_at s77_3 1 rfl rfl)) rfl
theorem f77_73 : ft 77 73 = some (4, 0, 0, .ifCond .eq 8, 3) := Fm77 (dk_153 0 8 (dk_at s77_3 2 rfl rfl)) rfl
theorem f77_76 : ft 77 76 = some (4, 0, 0, .bipush 6, 2) := Fm77 (dk_16 6 (dk_at s77_3 5 rfl rfl)) rfl
theorem f77_78 : ft 77 78 = some (4, 0, 0, .goto 4, 3) := Fm77 (dk_167 0 4 (dk_at s77_3 7 rfl rfl)) rfl
theorem f77_81 : ft 77 81 = some (4, 0, 0, .iconst 5, 1) := Fm77 (dk_8 (dk_at s77_3 10 rfl rfl)) rfl
theorem f77_82 : ft 77 82 = some (4, 0, 0, .invokevirtual 46, 3) := Fm77 (dk_182 0 46 (dk_at s77_3 11 rfl rfl)) rfl
theorem f77_85 : ft 77 85 = some (4, 0, 0, .aload_n 1, 1) := Fm77 (dk_43 (dk_at s77_3 14 rfl rfl)) rfl
theorem f77_86 : ft 77 86 = some (4, 0, 0, .iconst 0, 1) := Fm77 (dk_3 (dk_at s77_3 15 rfl rfl)) rfl
theorem f77_87 : ft 77 87 = some (4, 0, 0, .invokevirtual 46, 3) := Fm77 (dk_182 0 46 (dk_at s77_3 16 rfl rfl)) rfl
theorem f77_90 : ft 77 90 = some (4, 0, 0, .aload_n 1, 1) := Fm77 (dk_43 (dk_at s77_3 19 rfl rfl)) rfl
theorem f77_91 : ft 77 91 = some (4, 0, 0, .iconst 0, 1) := Fm77 (dk_3 (dk_at s77_3 20 rfl rfl)) rfl
theorem f77_92 : ft 77 92 = some (4, 0, 0, .invokevirtual 46, 3) := Fm77 (dk_182 0 46 (dk_at s77_3 21 rfl rfl)) rfl
theorem f77_95 : ft 77 95 = some (4, 0, 0, .aload_n 0, 1) := Fm77 (dk_42 (dk_at s77_4 0 rfl rfl)) rfl
theorem f77_96 : ft 77 96 = some (4, 0, 0, .invokevirtual 19, 3) := Fm77 (dk_182 0 19 (dk_at s77_4 1 rfl rfl)) rfl
theorem f77_99 : ft 77 99 = some (4, 0, 0, .aload_n 0, 1) := Fm77 (dk_42 (dk_at s77_4 4 rfl rfl)) rfl
theorem f77_100 : ft 77 100 = some (4, 0, 0, .invokevirtual 36, 3) := Fm77 (dk_182 0 36 (dk_at s77_4 5 rfl rfl)) rfl
theorem f77_103 : ft 77 103 = some (4, 0, 0, .iload_n 3, 1) := Fm77 (dk_29 (dk_at s77_4 8 rfl rfl)) rfl
theorem f77_104 : ft 77 104 = some (4, 0, 0, .if_icmp .eq 40, 3) := Fm77 (dk_159 0 40 (dk_at s77_4 9 rfl rfl)) rfl
theorem f77_107 : ft 77 107 = some (4, 0, 0, .aload_n 0, 1) := Fm77 (dk_42 (dk_at s77_4 12 rfl rfl)) rfl
theorem f77_108 : ft 77 108 = some (4, 0, 0, .aload_n 1, 1) := Fm77 (dk_43 (dk_at s77_4 13 rfl rfl)) rfl
theorem f77_109 : ft 77 109 = some (4, 0, 0, .iload 4, 2) := Fm77 (dk_21 4 (dk_at s77_4 14 rfl rfl)) rfl
theorem f77_111 : ft 77 111 = some (4, 0, 0, .iload_n 2, 1) := Fm77 (dk_28 (dk_at s77_4 16 rfl rfl)) rfl
theorem f77_112 : ft 77 112 = some (4, 0, 0, .invokevirtual 93, 3) := Fm77 (dk_182 0 93 (dk_at s77_4 17 rfl rfl)) rfl
theorem f77_115 : ft 77 115 = some (4, 0, 0, .aload_n 0, 1) := Fm77 (dk_42 (dk_at s77_4 20 rfl rfl)) rfl
theorem f77_116 : ft 77 116 = some (4, 0, 0, .invokevirtual 36, 3) := Fm77 (dk_182 0 36 (dk_at s77_4 21 rfl rfl)) rfl
theorem f77_119 : ft 77 119 = some (4, 0, 0, .iload_n 3, 1) := Fm77 (dk_29 (dk_at s77_5 0 rfl rfl)) rfl
theorem f77_120 : ft 77 120 = some (4, 0, 0, .if_icmp .eq 24, 3) := Fm77 (dk_159 0 24 (dk_at s77_5 1 rfl rfl)) rfl
theorem f77_123 : ft 77 123 = some (4, 0, 0, .aload_n 0, 1) := Fm77 (dk_42 (dk_at s77_5 4 rfl rfl)) rfl
theorem f77_124 : ft 77 124 = some (4, 0, 0, .bipush 44, 2) := Fm77 (dk_16 44 (dk_at s77_5 5 rfl rfl)) rfl
theorem f77_126 : ft 77 126 = some (4, 0, 0, .invokevirtual 97, 3) := Fm77 (dk_182 0 97 (dk_at s77_5 7 rfl rfl)) rfl
theorem f77_129 : ft 77 129 = some (4, 0, 0, .aload_n 0, 1) := Fm77 (dk_42 (dk_at s77_5 10 rfl rfl)) rfl
theorem f77_130 : ft 77 130 = some (4, 0, 0, .invokevirtual 19, 3) := Fm77 (dk_182 0 19 (dk_at s77_5 11 rfl rfl)) rfl
theorem f77_133 : ft 77 133 = some (4, 0, 0, .aload_n 0, 1) := Fm77 (dk_42 (dk_at s77_5 14 rfl rfl)) rfl
theorem f77_134 : ft 77 134 = some (4, 0, 0, .aload_n 1, 1) := Fm77 (dk_43 (dk_at s77_5 15 rfl rfl)) rfl
theorem f77_135 : ft 77 135 = some (4, 0, 0, .iload 4, 2) := Fm77 (dk_21 4 (dk_at s77_5 16 rfl rfl)) rfl
theorem f77_137 : ft 77 137 = some (4, 0, 0, .iload_n 2, 1) := Fm77 (dk_28 (dk_at s77_5 18 rfl rfl)) rfl
theorem f77_138 : ft 77 138 = some (4, 0, 0, .invokevirtual 93, 3) := Fm77 (dk_182 0 93 (dk_at s77_5 19 rfl rfl)) rfl
theorem f77_141 : ft 77 141 = some (4, 0, 0, .goto (-26), 3) := Fm77 (dk_167 255 230 (dk_at s77_6 0 rfl rfl)) rfl
theorem f77_144 : ft 77 144 = some (4, 0, 0, .aload_n 0, 1) := Fm77 (dk_42 (dk_at s77_6 3 rfl rfl)) rfl
theorem f77_145 : ft 77 145 = some (4, 0, 0, .dup, 1) := Fm77 (dk_89 (dk_at s77_6 4 rfl rfl)) rfl
theorem f77_146 : ft 77 146 = some (4, 0, 0, .getfield 26, 3) := Fm77 (dk_180 0 26 (dk_at s77_6 5 rfl rfl)) rfl
theorem f77_149 : ft 77 149 = some (4, 0, 0, .iconst 1, 1) := Fm77 (dk_4 (dk_at s77_6 8 rfl rfl)) rfl
theorem f77_150 : ft 77 150 = some (4, 0, 0, .iadd, 1) := Fm77 (dk_96 (dk_at s77_6 9 rfl rfl)) rfl
theorem f77_151 : ft 77 151 = some (4, 0, 0, .putfield 26, 3) := Fm77 (dk_181 0 26 (dk_at s77_6 10 rfl rfl)) rfl
theorem f77_154 : ft 77 154 = some (4, 0, 0, .aload_n 0, 1) := Fm77 (dk_42 (dk_at s77_6 13 rfl rfl)) rfl
theorem f77_155 : ft 77 155 = some (4, 0, 0, .dup, 1) := Fm77 (dk_89 (dk_at s77_6 14 rfl rfl)) rfl
theorem f77_156 : ft 77 156 = some (4, 0, 0, .getfield 15, 3) := Fm77 (dk_180 0 15 (dk_at s77_6 15 rfl rfl)) rfl
theorem f77_159 : ft 77 159 = some (4, 0, 0, .iconst 1, 1) := Fm77 (dk_4 (dk_at s77_6 18 rfl rfl)) rfl
theorem f77_160 : ft 77 160 = some (4, 0, 0, .isub, 1) := Fm77 (dk_100 (dk_at s77_6 19 rfl rfl)) rfl
theorem f77_161 : ft 77 161 = some (4, 0, 0, .putfield 15, 3) := Fm77 (dk_181 0 15 (dk_at s77_6 20 rfl rfl)) rfl
theorem f77_164 : ft 77 164 = some (4, 0, 0, .aload_n 1, 1) := Fm77 (dk_43 (dk_at s77_6 23 rfl rfl)) rfl
theorem f77_165 : ft 77 165 = some (4, 0, 0, .iload 4, 2) := Fm77 (dk_21 4 (dk_at s77_7 0 rfl rfl)) rfl
theorem f77_167 : ft 77 167 = some (4, 0, 0, .iconst 1, 1) := Fm77 (dk_4 (dk_at s77_7 2 rfl rfl)) rfl
theorem f77_168 : ft 77 168 = some (4, 0, 0, .iadd, 1) := Fm77 (dk_96 (dk_at s77_7 3 rfl rfl)) rfl
theorem f77_169 : ft 77 169 = some (4, 0, 0, .aload_n 1, 1) := Fm77 (dk_43 (dk_at s77_7 4 rfl rfl)) rfl
theorem f77_170 : ft 77 170 = some (4, 0, 0, .getfield 90, 3) := Fm77 (dk_180 0 90 (dk_at s77_7 5 rfl rfl)) rfl
theorem f77_173 : ft 77 173 = some (4, 0, 0, .iload 4, 2) := Fm77 (dk_21 4 (dk_at s77_7 8 rfl rfl)) rfl
theorem f77_175 : ft 77 175 = some (4, 0, 0, .isub, 1) := Fm77 (dk_100 (dk_at s77_7 10 rfl rfl)) rfl
theorem f77_176 : ft 77 176 = some (4, 0, 0, .iconst 3, 1) := Fm77 (dk_6 (dk_at s77_7 11 rfl rfl)) rfl
theorem f77_177 : ft 77 177 = some (4, 0, 0, .isub, 1) := Fm77 (dk_100 (dk_at s77_7 12 rfl rfl)) rfl
theorem f77_178 : ft 77 178 = some (4, 0, 0, .invokevirtual 100, 3) := Fm77 (dk_182 0 100 (dk_at s77_7 13 rfl rfl)) rfl
theorem f77_181 : ft 77 181 = some (4, 0, 0, .return_, 1) := Fm77 (dk_177 (dk_at s77_7 16 rfl rfl)) rfl
theorem q77 {d : Nat} {m : Mem} {a0 a1 : Int} (hd : 0 < d) (hz : TZ m) : le2 (gd (tg m a0 = 4) <| bI (cl (d - 1) 63 [pR a0] m) fun v1 m1 => if v1 = 123 then (rn d 77 14 [pR a0, pR a1, pU, pU, pU] [pI 1] m1) else rn d 77 14 [pR a0, pR a1, pU, pU, pU] [pI 0] m1) (cl d 77 [pR a0, pR a1] m) := by
  refine q_in (n := 5) (L := [pR a0, pR a1, pU, pU, pU]) rfl rfl rfl ?_
  refine r_aln0 (p := 1) f77_0 rfl ?_
  refine le2_gd (fun h1 => ?_)
  refine r_invI (p := 4) f77_1 rfl rfl rfl (Or.inl h1) hd (Nat.le_of_ble_eq_true rfl) rfl rfl rfl (fun _ => rfl) (fun v1 m1 c1 => ?_)
  have hz1 := z_k c1 hz
  refine r_bipush (p := 6) f77_4 rfl (pinD rfl rfl) ?_
  refine r_icne (t := 13) (p := 9) f77_6 (by decide) rfl rfl ?_ ?_
  · refine r_iconst (p := 10) f77_9 rfl (pinD rfl rfl) ?_
    refine r_goto (p := 14) f77_10 (by decide) rfl ?_
    exact le2_refl _
  · refine r_iconst (p := 14) f77_13 rfl (pinD rfl rfl) ?_
    exact le2_refl _
theorem q77_14 {d : Nat} {m : Mem} {a0 a1 s0 : Int} (hz : TZ m) : le2 (if s0 = 0 then (gd (tg m a0 = 4) <| if (vl m a0 4) < 32 then (rn d 77 42 [pR a0, pR a1, pI s0, pI 93, pU] [pI 1, pR a0] m) else rn d 77 42 [pR a0, pR a1, pI s0, pI 93, pU] [pI 0, pR a0] m) else gd (tg m a0 = 4) <| if (vl m a0 4) < 32 then (rn d 77 42 [pR a0, pR a1, pI s0, pI 125, pU] [pI 1, pR a0] m) else rn d 77 42 [pR a0, pR a1, pI s0, pI 125, pU] [pI 0, pR a0] m) (rn d 77 14 [pR a0, pR a1, pU, pU, pU] [pI s0] m) := by
  refine r_isn2 (p := 15) f77_14 rfl rfl ?_
  refine r_iln2 (p := 16) f77_15 rfl ?_
  refine r_ifeq (t := 24) (p := 19) f77_16 (by decide) rfl rfl ?_ ?_
  · refine r_bipush (p := 26) f77_24 rfl (pinD rfl rfl) ?_
    refine r_isn3 (p := 27) f77_26 rfl rfl ?_
    refine r_aln0 (p := 28) f77_27 rfl ?_
    refine r_aln0 (p := 29) f77_28 rfl ?_
    refine le2_gd (fun h1 => ?_)
    refine r_gfI (f := 4) (p := 32) f77_29 rfl rfl rfl (Or.inl h1) rfl ?_
    refine r_bipush (p := 34) f77_32 rfl (pinD rfl rfl) ?_
    refine r_icge (t := 41) (p := 37) f77_34 (by decide) rfl rfl ?_ ?_
    · refine r_iconst (p := 38) f77_37 rfl (pinD rfl rfl) ?_
      refine r_goto (p := 42) f77_38 (by decide) rfl ?_
      exact le2_refl _
    · refine r_iconst (p := 42) f77_41 rfl (pinD rfl rfl) ?_
      exact le2_refl _
  · refine r_bipush (p := 21) f77_19 rfl (pinD rfl rfl) ?_
    refine r_goto (p := 26) f77_21 (by decide) rfl ?_
    refine r_isn3 (p := 27) f77_26 rfl rfl ?_
    refine r_aln0 (p := 28) f77_27 rfl ?_
    refine r_aln0 (p := 29) f77_28 rfl ?_
    refine le2_gd (fun h2 => ?_)
    refine r_gfI (f := 4) (p := 32) f77_29 rfl rfl rfl (Or.inl h2) rfl ?_
    refine r_bipush (p := 34) f77_32 rfl (pinD rfl rfl) ?_
    refine r_icge (t := 41) (p := 37) f77_34 (by decide) rfl rfl ?_ ?_
    · refine r_iconst (p := 38) f77_37 rfl (pinD rfl rfl) ?_
      refine r_goto (p := 42) f77_38 (by decide) rfl ?_
      exact le2_refl _
    · refine r_iconst (p := 42) f77_41 rfl (pinD rfl rfl) ?_
      exact le2_refl _
theorem q77_42 {d : Nat} {m : Mem} {a0 a1 a2 a3 s1 s0 : Int} (hd : 0 < d) (hz : TZ m) : le2 (gd (tg m s0 = 4) <| bV (cl (d - 1) 66 [pR s0, pI s1] m) fun m1 => gd (tg m1 a0 = 4) <| gd (tg m1 a1 = 8) <| nm (vl m1 a1 1) fun v2 => if a2 = 0 then (rn d 77 82 [pR a0, pR a1, pI a2, pI a3, pI v2] [pI 5, pR a1] (mst (mst m1 a0 4 (w32 ((vl m1 a0 4) + 1))) a0 2 (w32 ((vl m1 a0 2) + 1)))) else rn d 77 82 [pR a0, pR a1, pI a2, pI a3, pI v2] [pI 6, pR a1] (mst (mst m1 a0 4 (w32 ((vl m1 a0 4) + 1))) a0 2 (w32 ((vl m1 a0 2) + 1)))) (rn d 77 42 [pR a0, pR a1, pI a2, pI a3, pU] [pI s1, pR s0] m) := by
  refine le2_gd (fun h1 => ?_)
  refine r_invV (p := 45) f77_42 rfl rfl rfl (Or.inl h1) hd (Nat.le_of_ble_eq_true rfl) rfl rfl rfl (fun _ => rfl) (fun m1 c1 => ?_)
  have hz1 := z_k c1 hz
  refine r_aln0 (p := 46) f77_45 rfl ?_
  refine r_dup (p := 47) f77_46 rfl rfl ?_
  refine le2_gd (fun h2 => ?_)
  refine r_gfI (f := 4) (p := 50) f77_47 rfl rfl rfl (Or.inl h2) rfl ?_
  refine r_iconst (p := 51) f77_50 rfl (pinD rfl rfl) ?_
  refine r_iadd (p := 52) f77_51 rfl ?_
  refine r_pfI (f := 4) (p := 55) f77_52 rfl rfl rfl (by decide) (by decide) (Or.inl h2) rfl ?_
  refine r_aln0 (p := 56) f77_55 rfl ?_
  refine r_dup (p := 57) f77_56 rfl rfl ?_
  refine r_gfI (f := 2) (p := 60) f77_57 rfl rfl rfl (Or.inl h2) (sk_f (by decide)) ?_
  refine r_iconst (p := 61) f77_60 rfl (pinD rfl rfl) ?_
  refine r_iadd (p := 62) f77_61 rfl ?_
  refine r_pfI (f := 2) (p := 65) f77_62 rfl rfl rfl (by decide) (by decide) (Or.inl h2) rfl ?_
  refine r_aln1 (p := 66) f77_65 rfl ?_
  refine le2_gd (fun h3 => ?_)
  refine r_gfI (f := 1) (p := 69) f77_66 rfl rfl rfl (Or.inl h3) (Eq.trans (sk_f (by decide)) (sk_f (by decide))) ?_
  refine r_nmI (fun v2 ev2 => ?_)
  refine r_isw4 (p := 71) f77_69 rfl rfl ?_
  refine r_aln1 (p := 72) f77_71 rfl ?_
  refine r_iln2 (p := 73) f77_72 rfl ?_
  refine r_ifeq (t := 81) (p := 76) f77_73 (by decide) rfl rfl ?_ ?_
  · refine r_iconst (p := 82) f77_81 rfl (pinD rfl rfl) ?_
    exact le2_refl _
  · refine r_bipush (p := 78) f77_76 rfl (pinD rfl rfl) ?_
    refine r_goto (p := 82) f77_78 (by decide) rfl ?_
    exact le2_refl _
theorem q77_82 {d : Nat} {m : Mem} {a0 a1 a2 a3 a4 s1 s0 : Int} (hd : 0 < d) (hz : TZ m) : le2 (gd (tg m s0 = 8) <| bV (cl (d - 1) 130 [pR s0, pI s1] m) fun m1 => gd (tg m1 a1 = 8) <| bV (cl (d - 1) 130 [pR a1, pI 0] m1) fun m2 => bV (cl (d - 1) 130 [pR a1, pI 0] m2) fun m3 => gd (tg m3 a0 = 4) <| bV (cl (d - 1) 62 [pR a0] m3) fun m4 => bI (cl (d - 1) 63 [pR a0] m4) fun v5 m5 => if v5 = a3 then (rn d 77 144 [pR a0, pR a1, pI a2, pI a3, pI a4] [] m5) else bV (cl (d - 1) 78 [pR a0, pR a1, pI a4, pI a2] m5) fun m6 => rn d 77 115 [pR a0, pR a1, pI a2, pI a3, pI a4] [] m6) (rn d 77 82 [pR a0, pR a1, pI a2, pI a3, pI a4] [pI s1, pR s0] m) := by
  refine le2_gd (fun h1 => ?_)
  refine r_invV (p := 85) f77_82 rfl rfl rfl (Or.inl h1) hd (Nat.le_of_ble_eq_true rfl) rfl rfl rfl (fun _ => rfl) (fun m1 c1 => ?_)
  have hz1 := z_k c1 hz
  refine r_aln1 (p := 86) f77_85 rfl ?_
  refine r_iconst (p := 87) f77_86 rfl (pinD rfl rfl) ?_
  refine le2_gd (fun h2 => ?_)
  refine r_invV (p := 90) f77_87 rfl rfl rfl (Or.inl h2) hd (Nat.le_of_ble_eq_true rfl) rfl rfl rfl (fun _ => rfl) (fun m2 c2 => ?_)
  have hz2 := z_k c2 hz1
  refine r_aln1 (p := 91) f77_90 rfl ?_
  refine r_iconst (p := 92) f77_91 rfl (pinD rfl rfl) ?_
  have h3 := k_t1 c2 hz1 h2 (by decide)
  refine r_invV (p := 95) f77_92 rfl rfl rfl (Or.inl h3) hd (Nat.le_of_ble_eq_true rfl) rfl rfl rfl (fun _ => rfl) (fun m3 c3 => ?_)
  have hz3 := z_k c3 hz2
  refine r_aln0 (p := 96) f77_95 rfl ?_
  refine le2_gd (fun h4 => ?_)
  refine r_invV (p := 99) f77_96 rfl rfl rfl (Or.inl h4) hd (Nat.le_of_ble_eq_true rfl) rfl rfl rfl (fun _ => rfl) (fun m4 c4 => ?_)
  have hz4 := z_k c4 hz3
  refine r_aln0 (p := 100) f77_99 rfl ?_
  have h5 := k_t1 c4 hz3 h4 (by decide)
  refine r_invI (p := 103) f77_100 rfl rfl rfl (Or.inl h5) hd (Nat.le_of_ble_eq_true rfl) rfl rfl rfl (fun _ => rfl) (fun v5 m5 c5 => ?_)
  have hz5 := z_k c5 hz4
  refine r_iln3 (p := 104) f77_103 rfl ?_
  refine r_iceq (t := 144) (p := 107) f77_104 (by decide) rfl rfl ?_ ?_
  · exact le2_refl _
  · refine r_aln0 (p := 108) f77_107 rfl ?_
    refine r_aln1 (p := 109) f77_108 rfl ?_
    refine r_ilw4 (p := 111) f77_109 rfl ?_
    refine r_iln2 (p := 112) f77_111 rfl ?_
    have h6 := k_t1 c5 hz4 h5 (by decide)
    refine r_invV (p := 115) f77_112 rfl rfl rfl (Or.inl h6) hd (Nat.le_of_ble_eq_true rfl) rfl rfl rfl (fun _ => rfl) (fun m6 c6 => ?_)
    have hz6 := z_k c6 hz5
    exact le2_refl _
theorem q77_115 {d : Nat} {m : Mem} {a0 a1 a2 a3 a4 : Int} (hd : 0 < d) (hz : TZ m) : le2 (gd (tg m a0 = 4) <| bI (cl (d - 1) 63 [pR a0] m) fun v1 m1 => if v1 = a3 then (rn d 77 144 [pR a0, pR a1, pI a2, pI a3, pI a4] [] m1) else bV (cl (d - 1) 65 [pR a0, pI 44] m1) fun m2 => bV (cl (d - 1) 62 [pR a0] m2) fun m3 => bV (cl (d - 1) 78 [pR a0, pR a1, pI a4, pI a2] m3) fun m4 => rn d 77 115 [pR a0, pR a1, pI a2, pI a3, pI a4] [] m4) (rn d 77 115 [pR a0, pR a1, pI a2, pI a3, pI a4] [] m) := by
  refine r_aln0 (p := 116) f77_115 rfl ?_
  refine le2_gd (fun h1 => ?_)
  refine r_invI (p := 119) f77_116 rfl rfl rfl (Or.inl h1) hd (Nat.le_of_ble_eq_true rfl) rfl rfl rfl (fun _ => rfl) (fun v1 m1 c1 => ?_)
  have hz1 := z_k c1 hz
  refine r_iln3 (p := 120) f77_119 rfl ?_
  refine r_iceq (t := 144) (p := 123) f77_120 (by decide) rfl rfl ?_ ?_
  · exact le2_refl _
  · refine r_aln0 (p := 124) f77_123 rfl ?_
    refine r_bipush (p := 126) f77_124 rfl (pinD rfl rfl) ?_
    have h2 := k_t1 c1 hz h1 (by decide)
    refine r_invV (p := 129) f77_126 rfl rfl rfl (Or.inl h2) hd (Nat.le_of_ble_eq_true rfl) rfl rfl rfl (fun _ => rfl) (fun m2 c2 => ?_)
    have hz2 := z_k c2 hz1
    refine r_aln0 (p := 130) f77_129 rfl ?_
    have h3 := k_t1 c2 hz1 h2 (by decide)
    refine r_invV (p := 133) f77_130 rfl rfl rfl (Or.inl h3) hd (Nat.le_of_ble_eq_true rfl) rfl rfl rfl (fun _ => rfl) (fun m3 c3 => ?_)
    have hz3 := z_k c3 hz2
    refine r_aln0 (p := 134) f77_133 rfl ?_
    refine r_aln1 (p := 135) f77_134 rfl ?_
    refine r_ilw4 (p := 137) f77_135 rfl ?_
    refine r_iln2 (p := 138) f77_137 rfl ?_
    have h4 := k_t1 c3 hz2 h3 (by decide)
    refine r_invV (p := 141) f77_138 rfl rfl rfl (Or.inl h4) hd (Nat.le_of_ble_eq_true rfl) rfl rfl rfl (fun _ => rfl) (fun m4 c4 => ?_)
    have hz4 := z_k c4 hz3
    refine r_goto (p := 115) f77_141 (by decide) rfl ?_
    exact le2_refl _
theorem q77_144 {d : Nat} {m : Mem} {a0 a1 a2 a3 a4 : Int} (hd : 0 < d) (hz : TZ m) : le2 (gd (tg m a0 = 4) <| gd (tg m a1 = 8) <| bV (cl (d - 1) 133 [pR a1, pI (w32 (a4 + 1)), pI (w32 ((w32 ((vl m a1 1) - a4)) - 3))] (mst (mst m a0 2 (w32 ((vl m a0 2) + 1))) a0 4 (w32 ((vl m a0 4) - 1)))) fun m1 => some (.inl none, m1)) (rn d 77 144 [pR a0, pR a1, pI a2, pI a3, pI a4] [] m) := by
  refine r_aln0 (p := 145) f77_144 rfl ?_
  refine r_dup (p := 146) f77_145 rfl rfl ?_
  refine le2_gd (fun h1 => ?_)
  refine r_gfI (f := 2) (p := 149) f77_146 rfl rfl rfl (Or.inl h1) rfl ?_
  refine r_iconst (p := 150) f77_149 rfl (pinD rfl rfl) ?_
  refine r_iadd (p := 151) f77_150 rfl ?_
  refine r_pfI (f := 2) (p := 154) f77_151 rfl rfl rfl (by decide) (by decide) (Or.inl h1) rfl ?_
  refine r_aln0 (p := 155) f77_154 rfl ?_
  refine r_dup (p := 156) f77_155 rfl rfl ?_
  refine r_gfI (f := 4) (p := 159) f77_156 rfl rfl rfl (Or.inl h1) (sk_f (by decide)) ?_
  refine r_iconst (p := 160) f77_159 rfl (pinD rfl rfl) ?_
  refine r_isub (p := 161) f77_160 rfl ?_
  refine r_pfI (f := 4) (p := 164) f77_161 rfl rfl rfl (by decide) (by decide) (Or.inl h1) rfl ?_
  refine r_aln1 (p := 165) f77_164 rfl ?_
  refine r_ilw4 (p := 167) f77_165 rfl ?_
  refine r_iconst (p := 168) f77_167 rfl (pinD rfl rfl) ?_
  refine r_iadd (p := 169) f77_168 rfl ?_
  refine r_aln1 (p := 170) f77_169 rfl ?_
  refine le2_gd (fun h2 => ?_)
  refine r_gfI (f := 1) (p := 173) f77_170 rfl rfl rfl (Or.inl h2) (Eq.trans (sk_f (by decide)) (sk_f (by decide))) ?_
  refine r_ilw4 (p := 175) f77_173 rfl ?_
  refine r_isub (p := 176) f77_175 rfl ?_
  refine r_iconst (p := 177) f77_176 rfl (pinD rfl rfl) ?_
  refine r_isub (p := 178) f77_177 rfl ?_
  refine r_invV (p := 181) f77_178 rfl rfl rfl (Or.inl h2) hd (Nat.le_of_ble_eq_true rfl) rfl rfl rfl (fun _ => rfl) (fun m1 c1 => ?_)
  have hz1 := z_k c1 hz
  exact r_ret f77_181
/-! 78 PathStore$Reader.element (LPathStore$Row;IZ)V -/
def w78_5 : List UInt8 := [16, 58, 182, 0, 97, 42, 182, 0, 19, 42, 43, 182, 0, 22, 42, 182, 0, 19, 177]
abbrev u78_5 : List UInt8 := w78_5 ++ []
def w78_4 : List UInt8 := [182, 0, 84, 43, 43, 21, 6, 182, 0, 111, 182, 0, 114, 54, 6, 167, 255, 194, 42, 182, 0, 19, 42]
abbrev u78_4 : List UInt8 := w78_4 ++ u78_5
def w78_3 : List UInt8 := [21, 6, 5, 96, 43, 21, 5, 5, 96, 43, 21, 5, 182, 0, 104, 182, 0, 107, 153, 0, 9, 42, 21, 4]
abbrev u78_3 : List UInt8 := w78_3 ++ u78_4
def w78_2 : List UInt8 := [21, 6, 21, 5, 162, 0, 61, 43, 21, 6, 182, 0, 104, 43, 21, 5, 182, 0, 104, 160, 0, 31, 43]
abbrev u78_2 : List UInt8 := w78_2 ++ u78_3
def w78_1 : List UInt8 := [180, 0, 26, 54, 4, 43, 180, 0, 90, 54, 5, 42, 43, 16, 34, 182, 0, 56, 28, 6, 96, 54, 6]
abbrev u78_1 : List UInt8 := w78_1 ++ u78_2
def w78_0 : List UInt8 := [29, 153, 0, 124, 42, 42, 182, 0, 36, 16, 34, 160, 0, 7, 4, 167, 0, 4, 3, 182, 0, 32, 42]
abbrev u78_0 : List UInt8 := w78_0 ++ u78_1
theorem s78_0 : (prog_19_method_6_code).data.toList.drop 0 = u78_0 := by decide +kernel
theorem s78_1 : (prog_19_method_6_code).data.toList.drop 23 = u78_1 := dk_seg s78_0 23 rfl rfl
theorem s78_2 : (prog_19_method_6_code).data.toList.drop 46 = u78_2 := dk_seg s78_1 23 rfl rfl
theorem s78_3 : (prog_19_method_6_code).data.toList.drop 69 = u78_3 := dk_seg s78_2 23 rfl rfl
theorem s78_4 : (prog_19_method_6_code).data.toList.drop 93 = u78_4 := dk_seg s78_3 24 rfl rfl
theorem s78_5 : (prog_19_method_6_code).data.toList.drop 116 = u78_5 := dk_seg s78_4 23 rfl rfl
theorem Fm78 {pc len : Nat} {i : Instr} (h : decode (prog_19_method_6_code) pc = .ok (i, len)) (hl : len = ilen i len) : ft 78 pc = some (4, 0, 0, i, len) := ft_mk rfl h hl
theorem f78_0 : ft 78 0 = some (4, 0, 0, .iload_n 3, 1) := Fm78 (dk_29 (dk_at s78_0 0 rfl rfl)) rfl
theorem f78_1 : ft 78 1 = some (4, 0, 0, .ifCond .eq 124, 3) := Fm78 (dk_153 0 124 (dk_at s78_0 1 rfl rfl)) rfl
theorem f78_4 : ft 78 4 = some (4, 0, 0, .aload_n 0, 1) := Fm78 (dk_42 (dk_at s78_0 4 rfl rfl)) rfl
theorem f78_5 : ft 78 5 = some (4, 0, 0, .aload_n 0, 1) := Fm78 (dk_42 (dk_at s78_0 5 rfl rfl)) rfl
theorem f78_6 : ft 78 6 = some (4, 0, 0, .invokevirtual 36, 3) := Fm78 (dk_182 0 36 (dk_at s78_0 6 rfl rfl)) rfl
theorem f78_9 : ft 78 9 = some (4, 0, 0, .bipush 34, 2) := Fm78 (dk_16 34 (dk_at s78_0 9 rfl rfl)) rfl
theorem f78_11 : ft 78 11 = some (4, 0, 0, .if_icmp .ne 7, 3) := Fm78 (dk_160 0 7 (dk_at s78_0 11 rfl rfl)) rfl
theorem f78_14 : ft 78 14 = some (4, 0, 0, .iconst 1, 1) := Fm78 (dk_4 (dk_at s78_0 14 rfl rfl)) rfl
theorem f78_15 : ft 78 15 = some (4, 0, 0, .goto 4, 3) := Fm78 (dk_167 0 4 (dk_at s78_0 15 rfl rfl)) rfl
theorem f78_18 : ft 78 18 = some (4, 0, 0, .iconst 0, 1) := Fm78 (dk_3 (dk_at s78_0 18 rfl rfl)) rfl
theorem f78_19 : ft 78 19 = some (4, 0, 0, .invokevirtual 32, 3) := Fm78 (dk_182 0 32 (dk_at s78_0 19 rfl rfl)) rfl
theorem f78_22 : ft 78 22 = some (4, 0, 0, .aload_n 0, 1) := Fm78 (dk_42 (dk_at s78_0 22 rfl rfl)) rfl
theorem f78_23 : ft 78 23 = some (4, 0, 0, .getfield 26, 3) := Fm78 (dk_180 0 26 (dk_at s78_1 0 rfl rfl)) rfl
theorem f78_26 : ft 78 26 = some (4, 0, 0, .istore 4, 2) := Fm78 (dk_54 4 (dk_at s78_1 3 rfl rfl)) rfl
theorem f78_28 : ft 78 28 = some (4, 0, 0, .aload_n 1, 1) := Fm78 (dk_43 (dk_at s78_1 5 rfl rfl)) rfl
theorem f78_29 : ft 78 29 = some (4, 0, 0, .getfield 90, 3) := Fm78 (dk_180 0 90 (dk_at s78_1 6 rfl rfl)) rfl
theorem f78_32 : ft 78 32 = some (4, 0, 0, .istore 5, 2) := Fm78 (dk_54 5 (dk_at s78_1 9 rfl rfl)) rfl
theorem f78_34 : ft 78 34 = some (4, 0, 0, .aload_n 0, 1) := Fm78 (dk_42 (dk_at s78_1 11 rfl rfl)) rfl
theorem f78_35 : ft 78 35 = some (4, 0, 0, .aload_n 1, 1) := Fm78 (dk_43 (dk_at s78_1 12 rfl rfl)) rfl
theorem f78_36 : ft 78 36 = some (4, 0, 0, .bipush 34, 2) := Fm78 (dk_16 34 (dk_at s78_1 13 rfl rfl)) rfl
theorem f78_38 : ft 78 38 = some (4, 0, 0, .invokevirtual 56, 3) := Fm78 (dk_182 0 56 (dk_at s78_1 15 rfl rfl)) rfl
theorem f78_41 : ft 78 41 = some (4, 0, 0, .iload_n 2, 1) := Fm78 (dk_28 (dk_at s78_1 18 rfl rfl)) rfl
theorem f78_42 : ft 78 42 = some (4, 0, 0, .iconst 3, 1) := Fm78 (dk_6 (dk_at s78_1 19 rfl rfl)) rfl
theorem f78_43 : ft 78 43 = some (4, 0, 0, .iadd, 1) := Fm78 (dk_96 (dk_at s78_1 20 rfl rfl)) rfl
theorem f78_44 : ft 78 44 = some (4, 0, 0, .istore 6, 2) := Fm78 (dk_54 6 (dk_at s78_1 21 rfl rfl)) rfl
theorem f78_46 : ft 78 46 = some (4, 0, 0, .iload 6, 2) := Fm78 (dk_21 6 (dk_at s78_2 0 rfl rfl)) rfl
theorem f78_48 : ft 78 48 = some (4, 0, 0, .iload 5, 2) := Fm78 (dk_21 5 (dk_at s78_2 2 rfl rfl)) rfl
theorem f78_50 : ft 78 50 = some (4, 0, 0, .if_icmp .ge 61, 3) := Fm78 (dk_162 0 61 (dk_at s78_2 4 rfl rfl)) rfl
theorem f78_53 : ft 78 53 = some (4, 0, 0, .aload_n 1, 1) := Fm78 (dk_43 (dk_at s78_2 7 rfl rfl)) rfl
theorem f78_54 : ft 78 54 = some (4, 0, 0, .iload 6, 2) := Fm78 (dk_21 6 (dk_at s78_2 8 rfl rfl)) rfl
theorem f78_56 : ft 78 56 = some (4, 0, 0, .invokevirtual 104, 3) := Fm78 (dk_182 0 104 (dk_at s78_2 10 rfl rfl)) rfl
theorem f78_59 : ft 78 59 = some (4, 0, 0, .aload_n 1, 1) := Fm78 (dk_43 (dk_at s78_2 13 rfl rfl)) rfl
theorem f78_60 : ft 78 60 = some (4, 0, 0, .iload 5, 2) := Fm78 (dk_21 5 (dk_at s78_2 14 rfl rfl)) rfl
theorem f78_62 : ft 78 62 = some (4, 0, 0, .invokevirtual 104, 3) := Fm78 (dk_182 0 104 (dk_at s78_2 16 rfl rfl)) rfl
theorem f78_65 : ft 78 65 = some (4, 0, 0, .if_icmp .ne 31, 3) := Fm78 (dk_160 0 31 (dk_at s78_2 19 rfl rfl)) rfl
theorem f78_68 : ft 78 68 = some (4, 0, 0, .aload_n 1, 1) := Fm78 (dk_43 (dk_at s78_2 22 rfl rfl)) rfl
theorem f78_69 : ft 78 69 = some (4, 0, 0, .iload 6, 2) := Fm78 (dk_21 6 (dk_at s78_3 0 rfl rfl)) rfl
theorem f78_71 : ft 78 71 = some (4, 0, 0, .iconst 2, 1) := Fm78 (dk_5 (dk_at s78_3 2 rfl rfl)) rfl
theorem f78_72 : ft 78 72 = some (4, 0, 0, .iadd, 1) := Fm78 (dk_96 (dk_at s78_3 3 rfl rfl)) rfl
theorem f78_73 : ft 78 73 = some (4, 0, 0, .aload_n 1, 1) := Fm78 (dk_43 (dk_at s78_3 4 rfl rfl)) rfl
theorem f78_74 : ft 78 74 = some (4, 0, 0, .iload 5, 2) := Fm78 (dk_21 5 (dk_at s78_3 5 rfl rfl)) rfl
theorem f78_76 : ft 78 76 = some (4, 0, 0, .iconst 2, 1) := Fm78 (dk_5 (dk_at s78_3 7 rfl rfl)) rfl
theorem f78_77 : ft 78 77 = some (4, 0, 0, .iadd, 1) := Fm78 (dk_96 (dk_at s78_3 8 rfl rfl)) rfl
theorem f78_78 : ft 78 78 = some (4, 0, 0, .aload_n 1, 1) := Fm78 (dk_43 (dk_at s78_3 9 rfl rfl)) rfl
theorem f78_79 : ft 78 79 = some (4, 0, 0, .iload 5, 2) := Fm78 (dk_21 5 (dk_at s78_3 10 rfl rfl)) rfl
theorem f78_81 : ft 78 81 = some (4, 0, 0, .invokevirtual 104, 3) := Fm78 (dk_182 0 104 (dk_at s78_3 12 rfl rfl)) rfl
theorem f78_84 : ft 78 84 = some (4, 0, 0, .invokevirtual 107, 3) := Fm78 (dk_182 0 107 (dk_at s78_3 15 rfl rfl)) rfl
theorem f78_87 : ft 78 87 = some (4, 0, 0, .ifCond .eq 9, 3) := Fm78 (dk_153 0 9 (dk_at s78_3 18 rfl rfl)) rfl
theorem f78_90 : ft 78 90 = some (4, 0, 0, .aload_n 0, 1) := Fm78 (dk_42 (dk_at s78_3 21 rfl rfl)) rfl
theorem f78_91 : ft 78 91 = some (4, 0, 0, .iload 4, 2) := Fm78 (dk_21 4 (dk_at s78_3 22 rfl rfl)) rfl
theorem f78_93 : ft 78 93 = some (4, 0, 0, .invokevirtual 84, 3) := Fm78 (dk_182 0 84 (dk_at s78_4 0 rfl rfl)) rfl
theorem f78_96 : ft 78 96 = some (4, 0, 0, .aload_n 1, 1) := Fm78 (dk_43 (dk_at s78_4 3 rfl rfl)) rfl
theorem f78_97 : ft 78 97 = some (4, 0, 0, .aload_n 1, 1) := Fm78 (dk_43 (dk_at s78_4 4 rfl rfl)) rfl
theorem f78_98 : ft 78 98 = some (4, 0, 0, .iload 6, 2) := Fm78 (dk_21 6 (dk_at s78_4 5 rfl rfl)) rfl
theorem f78_100 : ft 78 100 = some (4, 0, 0, .invokevirtual 111, 3) := Fm78 (dk_182 0 111 (dk_at s78_4 7 rfl rfl)) rfl
theorem f78_103 : ft 78 103 = some (4, 0, 0, .invokevirtual 114, 3) := Fm78 (dk_182 0 114 (dk_at s78_4 10 rfl rfl)) rfl
theorem f78_106 : ft 78 106 = some (4, 0, 0, .istore 6, 2) := Fm78 (dk_54 6 (dk_at s78_4 13 rfl rfl)) rfl
theorem f78_108 : ft 78 108 = some (4, 0, 0, .goto (-62), 3) := Fm78 (dk_167 255 194 (dk_at s78_4 15 rfl rfl)) rfl
theorem f78_111 : ft 78 111 = some (4, 0, 0, .aload_n 0, 1) := Fm78 (dk_42 (dk_at s78_4 18 rfl rfl)) rfl
theorem f78_112 : ft 78 112 = some (4, 0, 0, .invokevirtual 19, 3) := Fm78 (dk_182 0 19 (dk_at s78_4 19 rfl rfl)) rfl
theorem f78_115 : ft 78 115 = some (4, 0, 0, .aload_n 0, 1) := Fm78 (dk_42 (dk_at s78_4 22 rfl rfl)) rfl
theorem f78_116 : ft 78 116 = some (4, 0, 0, .bipush 58, 2) := Fm78 (dk_16 58 (dk_at s78_5 0 rfl rfl)) rfl
theorem f78_118 : ft 78 118 = some (4, 0, 0, .invokevirtual 97, 3) := Fm78 (dk_182 0 97 (dk_at s78_5 2 rfl rfl)) rfl
theorem f78_121 : ft 78 121 = some (4, 0, 0, .aload_n 0, 1) := Fm78 (dk_42 (dk_at s78_5 5 rfl rfl)) rfl
theorem f78_122 : ft 78 122 = some (4, 0, 0, .invokevirtual 19, 3) := Fm78 (dk_182 0 19 (dk_at s78_5 6 rfl rfl)) rfl
theorem f78_125 : ft 78 125 = some (4, 0, 0, .aload_n 0, 1) := Fm78 (dk_42 (dk_at s78_5 9 rfl rfl)) rfl
theorem f78_126 : ft 78 126 = some (4, 0, 0, .aload_n 1, 1) := Fm78 (dk_43 (dk_at s78_5 10 rfl rfl)) rfl
theorem f78_127 : ft 78 127 = some (4, 0, 0, .invokevirtual 22, 3) := Fm78 (dk_182 0 22 (dk_at s78_5 11 rfl rfl)) rfl
theorem f78_130 : ft 78 130 = some (4, 0, 0, .aload_n 0, 1) := Fm78 (dk_42 (dk_at s78_5 14 rfl rfl)) rfl
theorem f78_131 : ft 78 131 = some (4, 0, 0, .invokevirtual 19, 3) := Fm78 (dk_182 0 19 (dk_at s78_5 15 rfl rfl)) rfl
theorem f78_134 : ft 78 134 = some (4, 0, 0, .return_, 1) := Fm78 (dk_177 (dk_at s78_5 18 rfl rfl)) rfl
theorem q78 {d : Nat} {m : Mem} {a0 a1 a2 a3 : Int} (hd : 0 < d) (hz : TZ m) : le2 (if a3 = 0 then (gd (tg m a0 = 4) <| bV (cl (d - 1) 76 [pR a0, pR a1] m) fun m1 => bV (cl (d - 1) 62 [pR a0] m1) fun m2 => some (.inl none, m2)) else gd (tg m a0 = 4) <| bI (cl (d - 1) 63 [pR a0] m) fun v3 m3 => if v3 = 34 then (rn d 78 19 [pR a0, pR a1, pI a2, pI a3, pU, pU, pU] [pI 1, pR a0] m3) else rn d 78 19 [pR a0, pR a1, pI a2, pI a3, pU, pU, pU] [pI 0, pR a0] m3) (cl d 78 [pR a0, pR a1, pI a2, pI a3] m) := by
  refine q_in (n := 7) (L := [pR a0, pR a1, pI a2, pI a3, pU, pU, pU]) rfl rfl rfl ?_
  refine r_iln3 (p := 1) f78_0 rfl ?_
  refine r_ifeq (t := 125) (p := 4) f78_1 (by decide) rfl rfl ?_ ?_
  · refine r_aln0 (p := 126) f78_125 rfl ?_
    refine r_aln1 (p := 127) f78_126 rfl ?_
    refine le2_gd (fun h1 => ?_)
    refine r_invV (p := 130) f78_127 rfl rfl rfl (Or.inl h1) hd (Nat.le_of_ble_eq_true rfl) rfl rfl rfl (fun _ => rfl) (fun m1 c1 => ?_)
    have hz1 := z_k c1 hz
    refine r_aln0 (p := 131) f78_130 rfl ?_
    have h2 := k_t1 c1 hz h1 (by decide)
    refine r_invV (p := 134) f78_131 rfl rfl rfl (Or.inl h2) hd (Nat.le_of_ble_eq_true rfl) rfl rfl rfl (fun _ => rfl) (fun m2 c2 => ?_)
    have hz2 := z_k c2 hz1
    exact r_ret f78_134
  · refine r_aln0 (p := 5) f78_4 rfl ?_
    refine r_aln0 (p := 6) f78_5 rfl ?_
    refine le2_gd (fun h3 => ?_)
    refine r_invI (p := 9) f78_6 rfl rfl rfl (Or.inl h3) hd (Nat.le_of_ble_eq_true rfl) rfl rfl rfl (fun _ => rfl) (fun v3 m3 c3 => ?_)
    have hz3 := z_k c3 hz
    refine r_bipush (p := 11) f78_9 rfl (pinD rfl rfl) ?_
    refine r_icne (t := 18) (p := 14) f78_11 (by decide) rfl rfl ?_ ?_
    · refine r_iconst (p := 15) f78_14 rfl (pinD rfl rfl) ?_
      refine r_goto (p := 19) f78_15 (by decide) rfl ?_
      exact le2_refl _
    · refine r_iconst (p := 19) f78_18 rfl (pinD rfl rfl) ?_
      exact le2_refl _
theorem q78_19 {d : Nat} {m : Mem} {a0 a1 a2 a3 s1 s0 : Int} (hd : 0 < d) (hz : TZ m) : le2 (gd (tg m s0 = 4) <| bV (cl (d - 1) 66 [pR s0, pI s1] m) fun m1 => gd (tg m1 a0 = 4) <| gd (tg m1 a1 = 8) <| bV (cl (d - 1) 68 [pR a0, pR a1, pI 34] m1) fun m2 => rn d 78 46 [pR a0, pR a1, pI a2, pI a3, pI (vl m1 a0 2), pI (vl m1 a1 1), pI (w32 (a2 + 3))] [] m2) (rn d 78 19 [pR a0, pR a1, pI a2, pI a3, pU, pU, pU] [pI s1, pR s0] m) := by
  refine le2_gd (fun h1 => ?_)
  refine r_invV (p := 22) f78_19 rfl rfl rfl (Or.inl h1) hd (Nat.le_of_ble_eq_true rfl) rfl rfl rfl (fun _ => rfl) (fun m1 c1 => ?_)
  have hz1 := z_k c1 hz
  refine r_aln0 (p := 23) f78_22 rfl ?_
  refine le2_gd (fun h2 => ?_)
  refine r_gfI (f := 2) (p := 26) f78_23 rfl rfl rfl (Or.inl h2) rfl ?_
  refine r_isw4 (p := 28) f78_26 rfl rfl ?_
  refine r_aln1 (p := 29) f78_28 rfl ?_
  refine le2_gd (fun h3 => ?_)
  refine r_gfI (f := 1) (p := 32) f78_29 rfl rfl rfl (Or.inl h3) rfl ?_
  refine r_isw5 (p := 34) f78_32 rfl rfl ?_
  refine r_aln0 (p := 35) f78_34 rfl ?_
  refine r_aln1 (p := 36) f78_35 rfl ?_
  refine r_bipush (p := 38) f78_36 rfl (pinD rfl rfl) ?_
  refine r_invV (p := 41) f78_38 rfl rfl rfl (Or.inl h2) hd (Nat.le_of_ble_eq_true rfl) rfl rfl rfl (fun _ => rfl) (fun m2 c2 => ?_)
  have hz2 := z_k c2 hz1
  refine r_iln2 (p := 42) f78_41 rfl ?_
  refine r_iconst (p := 43) f78_42 rfl (pinD rfl rfl) ?_
  refine r_iadd (p := 44) f78_43 rfl ?_
  refine r_isw6 (p := 46) f78_44 rfl rfl ?_
  exact le2_refl _
theorem q78_46 {d : Nat} {m : Mem} {a0 a1 a2 a3 a4 a5 a6 : Int} (hd : 0 < d) (hz : TZ m) : le2 (if a6 < a5 then (gd (tg m a1 = 8) <| bI (cl (d - 1) 134 [pR a1, pI a6] m) fun v6 m6 => bI (cl (d - 1) 134 [pR a1, pI a5] m6) fun v7 m7 => if v6 = v7 then (bI (cl (d - 1) 134 [pR a1, pI a5] m7) fun v8 m8 => bI (cl (d - 1) 135 [pR a1, pI (w32 (a6 + 2)), pR a1, pI (w32 (a5 + 2)), pI v8] m8) fun v9 m9 => if v9 = 0 then (rn d 78 96 [pR a0, pR a1, pI a2, pI a3, pI a4, pI a5, pI a6] [] m9) else gd (tg m9 a0 = 4) <| bV (cl (d - 1) 67 [pR a0, pI a4] m9) fun m10 => rn d 78 96 [pR a0, pR a1, pI a2, pI a3, pI a4, pI a5, pI a6] [] m10) else rn d 78 96 [pR a0, pR a1, pI a2, pI a3, pI a4, pI a5, pI a6] [] m7) else gd (tg m a0 = 4) <| bV (cl (d - 1) 62 [pR a0] m) fun m1 => bV (cl (d - 1) 65 [pR a0, pI 58] m1) fun m2 => bV (cl (d - 1) 62 [pR a0] m2) fun m3 => bV (cl (d - 1) 76 [pR a0, pR a1] m3) fun m4 => bV (cl (d - 1) 62 [pR a0] m4) fun m5 => some (.inl none, m5)) (rn d 78 46 [pR a0, pR a1, pI a2, pI a3, pI a4, pI a5, pI a6] [] m) := by
  refine r_ilw6 (p := 48) f78_46 rfl ?_
  refine r_ilw5 (p := 50) f78_48 rfl ?_
  refine r_icge (t := 111) (p := 53) f78_50 (by decide) rfl rfl ?_ ?_
  · refine r_aln1 (p := 54) f78_53 rfl ?_
    refine r_ilw6 (p := 56) f78_54 rfl ?_
    refine le2_gd (fun h6 => ?_)
    refine r_invI (p := 59) f78_56 rfl rfl rfl (Or.inl h6) hd (Nat.le_of_ble_eq_true rfl) rfl rfl rfl (fun _ => rfl) (fun v6 m6 c6 => ?_)
    have hz6 := z_k c6 hz
    refine r_aln1 (p := 60) f78_59 rfl ?_
    refine r_ilw5 (p := 62) f78_60 rfl ?_
    have h7 := k_t1 c6 hz h6 (by decide)
    refine r_invI (p := 65) f78_62 rfl rfl rfl (Or.inl h7) hd (Nat.le_of_ble_eq_true rfl) rfl rfl rfl (fun _ => rfl) (fun v7 m7 c7 => ?_)
    have hz7 := z_k c7 hz6
    refine r_icne (t := 96) (p := 68) f78_65 (by decide) rfl rfl ?_ ?_
    · refine r_aln1 (p := 69) f78_68 rfl ?_
      refine r_ilw6 (p := 71) f78_69 rfl ?_
      refine r_iconst (p := 72) f78_71 rfl (pinD rfl rfl) ?_
      refine r_iadd (p := 73) f78_72 rfl ?_
      refine r_aln1 (p := 74) f78_73 rfl ?_
      refine r_ilw5 (p := 76) f78_74 rfl ?_
      refine r_iconst (p := 77) f78_76 rfl (pinD rfl rfl) ?_
      refine r_iadd (p := 78) f78_77 rfl ?_
      refine r_aln1 (p := 79) f78_78 rfl ?_
      refine r_ilw5 (p := 81) f78_79 rfl ?_
      have h8 := k_t1 c7 hz6 h7 (by decide)
      refine r_invI (p := 84) f78_81 rfl rfl rfl (Or.inl h8) hd (Nat.le_of_ble_eq_true rfl) rfl rfl rfl (fun _ => rfl) (fun v8 m8 c8 => ?_)
      have hz8 := z_k c8 hz7
      have h9 := k_t1 c8 hz7 h8 (by decide)
      refine r_invI (p := 87) f78_84 rfl rfl rfl (Or.inl h9) hd (Nat.le_of_ble_eq_true rfl) rfl rfl rfl (fun _ => rfl) (fun v9 m9 c9 => ?_)
      have hz9 := z_k c9 hz8
      refine r_ifeq (t := 96) (p := 90) f78_87 (by decide) rfl rfl ?_ ?_
      · exact le2_refl _
      · refine r_aln0 (p := 91) f78_90 rfl ?_
        refine r_ilw4 (p := 93) f78_91 rfl ?_
        refine le2_gd (fun h10 => ?_)
        refine r_invV (p := 96) f78_93 rfl rfl rfl (Or.inl h10) hd (Nat.le_of_ble_eq_true rfl) rfl rfl rfl (fun _ => rfl) (fun m10 c10 => ?_)
        have hz10 := z_k c10 hz9
        exact le2_refl _
    · exact le2_refl _
  · refine r_aln0 (p := 112) f78_111 rfl ?_
    refine le2_gd (fun h1 => ?_)
    refine r_invV (p := 115) f78_112 rfl rfl rfl (Or.inl h1) hd (Nat.le_of_ble_eq_true rfl) rfl rfl rfl (fun _ => rfl) (fun m1 c1 => ?_)
    have hz1 := z_k c1 hz
    refine r_aln0 (p := 116) f78_115 rfl ?_
    refine r_bipush (p := 118) f78_116 rfl (pinD rfl rfl) ?_
    have h2 := k_t1 c1 hz h1 (by decide)
    refine r_invV (p := 121) f78_118 rfl rfl rfl (Or.inl h2) hd (Nat.le_of_ble_eq_true rfl) rfl rfl rfl (fun _ => rfl) (fun m2 c2 => ?_)
    have hz2 := z_k c2 hz1
    refine r_aln0 (p := 122) f78_121 rfl ?_
    have h3 := k_t1 c2 hz1 h2 (by decide)
    refine r_invV (p := 125) f78_122 rfl rfl rfl (Or.inl h3) hd (Nat.le_of_ble_eq_true rfl) rfl rfl rfl (fun _ => rfl) (fun m3 c3 => ?_)
    have hz3 := z_k c3 hz2
    refine r_aln0 (p := 126) f78_125 rfl ?_
    refine r_aln1 (p := 127) f78_126 rfl ?_
    have h4 := k_t1 c3 hz2 h3 (by decide)
    refine r_invV (p := 130) f78_127 rfl rfl rfl (Or.inl h4) hd (Nat.le_of_ble_eq_true rfl) rfl rfl rfl (fun _ => rfl) (fun m4 c4 => ?_)
    have hz4 := z_k c4 hz3
    refine r_aln0 (p := 131) f78_130 rfl ?_
    have h5 := k_t1 c4 hz3 h4 (by decide)
    refine r_invV (p := 134) f78_131 rfl rfl rfl (Or.inl h5) hd (Nat.le_of_ble_eq_true rfl) rfl rfl rfl (fun _ => rfl) (fun m5 c5 => ?_)
    have hz5 := z_k c5 hz4
    exact r_ret f78_134
theorem q78_96 {d : Nat} {m : Mem} {a0 a1 a2 a3 a4 a5 a6 : Int} (hd : 0 < d) (hz : TZ m) : le2 (gd (tg m a1 = 8) <| bI (cl (d - 1) 136 [pR a1, pI a6] m) fun v1 m1 => bI (cl (d - 1) 137 [pR a1, pI v1] m1) fun v2 m2 => rn d 78 46 [pR a0, pR a1, pI a2, pI a3, pI a4, pI a5, pI v2] [] m2) (rn d 78 96 [pR a0, pR a1, pI a2, pI a3, pI a4, pI a5, pI a6] [] m) := by
  refine r_aln1 (p := 97) f78_96 rfl ?_
  refine r_aln1 (p := 98) f78_97 rfl ?_
  refine r_ilw6 (p := 100) f78_98 rfl ?_
  refine le2_gd (fun h1 => ?_)
  refine r_invI (p := 103) f78_100 rfl rfl rfl (Or.inl h1) hd (Nat.le_of_ble_eq_true rfl) rfl rfl rfl (fun _ => rfl) (fun v1 m1 c1 => ?_)
  have hz1 := z_k c1 hz
  have h2 := k_t1 c1 hz h1 (by decide)
  refine r_invI (p := 106) f78_103 rfl rfl rfl (Or.inl h2) hd (Nat.le_of_ble_eq_true rfl) rfl rfl rfl (fun _ => rfl) (fun v2 m2 c2 => ?_)
  have hz2 := z_k c2 hz1
  refine r_isw6 (p := 108) f78_106 rfl rfl ?_
  refine r_goto (p := 46) f78_108 (by decide) rfl ?_
  exact le2_refl _
/-! 79 PathStore$Reader.number (LPathStore$Row;)V -/
def w79_7 : List UInt8 := [153, 0, 9, 22, 4, 117, 167, 0, 5, 22, 4, 182, 0, 87, 177]
abbrev u79_7 : List UInt8 := w79_7 ++ []
def w79_6 : List UInt8 := [159, 0, 12, 42, 182, 0, 36, 16, 69, 160, 0, 8, 42, 28, 182, 0, 84, 43, 6, 182, 0, 46, 43, 29]
abbrev u79_6 : List UInt8 := w79_6 ++ u79_7
def w79_5 : List UInt8 := [20, 0, 82, 148, 157, 0, 30, 42, 182, 0, 36, 16, 46, 159, 0, 21, 42, 182, 0, 36, 16, 101]
abbrev u79_5 : List UInt8 := w79_5 ++ u79_6
def w79_4 : List UInt8 := [101, 20, 0, 74, 184, 0, 76, 55, 4, 42, 89, 180, 0, 26, 4, 96, 181, 0, 26, 167, 255, 212, 22, 4]
abbrev u79_4 : List UInt8 := w79_4 ++ u79_5
def w79_3 : List UInt8 := [182, 0, 36, 184, 0, 66, 153, 0, 40, 20, 0, 70, 22, 4, 105, 42, 182, 0, 36, 133, 97, 20, 0, 72]
abbrev u79_3 : List UInt8 := w79_3 ++ u79_4
def w79_2 : List UInt8 := [42, 182, 0, 36, 16, 48, 160, 0, 16, 42, 89, 180, 0, 26, 4, 96, 181, 0, 26, 167, 0, 50, 42]
abbrev u79_2 : List UInt8 := w79_2 ++ u79_3
def w79_1 : List UInt8 := [42, 89, 180, 0, 26, 4, 96, 181, 0, 26, 42, 42, 182, 0, 36, 184, 0, 66, 182, 0, 32, 9, 55, 4]
abbrev u79_1 : List UInt8 := w79_1 ++ u79_2
def w79_0 : List UInt8 := [42, 180, 0, 26, 61, 42, 182, 0, 36, 16, 45, 160, 0, 7, 4, 167, 0, 4, 3, 62, 29, 153, 0, 13]
abbrev u79_0 : List UInt8 := w79_0 ++ u79_1
theorem s79_0 : (prog_19_method_4_code).data.toList.drop 0 = u79_0 := by decide +kernel
theorem s79_1 : (prog_19_method_4_code).data.toList.drop 24 = u79_1 := dk_seg s79_0 24 rfl rfl
theorem s79_2 : (prog_19_method_4_code).data.toList.drop 48 = u79_2 := dk_seg s79_1 24 rfl rfl
theorem s79_3 : (prog_19_method_4_code).data.toList.drop 71 = u79_3 := dk_seg s79_2 23 rfl rfl
theorem s79_4 : (prog_19_method_4_code).data.toList.drop 95 = u79_4 := dk_seg s79_3 24 rfl rfl
theorem s79_5 : (prog_19_method_4_code).data.toList.drop 119 = u79_5 := dk_seg s79_4 24 rfl rfl
theorem s79_6 : (prog_19_method_4_code).data.toList.drop 141 = u79_6 := dk_seg s79_5 22 rfl rfl
theorem s79_7 : (prog_19_method_4_code).data.toList.drop 165 = u79_7 := dk_seg s79_6 24 rfl rfl
theorem Fm79 {pc len : Nat} {i : Instr} (h : decode (prog_19_method_4_code) pc = .ok (i, len)) (hl : len = ilen i len) : ft 79 pc = some (4, 0, 0, i, len) := ft_mk rfl h hl
theorem f79_0 : ft 79 0 = some (4, 0, 0, .aload_n 0, 1) := Fm79 (dk_42 (dk_at s79_0 0 rfl rfl)) rfl
theorem f79_1 : ft 79 1 = some (4, 0, 0, .getfield 26, 3) := Fm79 (dk_180 0 26 (dk_at s79_0 1 rfl rfl)) rfl
theorem f79_4 : ft 79 4 = some (4, 0, 0, .istore_n 2, 1) := Fm79 (dk_61 (dk_at s79_0 4 rfl rfl)) rfl
theorem f79_5 : ft 79 5 = some (4, 0, 0, .aload_n 0, 1) := Fm79 (dk_42 (dk_at s79_0 5 rfl rfl)) rfl
theorem f79_6 : ft 79 6 = some (4, 0, 0, .invokevirtual 36, 3) := Fm79 (dk_182 0 36 (dk_at s79_0 6 rfl rfl)) rfl
theorem f79_9 : ft 79 9 = some (4, 0, 0, .bipush 45, 2) := Fm79 (dk_16 45 (dk_at s79_0 9 rfl rfl)) rfl
theorem f79_11 : ft 79 11 = some (4, 0, 0, .if_icmp .ne 7, 3) := Fm79 (dk_160 0 7 (dk_at s79_0 11 rfl rfl)) rfl
theorem f79_14 : ft 79 14 = some (4, 0, 0, .iconst 1, 1) := Fm79 (dk_4 (dk_at s79_0 14 rfl rfl)) rfl
theorem f79_15 : ft 79 15 = some (4, 0, 0, .goto 4, 3) := Fm79 (dk_167 0 4 (dk_at s79_0 15 rfl rfl)) rfl
theorem f79_18 : ft 79 18 = some (4, 0, 0, .iconst 0, 1) := Fm79 (dk_3 (dk_at s79_0 18 rfl rfl)) rfl
theorem f79_19 : ft 79 19 = some (4, 0, 0, .istore_n 3, 1) := Fm79 (dk_62 (dk_at s79_0 19 rfl rfl)) rfl
theorem f79_20 : ft 79 20 = some (4, 0, 0, .iload_n 3, 1) := Fm79 (dk_29 (dk_at s79_0 20 rfl rfl)) rfl
theorem f79_21 : ft 79 21 = some (4, 0, 0, .ifCond .eq 13, 3) := Fm79 (dk_153 0 13 (dk_at s79_0 21 rfl rfl)) rfl
theorem f79_24 : ft 79 24 = some (4, 0, 0, .aload_n 0, 1) := Fm79 (dk_42 (dk_at s79_1 0 rfl rfl)) rfl
theorem f79_25 : ft 79 25 = some (4, 0, 0, .dup, 1) := Fm79 (dk_89 (dk_at s79_1 1 rfl rfl)) rfl
theorem f79_26 : ft 79 26 = some (4, 0, 0, .getfield 26, 3) := Fm79 (dk_180 0 26 (dk_at s79_1 2 rfl rfl)) rfl
theorem f79_29 : ft 79 29 = some (4, 0, 0, .iconst 1, 1) := Fm79 (dk_4 (dk_at s79_1 5 rfl rfl)) rfl
theorem f79_30 : ft 79 30 = some (4, 0, 0, .iadd, 1) := Fm79 (dk_96 (dk_at s79_1 6 rfl rfl)) rfl
theorem f79_31 : ft 79 31 = some (4, 0, 0, .putfield 26, 3) := Fm79 (dk_181 0 26 (dk_at s79_1 7 rfl rfl)) rfl
theorem f79_34 : ft 79 34 = some (4, 0, 0, .aload_n 0, 1) := Fm79 (dk_42 (dk_at s79_1 10 rfl rfl)) rfl
theorem f79_35 : ft 79 35 = some (4, 0, 0, .aload_n 0, 1) := Fm79 (dk_42 (dk_at s79_1 11 rfl rfl)) rfl
theorem f79_36 : ft 79 36 = some (4, 0, 0, .invokevirtual 36, 3) := Fm79 (dk_182 0 36 (dk_at s79_1 12 rfl rfl)) rfl
theorem f79_39 : ft 79 39 = some (4, 0, 0, .invokestatic 66, 3) := Fm79 (dk_184 0 66 (dk_at s79_1 15 rfl rfl)) rfl
theorem f79_42 : ft 79 42 = some (4, 0, 0, .invokevirtual 32, 3) := Fm79 (dk_182 0 32 (dk_at s79_1 18 rfl rfl)) rfl
theorem f79_45 : ft 79 45 = some (4, 0, 0, .lconst 0, 1) := Fm79 (dk_9 (dk_at s79_1 21 rfl rfl)) rfl
theorem f79_46 : ft 79 46 = some (4, 0, 0, .lstore 4, 2) := Fm79 (dk_55 4 (dk_at s79_1 22 rfl rfl)) rfl
theorem f79_48 : ft 79 48 = some (4, 0, 0, .aload_n 0, 1) := Fm79 (dk_42 (dk_at s79_2 0 rfl rfl)) rfl
theorem f79_49 : ft 79 49 = some (4, 0, 0, .invokevirtual 36, 3) := Fm79 (dk_182 0 36 (dk_at s79_2 1 rfl rfl)) rfl
theorem f79_52 : ft 79 52 = some (4, 0, 0, .bipush 48, 2) := Fm79 (dk_16 48 (dk_at s79_2 4 rfl rfl)) rfl
theorem f79_54 : ft 79 54 = some (4, 0, 0, .if_icmp .ne 16, 3) := Fm79 (dk_160 0 16 (dk_at s79_2 6 rfl rfl)) rfl
theorem f79_57 : ft 79 57 = some (4, 0, 0, .aload_n 0, 1) := Fm79 (dk_42 (dk_at s79_2 9 rfl rfl)) rfl
theorem f79_58 : ft 79 58 = some (4, 0, 0, .dup, 1) := Fm79 (dk_89 (dk_at s79_2 10 rfl rfl)) rfl
theorem f79_59 : ft 79 59 = some (4, 0, 0, .getfield 26, 3) := Fm79 (dk_180 0 26 (dk_at s79_2 11 rfl rfl)) rfl
theorem f79_62 : ft 79 62 = some (4, 0, 0, .iconst 1, 1) := Fm79 (dk_4 (dk_at s79_2 14 rfl rfl)) rfl
theorem f79_63 : ft 79 63 = some (4, 0, 0, .iadd, 1) := Fm79 (dk_96 (dk_at s79_2 15 rfl rfl)) rfl
theorem f79_64 : ft 79 64 = some (4, 0, 0, .putfield 26, 3) := Fm79 (dk_181 0 26 (dk_at s79_2 16 rfl rfl)) rfl
theorem f79_67 : ft 79 67 = some (4, 0, 0, .goto 50, 3) := Fm79 (dk_167 0 50 (dk_at s79_2 19 rfl rfl)) rfl
theorem f79_70 : ft 79 70 = some (4, 0, 0, .aload_n 0, 1) := Fm79 (dk_42 (dk_at s79_2 22 rfl rfl)) rfl
theorem f79_71 : ft 79 71 = some (4, 0, 0, .invokevirtual 36, 3) := Fm79 (dk_182 0 36 (dk_at s79_3 0 rfl rfl)) rfl
theorem f79_74 : ft 79 74 = some (4, 0, 0, .invokestatic 66, 3) := Fm79 (dk_184 0 66 (dk_at s79_3 3 rfl rfl)) rfl
theorem f79_77 : ft 79 77 = some (4, 0, 0, .ifCond .eq 40, 3) := Fm79 (dk_153 0 40 (dk_at s79_3 6 rfl rfl)) rfl
theorem f79_80 : ft 79 80 = some (4, 0, 0, .ldc2_w 70, 3) := Fm79 (dk_20 0 70 (dk_at s79_3 9 rfl rfl)) rfl
theorem f79_83 : ft 79 83 = some (4, 0, 0, .lload 4, 2) := Fm79 (dk_22 4 (dk_at s79_3 12 rfl rfl)) rfl
theorem f79_85 : ft 79 85 = some (4, 0, 0, .lmul, 1) := Fm79 (dk_105 (dk_at s79_3 14 rfl rfl)) rfl
theorem f79_86 : ft 79 86 = some (4, 0, 0, .aload_n 0, 1) := Fm79 (dk_42 (dk_at s79_3 15 rfl rfl)) rfl
theorem f79_87 : ft 79 87 = some (4, 0, 0, .invokevirtual 36, 3) := Fm79 (dk_182 0 36 (dk_at s79_3 16 rfl rfl)) rfl
theorem f79_90 : ft 79 90 = some (4, 0, 0, .i2l, 1) := Fm79 (dk_133 (dk_at s79_3 19 rfl rfl)) rfl
theorem f79_91 : ft 79 91 = some (4, 0, 0, .ladd, 1) := Fm79 (dk_97 (dk_at s79_3 20 rfl rfl)) rfl
theorem f79_92 : ft 79 92 = some (4, 0, 0, .ldc2_w 72, 3) := Fm79 (dk_20 0 72 (dk_at s79_3 21 rfl rfl)) rfl
theorem f79_95 : ft 79 95 = some (4, 0, 0, .lsub, 1) := Fm79 (dk_101 (dk_at s79_4 0 rfl rfl)) rfl
theorem f79_96 : ft 79 96 = some (4, 0, 0, .ldc2_w 74, 3) := Fm79 (dk_20 0 74 (dk_at s79_4 1 rfl rfl)) rfl
theorem f79_99 : ft 79 99 = some (4, 0, 0, .invokestatic 76, 3) := Fm79 (dk_184 0 76 (dk_at s79_4 4 rfl rfl)) rfl
theorem f79_102 : ft 79 102 = some (4, 0, 0, .lstore 4, 2) := Fm79 (dk_55 4 (dk_at s79_4 7 rfl rfl)) rfl
theorem f79_104 : ft 79 104 = some (4, 0, 0, .aload_n 0, 1) := Fm79 (dk_42 (dk_at s79_4 9 rfl rfl)) rfl
theorem f79_105 : ft 79 105 = some (4, 0, 0, .dup, 1) := Fm79 (dk_89 (dk_at s79_4 10 rfl rfl)) rfl
theorem f79_106 : ft 79 106 = some (4, 0, 0, .getfield 26, 3) := Fm79 (dk_180 0 26 (dk_at s79_4 11 rfl rfl)) rfl
theorem f79_109 : ft 79 109 = some (4, 0, 0, .iconst 1, 1) := Fm79 (dk_4 (dk_at s79_4 14 rfl rfl)) rfl
theorem f79_110 : ft 79 110 = some (4, 0, 0, .iadd, 1) := Fm79 (dk_96 (dk_at s79_4 15 rfl rfl)) rfl
theorem f79_111 : ft 79 111 = some (4, 0, 0, .putfield 26, 3) := Fm79 (dk_181 0 26 (dk_at s79_4 16 rfl rfl)) rfl
theorem f79_114 : ft 79 114 = some (4, 0, 0, .goto (-44), 3) := Fm79 (dk_167 255 212 (dk_at s79_4 19 rfl rfl)) rfl
theorem f79_117 : ft 79 117 = some (4, 0, 0, .lload 4, 2) := Fm79 (dk_22 4 (dk_at s79_4 22 rfl rfl)) rfl
theorem f79_119 : ft 79 119 = some (4, 0, 0, .ldc2_w 82, 3) := Fm79 (dk_20 0 82 (dk_at s79_5 0 rfl rfl)) rfl
theorem f79_122 : ft 79 122 = some (4, 0, 0, .lcmp, 1) := Fm79 (dk_148 (dk_at s79_5 3 rfl rfl)) rfl
theorem f79_123 : ft 79 123 = some (4, 0, 0, .ifCond .gt 30, 3) := Fm79 (dk_157 0 30 (dk_at s79_5 4 rfl rfl)) rfl
theorem f79_126 : ft 79 126 = some (4, 0, 0, .aload_n 0, 1) := Fm79 (dk_42 (dk_at s79_5 7 rfl rfl)) rfl
theorem f79_127 : ft 79 127 = some (4, 0, 0, .invokevirtual 36, 3) := Fm79 (dk_182 0 36 (dk_at s79_5 8 rfl rfl)) rfl
theorem f79_130 : ft 79 130 = some (4, 0, 0, .bipush 46, 2) := Fm79 (dk_16 46 (dk_at s79_5 11 rfl rfl)) rfl
theorem f79_132 : ft 79 132 = some (4, 0, 0, .if_icmp .eq 21, 3) := Fm79 (dk_159 0 21 (dk_at s79_5 13 rfl rfl)) rfl
theorem f79_135 : ft 79 135 = some (4, 0, 0, .aload_n 0, 1) := Fm79 (dk_42 (dk_at s79_5 16 rfl rfl)) rfl
theorem f79_136 : ft 79 136 = some (4, 0, 0, .invokevirtual 36, 3) := Fm79 (dk_182 0 36 (dk_at s79_5 17 rfl rfl)) rfl
theorem f79_139 : ft 79 139 = some (4, 0, 0, .bipush 101, 2) := Fm79 (dk_16 101 (dk_at s79_5 20 rfl rfl)) rfl
theorem f79_141 : ft 79 141 = some (4, 0, 0, .if_icmp .eq 12, 3) := Fm79 (dk_159 0 12 (dk_at s79_6 0 rfl rfl)) rfl
theorem f79_144 : ft 79 144 = some (4, 0, 0, .aload_n 0, 1) := Fm79 (dk_42 (dk_at s79_6 3 rfl rfl)) rfl
theorem f79_145 : ft 79 145 = some (4, 0, 0, .invokevirtual 36, 3) := Fm79 (dk_182 0 36 (dk_at s79_6 4 rfl rfl)) rfl
theorem f79_148 : ft 79 148 = some (4, 0, 0, .bipush 69, 2) := Fm79 (dk_16 69 (dk_at s79_6 7 rfl rfl)) rfl
theorem f79_150 : ft 79 150 = some (4, 0, 0, .if_icmp .ne 8, 3) := Fm79 (dk_160 0 8 (dk_at s79_6 9 rfl rfl)) rfl
theorem f79_153 : ft 79 153 = some (4, 0, 0, .aload_n 0, 1) := Fm79 (dk_42 (dk_at s79_6 12 rfl rfl)) rfl
theorem f79_154 : ft 79 154 = some (4, 0, 0, .iload_n 2, 1) := Fm79 (dk_28 (dk_at s79_6 13 rfl rfl)) rfl
theorem f79_155 : ft 79 155 = some (4, 0, 0, .invokevirtual 84, 3) := Fm79 (dk_182 0 84 (dk_at s79_6 14 rfl rfl)) rfl
theorem f79_158 : ft 79 158 = some (4, 0, 0, .aload_n 1, 1) := Fm79 (dk_43 (dk_at s79_6 17 rfl rfl)) rfl
theorem f79_159 : ft 79 159 = some (4, 0, 0, .iconst 3, 1) := Fm79 (dk_6 (dk_at s79_6 18 rfl rfl)) rfl
theorem f79_160 : ft 79 160 = some (4, 0, 0, .invokevirtual 46, 3) := Fm79 (dk_182 0 46 (dk_at s79_6 19 rfl rfl)) rfl
theorem f79_163 : ft 79 163 = some (4, 0, 0, .aload_n 1, 1) := Fm79 (dk_43 (dk_at s79_6 22 rfl rfl)) rfl
theorem f79_164 : ft 79 164 = some (4, 0, 0, .iload_n 3, 1) := Fm79 (dk_29 (dk_at s79_6 23 rfl rfl)) rfl
theorem f79_165 : ft 79 165 = some (4, 0, 0, .ifCond .eq 9, 3) := Fm79 (dk_153 0 9 (dk_at s79_7 0 rfl rfl)) rfl
theorem f79_168 : ft 79 168 = some (4, 0, 0, .lload 4, 2) := Fm79 (dk_22 4 (dk_at s79_7 3 rfl rfl)) rfl
theorem f79_170 : ft 79 170 = some (4, 0, 0, .lneg, 1) := Fm79 (dk_117 (dk_at s79_7 5 rfl rfl)) rfl
theorem f79_171 : ft 79 171 = some (4, 0, 0, .goto 5, 3) := Fm79 (dk_167 0 5 (dk_at s79_7 6 rfl rfl)) rfl
theorem f79_174 : ft 79 174 = some (4, 0, 0, .lload 4, 2) := Fm79 (dk_22 4 (dk_at s79_7 9 rfl rfl)) rfl
theorem f79_176 : ft 79 176 = some (4, 0, 0, .invokevirtual 87, 3) := Fm79 (dk_182 0 87 (dk_at s79_7 11 rfl rfl)) rfl
theorem f79_179 : ft 79 179 = some (4, 0, 0, .return_, 1) := Fm79 (dk_177 (dk_at s79_7 14 rfl rfl)) rfl
theorem q79 {d : Nat} {m : Mem} {a0 a1 : Int} (hd : 0 < d) (hz : TZ m) : le2 (gd (tg m a0 = 4) <| nm (vl m a0 2) fun v2 => bI (cl (d - 1) 63 [pR a0] m) fun v1 m1 => if v1 = 45 then (if (1 : Int) = 0 then (rn d 79 34 [pR a0, pR a1, pI v2, pI 1, pU, pU] [] m1) else rn d 79 34 [pR a0, pR a1, pI v2, pI 1, pU, pU] [] (mst m1 a0 2 (w32 ((vl m1 a0 2) + 1)))) else if (0 : Int) = 0 then (rn d 79 34 [pR a0, pR a1, pI v2, pI 0, pU, pU] [] m1) else rn d 79 34 [pR a0, pR a1, pI v2, pI 0, pU, pU] [] (mst m1 a0 2 (w32 ((vl m1 a0 2) + 1)))) (cl d 79 [pR a0, pR a1] m) := by
  refine q_in (n := 6) (L := [pR a0, pR a1, pU, pU, pU, pU]) rfl rfl rfl ?_
  refine r_aln0 (p := 1) f79_0 rfl ?_
  refine le2_gd (fun h1 => ?_)
  refine r_gfI (f := 2) (p := 4) f79_1 rfl rfl rfl (Or.inl h1) rfl ?_
  refine r_nmI (fun v2 ev2 => ?_)
  refine r_isn2 (p := 5) f79_4 rfl rfl ?_
  refine r_aln0 (p := 6) f79_5 rfl ?_
  refine r_invI (p := 9) f79_6 rfl rfl rfl (Or.inl h1) hd (Nat.le_of_ble_eq_true rfl) rfl rfl rfl (fun _ => rfl) (fun v1 m1 c1 => ?_)
  have hz1 := z_k c1 hz
  refine r_bipush (p := 11) f79_9 rfl (pinD rfl rfl) ?_
  refine r_icne (t := 18) (p := 14) f79_11 (by decide) rfl rfl ?_ ?_
  · refine r_iconst (p := 15) f79_14 rfl (pinD rfl rfl) ?_
    refine r_goto (p := 19) f79_15 (by decide) rfl ?_
    refine r_isn3 (p := 20) f79_19 rfl rfl ?_
    refine r_iln3 (p := 21) f79_20 rfl ?_
    refine r_ifeq (t := 34) (p := 24) f79_21 (by decide) rfl rfl ?_ ?_
    · exact le2_refl _
    · refine r_aln0 (p := 25) f79_24 rfl ?_
      refine r_dup (p := 26) f79_25 rfl rfl ?_
      have h3 := k_t1 c1 hz h1 (by decide)
      refine r_gfI (f := 2) (p := 29) f79_26 rfl rfl rfl (Or.inl h3) rfl ?_
      refine r_iconst (p := 30) f79_29 rfl (pinD rfl rfl) ?_
      refine r_iadd (p := 31) f79_30 rfl ?_
      refine r_pfI (f := 2) (p := 34) f79_31 rfl rfl rfl (by decide) (by decide) (Or.inl h3) rfl ?_
      exact le2_refl _
  · refine r_iconst (p := 19) f79_18 rfl (pinD rfl rfl) ?_
    refine r_isn3 (p := 20) f79_19 rfl rfl ?_
    refine r_iln3 (p := 21) f79_20 rfl ?_
    refine r_ifeq (t := 34) (p := 24) f79_21 (by decide) rfl rfl ?_ ?_
    · exact le2_refl _
    · refine r_aln0 (p := 25) f79_24 rfl ?_
      refine r_dup (p := 26) f79_25 rfl rfl ?_
      have h2 := k_t1 c1 hz h1 (by decide)
      refine r_gfI (f := 2) (p := 29) f79_26 rfl rfl rfl (Or.inl h2) rfl ?_
      refine r_iconst (p := 30) f79_29 rfl (pinD rfl rfl) ?_
      refine r_iadd (p := 31) f79_30 rfl ?_
      refine r_pfI (f := 2) (p := 34) f79_31 rfl rfl rfl (by decide) (by decide) (Or.inl h2) rfl ?_
      exact le2_refl _
theorem q79_34 {d : Nat} {m : Mem} {a0 a1 a2 a3 : Int} (hd : 0 < d) (hz : TZ m) : le2 (gd (tg m a0 = 4) <| bI (cl (d - 1) 63 [pR a0] m) fun v1 m1 => bI (cl (d - 1) 73 [pI v1] m1) fun v2 m2 => bV (cl (d - 1) 66 [pR a0, pI v2] m2) fun m3 => bI (cl (d - 1) 63 [pR a0] m3) fun v4 m4 => if v4 = 48 then (rn d 79 117 [pR a0, pR a1, pI a2, pI a3, pL 0, pU] [] (mst m4 a0 2 (w32 ((vl m4 a0 2) + 1)))) else rn d 79 70 [pR a0, pR a1, pI a2, pI a3, pL 0, pU] [] m4) (rn d 79 34 [pR a0, pR a1, pI a2, pI a3, pU, pU] [] m) := by
  refine r_aln0 (p := 35) f79_34 rfl ?_
  refine r_aln0 (p := 36) f79_35 rfl ?_
  refine le2_gd (fun h1 => ?_)
  refine r_invI (p := 39) f79_36 rfl rfl rfl (Or.inl h1) hd (Nat.le_of_ble_eq_true rfl) rfl rfl rfl (fun _ => rfl) (fun v1 m1 c1 => ?_)
  have hz1 := z_k c1 hz
  refine r_istI (p := 42) f79_39 rfl rfl rfl hd (Nat.le_of_ble_eq_true rfl) rfl rfl rfl (fun _ => rfl) (fun v2 m2 c2 => ?_)
  have hz2 := z_k c2 hz1
  have h2 := k_t1 c1 hz h1 (by decide)
  have h3 := k_t1 c2 hz1 h2 (by decide)
  refine r_invV (p := 45) f79_42 rfl rfl rfl (Or.inl h3) hd (Nat.le_of_ble_eq_true rfl) rfl rfl rfl (fun _ => rfl) (fun m3 c3 => ?_)
  have hz3 := z_k c3 hz2
  refine r_lconst0 (p := 46) f79_45 rfl ?_
  refine r_lsw4 (p := 48) f79_46 rfl rfl ?_
  refine r_aln0 (p := 49) f79_48 rfl ?_
  have h4 := k_t1 c3 hz2 h3 (by decide)
  refine r_invI (p := 52) f79_49 rfl rfl rfl (Or.inl h4) hd (Nat.le_of_ble_eq_true rfl) rfl rfl rfl (fun _ => rfl) (fun v4 m4 c4 => ?_)
  have hz4 := z_k c4 hz3
  refine r_bipush (p := 54) f79_52 rfl (pinD rfl rfl) ?_
  refine r_icne (t := 70) (p := 57) f79_54 (by decide) rfl rfl ?_ ?_
  · refine r_aln0 (p := 58) f79_57 rfl ?_
    refine r_dup (p := 59) f79_58 rfl rfl ?_
    have h5 := k_t1 c4 hz3 h4 (by decide)
    refine r_gfI (f := 2) (p := 62) f79_59 rfl rfl rfl (Or.inl h5) rfl ?_
    refine r_iconst (p := 63) f79_62 rfl (pinD rfl rfl) ?_
    refine r_iadd (p := 64) f79_63 rfl ?_
    refine r_pfI (f := 2) (p := 67) f79_64 rfl rfl rfl (by decide) (by decide) (Or.inl h5) rfl ?_
    refine r_goto (p := 117) f79_67 (by decide) rfl ?_
    exact le2_refl _
  · exact le2_refl _
theorem q79_70 {d : Nat} {m : Mem} {a0 a1 a2 a3 a4 : Int} (hd : 0 < d) (hz : TZ m) : le2 (gd (tg m a0 = 4) <| bI (cl (d - 1) 63 [pR a0] m) fun v1 m1 => bI (cl (d - 1) 73 [pI v1] m1) fun v2 m2 => if v2 = 0 then (rn d 79 117 [pR a0, pR a1, pI a2, pI a3, pL a4, pU] [] m2) else bI (cl (d - 1) 63 [pR a0] m2) fun v3 m3 => rn d 79 70 [pR a0, pR a1, pI a2, pI a3, pL (min (w64 ((w64 ((w64 (10 * a4)) + v3)) - 48)) 9007199254740992), pU] [] (mst m3 a0 2 (w32 ((vl m3 a0 2) + 1)))) (rn d 79 70 [pR a0, pR a1, pI a2, pI a3, pL a4, pU] [] m) := by
  refine r_aln0 (p := 71) f79_70 rfl ?_
  refine le2_gd (fun h1 => ?_)
  refine r_invI (p := 74) f79_71 rfl rfl rfl (Or.inl h1) hd (Nat.le_of_ble_eq_true rfl) rfl rfl rfl (fun _ => rfl) (fun v1 m1 c1 => ?_)
  have hz1 := z_k c1 hz
  refine r_istI (p := 77) f79_74 rfl rfl rfl hd (Nat.le_of_ble_eq_true rfl) rfl rfl rfl (fun _ => rfl) (fun v2 m2 c2 => ?_)
  have hz2 := z_k c2 hz1
  refine r_ifeq (t := 117) (p := 80) f79_77 (by decide) rfl rfl ?_ ?_
  · exact le2_refl _
  · refine r_ldc2 (p := 83) f79_80 rfl rfl (pinD rfl rfl) ?_
    refine r_llw4 (p := 85) f79_83 rfl ?_
    refine r_lmul (p := 86) f79_85 rfl ?_
    refine r_aln0 (p := 87) f79_86 rfl ?_
    have h2 := k_t1 c1 hz h1 (by decide)
    have h3 := k_t1 c2 hz1 h2 (by decide)
    refine r_invI (p := 90) f79_87 rfl rfl rfl (Or.inl h3) hd (Nat.le_of_ble_eq_true rfl) rfl rfl rfl (fun _ => rfl) (fun v3 m3 c3 => ?_)
    have hz3 := z_k c3 hz2
    refine r_i2l (p := 91) f79_90 rfl ?_
    refine r_ladd (p := 92) f79_91 rfl ?_
    refine r_ldc2 (p := 95) f79_92 rfl rfl (pinD rfl rfl) ?_
    refine r_lsub (p := 96) f79_95 rfl ?_
    refine r_ldc2 (p := 99) f79_96 rfl rfl (pinD rfl rfl) ?_
    refine r_math9 (p := 102) f79_99 rfl rfl (Nat.le_of_ble_eq_true rfl) ?_
    refine r_lsw4 (p := 104) f79_102 rfl rfl ?_
    refine r_aln0 (p := 105) f79_104 rfl ?_
    refine r_dup (p := 106) f79_105 rfl rfl ?_
    have h4 := k_t1 c3 hz2 h3 (by decide)
    refine r_gfI (f := 2) (p := 109) f79_106 rfl rfl rfl (Or.inl h4) rfl ?_
    refine r_iconst (p := 110) f79_109 rfl (pinD rfl rfl) ?_
    refine r_iadd (p := 111) f79_110 rfl ?_
    refine r_pfI (f := 2) (p := 114) f79_111 rfl rfl rfl (by decide) (by decide) (Or.inl h4) rfl ?_
    refine r_goto (p := 70) f79_114 (by decide) rfl ?_
    exact le2_refl _
theorem q79_117 {d : Nat} {m : Mem} {a0 a1 a2 a3 a4 : Int} (hd : 0 < d) (hz : TZ m) : le2 (if 9007199254740991 < a4 then (gd (tg m a0 = 4) <| bV (cl (d - 1) 67 [pR a0, pI a2] m) fun m1 => rn d 79 158 [pR a0, pR a1, pI a2, pI a3, pL a4, pU] [] m1) else gd (tg m a0 = 4) <| bI (cl (d - 1) 63 [pR a0] m) fun v2 m2 => if v2 = 46 then (bV (cl (d - 1) 67 [pR a0, pI a2] m2) fun m3 => rn d 79 158 [pR a0, pR a1, pI a2, pI a3, pL a4, pU] [] m3) else bI (cl (d - 1) 63 [pR a0] m2) fun v4 m4 => if v4 = 101 then (bV (cl (d - 1) 67 [pR a0, pI a2] m4) fun m5 => rn d 79 158 [pR a0, pR a1, pI a2, pI a3, pL a4, pU] [] m5) else bI (cl (d - 1) 63 [pR a0] m4) fun v6 m6 => if v6 = 69 then (bV (cl (d - 1) 67 [pR a0, pI a2] m6) fun m7 => rn d 79 158 [pR a0, pR a1, pI a2, pI a3, pL a4, pU] [] m7) else rn d 79 158 [pR a0, pR a1, pI a2, pI a3, pL a4, pU] [] m6) (rn d 79 117 [pR a0, pR a1, pI a2, pI a3, pL a4, pU] [] m) := by
  refine r_llw4 (p := 119) f79_117 rfl ?_
  refine r_ldc2 (p := 122) f79_119 rfl rfl (pinD rfl rfl) ?_
  refine r_lcgt (p1 := 123) (t := 153) (p := 126) f79_122 rfl f79_123 (by decide) rfl rfl ?_ ?_
  · refine r_aln0 (p := 154) f79_153 rfl ?_
    refine r_iln2 (p := 155) f79_154 rfl ?_
    refine le2_gd (fun h1 => ?_)
    refine r_invV (p := 158) f79_155 rfl rfl rfl (Or.inl h1) hd (Nat.le_of_ble_eq_true rfl) rfl rfl rfl (fun _ => rfl) (fun m1 c1 => ?_)
    have hz1 := z_k c1 hz
    exact le2_refl _
  · refine r_aln0 (p := 127) f79_126 rfl ?_
    refine le2_gd (fun h2 => ?_)
    refine r_invI (p := 130) f79_127 rfl rfl rfl (Or.inl h2) hd (Nat.le_of_ble_eq_true rfl) rfl rfl rfl (fun _ => rfl) (fun v2 m2 c2 => ?_)
    have hz2 := z_k c2 hz
    refine r_bipush (p := 132) f79_130 rfl (pinD rfl rfl) ?_
    refine r_iceq (t := 153) (p := 135) f79_132 (by decide) rfl rfl ?_ ?_
    · refine r_aln0 (p := 154) f79_153 rfl ?_
      refine r_iln2 (p := 155) f79_154 rfl ?_
      have h3 := k_t1 c2 hz h2 (by decide)
      refine r_invV (p := 158) f79_155 rfl rfl rfl (Or.inl h3) hd (Nat.le_of_ble_eq_true rfl) rfl rfl rfl (fun _ => rfl) (fun m3 c3 => ?_)
      have hz3 := z_k c3 hz2
      exact le2_refl _
    · refine r_aln0 (p := 136) f79_135 rfl ?_
      have h4 := k_t1 c2 hz h2 (by decide)
      refine r_invI (p := 139) f79_136 rfl rfl rfl (Or.inl h4) hd (Nat.le_of_ble_eq_true rfl) rfl rfl rfl (fun _ => rfl) (fun v4 m4 c4 => ?_)
      have hz4 := z_k c4 hz2
      refine r_bipush (p := 141) f79_139 rfl (pinD rfl rfl) ?_
      refine r_iceq (t := 153) (p := 144) f79_141 (by decide) rfl rfl ?_ ?_
      · refine r_aln0 (p := 154) f79_153 rfl ?_
        refine r_iln2 (p := 155) f79_154 rfl ?_
        have h5 := k_t1 c4 hz2 h4 (by decide)
        refine r_invV (p := 158) f79_155 rfl rfl rfl (Or.inl h5) hd (Nat.le_of_ble_eq_true rfl) rfl rfl rfl (fun _ => rfl) (fun m5 c5 => ?_)
        have hz5 := z_k c5 hz4
        exact le2_refl _
      · refine r_aln0 (p := 145) f79_144 rfl ?_
        have h6 := k_t1 c4 hz2 h4 (by decide)
        refine r_invI (p := 148) f79_145 rfl rfl rfl (Or.inl h6) hd (Nat.le_of_ble_eq_true rfl) rfl rfl rfl (fun _ => rfl) (fun v6 m6 c6 => ?_)
        have hz6 := z_k c6 hz4
        refine r_bipush (p := 150) f79_148 rfl (pinD rfl rfl) ?_
        refine r_icne (t := 158) (p := 153) f79_150 (by decide) rfl rfl ?_ ?_
        · refine r_aln0 (p := 154) f79_153 rfl ?_
          refine r_iln2 (p := 155) f79_154 rfl ?_
          have h7 := k_t1 c6 hz4 h6 (by decide)
          refine r_invV (p := 158) f79_155 rfl rfl rfl (Or.inl h7) hd (Nat.le_of_ble_eq_true rfl) rfl rfl rfl (fun _ => rfl) (fun m7 c7 => ?_)
          have hz7 := z_k c7 hz6
          exact le2_refl _
        · exact le2_refl _
theorem q79_158 {d : Nat} {m : Mem} {a0 a1 a2 a3 a4 : Int} (hd : 0 < d) (hz : TZ m) : le2 (gd (tg m a1 = 8) <| bV (cl (d - 1) 130 [pR a1, pI 3] m) fun m1 => if a3 = 0 then (bV (cl (d - 1) 138 [pR a1, pL a4] m1) fun m2 => some (.inl none, m2)) else bV (cl (d - 1) 138 [pR a1, pL (w64 (-a4))] m1) fun m3 => some (.inl none, m3)) (rn d 79 158 [pR a0, pR a1, pI a2, pI a3, pL a4, pU] [] m) := by
  refine r_aln1 (p := 159) f79_158 rfl ?_
  refine r_iconst (p := 160) f79_159 rfl (pinD rfl rfl) ?_
  refine le2_gd (fun h1 => ?_)
  refine r_invV (p := 163) f79_160 rfl rfl rfl (Or.inl h1) hd (Nat.le_of_ble_eq_true rfl) rfl rfl rfl (fun _ => rfl) (fun m1 c1 => ?_)
  have hz1 := z_k c1 hz
  refine r_aln1 (p := 164) f79_163 rfl ?_
  refine r_iln3 (p := 165) f79_164 rfl ?_
  refine r_ifeq (t := 174) (p := 168) f79_165 (by decide) rfl rfl ?_ ?_
  · refine r_llw4 (p := 176) f79_174 rfl ?_
    have h2 := k_t1 c1 hz h1 (by decide)
    refine r_invV (p := 179) f79_176 rfl rfl rfl (Or.inl h2) hd (Nat.le_of_ble_eq_true rfl) rfl rfl rfl (fun _ => rfl) (fun m2 c2 => ?_)
    have hz2 := z_k c2 hz1
    exact r_ret f79_179
  · refine r_llw4 (p := 170) f79_168 rfl ?_
    refine r_lneg (p := 171) f79_170 rfl ?_
    refine r_goto (p := 176) f79_171 (by decide) rfl ?_
    have h3 := k_t1 c1 hz h1 (by decide)
    refine r_invV (p := 179) f79_176 rfl rfl rfl (Or.inl h3) hd (Nat.le_of_ble_eq_true rfl) rfl rfl rfl (fun _ => rfl) (fun m3 c3 => ?_)
    have hz3 := z_k c3 hz1
    exact r_ret f79_179
