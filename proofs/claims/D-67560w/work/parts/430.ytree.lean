/-! what methods do, written by wip/D-67560w/tools/gen_parts.py -/
set_option maxRecDepth 100000
set_option maxHeartbeats 4000000
/-! 277 PathStoreModel$Store.<init> ()V -/
def w277_1 : List UInt8 := [17, 1, 224, 197, 0, 18, 2, 181, 0, 20, 177]
abbrev u277_1 : List UInt8 := w277_1 ++ []
def w277_0 : List UInt8 := [42, 183, 0, 3, 42, 16, 100, 188, 10, 181, 0, 9, 42, 16, 100, 188, 10, 181, 0, 15, 42, 16, 100]
abbrev u277_0 : List UInt8 := w277_0 ++ u277_1
theorem s277_0 : (prog_33_method_1_code).data.toList.drop 0 = u277_0 := by decide +kernel
theorem s277_1 : (prog_33_method_1_code).data.toList.drop 23 = u277_1 := dk_seg s277_0 23 rfl rfl
theorem Fm277 {pc len : Nat} {i : Instr} (h : decode (prog_33_method_1_code) pc = .ok (i, len)) (hl : len = ilen i len) : ft 277 pc = some (12, 0, 1, i, len) := ft_mk rfl h hl
theorem f277_0 : ft 277 0 = some (12, 0, 1, .aload_n 0, 1) := Fm277 (dk_42 (dk_at s277_0 0 rfl rfl)) rfl
theorem f277_1 : ft 277 1 = some (12, 0, 1, .invokespecial 3, 3) := Fm277 (dk_183 0 3 (dk_at s277_0 1 rfl rfl)) rfl
theorem f277_4 : ft 277 4 = some (12, 0, 1, .aload_n 0, 1) := Fm277 (dk_42 (dk_at s277_0 4 rfl rfl)) rfl
theorem f277_5 : ft 277 5 = some (12, 0, 1, .bipush 100, 2) := Fm277 (dk_16 100 (dk_at s277_0 5 rfl rfl)) rfl
theorem f277_7 : ft 277 7 = some (12, 0, 1, .newarray .int, 2) := Fm277 (dk_188_10 (dk_at s277_0 7 rfl rfl)) rfl
theorem f277_9 : ft 277 9 = some (12, 0, 1, .putfield 9, 3) := Fm277 (dk_181 0 9 (dk_at s277_0 9 rfl rfl)) rfl
theorem f277_12 : ft 277 12 = some (12, 0, 1, .aload_n 0, 1) := Fm277 (dk_42 (dk_at s277_0 12 rfl rfl)) rfl
theorem f277_13 : ft 277 13 = some (12, 0, 1, .bipush 100, 2) := Fm277 (dk_16 100 (dk_at s277_0 13 rfl rfl)) rfl
theorem f277_15 : ft 277 15 = some (12, 0, 1, .newarray .int, 2) := Fm277 (dk_188_10 (dk_at s277_0 15 rfl rfl)) rfl
theorem f277_17 : ft 277 17 = some (12, 0, 1, .putfield 15, 3) := Fm277 (dk_181 0 15 (dk_at s277_0 17 rfl rfl)) rfl
theorem f277_20 : ft 277 20 = some (12, 0, 1, .aload_n 0, 1) := Fm277 (dk_42 (dk_at s277_0 20 rfl rfl)) rfl
theorem f277_21 : ft 277 21 = some (12, 0, 1, .bipush 100, 2) := Fm277 (dk_16 100 (dk_at s277_0 21 rfl rfl)) rfl
theorem f277_23 : ft 277 23 = some (12, 0, 1, .sipush 480, 3) := Fm277 (dk_17 1 224 (dk_at s277_1 0 rfl rfl)) rfl
theorem f277_26 : ft 277 26 = some (12, 0, 1, .multianewarray 18 2, 4) := Fm277 (by decide +kernel) rfl
theorem f277_30 : ft 277 30 = some (12, 0, 1, .putfield 20, 3) := Fm277 (dk_181 0 20 (dk_at s277_1 7 rfl rfl)) rfl
theorem f277_33 : ft 277 33 = some (12, 0, 1, .return_, 1) := Fm277 (dk_177 (dk_at s277_1 10 rfl rfl)) rfl
theorem q277 {d : Nat} {m : Mem} {a0 : Int} (hz : TZ m) : le2 (gd (tg m a0 = 12) <| nw (nx m) (mal m 278101 100) fun o1 m1 => nw (nx (mst m1 a0 0 o1)) (mal (mst m1 a0 0 o1) 278101 100) fun o2 m2 => nw (nx (mst m2 a0 1 o2)) (mgr (mst m2 a0 1 o2) 278118 278103 100 480) fun o3 m3 => some (.inl none, (mst m3 a0 2 o3))) (cl d 277 [pR a0] m) := by
  refine q_in (n := 1) (L := [pR a0]) rfl rfl rfl ?_
  refine r_aln0 (p := 1) f277_0 rfl ?_
  refine le2_gd (fun h1 => ?_)
  refine r_objinit (p := 4) f277_1 rfl rfl (dj1 (fun x => 0 < x ∧ x < 100) h1 (by decide)) (Nat.le_of_ble_eq_true rfl) ?_
  refine r_aln0 (p := 5) f277_4 rfl ?_
  refine r_bipush (p := 7) f277_5 rfl (pinD rfl rfl) ?_
  refine r_newa (t1 := 278101) (p := 9) f277_7 rfl rfl (pinE rfl rfl) rfl rfl (fun o1 m1 h2 k1 => ?_)
  have hz1 := z_k k1 hz
  have h3 := k_t1 k1 hz h1 (by decide)
  refine r_pfR (f := 0) (p := 12) f277_9 rfl rfl rfl (by decide) (by decide) (Or.inl h3) rfl ?_
  refine r_aln0 (p := 13) f277_12 rfl ?_
  refine r_bipush (p := 15) f277_13 rfl (pinD rfl rfl) ?_
  refine r_newa (t1 := 278101) (p := 17) f277_15 rfl rfl (pinE rfl rfl) rfl rfl (fun o2 m2 h4 k2 => ?_)
  have hz2 := z_k k2 hz1
  have h5 := k_t1 k2 hz1 h3 (by decide)
  refine r_pfR (f := 1) (p := 20) f277_17 rfl rfl rfl (by decide) (by decide) (Or.inl h5) rfl ?_
  refine r_aln0 (p := 21) f277_20 rfl ?_
  refine r_bipush (p := 23) f277_21 rfl (pinD rfl rfl) ?_
  refine r_sipush (p := 26) f277_23 rfl (pinD rfl rfl) ?_
  refine r_mna (t1 := 278118) (u1 := 278103) (p := 30) f277_26 rfl rfl rfl rfl (fun o3 m3 h6 k3 => ?_)
  have hz3 := z_k k3 hz2
  have h7 := k_t1 k3 hz2 h5 (by decide)
  refine r_pfR (f := 2) (p := 33) f277_30 rfl rfl rfl (by decide) (by decide) (Or.inl h7) rfl ?_
  exact r_ret f277_33
/-! 278 PathStoreModel$Store.find (I)I -/
def w278_1 : List UInt8 := [132, 2, 1, 167, 255, 233, 2, 172]
abbrev u278_1 : List UInt8 := w278_1 ++ []
def w278_0 : List UInt8 := [3, 61, 28, 42, 180, 0, 23, 162, 0, 21, 42, 180, 0, 9, 28, 46, 27, 160, 0, 5, 28, 172]
abbrev u278_0 : List UInt8 := w278_0 ++ u278_1
theorem s278_0 : (prog_33_method_2_code).data.toList.drop 0 = u278_0 := by decide +kernel
theorem s278_1 : (prog_33_method_2_code).data.toList.drop 22 = u278_1 := dk_seg s278_0 22 rfl rfl
theorem Fm278 {pc len : Nat} {i : Instr} (h : decode (prog_33_method_2_code) pc = .ok (i, len)) (hl : len = ilen i len) : ft 278 pc = some (12, 1, 0, i, len) := ft_mk rfl h hl
theorem f278_0 : ft 278 0 = some (12, 1, 0, .iconst 0, 1) := Fm278 (dk_3 (dk_at s278_0 0 rfl rfl)) rfl
theorem f278_1 : ft 278 1 = some (12, 1, 0, .istore_n 2, 1) := Fm278 (dk_61 (dk_at s278_0 1 rfl rfl)) rfl
theorem f278_2 : ft 278 2 = some (12, 1, 0, .iload_n 2, 1) := Fm278 (dk_28 (dk_at s278_0 2 rfl rfl)) rfl
theorem f278_3 : ft 278 3 = some (12, 1, 0, .aload_n 0, 1) := Fm278 (dk_42 (dk_at s278_0 3 rfl rfl)) rfl
theorem f278_4 : ft 278 4 = some (12, 1, 0, .getfield 23, 3) := Fm278 (dk_180 0 23 (dk_at s278_0 4 rfl rfl)) rfl
theorem f278_7 : ft 278 7 = some (12, 1, 0, .if_icmp .ge 21, 3) := Fm278 (dk_162 0 21 (dk_at s278_0 7 rfl rfl)) rfl
theorem f278_10 : ft 278 10 = some (12, 1, 0, .aload_n 0, 1) := Fm278 (dk_42 (dk_at s278_0 10 rfl rfl)) rfl
theorem f278_11 : ft 278 11 = some (12, 1, 0, .getfield 9, 3) := Fm278 (dk_180 0 9 (dk_at s278_0 11 rfl rfl)) rfl
theorem f278_14 : ft 278 14 = some (12, 1, 0, .iload_n 2, 1) := Fm278 (dk_28 (dk_at s278_0 14 rfl rfl)) rfl
theorem f278_15 : ft 278 15 = some (12, 1, 0, .iaload, 1) := Fm278 (dk_46 (dk_at s278_0 15 rfl rfl)) rfl
theorem f278_16 : ft 278 16 = some (12, 1, 0, .iload_n 1, 1) := Fm278 (dk_27 (dk_at s278_0 16 rfl rfl)) rfl
theorem f278_17 : ft 278 17 = some (12, 1, 0, .if_icmp .ne 5, 3) := Fm278 (dk_160 0 5 (dk_at s278_0 17 rfl rfl)) rfl
theorem f278_20 : ft 278 20 = some (12, 1, 0, .iload_n 2, 1) := Fm278 (dk_28 (dk_at s278_0 20 rfl rfl)) rfl
theorem f278_21 : ft 278 21 = some (12, 1, 0, .ireturn, 1) := Fm278 (dk_172 (dk_at s278_0 21 rfl rfl)) rfl
theorem f278_22 : ft 278 22 = some (12, 1, 0, .iinc 2 1, 3) := Fm278 (dk_132 2 1 (dk_at s278_1 0 rfl rfl)) rfl
theorem f278_25 : ft 278 25 = some (12, 1, 0, .goto (-23), 3) := Fm278 (dk_167 255 233 (dk_at s278_1 3 rfl rfl)) rfl
theorem f278_28 : ft 278 28 = some (12, 1, 0, .iconst (-1), 1) := Fm278 (dk_2 (dk_at s278_1 6 rfl rfl)) rfl
theorem f278_29 : ft 278 29 = some (12, 1, 0, .ireturn, 1) := Fm278 (dk_172 (dk_at s278_1 7 rfl rfl)) rfl
theorem q278 {d : Nat} {m : Mem} {a0 a1 : Int} (hz : TZ m) : le2 (rn d 278 2 [pR a0, pI a1, pI 0] [] m) (cl d 278 [pR a0, pI a1] m) := by
  refine q_in (n := 3) (L := [pR a0, pI a1, pU]) rfl rfl rfl ?_
  refine r_iconst (p := 1) f278_0 rfl (pinD rfl rfl) ?_
  refine r_isn2 (p := 2) f278_1 rfl rfl ?_
  exact le2_refl _
theorem q278_2 {d : Nat} {m : Mem} {a0 a1 a2 : Int} (hz : TZ m) : le2 (gd (tg m a0 = 12) <| if a2 < (vl m a0 3) then (nm (vl m a0 0) fun v1 => gd (tg m v1 = 278101) <| gd ((0 : Int) ≤ a2 ∧ a2 < ln m v1) <| if (vl m v1 a2) = a1 then (some (.inl (some (pI a2)), m)) else rn d 278 2 [pR a0, pI a1, pI (w32 (a2 + 1))] [] m) else some (.inl (some (pI (-1))), m)) (rn d 278 2 [pR a0, pI a1, pI a2] [] m) := by
  refine r_iln2 (p := 3) f278_2 rfl ?_
  refine r_aln0 (p := 4) f278_3 rfl ?_
  refine le2_gd (fun h1 => ?_)
  refine r_gfI (f := 3) (p := 7) f278_4 rfl rfl rfl (Or.inl h1) rfl ?_
  refine r_icge (t := 28) (p := 10) f278_7 (by decide) rfl rfl ?_ ?_
  · refine r_aln0 (p := 11) f278_10 rfl ?_
    refine r_gfR (f := 0) (p := 14) f278_11 rfl rfl rfl (Or.inl h1) rfl ?_
    refine r_nmR (fun v1 ev1 => ?_)
    refine r_iln2 (p := 15) f278_14 rfl ?_
    refine le2_gd (fun h2 => ?_)
    refine le2_gd (fun h3 => ?_)
    refine r_iaload (p := 16) f278_15 rfl (dj1 (fun x => x % 1000 = 101) h2 (by decide)) h3 rfl ?_
    refine r_iln1 (p := 17) f278_16 rfl ?_
    refine r_icne (t := 22) (p := 20) f278_17 (by decide) rfl rfl ?_ ?_
    · refine r_iln2 (p := 21) f278_20 rfl ?_
      exact r_iret1 f278_21
    · refine r_iinc2 (p := 25) f278_22 rfl rfl ?_
      refine r_goto (p := 2) f278_25 (by decide) rfl ?_
      exact le2_refl _
  · refine r_iconst (p := 29) f278_28 rfl (pinD rfl rfl) ?_
    exact r_iret1 f278_29
/-! 279 PathStoreModel$Store.put (I[BI)V -/
def w279_3 : List UInt8 := [21, 4, 4, 100, 46, 182, 0, 27, 132, 4, 255, 167, 255, 202, 42, 21, 4, 27, 44, 29, 182, 0, 27, 177]
abbrev u279_3 : List UInt8 := w279_3 ++ []
def w279_2 : List UInt8 := [21, 4, 42, 180, 0, 9, 21, 4, 4, 100, 46, 42, 180, 0, 20, 21, 4, 4, 100, 50, 42, 180, 0, 15]
abbrev u279_2 : List UInt8 := w279_2 ++ u279_3
def w279_1 : List UInt8 := [96, 181, 0, 23, 21, 4, 158, 0, 55, 42, 180, 0, 9, 21, 4, 4, 100, 46, 27, 164, 0, 42, 42]
abbrev u279_1 : List UInt8 := w279_1 ++ u279_2
def w279_0 : List UInt8 := [42, 27, 182, 0, 31, 54, 4, 21, 4, 156, 0, 76, 42, 180, 0, 23, 54, 4, 42, 89, 180, 0, 23, 4]
abbrev u279_0 : List UInt8 := w279_0 ++ u279_1
theorem s279_0 : (prog_33_method_5_code).data.toList.drop 0 = u279_0 := by decide +kernel
theorem s279_1 : (prog_33_method_5_code).data.toList.drop 24 = u279_1 := dk_seg s279_0 24 rfl rfl
theorem s279_2 : (prog_33_method_5_code).data.toList.drop 47 = u279_2 := dk_seg s279_1 23 rfl rfl
theorem s279_3 : (prog_33_method_5_code).data.toList.drop 71 = u279_3 := dk_seg s279_2 24 rfl rfl
theorem Fm279 {pc len : Nat} {i : Instr} (h : decode (prog_33_method_5_code) pc = .ok (i, len)) (hl : len = ilen i len) : ft 279 pc = some (12, 0, 0, i, len) := ft_mk rfl h hl
theorem f279_0 : ft 279 0 = some (12, 0, 0, .aload_n 0, 1) := Fm279 (dk_42 (dk_at s279_0 0 rfl rfl)) rfl
theorem f279_1 : ft 279 1 = some (12, 0, 0, .iload_n 1, 1) := Fm279 (dk_27 (dk_at s279_0 1 rfl rfl)) rfl
theorem f279_2 : ft 279 2 = some (12, 0, 0, .invokevirtual 31, 3) := Fm279 (dk_182 0 31 (dk_at s279_0 2 rfl rfl)) rfl
theorem f279_5 : ft 279 5 = some (12, 0, 0, .istore 4, 2) := Fm279 (dk_54 4 (dk_at s279_0 5 rfl rfl)) rfl
theorem f279_7 : ft 279 7 = some (12, 0, 0, .iload 4, 2) := Fm279 (dk_21 4 (dk_at s279_0 7 rfl rfl)) rfl
theorem f279_9 : ft 279 9 = some (12, 0, 0, .ifCond .ge 76, 3) := Fm279 (dk_156 0 76 (dk_at s279_0 9 rfl rfl)) rfl
theorem f279_12 : ft 279 12 = some (12, 0, 0, .aload_n 0, 1) := Fm279 (dk_42 (dk_at s279_0 12 rfl rfl)) rfl
theorem f279_13 : ft 279 13 = some (12, 0, 0, .getfield 23, 3) := Fm279 (dk_180 0 23 (dk_at s279_0 13 rfl rfl)) rfl
theorem f279_16 : ft 279 16 = some (12, 0, 0, .istore 4, 2) := Fm279 (dk_54 4 (dk_at s279_0 16 rfl rfl)) rfl
theorem f279_18 : ft 279 18 = some (12, 0, 0, .aload_n 0, 1) := Fm279 (dk_42 (dk_at s279_0 18 rfl rfl)) rfl
theorem f279_19 : ft 279 19 = some (12, 0, 0, .dup, 1) := Fm279 (dk_89 (dk_at s279_0 19 rfl rfl)) rfl
theorem f279_20 : ft 279 20 = some (12, 0, 0, .getfield 23, 3) := Fm279 (dk_180 0 23 (dk_at s279_0 20 rfl rfl)) rfl
theorem f279_23 : ft 279 23 = some (12, 0, 0, .iconst 1, 1) := Fm279 (dk_4 (dk_at s279_0 23 rfl rfl)) rfl
theorem f279_24 : ft 279 24 = some (12, 0, 0, .iadd, 1) := Fm279 (dk_96 (dk_at s279_1 0 rfl rfl)) rfl
theorem f279_25 : ft 279 25 = some (12, 0, 0, .putfield 23, 3) := Fm279 (dk_181 0 23 (dk_at s279_1 1 rfl rfl)) rfl
theorem f279_28 : ft 279 28 = some (12, 0, 0, .iload 4, 2) := Fm279 (dk_21 4 (dk_at s279_1 4 rfl rfl)) rfl
theorem f279_30 : ft 279 30 = some (12, 0, 0, .ifCond .le 55, 3) := Fm279 (dk_158 0 55 (dk_at s279_1 6 rfl rfl)) rfl
theorem f279_33 : ft 279 33 = some (12, 0, 0, .aload_n 0, 1) := Fm279 (dk_42 (dk_at s279_1 9 rfl rfl)) rfl
theorem f279_34 : ft 279 34 = some (12, 0, 0, .getfield 9, 3) := Fm279 (dk_180 0 9 (dk_at s279_1 10 rfl rfl)) rfl
theorem f279_37 : ft 279 37 = some (12, 0, 0, .iload 4, 2) := Fm279 (dk_21 4 (dk_at s279_1 13 rfl rfl)) rfl
theorem f279_39 : ft 279 39 = some (12, 0, 0, .iconst 1, 1) := Fm279 (dk_4 (dk_at s279_1 15 rfl rfl)) rfl
theorem f279_40 : ft 279 40 = some (12, 0, 0, .isub, 1) := Fm279 (dk_100 (dk_at s279_1 16 rfl rfl)) rfl
theorem f279_41 : ft 279 41 = some (12, 0, 0, .iaload, 1) := Fm279 (dk_46 (dk_at s279_1 17 rfl rfl)) rfl
theorem f279_42 : ft 279 42 = some (12, 0, 0, .iload_n 1, 1) := Fm279 (dk_27 (dk_at s279_1 18 rfl rfl)) rfl
theorem f279_43 : ft 279 43 = some (12, 0, 0, .if_icmp .le 42, 3) := Fm279 (dk_164 0 42 (dk_at s279_1 19 rfl rfl)) rfl
theorem f279_46 : ft 279 46 = some (12, 0, 0, .aload_n 0, 1) := Fm279 (dk_42 (dk_at s279_1 22 rfl rfl)) rfl
theorem f279_47 : ft 279 47 = some (12, 0, 0, .iload 4, 2) := Fm279 (dk_21 4 (dk_at s279_2 0 rfl rfl)) rfl
theorem f279_49 : ft 279 49 = some (12, 0, 0, .aload_n 0, 1) := Fm279 (dk_42 (dk_at s279_2 2 rfl rfl)) rfl
theorem f279_50 : ft 279 50 = some (12, 0, 0, .getfield 9, 3) := Fm279 (dk_180 0 9 (dk_at s279_2 3 rfl rfl)) rfl
theorem f279_53 : ft 279 53 = some (12, 0, 0, .iload 4, 2) := Fm279 (dk_21 4 (dk_at s279_2 6 rfl rfl)) rfl
theorem f279_55 : ft 279 55 = some (12, 0, 0, .iconst 1, 1) := Fm279 (dk_4 (dk_at s279_2 8 rfl rfl)) rfl
theorem f279_56 : ft 279 56 = some (12, 0, 0, .isub, 1) := Fm279 (dk_100 (dk_at s279_2 9 rfl rfl)) rfl
theorem f279_57 : ft 279 57 = some (12, 0, 0, .iaload, 1) := Fm279 (dk_46 (dk_at s279_2 10 rfl rfl)) rfl
theorem f279_58 : ft 279 58 = some (12, 0, 0, .aload_n 0, 1) := Fm279 (dk_42 (dk_at s279_2 11 rfl rfl)) rfl
theorem f279_59 : ft 279 59 = some (12, 0, 0, .getfield 20, 3) := Fm279 (dk_180 0 20 (dk_at s279_2 12 rfl rfl)) rfl
theorem f279_62 : ft 279 62 = some (12, 0, 0, .iload 4, 2) := Fm279 (dk_21 4 (dk_at s279_2 15 rfl rfl)) rfl
theorem f279_64 : ft 279 64 = some (12, 0, 0, .iconst 1, 1) := Fm279 (dk_4 (dk_at s279_2 17 rfl rfl)) rfl
theorem f279_65 : ft 279 65 = some (12, 0, 0, .isub, 1) := Fm279 (dk_100 (dk_at s279_2 18 rfl rfl)) rfl
theorem f279_66 : ft 279 66 = some (12, 0, 0, .aaload, 1) := Fm279 (dk_50 (dk_at s279_2 19 rfl rfl)) rfl
theorem f279_67 : ft 279 67 = some (12, 0, 0, .aload_n 0, 1) := Fm279 (dk_42 (dk_at s279_2 20 rfl rfl)) rfl
theorem f279_68 : ft 279 68 = some (12, 0, 0, .getfield 15, 3) := Fm279 (dk_180 0 15 (dk_at s279_2 21 rfl rfl)) rfl
theorem f279_71 : ft 279 71 = some (12, 0, 0, .iload 4, 2) := Fm279 (dk_21 4 (dk_at s279_3 0 rfl rfl)) rfl
theorem f279_73 : ft 279 73 = some (12, 0, 0, .iconst 1, 1) := Fm279 (dk_4 (dk_at s279_3 2 rfl rfl)) rfl
theorem f279_74 : ft 279 74 = some (12, 0, 0, .isub, 1) := Fm279 (dk_100 (dk_at s279_3 3 rfl rfl)) rfl
theorem f279_75 : ft 279 75 = some (12, 0, 0, .iaload, 1) := Fm279 (dk_46 (dk_at s279_3 4 rfl rfl)) rfl
theorem f279_76 : ft 279 76 = some (12, 0, 0, .invokevirtual 27, 3) := Fm279 (dk_182 0 27 (dk_at s279_3 5 rfl rfl)) rfl
theorem f279_79 : ft 279 79 = some (12, 0, 0, .iinc 4 (-1), 3) := Fm279 (dk_132 4 255 (dk_at s279_3 8 rfl rfl)) rfl
theorem f279_82 : ft 279 82 = some (12, 0, 0, .goto (-54), 3) := Fm279 (dk_167 255 202 (dk_at s279_3 11 rfl rfl)) rfl
theorem f279_85 : ft 279 85 = some (12, 0, 0, .aload_n 0, 1) := Fm279 (dk_42 (dk_at s279_3 14 rfl rfl)) rfl
theorem f279_86 : ft 279 86 = some (12, 0, 0, .iload 4, 2) := Fm279 (dk_21 4 (dk_at s279_3 15 rfl rfl)) rfl
theorem f279_88 : ft 279 88 = some (12, 0, 0, .iload_n 1, 1) := Fm279 (dk_27 (dk_at s279_3 17 rfl rfl)) rfl
theorem f279_89 : ft 279 89 = some (12, 0, 0, .aload_n 2, 1) := Fm279 (dk_44 (dk_at s279_3 18 rfl rfl)) rfl
theorem f279_90 : ft 279 90 = some (12, 0, 0, .iload_n 3, 1) := Fm279 (dk_29 (dk_at s279_3 19 rfl rfl)) rfl
theorem f279_91 : ft 279 91 = some (12, 0, 0, .invokevirtual 27, 3) := Fm279 (dk_182 0 27 (dk_at s279_3 20 rfl rfl)) rfl
theorem f279_94 : ft 279 94 = some (12, 0, 0, .return_, 1) := Fm279 (dk_177 (dk_at s279_3 23 rfl rfl)) rfl
theorem q279 {d : Nat} {m : Mem} {a0 a1 a2 a3 : Int} (hd : 0 < d) (hz : TZ m) : le2 (gd (tg m a0 = 12) <| bI (cl (d - 1) 278 [pR a0, pI a1] m) fun v1 m1 => if v1 < 0 then (nm (vl m1 a0 3) fun v3 => rn d 279 28 [pR a0, pI a1, pR a2, pI a3, pI v3] [] (mst m1 a0 3 (w32 (v3 + 1)))) else bV (cl (d - 1) 280 [pR a0, pI v1, pI a1, pR a2, pI a3] m1) fun m2 => some (.inl none, m2)) (cl d 279 [pR a0, pI a1, pR a2, pI a3] m) := by
  refine q_in (n := 5) (L := [pR a0, pI a1, pR a2, pI a3, pU]) rfl rfl rfl ?_
  refine r_aln0 (p := 1) f279_0 rfl ?_
  refine r_iln1 (p := 2) f279_1 rfl ?_
  refine le2_gd (fun h1 => ?_)
  refine r_invI (p := 5) f279_2 rfl rfl rfl (Or.inl h1) hd (Nat.le_of_ble_eq_true rfl) rfl rfl rfl (fun _ => rfl) (fun v1 m1 c1 => ?_)
  have hz1 := z_k c1 hz
  refine r_isw4 (p := 7) f279_5 rfl rfl ?_
  refine r_ilw4 (p := 9) f279_7 rfl ?_
  refine r_ifge (t := 85) (p := 12) f279_9 (by decide) rfl rfl ?_ ?_
  · refine r_aln0 (p := 13) f279_12 rfl ?_
    have h3 := k_t1 c1 hz h1 (by decide)
    refine r_gfI (f := 3) (p := 16) f279_13 rfl rfl rfl (Or.inl h3) rfl ?_
    refine r_nmI (fun v3 ev3 => ?_)
    refine r_isw4 (p := 18) f279_16 rfl rfl ?_
    refine r_aln0 (p := 19) f279_18 rfl ?_
    refine r_dup (p := 20) f279_19 rfl rfl ?_
    refine r_gfI (f := 3) (p := 23) f279_20 rfl rfl rfl (Or.inl h3) ev3.symm ?_
    refine r_iconst (p := 24) f279_23 rfl (pinD rfl rfl) ?_
    refine r_iadd (p := 25) f279_24 rfl ?_
    refine r_pfI (f := 3) (p := 28) f279_25 rfl rfl rfl (by decide) (by decide) (Or.inl h3) rfl ?_
    exact le2_refl _
  · refine r_aln0 (p := 86) f279_85 rfl ?_
    refine r_ilw4 (p := 88) f279_86 rfl ?_
    refine r_iln1 (p := 89) f279_88 rfl ?_
    refine r_aln2 (p := 90) f279_89 rfl ?_
    refine r_iln3 (p := 91) f279_90 rfl ?_
    have h2 := k_t1 c1 hz h1 (by decide)
    refine r_invV (p := 94) f279_91 rfl rfl rfl (Or.inl h2) hd (Nat.le_of_ble_eq_true rfl) rfl rfl rfl (fun _ => rfl) (fun m2 c2 => ?_)
    have hz2 := z_k c2 hz1
    exact r_ret f279_94
theorem q279_28 {d : Nat} {m : Mem} {a0 a1 a2 a3 a4 : Int} (hd : 0 < d) (hz : TZ m) : le2 (if 0 < a4 then (gd (tg m a0 = 12) <| nm (vl m a0 0) fun v4 => nm (w32 (a4 - 1)) fun v5 => gd (tg m v4 = 278101) <| gd ((0 : Int) ≤ v5 ∧ v5 < ln m v4) <| if a1 < (vl m v4 v5) then (nm (w32 (a4 - 1)) fun v6 => gd ((0 : Int) ≤ v6 ∧ v6 < ln m v4) <| nm (vl m a0 2) fun v7 => nm (w32 (a4 - 1)) fun v8 => gd (tg m v7 = 278118) <| gd ((0 : Int) ≤ v8 ∧ v8 < ln m v7) <| nm (vl m a0 1) fun v9 => nm (w32 (a4 - 1)) fun v10 => gd (tg m v9 = 278101) <| gd ((0 : Int) ≤ v10 ∧ v10 < ln m v9) <| bV (cl (d - 1) 280 [pR a0, pI a4, pI (vl m v4 v6), pR (vl m v7 v8), pI (vl m v9 v10)] m) fun m3 => rn d 279 28 [pR a0, pI a1, pR a2, pI a3, pI (w32 (a4 + (-1)))] [] m3) else bV (cl (d - 1) 280 [pR a0, pI a4, pI a1, pR a2, pI a3] m) fun m2 => some (.inl none, m2)) else gd (tg m a0 = 12) <| bV (cl (d - 1) 280 [pR a0, pI a4, pI a1, pR a2, pI a3] m) fun m1 => some (.inl none, m1)) (rn d 279 28 [pR a0, pI a1, pR a2, pI a3, pI a4] [] m) := by
  refine r_ilw4 (p := 30) f279_28 rfl ?_
  refine r_ifle (t := 85) (p := 33) f279_30 (by decide) rfl rfl ?_ ?_
  · refine r_aln0 (p := 34) f279_33 rfl ?_
    refine le2_gd (fun h2 => ?_)
    refine r_gfR (f := 0) (p := 37) f279_34 rfl rfl rfl (Or.inl h2) rfl ?_
    refine r_nmR (fun v4 ev4 => ?_)
    refine r_ilw4 (p := 39) f279_37 rfl ?_
    refine r_iconst (p := 40) f279_39 rfl (pinD rfl rfl) ?_
    refine r_isub (p := 41) f279_40 rfl ?_
    refine r_nmI (fun v5 ev5 => ?_)
    refine le2_gd (fun h3 => ?_)
    refine le2_gd (fun h4 => ?_)
    refine r_iaload (p := 42) f279_41 rfl (dj1 (fun x => x % 1000 = 101) h3 (by decide)) h4 rfl ?_
    refine r_iln1 (p := 43) f279_42 rfl ?_
    refine r_icle (t := 85) (p := 46) f279_43 (by decide) rfl rfl ?_ ?_
    · refine r_aln0 (p := 47) f279_46 rfl ?_
      refine r_ilw4 (p := 49) f279_47 rfl ?_
      refine r_aln0 (p := 50) f279_49 rfl ?_
      refine r_gfR (f := 0) (p := 53) f279_50 rfl rfl rfl (Or.inl h2) ev4.symm ?_
      refine r_ilw4 (p := 55) f279_53 rfl ?_
      refine r_iconst (p := 56) f279_55 rfl (pinD rfl rfl) ?_
      refine r_isub (p := 57) f279_56 rfl ?_
      refine r_nmI (fun v6 ev6 => ?_)
      refine le2_gd (fun h5 => ?_)
      refine r_iaload (p := 58) f279_57 rfl (dj1 (fun x => x % 1000 = 101) h3 (by decide)) h5 rfl ?_
      refine r_aln0 (p := 59) f279_58 rfl ?_
      refine r_gfR (f := 2) (p := 62) f279_59 rfl rfl rfl (Or.inl h2) rfl ?_
      refine r_nmR (fun v7 ev7 => ?_)
      refine r_ilw4 (p := 64) f279_62 rfl ?_
      refine r_iconst (p := 65) f279_64 rfl (pinD rfl rfl) ?_
      refine r_isub (p := 66) f279_65 rfl ?_
      refine r_nmI (fun v8 ev8 => ?_)
      refine le2_gd (fun h6 => ?_)
      refine le2_gd (fun h7 => ?_)
      refine r_aaload (p := 67) f279_66 rfl (dj1 (fun x => 110 < x % 1000 ∧ x % 1000 < 119) h6 (by decide)) h7 rfl ?_
      refine r_aln0 (p := 68) f279_67 rfl ?_
      refine r_gfR (f := 1) (p := 71) f279_68 rfl rfl rfl (Or.inl h2) rfl ?_
      refine r_nmR (fun v9 ev9 => ?_)
      refine r_ilw4 (p := 73) f279_71 rfl ?_
      refine r_iconst (p := 74) f279_73 rfl (pinD rfl rfl) ?_
      refine r_isub (p := 75) f279_74 rfl ?_
      refine r_nmI (fun v10 ev10 => ?_)
      refine le2_gd (fun h8 => ?_)
      refine le2_gd (fun h9 => ?_)
      refine r_iaload (p := 76) f279_75 rfl (dj1 (fun x => x % 1000 = 101) h8 (by decide)) h9 rfl ?_
      refine r_invV (p := 79) f279_76 rfl rfl rfl (Or.inl h2) hd (Nat.le_of_ble_eq_true rfl) rfl rfl rfl (fun _ => rfl) (fun m3 c3 => ?_)
      have hz3 := z_k c3 hz
      refine r_iinc4 (p := 82) f279_79 rfl rfl ?_
      refine r_goto (p := 28) f279_82 (by decide) rfl ?_
      exact le2_refl _
    · refine r_aln0 (p := 86) f279_85 rfl ?_
      refine r_ilw4 (p := 88) f279_86 rfl ?_
      refine r_iln1 (p := 89) f279_88 rfl ?_
      refine r_aln2 (p := 90) f279_89 rfl ?_
      refine r_iln3 (p := 91) f279_90 rfl ?_
      refine r_invV (p := 94) f279_91 rfl rfl rfl (Or.inl h2) hd (Nat.le_of_ble_eq_true rfl) rfl rfl rfl (fun _ => rfl) (fun m2 c2 => ?_)
      have hz2 := z_k c2 hz
      exact r_ret f279_94
  · refine r_aln0 (p := 86) f279_85 rfl ?_
    refine r_ilw4 (p := 88) f279_86 rfl ?_
    refine r_iln1 (p := 89) f279_88 rfl ?_
    refine r_aln2 (p := 90) f279_89 rfl ?_
    refine r_iln3 (p := 91) f279_90 rfl ?_
    refine le2_gd (fun h1 => ?_)
    refine r_invV (p := 94) f279_91 rfl rfl rfl (Or.inl h1) hd (Nat.le_of_ble_eq_true rfl) rfl rfl rfl (fun _ => rfl) (fun m1 c1 => ?_)
    have hz1 := z_k c1 hz
    exact r_ret f279_94
/-! 280 PathStoreModel$Store.set (II[BI)V -/
def w280_1 : List UInt8 := [162, 0, 22, 42, 180, 0, 20, 27, 50, 21, 5, 45, 21, 5, 51, 84, 132, 5, 1, 167, 255, 233, 177]
abbrev u280_1 : List UInt8 := w280_1 ++ []
def w280_0 : List UInt8 := [42, 180, 0, 9, 27, 28, 79, 42, 180, 0, 15, 27, 21, 4, 79, 3, 54, 5, 21, 5, 21, 4]
abbrev u280_0 : List UInt8 := w280_0 ++ u280_1
theorem s280_0 : (prog_33_method_4_code).data.toList.drop 0 = u280_0 := by decide +kernel
theorem s280_1 : (prog_33_method_4_code).data.toList.drop 22 = u280_1 := dk_seg s280_0 22 rfl rfl
theorem Fm280 {pc len : Nat} {i : Instr} (h : decode (prog_33_method_4_code) pc = .ok (i, len)) (hl : len = ilen i len) : ft 280 pc = some (12, 0, 0, i, len) := ft_mk rfl h hl
theorem f280_0 : ft 280 0 = some (12, 0, 0, .aload_n 0, 1) := Fm280 (dk_42 (dk_at s280_0 0 rfl rfl)) rfl
theorem f280_1 : ft 280 1 = some (12, 0, 0, .getfield 9, 3) := Fm280 (dk_180 0 9 (dk_at s280_0 1 rfl rfl)) rfl
theorem f280_4 : ft 280 4 = some (12, 0, 0, .iload_n 1, 1) := Fm280 (dk_27 (dk_at s280_0 4 rfl rfl)) rfl
theorem f280_5 : ft 280 5 = some (12, 0, 0, .iload_n 2, 1) := Fm280 (dk_28 (dk_at s280_0 5 rfl rfl)) rfl
theorem f280_6 : ft 280 6 = some (12, 0, 0, .iastore, 1) := Fm280 (dk_79 (dk_at s280_0 6 rfl rfl)) rfl
theorem f280_7 : ft 280 7 = some (12, 0, 0, .aload_n 0, 1) := Fm280 (dk_42 (dk_at s280_0 7 rfl rfl)) rfl
theorem f280_8 : ft 280 8 = some (12, 0, 0, .getfield 15, 3) := Fm280 (dk_180 0 15 (dk_at s280_0 8 rfl rfl)) rfl
theorem f280_11 : ft 280 11 = some (12, 0, 0, .iload_n 1, 1) := Fm280 (dk_27 (dk_at s280_0 11 rfl rfl)) rfl
theorem f280_12 : ft 280 12 = some (12, 0, 0, .iload 4, 2) := Fm280 (dk_21 4 (dk_at s280_0 12 rfl rfl)) rfl
theorem f280_14 : ft 280 14 = some (12, 0, 0, .iastore, 1) := Fm280 (dk_79 (dk_at s280_0 14 rfl rfl)) rfl
theorem f280_15 : ft 280 15 = some (12, 0, 0, .iconst 0, 1) := Fm280 (dk_3 (dk_at s280_0 15 rfl rfl)) rfl
theorem f280_16 : ft 280 16 = some (12, 0, 0, .istore 5, 2) := Fm280 (dk_54 5 (dk_at s280_0 16 rfl rfl)) rfl
theorem f280_18 : ft 280 18 = some (12, 0, 0, .iload 5, 2) := Fm280 (dk_21 5 (dk_at s280_0 18 rfl rfl)) rfl
theorem f280_20 : ft 280 20 = some (12, 0, 0, .iload 4, 2) := Fm280 (dk_21 4 (dk_at s280_0 20 rfl rfl)) rfl
theorem f280_22 : ft 280 22 = some (12, 0, 0, .if_icmp .ge 22, 3) := Fm280 (dk_162 0 22 (dk_at s280_1 0 rfl rfl)) rfl
theorem f280_25 : ft 280 25 = some (12, 0, 0, .aload_n 0, 1) := Fm280 (dk_42 (dk_at s280_1 3 rfl rfl)) rfl
theorem f280_26 : ft 280 26 = some (12, 0, 0, .getfield 20, 3) := Fm280 (dk_180 0 20 (dk_at s280_1 4 rfl rfl)) rfl
theorem f280_29 : ft 280 29 = some (12, 0, 0, .iload_n 1, 1) := Fm280 (dk_27 (dk_at s280_1 7 rfl rfl)) rfl
theorem f280_30 : ft 280 30 = some (12, 0, 0, .aaload, 1) := Fm280 (dk_50 (dk_at s280_1 8 rfl rfl)) rfl
theorem f280_31 : ft 280 31 = some (12, 0, 0, .iload 5, 2) := Fm280 (dk_21 5 (dk_at s280_1 9 rfl rfl)) rfl
theorem f280_33 : ft 280 33 = some (12, 0, 0, .aload_n 3, 1) := Fm280 (dk_45 (dk_at s280_1 11 rfl rfl)) rfl
theorem f280_34 : ft 280 34 = some (12, 0, 0, .iload 5, 2) := Fm280 (dk_21 5 (dk_at s280_1 12 rfl rfl)) rfl
theorem f280_36 : ft 280 36 = some (12, 0, 0, .baload, 1) := Fm280 (dk_51 (dk_at s280_1 14 rfl rfl)) rfl
theorem f280_37 : ft 280 37 = some (12, 0, 0, .bastore, 1) := Fm280 (dk_84 (dk_at s280_1 15 rfl rfl)) rfl
theorem f280_38 : ft 280 38 = some (12, 0, 0, .iinc 5 1, 3) := Fm280 (dk_132 5 1 (dk_at s280_1 16 rfl rfl)) rfl
theorem f280_41 : ft 280 41 = some (12, 0, 0, .goto (-23), 3) := Fm280 (dk_167 255 233 (dk_at s280_1 19 rfl rfl)) rfl
theorem f280_44 : ft 280 44 = some (12, 0, 0, .return_, 1) := Fm280 (dk_177 (dk_at s280_1 22 rfl rfl)) rfl
theorem q280 {d : Nat} {m : Mem} {a0 a1 a2 a3 a4 : Int} (hz : TZ m) : le2 (gd (tg m a0 = 12) <| nm (vl m a0 0) fun v1 => gd (tg m v1 = 278101) <| gd ((0 : Int) ≤ a1 ∧ a1 < ln m v1) <| nm (vl m a0 1) fun v2 => gd (tg m v2 = 278101) <| gd ((0 : Int) ≤ a1 ∧ a1 < ln m v2) <| rn d 280 18 [pR a0, pI a1, pI a2, pR a3, pI a4, pI 0] [] (mst (mst m v1 a1 a2) v2 a1 a4)) (cl d 280 [pR a0, pI a1, pI a2, pR a3, pI a4] m) := by
  refine q_in (n := 6) (L := [pR a0, pI a1, pI a2, pR a3, pI a4, pU]) rfl rfl rfl ?_
  refine r_aln0 (p := 1) f280_0 rfl ?_
  refine le2_gd (fun h1 => ?_)
  refine r_gfR (f := 0) (p := 4) f280_1 rfl rfl rfl (Or.inl h1) rfl ?_
  refine r_nmR (fun v1 ev1 => ?_)
  refine r_iln1 (p := 5) f280_4 rfl ?_
  refine r_iln2 (p := 6) f280_5 rfl ?_
  refine le2_gd (fun h2 => ?_)
  refine le2_gd (fun h3 => ?_)
  refine r_iastore (p := 7) f280_6 rfl (dj1 (fun x => 1000 ≤ x ∧ x % 1000 = 101 ∧ Nat.testBit (eM 280) (bix x 0) = true) h2 (by decide)) h3 ?_
  refine r_aln0 (p := 8) f280_7 rfl ?_
  refine r_gfR (f := 1) (p := 11) f280_8 rfl rfl rfl (Or.inl h1) (sk_o (ne_oa (dj1 (fun x => x < 100) h1 (by decide)) (dj1 (fun x => ¬ x < 100) h2 (by decide)))) ?_
  refine r_nmR (fun v2 ev2 => ?_)
  refine r_iln1 (p := 12) f280_11 rfl ?_
  refine r_ilw4 (p := 14) f280_12 rfl ?_
  refine le2_gd (fun h4 => ?_)
  refine le2_gd (fun h5 => ?_)
  refine r_iastore (p := 15) f280_14 rfl (dj1 (fun x => 1000 ≤ x ∧ x % 1000 = 101 ∧ Nat.testBit (eM 280) (bix x 0) = true) h4 (by decide)) h5 ?_
  refine r_iconst (p := 16) f280_15 rfl (pinD rfl rfl) ?_
  refine r_isw5 (p := 18) f280_16 rfl rfl ?_
  exact le2_refl _
theorem q280_18 {d : Nat} {m : Mem} {a0 a1 a2 a3 a4 a5 : Int} (hz : TZ m) : le2 (if a5 < a4 then (gd (tg m a0 = 12) <| nm (vl m a0 2) fun v1 => gd (tg m v1 = 278118) <| gd ((0 : Int) ≤ a1 ∧ a1 < ln m v1) <| nm (vl m v1 a1) fun v2 => gd (tg m a3 = 186103 ∨ tg m a3 = 278103) <| gd ((0 : Int) ≤ a5 ∧ a5 < ln m a3) <| gd (tg m v2 = 278103) <| gd ((0 : Int) ≤ a5 ∧ a5 < ln m v2) <| rn d 280 18 [pR a0, pI a1, pI a2, pR a3, pI a4, pI (w32 (a5 + 1))] [] (mst m v2 a5 (w8 (vl m a3 a5)))) else some (.inl none, m)) (rn d 280 18 [pR a0, pI a1, pI a2, pR a3, pI a4, pI a5] [] m) := by
  refine r_ilw5 (p := 20) f280_18 rfl ?_
  refine r_ilw4 (p := 22) f280_20 rfl ?_
  refine r_icge (t := 44) (p := 25) f280_22 (by decide) rfl rfl ?_ ?_
  · refine r_aln0 (p := 26) f280_25 rfl ?_
    refine le2_gd (fun h1 => ?_)
    refine r_gfR (f := 2) (p := 29) f280_26 rfl rfl rfl (Or.inl h1) rfl ?_
    refine r_nmR (fun v1 ev1 => ?_)
    refine r_iln1 (p := 30) f280_29 rfl ?_
    refine le2_gd (fun h2 => ?_)
    refine le2_gd (fun h3 => ?_)
    refine r_aaload (p := 31) f280_30 rfl (dj1 (fun x => 110 < x % 1000 ∧ x % 1000 < 119) h2 (by decide)) h3 rfl ?_
    refine r_nmR (fun v2 ev2 => ?_)
    refine r_ilw5 (p := 33) f280_31 rfl ?_
    refine r_aln3 (p := 34) f280_33 rfl ?_
    refine r_ilw5 (p := 36) f280_34 rfl ?_
    refine le2_gd (fun h4 => ?_)
    refine le2_gd (fun h5 => ?_)
    refine r_baload (p := 37) f280_36 rfl (dj2 (fun x => x % 1000 = 103 ∨ x % 1000 = 105) h4 (by decide) (by decide)) h5 rfl ?_
    refine le2_gd (fun h6 => ?_)
    refine le2_gd (fun h7 => ?_)
    refine r_bastore (p := 38) f280_37 rfl (dj1 (fun x => 1000 ≤ x ∧ x % 1000 = 103 ∧ Nat.testBit (eM 280) (bix x 0) = true) h6 (by decide)) h7 ?_
    refine r_iinc5 (p := 41) f280_38 rfl rfl ?_
    refine r_goto (p := 18) f280_41 (by decide) rfl ?_
    exact le2_refl _
  · exact r_ret f280_44
/-! 281 PathStoreModel$Store.remove (I)V -/
def w281_2 : List UInt8 := [182, 0, 27, 132, 2, 1, 167, 255, 216, 177]
abbrev u281_2 : List UInt8 := w281_2 ++ []
def w281_1 : List UInt8 := [180, 0, 9, 28, 4, 96, 46, 42, 180, 0, 20, 28, 4, 96, 50, 42, 180, 0, 15, 28, 4, 96, 46]
abbrev u281_1 : List UInt8 := w281_1 ++ u281_2
def w281_0 : List UInt8 := [42, 89, 180, 0, 23, 4, 100, 181, 0, 23, 27, 61, 28, 42, 180, 0, 23, 162, 0, 38, 42, 28, 42]
abbrev u281_0 : List UInt8 := w281_0 ++ u281_1
theorem s281_0 : (prog_33_method_6_code).data.toList.drop 0 = u281_0 := by decide +kernel
theorem s281_1 : (prog_33_method_6_code).data.toList.drop 23 = u281_1 := dk_seg s281_0 23 rfl rfl
theorem s281_2 : (prog_33_method_6_code).data.toList.drop 46 = u281_2 := dk_seg s281_1 23 rfl rfl
theorem Fm281 {pc len : Nat} {i : Instr} (h : decode (prog_33_method_6_code) pc = .ok (i, len)) (hl : len = ilen i len) : ft 281 pc = some (12, 0, 0, i, len) := ft_mk rfl h hl
theorem f281_0 : ft 281 0 = some (12, 0, 0, .aload_n 0, 1) := Fm281 (dk_42 (dk_at s281_0 0 rfl rfl)) rfl
theorem f281_1 : ft 281 1 = some (12, 0, 0, .dup, 1) := Fm281 (dk_89 (dk_at s281_0 1 rfl rfl)) rfl
theorem f281_2 : ft 281 2 = some (12, 0, 0, .getfield 23, 3) := Fm281 (dk_180 0 23 (dk_at s281_0 2 rfl rfl)) rfl
theorem f281_5 : ft 281 5 = some (12, 0, 0, .iconst 1, 1) := Fm281 (dk_4 (dk_at s281_0 5 rfl rfl)) rfl
theorem f281_6 : ft 281 6 = some (12, 0, 0, .isub, 1) := Fm281 (dk_100 (dk_at s281_0 6 rfl rfl)) rfl
theorem f281_7 : ft 281 7 = some (12, 0, 0, .putfield 23, 3) := Fm281 (dk_181 0 23 (dk_at s281_0 7 rfl rfl)) rfl
theorem f281_10 : ft 281 10 = some (12, 0, 0, .iload_n 1, 1) := Fm281 (dk_27 (dk_at s281_0 10 rfl rfl)) rfl
theorem f281_11 : ft 281 11 = some (12, 0, 0, .istore_n 2, 1) := Fm281 (dk_61 (dk_at s281_0 11 rfl rfl)) rfl
theorem f281_12 : ft 281 12 = some (12, 0, 0, .iload_n 2, 1) := Fm281 (dk_28 (dk_at s281_0 12 rfl rfl)) rfl
theorem f281_13 : ft 281 13 = some (12, 0, 0, .aload_n 0, 1) := Fm281 (dk_42 (dk_at s281_0 13 rfl rfl)) rfl
theorem f281_14 : ft 281 14 = some (12, 0, 0, .getfield 23, 3) := Fm281 (dk_180 0 23 (dk_at s281_0 14 rfl rfl)) rfl
theorem f281_17 : ft 281 17 = some (12, 0, 0, .if_icmp .ge 38, 3) := Fm281 (dk_162 0 38 (dk_at s281_0 17 rfl rfl)) rfl
theorem f281_20 : ft 281 20 = some (12, 0, 0, .aload_n 0, 1) := Fm281 (dk_42 (dk_at s281_0 20 rfl rfl)) rfl
theorem f281_21 : ft 281 21 = some (12, 0, 0, .iload_n 2, 1) := Fm281 (dk_28 (dk_at s281_0 21 rfl rfl)) rfl
theorem f281_22 : ft 281 22 = some (12, 0, 0, .aload_n 0, 1) := Fm281 (dk_42 (dk_at s281_0 22 rfl rfl)) rfl
theorem f281_23 : ft 281 23 = some (12, 0, 0, .getfield 9, 3) := Fm281 (dk_180 0 9 (dk_at s281_1 0 rfl rfl)) rfl
theorem f281_26 : ft 281 26 = some (12, 0, 0, .iload_n 2, 1) := Fm281 (dk_28 (dk_at s281_1 3 rfl rfl)) rfl
theorem f281_27 : ft 281 27 = some (12, 0, 0, .iconst 1, 1) := Fm281 (dk_4 (dk_at s281_1 4 rfl rfl)) rfl
theorem f281_28 : ft 281 28 = some (12, 0, 0, .iadd, 1) := Fm281 (dk_96 (dk_at s281_1 5 rfl rfl)) rfl
theorem f281_29 : ft 281 29 = some (12, 0, 0, .iaload, 1) := Fm281 (dk_46 (dk_at s281_1 6 rfl rfl)) rfl
theorem f281_30 : ft 281 30 = some (12, 0, 0, .aload_n 0, 1) := Fm281 (dk_42 (dk_at s281_1 7 rfl rfl)) rfl
theorem f281_31 : ft 281 31 = some (12, 0, 0, .getfield 20, 3) := Fm281 (dk_180 0 20 (dk_at s281_1 8 rfl rfl)) rfl
theorem f281_34 : ft 281 34 = some (12, 0, 0, .iload_n 2, 1) := Fm281 (dk_28 (dk_at s281_1 11 rfl rfl)) rfl
theorem f281_35 : ft 281 35 = some (12, 0, 0, .iconst 1, 1) := Fm281 (dk_4 (dk_at s281_1 12 rfl rfl)) rfl
theorem f281_36 : ft 281 36 = some (12, 0, 0, .iadd, 1) := Fm281 (dk_96 (dk_at s281_1 13 rfl rfl)) rfl
theorem f281_37 : ft 281 37 = some (12, 0, 0, .aaload, 1) := Fm281 (dk_50 (dk_at s281_1 14 rfl rfl)) rfl
theorem f281_38 : ft 281 38 = some (12, 0, 0, .aload_n 0, 1) := Fm281 (dk_42 (dk_at s281_1 15 rfl rfl)) rfl
theorem f281_39 : ft 281 39 = some (12, 0, 0, .getfield 15, 3) := Fm281 (dk_180 0 15 (dk_at s281_1 16 rfl rfl)) rfl
theorem f281_42 : ft 281 42 = some (12, 0, 0, .iload_n 2, 1) := Fm281 (dk_28 (dk_at s281_1 19 rfl rfl)) rfl
theorem f281_43 : ft 281 43 = some (12, 0, 0, .iconst 1, 1) := Fm281 (dk_4 (dk_at s281_1 20 rfl rfl)) rfl
theorem f281_44 : ft 281 44 = some (12, 0, 0, .iadd, 1) := Fm281 (dk_96 (dk_at s281_1 21 rfl rfl)) rfl
theorem f281_45 : ft 281 45 = some (12, 0, 0, .iaload, 1) := Fm281 (dk_46 (dk_at s281_1 22 rfl rfl)) rfl
theorem f281_46 : ft 281 46 = some (12, 0, 0, .invokevirtual 27, 3) := Fm281 (dk_182 0 27 (dk_at s281_2 0 rfl rfl)) rfl
theorem f281_49 : ft 281 49 = some (12, 0, 0, .iinc 2 1, 3) := Fm281 (dk_132 2 1 (dk_at s281_2 3 rfl rfl)) rfl
theorem f281_52 : ft 281 52 = some (12, 0, 0, .goto (-40), 3) := Fm281 (dk_167 255 216 (dk_at s281_2 6 rfl rfl)) rfl
theorem f281_55 : ft 281 55 = some (12, 0, 0, .return_, 1) := Fm281 (dk_177 (dk_at s281_2 9 rfl rfl)) rfl
theorem q281 {d : Nat} {m : Mem} {a0 a1 : Int} (hz : TZ m) : le2 (gd (tg m a0 = 12) <| rn d 281 12 [pR a0, pI a1, pI a1] [] (mst m a0 3 (w32 ((vl m a0 3) - 1)))) (cl d 281 [pR a0, pI a1] m) := by
  refine q_in (n := 3) (L := [pR a0, pI a1, pU]) rfl rfl rfl ?_
  refine r_aln0 (p := 1) f281_0 rfl ?_
  refine r_dup (p := 2) f281_1 rfl rfl ?_
  refine le2_gd (fun h1 => ?_)
  refine r_gfI (f := 3) (p := 5) f281_2 rfl rfl rfl (Or.inl h1) rfl ?_
  refine r_iconst (p := 6) f281_5 rfl (pinD rfl rfl) ?_
  refine r_isub (p := 7) f281_6 rfl ?_
  refine r_pfI (f := 3) (p := 10) f281_7 rfl rfl rfl (by decide) (by decide) (Or.inl h1) rfl ?_
  refine r_iln1 (p := 11) f281_10 rfl ?_
  refine r_isn2 (p := 12) f281_11 rfl rfl ?_
  exact le2_refl _
theorem q281_12 {d : Nat} {m : Mem} {a0 a1 a2 : Int} (hd : 0 < d) (hz : TZ m) : le2 (gd (tg m a0 = 12) <| if a2 < (vl m a0 3) then (nm (vl m a0 0) fun v2 => nm (w32 (a2 + 1)) fun v3 => gd (tg m v2 = 278101) <| gd ((0 : Int) ≤ v3 ∧ v3 < ln m v2) <| nm (vl m a0 2) fun v4 => nm (w32 (a2 + 1)) fun v5 => gd (tg m v4 = 278118) <| gd ((0 : Int) ≤ v5 ∧ v5 < ln m v4) <| nm (vl m a0 1) fun v6 => nm (w32 (a2 + 1)) fun v7 => gd (tg m v6 = 278101) <| gd ((0 : Int) ≤ v7 ∧ v7 < ln m v6) <| bV (cl (d - 1) 280 [pR a0, pI a2, pI (vl m v2 v3), pR (vl m v4 v5), pI (vl m v6 v7)] m) fun m1 => rn d 281 12 [pR a0, pI a1, pI (w32 (a2 + 1))] [] m1) else some (.inl none, m)) (rn d 281 12 [pR a0, pI a1, pI a2] [] m) := by
  refine r_iln2 (p := 13) f281_12 rfl ?_
  refine r_aln0 (p := 14) f281_13 rfl ?_
  refine le2_gd (fun h1 => ?_)
  refine r_gfI (f := 3) (p := 17) f281_14 rfl rfl rfl (Or.inl h1) rfl ?_
  refine r_icge (t := 55) (p := 20) f281_17 (by decide) rfl rfl ?_ ?_
  · refine r_aln0 (p := 21) f281_20 rfl ?_
    refine r_iln2 (p := 22) f281_21 rfl ?_
    refine r_aln0 (p := 23) f281_22 rfl ?_
    refine r_gfR (f := 0) (p := 26) f281_23 rfl rfl rfl (Or.inl h1) rfl ?_
    refine r_nmR (fun v2 ev2 => ?_)
    refine r_iln2 (p := 27) f281_26 rfl ?_
    refine r_iconst (p := 28) f281_27 rfl (pinD rfl rfl) ?_
    refine r_iadd (p := 29) f281_28 rfl ?_
    refine r_nmI (fun v3 ev3 => ?_)
    refine le2_gd (fun h2 => ?_)
    refine le2_gd (fun h3 => ?_)
    refine r_iaload (p := 30) f281_29 rfl (dj1 (fun x => x % 1000 = 101) h2 (by decide)) h3 rfl ?_
    refine r_aln0 (p := 31) f281_30 rfl ?_
    refine r_gfR (f := 2) (p := 34) f281_31 rfl rfl rfl (Or.inl h1) rfl ?_
    refine r_nmR (fun v4 ev4 => ?_)
    refine r_iln2 (p := 35) f281_34 rfl ?_
    refine r_iconst (p := 36) f281_35 rfl (pinD rfl rfl) ?_
    refine r_iadd (p := 37) f281_36 rfl ?_
    refine r_nmI (fun v5 ev5 => ?_)
    refine le2_gd (fun h4 => ?_)
    refine le2_gd (fun h5 => ?_)
    refine r_aaload (p := 38) f281_37 rfl (dj1 (fun x => 110 < x % 1000 ∧ x % 1000 < 119) h4 (by decide)) h5 rfl ?_
    refine r_aln0 (p := 39) f281_38 rfl ?_
    refine r_gfR (f := 1) (p := 42) f281_39 rfl rfl rfl (Or.inl h1) rfl ?_
    refine r_nmR (fun v6 ev6 => ?_)
    refine r_iln2 (p := 43) f281_42 rfl ?_
    refine r_iconst (p := 44) f281_43 rfl (pinD rfl rfl) ?_
    refine r_iadd (p := 45) f281_44 rfl ?_
    refine r_nmI (fun v7 ev7 => ?_)
    refine le2_gd (fun h6 => ?_)
    refine le2_gd (fun h7 => ?_)
    refine r_iaload (p := 46) f281_45 rfl (dj1 (fun x => x % 1000 = 101) h6 (by decide)) h7 rfl ?_
    refine r_invV (p := 49) f281_46 rfl rfl rfl (Or.inl h1) hd (Nat.le_of_ble_eq_true rfl) rfl rfl rfl (fun _ => rfl) (fun m1 c1 => ?_)
    have hz1 := z_k c1 hz
    refine r_iinc2 (p := 52) f281_49 rfl rfl ?_
    refine r_goto (p := 12) f281_52 (by decide) rfl ?_
    exact le2_refl _
  · exact r_ret f281_55
/-! 282 PathStoreModel$Store.take (LPathStoreModel$Store;)V -/
def w282_1 : List UInt8 := [28, 46, 43, 180, 0, 20, 28, 50, 43, 180, 0, 15, 28, 46, 182, 0, 27, 132, 2, 1, 167, 255, 222, 177]
abbrev u282_1 : List UInt8 := w282_1 ++ []
def w282_0 : List UInt8 := [42, 43, 180, 0, 23, 181, 0, 23, 3, 61, 28, 42, 180, 0, 23, 162, 0, 32, 42, 28, 43, 180, 0, 9]
abbrev u282_0 : List UInt8 := w282_0 ++ u282_1
theorem s282_0 : (prog_33_method_3_code).data.toList.drop 0 = u282_0 := by decide +kernel
theorem s282_1 : (prog_33_method_3_code).data.toList.drop 24 = u282_1 := dk_seg s282_0 24 rfl rfl
theorem Fm282 {pc len : Nat} {i : Instr} (h : decode (prog_33_method_3_code) pc = .ok (i, len)) (hl : len = ilen i len) : ft 282 pc = some (12, 0, 0, i, len) := ft_mk rfl h hl
theorem f282_0 : ft 282 0 = some (12, 0, 0, .aload_n 0, 1) := Fm282 (dk_42 (dk_at s282_0 0 rfl rfl)) rfl
theorem f282_1 : ft 282 1 = some (12, 0, 0, .aload_n 1, 1) := Fm282 (dk_43 (dk_at s282_0 1 rfl rfl)) rfl
theorem f282_2 : ft 282 2 = some (12, 0, 0, .getfield 23, 3) := Fm282 (dk_180 0 23 (dk_at s282_0 2 rfl rfl)) rfl
theorem f282_5 : ft 282 5 = some (12, 0, 0, .putfield 23, 3) := Fm282 (dk_181 0 23 (dk_at s282_0 5 rfl rfl)) rfl
theorem f282_8 : ft 282 8 = some (12, 0, 0, .iconst 0, 1) := Fm282 (dk_3 (dk_at s282_0 8 rfl rfl)) rfl
theorem f282_9 : ft 282 9 = some (12, 0, 0, .istore_n 2, 1) := Fm282 (dk_61 (dk_at s282_0 9 rfl rfl)) rfl
theorem f282_10 : ft 282 10 = some (12, 0, 0, .iload_n 2, 1) := Fm282 (dk_28 (dk_at s282_0 10 rfl rfl)) rfl
theorem f282_11 : ft 282 11 = some (12, 0, 0, .aload_n 0, 1) := Fm282 (dk_42 (dk_at s282_0 11 rfl rfl)) rfl
theorem f282_12 : ft 282 12 = some (12, 0, 0, .getfield 23, 3) := Fm282 (dk_180 0 23 (dk_at s282_0 12 rfl rfl)) rfl
theorem f282_15 : ft 282 15 = some (12, 0, 0, .if_icmp .ge 32, 3) := Fm282 (dk_162 0 32 (dk_at s282_0 15 rfl rfl)) rfl
theorem f282_18 : ft 282 18 = some (12, 0, 0, .aload_n 0, 1) := Fm282 (dk_42 (dk_at s282_0 18 rfl rfl)) rfl
theorem f282_19 : ft 282 19 = some (12, 0, 0, .iload_n 2, 1) := Fm282 (dk_28 (dk_at s282_0 19 rfl rfl)) rfl
theorem f282_20 : ft 282 20 = some (12, 0, 0, .aload_n 1, 1) := Fm282 (dk_43 (dk_at s282_0 20 rfl rfl)) rfl
theorem f282_21 : ft 282 21 = some (12, 0, 0, .getfield 9, 3) := Fm282 (dk_180 0 9 (dk_at s282_0 21 rfl rfl)) rfl
theorem f282_24 : ft 282 24 = some (12, 0, 0, .iload_n 2, 1) := Fm282 (dk_28 (dk_at s282_1 0 rfl rfl)) rfl
theorem f282_25 : ft 282 25 = some (12, 0, 0, .iaload, 1) := Fm282 (dk_46 (dk_at s282_1 1 rfl rfl)) rfl
theorem f282_26 : ft 282 26 = some (12, 0, 0, .aload_n 1, 1) := Fm282 (dk_43 (dk_at s282_1 2 rfl rfl)) rfl
theorem f282_27 : ft 282 27 = some (12, 0, 0, .getfield 20, 3) := Fm282 (dk_180 0 20 (dk_at s282_1 3 rfl rfl)) rfl
theorem f282_30 : ft 282 30 = some (12, 0, 0, .iload_n 2, 1) := Fm282 (dk_28 (dk_at s282_1 6 rfl rfl)) rfl
theorem f282_31 : ft 282 31 = some (12, 0, 0, .aaload, 1) := Fm282 (dk_50 (dk_at s282_1 7 rfl rfl)) rfl
theorem f282_32 : ft 282 32 = some (12, 0, 0, .aload_n 1, 1) := Fm282 (dk_43 (dk_at s282_1 8 rfl rfl)) rfl
theorem f282_33 : ft 282 33 = some (12, 0, 0, .getfield 15, 3) := Fm282 (dk_180 0 15 (dk_at s282_1 9 rfl rfl)) rfl
theorem f282_36 : ft 282 36 = some (12, 0, 0, .iload_n 2, 1) := Fm282 (dk_28 (dk_at s282_1 12 rfl rfl)) rfl
theorem f282_37 : ft 282 37 = some (12, 0, 0, .iaload, 1) := Fm282 (dk_46 (dk_at s282_1 13 rfl rfl)) rfl
theorem f282_38 : ft 282 38 = some (12, 0, 0, .invokevirtual 27, 3) := Fm282 (dk_182 0 27 (dk_at s282_1 14 rfl rfl)) rfl
theorem f282_41 : ft 282 41 = some (12, 0, 0, .iinc 2 1, 3) := Fm282 (dk_132 2 1 (dk_at s282_1 17 rfl rfl)) rfl
theorem f282_44 : ft 282 44 = some (12, 0, 0, .goto (-34), 3) := Fm282 (dk_167 255 222 (dk_at s282_1 20 rfl rfl)) rfl
theorem f282_47 : ft 282 47 = some (12, 0, 0, .return_, 1) := Fm282 (dk_177 (dk_at s282_1 23 rfl rfl)) rfl
theorem q282 {d : Nat} {m : Mem} {a0 a1 : Int} (hz : TZ m) : le2 (gd (tg m a1 = 12) <| gd (tg m a0 = 12) <| rn d 282 10 [pR a0, pR a1, pI 0] [] (mst m a0 3 (vl m a1 3))) (cl d 282 [pR a0, pR a1] m) := by
  refine q_in (n := 3) (L := [pR a0, pR a1, pU]) rfl rfl rfl ?_
  refine r_aln0 (p := 1) f282_0 rfl ?_
  refine r_aln1 (p := 2) f282_1 rfl ?_
  refine le2_gd (fun h1 => ?_)
  refine r_gfI (f := 3) (p := 5) f282_2 rfl rfl rfl (Or.inl h1) rfl ?_
  refine le2_gd (fun h2 => ?_)
  refine r_pfI (f := 3) (p := 8) f282_5 rfl rfl rfl (by decide) (by decide) (Or.inl h2) rfl ?_
  refine r_iconst (p := 9) f282_8 rfl (pinD rfl rfl) ?_
  refine r_isn2 (p := 10) f282_9 rfl rfl ?_
  exact le2_refl _
theorem q282_10 {d : Nat} {m : Mem} {a0 a1 a2 : Int} (hd : 0 < d) (hz : TZ m) : le2 (gd (tg m a0 = 12) <| if a2 < (vl m a0 3) then (gd (tg m a1 = 12) <| nm (vl m a1 0) fun v2 => gd (tg m v2 = 278101) <| gd ((0 : Int) ≤ a2 ∧ a2 < ln m v2) <| nm (vl m a1 2) fun v3 => gd (tg m v3 = 278118) <| gd ((0 : Int) ≤ a2 ∧ a2 < ln m v3) <| nm (vl m a1 1) fun v4 => gd (tg m v4 = 278101) <| gd ((0 : Int) ≤ a2 ∧ a2 < ln m v4) <| bV (cl (d - 1) 280 [pR a0, pI a2, pI (vl m v2 a2), pR (vl m v3 a2), pI (vl m v4 a2)] m) fun m1 => rn d 282 10 [pR a0, pR a1, pI (w32 (a2 + 1))] [] m1) else some (.inl none, m)) (rn d 282 10 [pR a0, pR a1, pI a2] [] m) := by
  refine r_iln2 (p := 11) f282_10 rfl ?_
  refine r_aln0 (p := 12) f282_11 rfl ?_
  refine le2_gd (fun h1 => ?_)
  refine r_gfI (f := 3) (p := 15) f282_12 rfl rfl rfl (Or.inl h1) rfl ?_
  refine r_icge (t := 47) (p := 18) f282_15 (by decide) rfl rfl ?_ ?_
  · refine r_aln0 (p := 19) f282_18 rfl ?_
    refine r_iln2 (p := 20) f282_19 rfl ?_
    refine r_aln1 (p := 21) f282_20 rfl ?_
    refine le2_gd (fun h2 => ?_)
    refine r_gfR (f := 0) (p := 24) f282_21 rfl rfl rfl (Or.inl h2) rfl ?_
    refine r_nmR (fun v2 ev2 => ?_)
    refine r_iln2 (p := 25) f282_24 rfl ?_
    refine le2_gd (fun h3 => ?_)
    refine le2_gd (fun h4 => ?_)
    refine r_iaload (p := 26) f282_25 rfl (dj1 (fun x => x % 1000 = 101) h3 (by decide)) h4 rfl ?_
    refine r_aln1 (p := 27) f282_26 rfl ?_
    refine r_gfR (f := 2) (p := 30) f282_27 rfl rfl rfl (Or.inl h2) rfl ?_
    refine r_nmR (fun v3 ev3 => ?_)
    refine r_iln2 (p := 31) f282_30 rfl ?_
    refine le2_gd (fun h5 => ?_)
    refine le2_gd (fun h6 => ?_)
    refine r_aaload (p := 32) f282_31 rfl (dj1 (fun x => 110 < x % 1000 ∧ x % 1000 < 119) h5 (by decide)) h6 rfl ?_
    refine r_aln1 (p := 33) f282_32 rfl ?_
    refine r_gfR (f := 1) (p := 36) f282_33 rfl rfl rfl (Or.inl h2) rfl ?_
    refine r_nmR (fun v4 ev4 => ?_)
    refine r_iln2 (p := 37) f282_36 rfl ?_
    refine le2_gd (fun h7 => ?_)
    refine le2_gd (fun h8 => ?_)
    refine r_iaload (p := 38) f282_37 rfl (dj1 (fun x => x % 1000 = 101) h7 (by decide)) h8 rfl ?_
    refine r_invV (p := 41) f282_38 rfl rfl rfl (Or.inl h1) hd (Nat.le_of_ble_eq_true rfl) rfl rfl rfl (fun _ => rfl) (fun m1 c1 => ?_)
    have hz1 := z_k c1 hz
    refine r_iinc2 (p := 44) f282_41 rfl rfl ?_
    refine r_goto (p := 10) f282_44 (by decide) rfl ?_
    exact le2_refl _
  · exact r_ret f282_47
/-! 283 PathStoreModel$Tree.<init> ()V -/
def w283_4 : List UInt8 := [181, 0, 40, 42, 17, 2, 0, 188, 5, 181, 0, 43, 177]
abbrev u283_4 : List UInt8 := w283_4 ++ []
def w283_3 : List UInt8 := [17, 1, 0, 188, 10, 181, 0, 34, 42, 17, 1, 0, 188, 10, 181, 0, 37, 42, 17, 1, 0, 188, 10]
abbrev u283_3 : List UInt8 := w283_3 ++ u283_4
def w283_2 : List UInt8 := [181, 0, 25, 42, 17, 1, 0, 188, 10, 181, 0, 28, 42, 17, 1, 0, 188, 10, 181, 0, 31, 42]
abbrev u283_2 : List UInt8 := w283_2 ++ u283_3
def w283_1 : List UInt8 := [17, 1, 0, 188, 10, 181, 0, 19, 42, 17, 1, 0, 188, 10, 181, 0, 22, 42, 17, 1, 0, 188, 10]
abbrev u283_1 : List UInt8 := w283_1 ++ u283_2
def w283_0 : List UInt8 := [42, 183, 0, 3, 42, 17, 1, 0, 188, 10, 181, 0, 9, 42, 17, 1, 0, 188, 11, 181, 0, 15, 42]
abbrev u283_0 : List UInt8 := w283_0 ++ u283_1
theorem s283_0 : (prog_34_method_1_code).data.toList.drop 0 = u283_0 := by decide +kernel
theorem s283_1 : (prog_34_method_1_code).data.toList.drop 23 = u283_1 := dk_seg s283_0 23 rfl rfl
theorem s283_2 : (prog_34_method_1_code).data.toList.drop 46 = u283_2 := dk_seg s283_1 23 rfl rfl
theorem s283_3 : (prog_34_method_1_code).data.toList.drop 68 = u283_3 := dk_seg s283_2 22 rfl rfl
theorem s283_4 : (prog_34_method_1_code).data.toList.drop 91 = u283_4 := dk_seg s283_3 23 rfl rfl
theorem Fm283 {pc len : Nat} {i : Instr} (h : decode (prog_34_method_1_code) pc = .ok (i, len)) (hl : len = ilen i len) : ft 283 pc = some (13, 0, 1, i, len) := ft_mk rfl h hl
theorem f283_0 : ft 283 0 = some (13, 0, 1, .aload_n 0, 1) := Fm283 (dk_42 (dk_at s283_0 0 rfl rfl)) rfl
theorem f283_1 : ft 283 1 = some (13, 0, 1, .invokespecial 3, 3) := Fm283 (dk_183 0 3 (dk_at s283_0 1 rfl rfl)) rfl
theorem f283_4 : ft 283 4 = some (13, 0, 1, .aload_n 0, 1) := Fm283 (dk_42 (dk_at s283_0 4 rfl rfl)) rfl
theorem f283_5 : ft 283 5 = some (13, 0, 1, .sipush 256, 3) := Fm283 (dk_17 1 0 (dk_at s283_0 5 rfl rfl)) rfl
theorem f283_8 : ft 283 8 = some (13, 0, 1, .newarray .int, 2) := Fm283 (dk_188_10 (dk_at s283_0 8 rfl rfl)) rfl
theorem f283_10 : ft 283 10 = some (13, 0, 1, .putfield 9, 3) := Fm283 (dk_181 0 9 (dk_at s283_0 10 rfl rfl)) rfl
theorem f283_13 : ft 283 13 = some (13, 0, 1, .aload_n 0, 1) := Fm283 (dk_42 (dk_at s283_0 13 rfl rfl)) rfl
theorem f283_14 : ft 283 14 = some (13, 0, 1, .sipush 256, 3) := Fm283 (dk_17 1 0 (dk_at s283_0 14 rfl rfl)) rfl
theorem f283_17 : ft 283 17 = some (13, 0, 1, .newarray .long, 2) := Fm283 (dk_188_11 (dk_at s283_0 17 rfl rfl)) rfl
theorem f283_19 : ft 283 19 = some (13, 0, 1, .putfield 15, 3) := Fm283 (dk_181 0 15 (dk_at s283_0 19 rfl rfl)) rfl
theorem f283_22 : ft 283 22 = some (13, 0, 1, .aload_n 0, 1) := Fm283 (dk_42 (dk_at s283_0 22 rfl rfl)) rfl
theorem f283_23 : ft 283 23 = some (13, 0, 1, .sipush 256, 3) := Fm283 (dk_17 1 0 (dk_at s283_1 0 rfl rfl)) rfl
theorem f283_26 : ft 283 26 = some (13, 0, 1, .newarray .int, 2) := Fm283 (dk_188_10 (dk_at s283_1 3 rfl rfl)) rfl
theorem f283_28 : ft 283 28 = some (13, 0, 1, .putfield 19, 3) := Fm283 (dk_181 0 19 (dk_at s283_1 5 rfl rfl)) rfl
theorem f283_31 : ft 283 31 = some (13, 0, 1, .aload_n 0, 1) := Fm283 (dk_42 (dk_at s283_1 8 rfl rfl)) rfl
theorem f283_32 : ft 283 32 = some (13, 0, 1, .sipush 256, 3) := Fm283 (dk_17 1 0 (dk_at s283_1 9 rfl rfl)) rfl
theorem f283_35 : ft 283 35 = some (13, 0, 1, .newarray .int, 2) := Fm283 (dk_188_10 (dk_at s283_1 12 rfl rfl)) rfl
theorem f283_37 : ft 283 37 = some (13, 0, 1, .putfield 22, 3) := Fm283 (dk_181 0 22 (dk_at s283_1 14 rfl rfl)) rfl
theorem f283_40 : ft 283 40 = some (13, 0, 1, .aload_n 0, 1) := Fm283 (dk_42 (dk_at s283_1 17 rfl rfl)) rfl
theorem f283_41 : ft 283 41 = some (13, 0, 1, .sipush 256, 3) := Fm283 (dk_17 1 0 (dk_at s283_1 18 rfl rfl)) rfl
theorem f283_44 : ft 283 44 = some (13, 0, 1, .newarray .int, 2) := Fm283 (dk_188_10 (dk_at s283_1 21 rfl rfl)) rfl
theorem f283_46 : ft 283 46 = some (13, 0, 1, .putfield 25, 3) := Fm283 (dk_181 0 25 (dk_at s283_2 0 rfl rfl)) rfl
theorem f283_49 : ft 283 49 = some (13, 0, 1, .aload_n 0, 1) := Fm283 (dk_42 (dk_at s283_2 3 rfl rfl)) rfl
theorem f283_50 : ft 283 50 = some (13, 0, 1, .sipush 256, 3) := Fm283 (dk_17 1 0 (dk_at s283_2 4 rfl rfl)) rfl
theorem f283_53 : ft 283 53 = some (13, 0, 1, .newarray .int, 2) := Fm283 (dk_188_10 (dk_at s283_2 7 rfl rfl)) rfl
theorem f283_55 : ft 283 55 = some (13, 0, 1, .putfield 28, 3) := Fm283 (dk_181 0 28 (dk_at s283_2 9 rfl rfl)) rfl
theorem f283_58 : ft 283 58 = some (13, 0, 1, .aload_n 0, 1) := Fm283 (dk_42 (dk_at s283_2 12 rfl rfl)) rfl
theorem f283_59 : ft 283 59 = some (13, 0, 1, .sipush 256, 3) := Fm283 (dk_17 1 0 (dk_at s283_2 13 rfl rfl)) rfl
theorem f283_62 : ft 283 62 = some (13, 0, 1, .newarray .int, 2) := Fm283 (dk_188_10 (dk_at s283_2 16 rfl rfl)) rfl
theorem f283_64 : ft 283 64 = some (13, 0, 1, .putfield 31, 3) := Fm283 (dk_181 0 31 (dk_at s283_2 18 rfl rfl)) rfl
theorem f283_67 : ft 283 67 = some (13, 0, 1, .aload_n 0, 1) := Fm283 (dk_42 (dk_at s283_2 21 rfl rfl)) rfl
theorem f283_68 : ft 283 68 = some (13, 0, 1, .sipush 256, 3) := Fm283 (dk_17 1 0 (dk_at s283_3 0 rfl rfl)) rfl
theorem f283_71 : ft 283 71 = some (13, 0, 1, .newarray .int, 2) := Fm283 (dk_188_10 (dk_at s283_3 3 rfl rfl)) rfl
theorem f283_73 : ft 283 73 = some (13, 0, 1, .putfield 34, 3) := Fm283 (dk_181 0 34 (dk_at s283_3 5 rfl rfl)) rfl
theorem f283_76 : ft 283 76 = some (13, 0, 1, .aload_n 0, 1) := Fm283 (dk_42 (dk_at s283_3 8 rfl rfl)) rfl
theorem f283_77 : ft 283 77 = some (13, 0, 1, .sipush 256, 3) := Fm283 (dk_17 1 0 (dk_at s283_3 9 rfl rfl)) rfl
theorem f283_80 : ft 283 80 = some (13, 0, 1, .newarray .int, 2) := Fm283 (dk_188_10 (dk_at s283_3 12 rfl rfl)) rfl
theorem f283_82 : ft 283 82 = some (13, 0, 1, .putfield 37, 3) := Fm283 (dk_181 0 37 (dk_at s283_3 14 rfl rfl)) rfl
theorem f283_85 : ft 283 85 = some (13, 0, 1, .aload_n 0, 1) := Fm283 (dk_42 (dk_at s283_3 17 rfl rfl)) rfl
theorem f283_86 : ft 283 86 = some (13, 0, 1, .sipush 256, 3) := Fm283 (dk_17 1 0 (dk_at s283_3 18 rfl rfl)) rfl
theorem f283_89 : ft 283 89 = some (13, 0, 1, .newarray .int, 2) := Fm283 (dk_188_10 (dk_at s283_3 21 rfl rfl)) rfl
theorem f283_91 : ft 283 91 = some (13, 0, 1, .putfield 40, 3) := Fm283 (dk_181 0 40 (dk_at s283_4 0 rfl rfl)) rfl
theorem f283_94 : ft 283 94 = some (13, 0, 1, .aload_n 0, 1) := Fm283 (dk_42 (dk_at s283_4 3 rfl rfl)) rfl
theorem f283_95 : ft 283 95 = some (13, 0, 1, .sipush 512, 3) := Fm283 (dk_17 2 0 (dk_at s283_4 4 rfl rfl)) rfl
theorem f283_98 : ft 283 98 = some (13, 0, 1, .newarray .char, 2) := Fm283 (dk_188_5 (dk_at s283_4 7 rfl rfl)) rfl
theorem f283_100 : ft 283 100 = some (13, 0, 1, .putfield 43, 3) := Fm283 (dk_181 0 43 (dk_at s283_4 9 rfl rfl)) rfl
theorem f283_103 : ft 283 103 = some (13, 0, 1, .return_, 1) := Fm283 (dk_177 (dk_at s283_4 12 rfl rfl)) rfl
theorem q283 {d : Nat} {m : Mem} {a0 : Int} (hz : TZ m) : le2 (gd (tg m a0 = 13) <| nw (nx m) (mal m 284101 256) fun o1 m1 => nw (nx (mst m1 a0 0 o1)) (mal (mst m1 a0 0 o1) 284102 256) fun o2 m2 => nw (nx (mst m2 a0 1 o2)) (mal (mst m2 a0 1 o2) 284101 256) fun o3 m3 => nw (nx (mst m3 a0 2 o3)) (mal (mst m3 a0 2 o3) 284101 256) fun o4 m4 => nw (nx (mst m4 a0 3 o4)) (mal (mst m4 a0 3 o4) 284101 256) fun o5 m5 => nw (nx (mst m5 a0 4 o5)) (mal (mst m5 a0 4 o5) 284101 256) fun o6 m6 => nw (nx (mst m6 a0 5 o6)) (mal (mst m6 a0 5 o6) 284101 256) fun o7 m7 => nw (nx (mst m7 a0 6 o7)) (mal (mst m7 a0 6 o7) 284101 256) fun o8 m8 => nw (nx (mst m8 a0 7 o8)) (mal (mst m8 a0 7 o8) 284101 256) fun o9 m9 => nw (nx (mst m9 a0 8 o9)) (mal (mst m9 a0 8 o9) 284101 256) fun o10 m10 => nw (nx (mst m10 a0 9 o10)) (mal (mst m10 a0 9 o10) 284104 512) fun o11 m11 => some (.inl none, (mst m11 a0 11 o11))) (cl d 283 [pR a0] m) := by
  refine q_in (n := 1) (L := [pR a0]) rfl rfl rfl ?_
  refine r_aln0 (p := 1) f283_0 rfl ?_
  refine le2_gd (fun h1 => ?_)
  refine r_objinit (p := 4) f283_1 rfl rfl (dj1 (fun x => 0 < x ∧ x < 100) h1 (by decide)) (Nat.le_of_ble_eq_true rfl) ?_
  refine r_aln0 (p := 5) f283_4 rfl ?_
  refine r_sipush (p := 8) f283_5 rfl (pinD rfl rfl) ?_
  refine r_newa (t1 := 284101) (p := 10) f283_8 rfl rfl (pinE rfl rfl) rfl rfl (fun o1 m1 h2 k1 => ?_)
  have hz1 := z_k k1 hz
  have h3 := k_t1 k1 hz h1 (by decide)
  refine r_pfR (f := 0) (p := 13) f283_10 rfl rfl rfl (by decide) (by decide) (Or.inl h3) rfl ?_
  refine r_aln0 (p := 14) f283_13 rfl ?_
  refine r_sipush (p := 17) f283_14 rfl (pinD rfl rfl) ?_
  refine r_newa (t1 := 284102) (p := 19) f283_17 rfl rfl (pinE rfl rfl) rfl rfl (fun o2 m2 h4 k2 => ?_)
  have hz2 := z_k k2 hz1
  have h5 := k_t1 k2 hz1 h3 (by decide)
  refine r_pfR (f := 1) (p := 22) f283_19 rfl rfl rfl (by decide) (by decide) (Or.inl h5) rfl ?_
  refine r_aln0 (p := 23) f283_22 rfl ?_
  refine r_sipush (p := 26) f283_23 rfl (pinD rfl rfl) ?_
  refine r_newa (t1 := 284101) (p := 28) f283_26 rfl rfl (pinE rfl rfl) rfl rfl (fun o3 m3 h6 k3 => ?_)
  have hz3 := z_k k3 hz2
  have h7 := k_t1 k3 hz2 h5 (by decide)
  refine r_pfR (f := 2) (p := 31) f283_28 rfl rfl rfl (by decide) (by decide) (Or.inl h7) rfl ?_
  refine r_aln0 (p := 32) f283_31 rfl ?_
  refine r_sipush (p := 35) f283_32 rfl (pinD rfl rfl) ?_
  refine r_newa (t1 := 284101) (p := 37) f283_35 rfl rfl (pinE rfl rfl) rfl rfl (fun o4 m4 h8 k4 => ?_)
  have hz4 := z_k k4 hz3
  have h9 := k_t1 k4 hz3 h7 (by decide)
  refine r_pfR (f := 3) (p := 40) f283_37 rfl rfl rfl (by decide) (by decide) (Or.inl h9) rfl ?_
  refine r_aln0 (p := 41) f283_40 rfl ?_
  refine r_sipush (p := 44) f283_41 rfl (pinD rfl rfl) ?_
  refine r_newa (t1 := 284101) (p := 46) f283_44 rfl rfl (pinE rfl rfl) rfl rfl (fun o5 m5 h10 k5 => ?_)
  have hz5 := z_k k5 hz4
  have h11 := k_t1 k5 hz4 h9 (by decide)
  refine r_pfR (f := 4) (p := 49) f283_46 rfl rfl rfl (by decide) (by decide) (Or.inl h11) rfl ?_
  refine r_aln0 (p := 50) f283_49 rfl ?_
  refine r_sipush (p := 53) f283_50 rfl (pinD rfl rfl) ?_
  refine r_newa (t1 := 284101) (p := 55) f283_53 rfl rfl (pinE rfl rfl) rfl rfl (fun o6 m6 h12 k6 => ?_)
  have hz6 := z_k k6 hz5
  have h13 := k_t1 k6 hz5 h11 (by decide)
  refine r_pfR (f := 5) (p := 58) f283_55 rfl rfl rfl (by decide) (by decide) (Or.inl h13) rfl ?_
  refine r_aln0 (p := 59) f283_58 rfl ?_
  refine r_sipush (p := 62) f283_59 rfl (pinD rfl rfl) ?_
  refine r_newa (t1 := 284101) (p := 64) f283_62 rfl rfl (pinE rfl rfl) rfl rfl (fun o7 m7 h14 k7 => ?_)
  have hz7 := z_k k7 hz6
  have h15 := k_t1 k7 hz6 h13 (by decide)
  refine r_pfR (f := 6) (p := 67) f283_64 rfl rfl rfl (by decide) (by decide) (Or.inl h15) rfl ?_
  refine r_aln0 (p := 68) f283_67 rfl ?_
  refine r_sipush (p := 71) f283_68 rfl (pinD rfl rfl) ?_
  refine r_newa (t1 := 284101) (p := 73) f283_71 rfl rfl (pinE rfl rfl) rfl rfl (fun o8 m8 h16 k8 => ?_)
  have hz8 := z_k k8 hz7
  have h17 := k_t1 k8 hz7 h15 (by decide)
  refine r_pfR (f := 7) (p := 76) f283_73 rfl rfl rfl (by decide) (by decide) (Or.inl h17) rfl ?_
  refine r_aln0 (p := 77) f283_76 rfl ?_
  refine r_sipush (p := 80) f283_77 rfl (pinD rfl rfl) ?_
  refine r_newa (t1 := 284101) (p := 82) f283_80 rfl rfl (pinE rfl rfl) rfl rfl (fun o9 m9 h18 k9 => ?_)
  have hz9 := z_k k9 hz8
  have h19 := k_t1 k9 hz8 h17 (by decide)
  refine r_pfR (f := 8) (p := 85) f283_82 rfl rfl rfl (by decide) (by decide) (Or.inl h19) rfl ?_
  refine r_aln0 (p := 86) f283_85 rfl ?_
  refine r_sipush (p := 89) f283_86 rfl (pinD rfl rfl) ?_
  refine r_newa (t1 := 284101) (p := 91) f283_89 rfl rfl (pinE rfl rfl) rfl rfl (fun o10 m10 h20 k10 => ?_)
  have hz10 := z_k k10 hz9
  have h21 := k_t1 k10 hz9 h19 (by decide)
  refine r_pfR (f := 9) (p := 94) f283_91 rfl rfl rfl (by decide) (by decide) (Or.inl h21) rfl ?_
  refine r_aln0 (p := 95) f283_94 rfl ?_
  refine r_sipush (p := 98) f283_95 rfl (pinD rfl rfl) ?_
  refine r_newa (t1 := 284104) (p := 100) f283_98 rfl rfl (pinE rfl rfl) rfl rfl (fun o11 m11 h22 k11 => ?_)
  have hz11 := z_k k11 hz10
  have h23 := k_t1 k11 hz10 h21 (by decide)
  refine r_pfR (f := 11) (p := 103) f283_100 rfl rfl rfl (by decide) (by decide) (Or.inl h23) rfl ?_
  exact r_ret f283_103
/-! 284 PathStoreModel$Tree.clear ()V -/
def w284_0 : List UInt8 := [42, 3, 181, 0, 47, 42, 3, 181, 0, 51, 177]
abbrev u284_0 : List UInt8 := w284_0 ++ []
theorem s284_0 : (prog_34_method_2_code).data.toList.drop 0 = u284_0 := by decide +kernel
theorem Fm284 {pc len : Nat} {i : Instr} (h : decode (prog_34_method_2_code) pc = .ok (i, len)) (hl : len = ilen i len) : ft 284 pc = some (13, 0, 0, i, len) := ft_mk rfl h hl
theorem f284_0 : ft 284 0 = some (13, 0, 0, .aload_n 0, 1) := Fm284 (dk_42 (dk_at s284_0 0 rfl rfl)) rfl
theorem f284_1 : ft 284 1 = some (13, 0, 0, .iconst 0, 1) := Fm284 (dk_3 (dk_at s284_0 1 rfl rfl)) rfl
theorem f284_2 : ft 284 2 = some (13, 0, 0, .putfield 47, 3) := Fm284 (dk_181 0 47 (dk_at s284_0 2 rfl rfl)) rfl
theorem f284_5 : ft 284 5 = some (13, 0, 0, .aload_n 0, 1) := Fm284 (dk_42 (dk_at s284_0 5 rfl rfl)) rfl
theorem f284_6 : ft 284 6 = some (13, 0, 0, .iconst 0, 1) := Fm284 (dk_3 (dk_at s284_0 6 rfl rfl)) rfl
theorem f284_7 : ft 284 7 = some (13, 0, 0, .putfield 51, 3) := Fm284 (dk_181 0 51 (dk_at s284_0 7 rfl rfl)) rfl
theorem f284_10 : ft 284 10 = some (13, 0, 0, .return_, 1) := Fm284 (dk_177 (dk_at s284_0 10 rfl rfl)) rfl
theorem q284 {d : Nat} {m : Mem} {a0 : Int} (hz : TZ m) : le2 (gd (tg m a0 = 13) <| some (.inl none, (mst (mst m a0 10 0) a0 12 0))) (cl d 284 [pR a0] m) := by
  refine q_in (n := 1) (L := [pR a0]) rfl rfl rfl ?_
  refine r_aln0 (p := 1) f284_0 rfl ?_
  refine r_iconst (p := 2) f284_1 rfl (pinD rfl rfl) ?_
  refine le2_gd (fun h1 => ?_)
  refine r_pfI (f := 10) (p := 5) f284_2 rfl rfl rfl (by decide) (by decide) (Or.inl h1) rfl ?_
  refine r_aln0 (p := 6) f284_5 rfl ?_
  refine r_iconst (p := 7) f284_6 rfl (pinD rfl rfl) ?_
  refine r_pfI (f := 12) (p := 10) f284_7 rfl rfl rfl (by decide) (by decide) (Or.inl h1) rfl ?_
  exact r_ret f284_10
/-! 285 PathStoreModel$Tree.add (I)I -/
def w285_10 : List UInt8 := [180, 0, 47, 4, 96, 181, 0, 47, 42, 180, 0, 47, 4, 100, 172]
abbrev u285_10 : List UInt8 := w285_10 ++ []
def w285_9 : List UInt8 := [180, 0, 22, 42, 180, 0, 47, 3, 79, 42, 180, 0, 19, 42, 180, 0, 47, 42, 180, 0, 51, 79, 42, 89]
abbrev u285_9 : List UInt8 := w285_9 ++ u285_10
def w285_8 : List UInt8 := [79, 42, 180, 0, 37, 42, 180, 0, 47, 2, 79, 42, 180, 0, 31, 42, 180, 0, 47, 2, 79, 42]
abbrev u285_8 : List UInt8 := w285_8 ++ u285_9
def w285_7 : List UInt8 := [180, 0, 47, 27, 79, 42, 180, 0, 25, 42, 180, 0, 47, 2, 79, 42, 180, 0, 28, 42, 180, 0, 47, 2]
abbrev u285_7 : List UInt8 := w285_7 ++ u285_8
def w285_6 : List UInt8 := [184, 0, 54, 181, 0, 37, 42, 42, 180, 0, 40, 184, 0, 54, 181, 0, 40, 42, 180, 0, 9, 42]
abbrev u285_6 : List UInt8 := w285_6 ++ u285_7
def w285_5 : List UInt8 := [184, 0, 54, 181, 0, 31, 42, 42, 180, 0, 34, 184, 0, 54, 181, 0, 34, 42, 42, 180, 0, 37]
abbrev u285_5 : List UInt8 := w285_5 ++ u285_6
def w285_4 : List UInt8 := [184, 0, 54, 181, 0, 25, 42, 42, 180, 0, 28, 184, 0, 54, 181, 0, 28, 42, 42, 180, 0, 31]
abbrev u285_4 : List UInt8 := w285_4 ++ u285_5
def w285_3 : List UInt8 := [184, 0, 54, 181, 0, 19, 42, 42, 180, 0, 22, 184, 0, 54, 181, 0, 22, 42, 42, 180, 0, 25]
abbrev u285_3 : List UInt8 := w285_3 ++ u285_4
def w285_2 : List UInt8 := [180, 0, 15, 29, 47, 80, 132, 3, 1, 167, 255, 235, 42, 44, 181, 0, 15, 42, 42, 180, 0, 19]
abbrev u285_2 : List UInt8 := w285_2 ++ u285_3
def w285_1 : List UInt8 := [42, 180, 0, 15, 190, 104, 188, 11, 77, 3, 62, 29, 42, 180, 0, 15, 190, 162, 0, 18, 44, 29, 42]
abbrev u285_1 : List UInt8 := w285_1 ++ u285_2
def w285_0 : List UInt8 := [42, 180, 0, 47, 42, 180, 0, 9, 190, 160, 0, 143, 42, 42, 180, 0, 9, 184, 0, 54, 181, 0, 9, 5]
abbrev u285_0 : List UInt8 := w285_0 ++ u285_1
theorem s285_0 : (prog_34_method_4_code).data.toList.drop 0 = u285_0 := by decide +kernel
theorem s285_1 : (prog_34_method_4_code).data.toList.drop 24 = u285_1 := dk_seg s285_0 24 rfl rfl
theorem s285_2 : (prog_34_method_4_code).data.toList.drop 47 = u285_2 := dk_seg s285_1 23 rfl rfl
theorem s285_3 : (prog_34_method_4_code).data.toList.drop 69 = u285_3 := dk_seg s285_2 22 rfl rfl
theorem s285_4 : (prog_34_method_4_code).data.toList.drop 91 = u285_4 := dk_seg s285_3 22 rfl rfl
theorem s285_5 : (prog_34_method_4_code).data.toList.drop 113 = u285_5 := dk_seg s285_4 22 rfl rfl
theorem s285_6 : (prog_34_method_4_code).data.toList.drop 135 = u285_6 := dk_seg s285_5 22 rfl rfl
theorem s285_7 : (prog_34_method_4_code).data.toList.drop 157 = u285_7 := dk_seg s285_6 22 rfl rfl
theorem s285_8 : (prog_34_method_4_code).data.toList.drop 181 = u285_8 := dk_seg s285_7 24 rfl rfl
theorem s285_9 : (prog_34_method_4_code).data.toList.drop 203 = u285_9 := dk_seg s285_8 22 rfl rfl
theorem s285_10 : (prog_34_method_4_code).data.toList.drop 227 = u285_10 := dk_seg s285_9 24 rfl rfl
theorem Fm285 {pc len : Nat} {i : Instr} (h : decode (prog_34_method_4_code) pc = .ok (i, len)) (hl : len = ilen i len) : ft 285 pc = some (13, 1, 0, i, len) := ft_mk rfl h hl
theorem f285_0 : ft 285 0 = some (13, 1, 0, .aload_n 0, 1) := Fm285 (dk_42 (dk_at s285_0 0 rfl rfl)) rfl
theorem f285_1 : ft 285 1 = some (13, 1, 0, .getfield 47, 3) := Fm285 (dk_180 0 47 (dk_at s285_0 1 rfl rfl)) rfl
theorem f285_4 : ft 285 4 = some (13, 1, 0, .aload_n 0, 1) := Fm285 (dk_42 (dk_at s285_0 4 rfl rfl)) rfl
theorem f285_5 : ft 285 5 = some (13, 1, 0, .getfield 9, 3) := Fm285 (dk_180 0 9 (dk_at s285_0 5 rfl rfl)) rfl
theorem f285_8 : ft 285 8 = some (13, 1, 0, .arraylength, 1) := Fm285 (dk_190 (dk_at s285_0 8 rfl rfl)) rfl
theorem f285_9 : ft 285 9 = some (13, 1, 0, .if_icmp .ne 143, 3) := Fm285 (dk_160 0 143 (dk_at s285_0 9 rfl rfl)) rfl
theorem f285_12 : ft 285 12 = some (13, 1, 0, .aload_n 0, 1) := Fm285 (dk_42 (dk_at s285_0 12 rfl rfl)) rfl
theorem f285_13 : ft 285 13 = some (13, 1, 0, .aload_n 0, 1) := Fm285 (dk_42 (dk_at s285_0 13 rfl rfl)) rfl
theorem f285_14 : ft 285 14 = some (13, 1, 0, .getfield 9, 3) := Fm285 (dk_180 0 9 (dk_at s285_0 14 rfl rfl)) rfl
theorem f285_17 : ft 285 17 = some (13, 1, 0, .invokestatic 54, 3) := Fm285 (dk_184 0 54 (dk_at s285_0 17 rfl rfl)) rfl
theorem f285_20 : ft 285 20 = some (13, 1, 0, .putfield 9, 3) := Fm285 (dk_181 0 9 (dk_at s285_0 20 rfl rfl)) rfl
theorem f285_23 : ft 285 23 = some (13, 1, 0, .iconst 2, 1) := Fm285 (dk_5 (dk_at s285_0 23 rfl rfl)) rfl
theorem f285_24 : ft 285 24 = some (13, 1, 0, .aload_n 0, 1) := Fm285 (dk_42 (dk_at s285_1 0 rfl rfl)) rfl
theorem f285_25 : ft 285 25 = some (13, 1, 0, .getfield 15, 3) := Fm285 (dk_180 0 15 (dk_at s285_1 1 rfl rfl)) rfl
theorem f285_28 : ft 285 28 = some (13, 1, 0, .arraylength, 1) := Fm285 (dk_190 (dk_at s285_1 4 rfl rfl)) rfl
theorem f285_29 : ft 285 29 = some (13, 1, 0, .imul, 1) := Fm285 (dk_104 (dk_at s285_1 5 rfl rfl)) rfl
theorem f285_30 : ft 285 30 = some (13, 1, 0, .newarray .long, 2) := Fm285 (dk_188_11 (dk_at s285_1 6 rfl rfl)) rfl
theorem f285_32 : ft 285 32 = some (13, 1, 0, .astore_n 2, 1) := Fm285 (dk_77 (dk_at s285_1 8 rfl rfl)) rfl
theorem f285_33 : ft 285 33 = some (13, 1, 0, .iconst 0, 1) := Fm285 (dk_3 (dk_at s285_1 9 rfl rfl)) rfl
theorem f285_34 : ft 285 34 = some (13, 1, 0, .istore_n 3, 1) := Fm285 (dk_62 (dk_at s285_1 10 rfl rfl)) rfl
theorem f285_35 : ft 285 35 = some (13, 1, 0, .iload_n 3, 1) := Fm285 (dk_29 (dk_at s285_1 11 rfl rfl)) rfl
theorem f285_36 : ft 285 36 = some (13, 1, 0, .aload_n 0, 1) := Fm285 (dk_42 (dk_at s285_1 12 rfl rfl)) rfl
theorem f285_37 : ft 285 37 = some (13, 1, 0, .getfield 15, 3) := Fm285 (dk_180 0 15 (dk_at s285_1 13 rfl rfl)) rfl
theorem f285_40 : ft 285 40 = some (13, 1, 0, .arraylength, 1) := Fm285 (dk_190 (dk_at s285_1 16 rfl rfl)) rfl
theorem f285_41 : ft 285 41 = some (13, 1, 0, .if_icmp .ge 18, 3) := Fm285 (dk_162 0 18 (dk_at s285_1 17 rfl rfl)) rfl
theorem f285_44 : ft 285 44 = some (13, 1, 0, .aload_n 2, 1) := Fm285 (dk_44 (dk_at s285_1 20 rfl rfl)) rfl
theorem f285_45 : ft 285 45 = some (13, 1, 0, .iload_n 3, 1) := Fm285 (dk_29 (dk_at s285_1 21 rfl rfl)) rfl
theorem f285_46 : ft 285 46 = some (13, 1, 0, .aload_n 0, 1) := Fm285 (dk_42 (dk_at s285_1 22 rfl rfl)) rfl
theorem f285_47 : ft 285 47 = some (13, 1, 0, .getfield 15, 3) := Fm285 (dk_180 0 15 (dk_at s285_2 0 rfl rfl)) rfl
theorem f285_50 : ft 285 50 = some (13, 1, 0, .iload_n 3, 1) := Fm285 (dk_29 (dk_at s285_2 3 rfl rfl)) rfl
theorem f285_51 : ft 285 51 = some (13, 1, 0, .laload, 1) := Fm285 (dk_47 (dk_at s285_2 4 rfl rfl)) rfl
theorem f285_52 : ft 285 52 = some (13, 1, 0, .lastore, 1) := Fm285 (dk_80 (dk_at s285_2 5 rfl rfl)) rfl
theorem f285_53 : ft 285 53 = some (13, 1, 0, .iinc 3 1, 3) := Fm285 (dk_132 3 1 (dk_at s285_2 6 rfl rfl)) rfl
theorem f285_56 : ft 285 56 = some (13, 1, 0, .goto (-21), 3) := Fm285 (dk_167 255 235 (dk_at s285_2 9 rfl rfl)) rfl
theorem f285_59 : ft 285 59 = some (13, 1, 0, .aload_n 0, 1) := Fm285 (dk_42 (dk_at s285_2 12 rfl rfl)) rfl
theorem f285_60 : ft 285 60 = some (13, 1, 0, .aload_n 2, 1) := Fm285 (dk_44 (dk_at s285_2 13 rfl rfl)) rfl
theorem f285_61 : ft 285 61 = some (13, 1, 0, .putfield 15, 3) := Fm285 (dk_181 0 15 (dk_at s285_2 14 rfl rfl)) rfl
theorem f285_64 : ft 285 64 = some (13, 1, 0, .aload_n 0, 1) := Fm285 (dk_42 (dk_at s285_2 17 rfl rfl)) rfl
theorem f285_65 : ft 285 65 = some (13, 1, 0, .aload_n 0, 1) := Fm285 (dk_42 (dk_at s285_2 18 rfl rfl)) rfl
theorem f285_66 : ft 285 66 = some (13, 1, 0, .getfield 19, 3) := Fm285 (dk_180 0 19 (dk_at s285_2 19 rfl rfl)) rfl
theorem f285_69 : ft 285 69 = some (13, 1, 0, .invokestatic 54, 3) := Fm285 (dk_184 0 54 (dk_at s285_3 0 rfl rfl)) rfl
theorem f285_72 : ft 285 72 = some (13, 1, 0, .putfield 19, 3) := Fm285 (dk_181 0 19 (dk_at s285_3 3 rfl rfl)) rfl
theorem f285_75 : ft 285 75 = some (13, 1, 0, .aload_n 0, 1) := Fm285 (dk_42 (dk_at s285_3 6 rfl rfl)) rfl
theorem f285_76 : ft 285 76 = some (13, 1, 0, .aload_n 0, 1) := Fm285 (dk_42 (dk_at s285_3 7 rfl rfl)) rfl
theorem f285_77 : ft 285 77 = some (13, 1, 0, .getfield 22, 3) := Fm285 (dk_180 0 22 (dk_at s285_3 8 rfl rfl)) rfl
theorem f285_80 : ft 285 80 = some (13, 1, 0, .invokestatic 54, 3) := Fm285 (dk_184 0 54 (dk_at s285_3 11 rfl rfl)) rfl
theorem f285_83 : ft 285 83 = some (13, 1, 0, .putfield 22, 3) := Fm285 (dk_181 0 22 (dk_at s285_3 14 rfl rfl)) rfl
theorem f285_86 : ft 285 86 = some (13, 1, 0, .aload_n 0, 1) := Fm285 (dk_42 (dk_at s285_3 17 rfl rfl)) rfl
theorem f285_87 : ft 285 87 = some (13, 1, 0, .aload_n 0, 1) := Fm285 (dk_42 (dk_at s285_3 18 rfl rfl)) rfl
theorem f285_88 : ft 285 88 = some (13, 1, 0, .getfield 25, 3) := Fm285 (dk_180 0 25 (dk_at s285_3 19 rfl rfl)) rfl
theorem f285_91 : ft 285 91 = some (13, 1, 0, .invokestatic 54, 3) := Fm285 (dk_184 0 54 (dk_at s285_4 0 rfl rfl)) rfl
theorem f285_94 : ft 285 94 = some (13, 1, 0, .putfield 25, 3) := Fm285 (dk_181 0 25 (dk_at s285_4 3 rfl rfl)) rfl
theorem f285_97 : ft 285 97 = some (13, 1, 0, .aload_n 0, 1) := Fm285 (dk_42 (dk_at s285_4 6 rfl rfl)) rfl
theorem f285_98 : ft 285 98 = some (13, 1, 0, .aload_n 0, 1) := Fm285 (dk_42 (dk_at s285_4 7 rfl rfl)) rfl
theorem f285_99 : ft 285 99 = some (13, 1, 0, .getfield 28, 3) := Fm285 (dk_180 0 28 (dk_at s285_4 8 rfl rfl)) rfl
theorem f285_102 : ft 285 102 = some (13, 1, 0, .invokestatic 54, 3) := Fm285 (dk_184 0 54 (dk_at s285_4 11 rfl rfl)) rfl
theorem f285_105 : ft 285 105 = some (13, 1, 0, .putfield 28, 3) := Fm285 (dk_181 0 28 (dk_at s285_4 14 rfl rfl)) rfl
theorem f285_108 : ft 285 108 = some (13, 1, 0, .aload_n 0, 1) := Fm285 (dk_42 (dk_at s285_4 17 rfl rfl)) rfl
theorem f285_109 : ft 285 109 = some (13, 1, 0, .aload_n 0, 1) := Fm285 (dk_42 (dk_at s285_4 18 rfl rfl)) rfl
theorem f285_110 : ft 285 110 = some (13, 1, 0, .getfield 31, 3) := Fm285 (dk_180 0 31 (dk_at s285_4 19 rfl rfl)) rfl
theorem f285_113 : ft 285 113 = some (13, 1, 0, .invokestatic 54, 3) := Fm285 (dk_184 0 54 (dk_at s285_5 0 rfl rfl)) rfl
theorem f285_116 : ft 285 116 = some (13, 1, 0, .putfield 31, 3) := Fm285 (dk_181 0 31 (dk_at s285_5 3 rfl rfl)) rfl
theorem f285_119 : ft 285 119 = some (13, 1, 0, .aload_n 0, 1) := Fm285 (dk_42 (dk_at s285_5 6 rfl rfl)) rfl
theorem f285_120 : ft 285 120 = some (13, 1, 0, .aload_n 0, 1) := Fm285 (dk_42 (dk_at s285_5 7 rfl rfl)) rfl
theorem f285_121 : ft 285 121 = some (13, 1, 0, .getfield 34, 3) := Fm285 (dk_180 0 34 (dk_at s285_5 8 rfl rfl)) rfl
theorem f285_124 : ft 285 124 = some (13, 1, 0, .invokestatic 54, 3) := Fm285 (dk_184 0 54 (dk_at s285_5 11 rfl rfl)) rfl
theorem f285_127 : ft 285 127 = some (13, 1, 0, .putfield 34, 3) := Fm285 (dk_181 0 34 (dk_at s285_5 14 rfl rfl)) rfl
theorem f285_130 : ft 285 130 = some (13, 1, 0, .aload_n 0, 1) := Fm285 (dk_42 (dk_at s285_5 17 rfl rfl)) rfl
theorem f285_131 : ft 285 131 = some (13, 1, 0, .aload_n 0, 1) := Fm285 (dk_42 (dk_at s285_5 18 rfl rfl)) rfl
theorem f285_132 : ft 285 132 = some (13, 1, 0, .getfield 37, 3) := Fm285 (dk_180 0 37 (dk_at s285_5 19 rfl rfl)) rfl
theorem f285_135 : ft 285 135 = some (13, 1, 0, .invokestatic 54, 3) := Fm285 (dk_184 0 54 (dk_at s285_6 0 rfl rfl)) rfl
theorem f285_138 : ft 285 138 = some (13, 1, 0, .putfield 37, 3) := Fm285 (dk_181 0 37 (dk_at s285_6 3 rfl rfl)) rfl
theorem f285_141 : ft 285 141 = some (13, 1, 0, .aload_n 0, 1) := Fm285 (dk_42 (dk_at s285_6 6 rfl rfl)) rfl
theorem f285_142 : ft 285 142 = some (13, 1, 0, .aload_n 0, 1) := Fm285 (dk_42 (dk_at s285_6 7 rfl rfl)) rfl
theorem f285_143 : ft 285 143 = some (13, 1, 0, .getfield 40, 3) := Fm285 (dk_180 0 40 (dk_at s285_6 8 rfl rfl)) rfl
theorem f285_146 : ft 285 146 = some (13, 1, 0, .invokestatic 54, 3) := Fm285 (dk_184 0 54 (dk_at s285_6 11 rfl rfl)) rfl
theorem f285_149 : ft 285 149 = some (13, 1, 0, .putfield 40, 3) := Fm285 (dk_181 0 40 (dk_at s285_6 14 rfl rfl)) rfl
theorem f285_152 : ft 285 152 = some (13, 1, 0, .aload_n 0, 1) := Fm285 (dk_42 (dk_at s285_6 17 rfl rfl)) rfl
theorem f285_153 : ft 285 153 = some (13, 1, 0, .getfield 9, 3) := Fm285 (dk_180 0 9 (dk_at s285_6 18 rfl rfl)) rfl
theorem f285_156 : ft 285 156 = some (13, 1, 0, .aload_n 0, 1) := Fm285 (dk_42 (dk_at s285_6 21 rfl rfl)) rfl
theorem f285_157 : ft 285 157 = some (13, 1, 0, .getfield 47, 3) := Fm285 (dk_180 0 47 (dk_at s285_7 0 rfl rfl)) rfl
theorem f285_160 : ft 285 160 = some (13, 1, 0, .iload_n 1, 1) := Fm285 (dk_27 (dk_at s285_7 3 rfl rfl)) rfl
theorem f285_161 : ft 285 161 = some (13, 1, 0, .iastore, 1) := Fm285 (dk_79 (dk_at s285_7 4 rfl rfl)) rfl
theorem f285_162 : ft 285 162 = some (13, 1, 0, .aload_n 0, 1) := Fm285 (dk_42 (dk_at s285_7 5 rfl rfl)) rfl
theorem f285_163 : ft 285 163 = some (13, 1, 0, .getfield 25, 3) := Fm285 (dk_180 0 25 (dk_at s285_7 6 rfl rfl)) rfl
theorem f285_166 : ft 285 166 = some (13, 1, 0, .aload_n 0, 1) := Fm285 (dk_42 (dk_at s285_7 9 rfl rfl)) rfl
theorem f285_167 : ft 285 167 = some (13, 1, 0, .getfield 47, 3) := Fm285 (dk_180 0 47 (dk_at s285_7 10 rfl rfl)) rfl
theorem f285_170 : ft 285 170 = some (13, 1, 0, .iconst (-1), 1) := Fm285 (dk_2 (dk_at s285_7 13 rfl rfl)) rfl
theorem f285_171 : ft 285 171 = some (13, 1, 0, .iastore, 1) := Fm285 (dk_79 (dk_at s285_7 14 rfl rfl)) rfl
theorem f285_172 : ft 285 172 = some (13, 1, 0, .aload_n 0, 1) := Fm285 (dk_42 (dk_at s285_7 15 rfl rfl)) rfl
theorem f285_173 : ft 285 173 = some (13, 1, 0, .getfield 28, 3) := Fm285 (dk_180 0 28 (dk_at s285_7 16 rfl rfl)) rfl
theorem f285_176 : ft 285 176 = some (13, 1, 0, .aload_n 0, 1) := Fm285 (dk_42 (dk_at s285_7 19 rfl rfl)) rfl
theorem f285_177 : ft 285 177 = some (13, 1, 0, .getfield 47, 3) := Fm285 (dk_180 0 47 (dk_at s285_7 20 rfl rfl)) rfl
theorem f285_180 : ft 285 180 = some (13, 1, 0, .iconst (-1), 1) := Fm285 (dk_2 (dk_at s285_7 23 rfl rfl)) rfl
theorem f285_181 : ft 285 181 = some (13, 1, 0, .iastore, 1) := Fm285 (dk_79 (dk_at s285_8 0 rfl rfl)) rfl
theorem f285_182 : ft 285 182 = some (13, 1, 0, .aload_n 0, 1) := Fm285 (dk_42 (dk_at s285_8 1 rfl rfl)) rfl
theorem f285_183 : ft 285 183 = some (13, 1, 0, .getfield 37, 3) := Fm285 (dk_180 0 37 (dk_at s285_8 2 rfl rfl)) rfl
theorem f285_186 : ft 285 186 = some (13, 1, 0, .aload_n 0, 1) := Fm285 (dk_42 (dk_at s285_8 5 rfl rfl)) rfl
theorem f285_187 : ft 285 187 = some (13, 1, 0, .getfield 47, 3) := Fm285 (dk_180 0 47 (dk_at s285_8 6 rfl rfl)) rfl
theorem f285_190 : ft 285 190 = some (13, 1, 0, .iconst (-1), 1) := Fm285 (dk_2 (dk_at s285_8 9 rfl rfl)) rfl
theorem f285_191 : ft 285 191 = some (13, 1, 0, .iastore, 1) := Fm285 (dk_79 (dk_at s285_8 10 rfl rfl)) rfl
theorem f285_192 : ft 285 192 = some (13, 1, 0, .aload_n 0, 1) := Fm285 (dk_42 (dk_at s285_8 11 rfl rfl)) rfl
theorem f285_193 : ft 285 193 = some (13, 1, 0, .getfield 31, 3) := Fm285 (dk_180 0 31 (dk_at s285_8 12 rfl rfl)) rfl
theorem f285_196 : ft 285 196 = some (13, 1, 0, .aload_n 0, 1) := Fm285 (dk_42 (dk_at s285_8 15 rfl rfl)) rfl
theorem f285_197 : ft 285 197 = some (13, 1, 0, .getfield 47, 3) := Fm285 (dk_180 0 47 (dk_at s285_8 16 rfl rfl)) rfl
theorem f285_200 : ft 285 200 = some (13, 1, 0, .iconst (-1), 1) := Fm285 (dk_2 (dk_at s285_8 19 rfl rfl)) rfl
theorem f285_201 : ft 285 201 = some (13, 1, 0, .iastore, 1) := Fm285 (dk_79 (dk_at s285_8 20 rfl rfl)) rfl
theorem f285_202 : ft 285 202 = some (13, 1, 0, .aload_n 0, 1) := Fm285 (dk_42 (dk_at s285_8 21 rfl rfl)) rfl
theorem f285_203 : ft 285 203 = some (13, 1, 0, .getfield 22, 3) := Fm285 (dk_180 0 22 (dk_at s285_9 0 rfl rfl)) rfl
theorem f285_206 : ft 285 206 = some (13, 1, 0, .aload_n 0, 1) := Fm285 (dk_42 (dk_at s285_9 3 rfl rfl)) rfl
theorem f285_207 : ft 285 207 = some (13, 1, 0, .getfield 47, 3) := Fm285 (dk_180 0 47 (dk_at s285_9 4 rfl rfl)) rfl
theorem f285_210 : ft 285 210 = some (13, 1, 0, .iconst 0, 1) := Fm285 (dk_3 (dk_at s285_9 7 rfl rfl)) rfl
theorem f285_211 : ft 285 211 = some (13, 1, 0, .iastore, 1) := Fm285 (dk_79 (dk_at s285_9 8 rfl rfl)) rfl
theorem f285_212 : ft 285 212 = some (13, 1, 0, .aload_n 0, 1) := Fm285 (dk_42 (dk_at s285_9 9 rfl rfl)) rfl
theorem f285_213 : ft 285 213 = some (13, 1, 0, .getfield 19, 3) := Fm285 (dk_180 0 19 (dk_at s285_9 10 rfl rfl)) rfl
theorem f285_216 : ft 285 216 = some (13, 1, 0, .aload_n 0, 1) := Fm285 (dk_42 (dk_at s285_9 13 rfl rfl)) rfl
theorem f285_217 : ft 285 217 = some (13, 1, 0, .getfield 47, 3) := Fm285 (dk_180 0 47 (dk_at s285_9 14 rfl rfl)) rfl
theorem f285_220 : ft 285 220 = some (13, 1, 0, .aload_n 0, 1) := Fm285 (dk_42 (dk_at s285_9 17 rfl rfl)) rfl
theorem f285_221 : ft 285 221 = some (13, 1, 0, .getfield 51, 3) := Fm285 (dk_180 0 51 (dk_at s285_9 18 rfl rfl)) rfl
theorem f285_224 : ft 285 224 = some (13, 1, 0, .iastore, 1) := Fm285 (dk_79 (dk_at s285_9 21 rfl rfl)) rfl
theorem f285_225 : ft 285 225 = some (13, 1, 0, .aload_n 0, 1) := Fm285 (dk_42 (dk_at s285_9 22 rfl rfl)) rfl
theorem f285_226 : ft 285 226 = some (13, 1, 0, .dup, 1) := Fm285 (dk_89 (dk_at s285_9 23 rfl rfl)) rfl
theorem f285_227 : ft 285 227 = some (13, 1, 0, .getfield 47, 3) := Fm285 (dk_180 0 47 (dk_at s285_10 0 rfl rfl)) rfl
theorem f285_230 : ft 285 230 = some (13, 1, 0, .iconst 1, 1) := Fm285 (dk_4 (dk_at s285_10 3 rfl rfl)) rfl
theorem f285_231 : ft 285 231 = some (13, 1, 0, .iadd, 1) := Fm285 (dk_96 (dk_at s285_10 4 rfl rfl)) rfl
theorem f285_232 : ft 285 232 = some (13, 1, 0, .putfield 47, 3) := Fm285 (dk_181 0 47 (dk_at s285_10 5 rfl rfl)) rfl
theorem f285_235 : ft 285 235 = some (13, 1, 0, .aload_n 0, 1) := Fm285 (dk_42 (dk_at s285_10 8 rfl rfl)) rfl
theorem f285_236 : ft 285 236 = some (13, 1, 0, .getfield 47, 3) := Fm285 (dk_180 0 47 (dk_at s285_10 9 rfl rfl)) rfl
theorem f285_239 : ft 285 239 = some (13, 1, 0, .iconst 1, 1) := Fm285 (dk_4 (dk_at s285_10 12 rfl rfl)) rfl
theorem f285_240 : ft 285 240 = some (13, 1, 0, .isub, 1) := Fm285 (dk_100 (dk_at s285_10 13 rfl rfl)) rfl
theorem f285_241 : ft 285 241 = some (13, 1, 0, .ireturn, 1) := Fm285 (dk_172 (dk_at s285_10 14 rfl rfl)) rfl
theorem q285 {d : Nat} {m : Mem} {a0 a1 : Int} (hd : 0 < d) (hz : TZ m) : le2 (gd (tg m a0 = 13) <| nm (vl m a0 0) fun v3 => gd (tg m v3 = 284101 ∨ tg m v3 = 287101) <| if (vl m a0 10) = (ln m v3) then (bR (cl (d - 1) 286 [pR v3] m) fun v1 m1 => nm (vl m1 a0 1) fun v4 => gd (tg m1 v4 = 284102 ∨ tg m1 v4 = 286102) <| nm (w32 (2 * (ln m1 v4))) fun v5 => gd ((0 : Int) ≤ v5 ∧ v5 ≤ 2000000) <| nw (nx (mst m1 a0 0 v1)) (mal (mst m1 a0 0 v1) 286102 v5) fun o2 m2 => rn d 285 35 [pR a0, pI a1, pR o2, pI 0] [] m2) else rn d 285 152 [pR a0, pI a1, pU, pU] [] m) (cl d 285 [pR a0, pI a1] m) := by
  refine q_in (n := 4) (L := [pR a0, pI a1, pU, pU]) rfl rfl rfl ?_
  refine r_aln0 (p := 1) f285_0 rfl ?_
  refine le2_gd (fun h1 => ?_)
  refine r_gfI (f := 10) (p := 4) f285_1 rfl rfl rfl (Or.inl h1) rfl ?_
  refine r_aln0 (p := 5) f285_4 rfl ?_
  refine r_gfR (f := 0) (p := 8) f285_5 rfl rfl rfl (Or.inl h1) rfl ?_
  refine r_nmR (fun v3 ev3 => ?_)
  refine le2_gd (fun h2 => ?_)
  refine r_alen (p := 9) f285_8 rfl (dj2 (fun x => 100 < x % 1000 ∧ x % 1000 < 119) h2 (by decide) (by decide)) ?_
  refine r_icne (t := 152) (p := 12) f285_9 (by decide) rfl rfl ?_ ?_
  · refine r_aln0 (p := 13) f285_12 rfl ?_
    refine r_aln0 (p := 14) f285_13 rfl ?_
    refine r_gfR (f := 0) (p := 17) f285_14 rfl rfl rfl (Or.inl h1) ev3.symm ?_
    refine r_istR (p := 20) f285_17 rfl rfl rfl hd (Nat.le_of_ble_eq_true rfl) rfl rfl rfl (fun _ => rfl) (fun v1 m1 c1 => ?_)
    have hz1 := z_k c1 hz
    have h3 := k_t1 c1 hz h1 (by decide)
    refine r_pfR (f := 0) (p := 23) f285_20 rfl rfl rfl (by decide) (by decide) (Or.inl h3) rfl ?_
    refine r_iconst (p := 24) f285_23 rfl (pinD rfl rfl) ?_
    refine r_aln0 (p := 25) f285_24 rfl ?_
    refine r_gfR (f := 1) (p := 28) f285_25 rfl rfl rfl (Or.inl h3) (sk_f (by decide)) ?_
    refine r_nmR (fun v4 ev4 => ?_)
    refine le2_gd (fun h4 => ?_)
    refine r_alen (p := 29) f285_28 rfl (dj2 (fun x => 100 < x % 1000 ∧ x % 1000 < 119) h4 (by decide) (by decide)) ?_
    refine r_imul (p := 30) f285_29 rfl ?_
    refine r_nmI (fun v5 ev5 => ?_)
    refine le2_gd (fun h5 => ?_)
    refine r_newa (t1 := 286102) (p := 32) f285_30 rfl rfl h5 rfl rfl (fun o2 m2 h6 k2 => ?_)
    have hz2 := z_k k2 hz1
    refine r_asn2 (p := 33) f285_32 rfl rfl ?_
    refine r_iconst (p := 34) f285_33 rfl (pinD rfl rfl) ?_
    refine r_isn3 (p := 35) f285_34 rfl rfl ?_
    exact le2_refl _
  · exact le2_refl _
theorem q285_35 {d : Nat} {m : Mem} {a0 a1 a2 a3 : Int} (hd : 0 < d) (hz : TZ m) : le2 (gd (tg m a0 = 13) <| nm (vl m a0 1) fun v9 => gd (tg m v9 = 284102 ∨ tg m v9 = 286102) <| if a3 < (ln m v9) then (gd ((0 : Int) ≤ a3 ∧ a3 < ln m v9) <| gd (tg m a2 = 286102) <| gd ((0 : Int) ≤ a3 ∧ a3 < ln m a2) <| rn d 285 35 [pR a0, pI a1, pR a2, pI (w32 (a3 + 1))] [] (mst m a2 a3 (vl m v9 a3))) else bR (cl (d - 1) 286 [pR (vl m a0 2)] (mst m a0 1 a2)) fun v1 m1 => bR (cl (d - 1) 286 [pR (vl m1 a0 3)] (mst m1 a0 2 v1)) fun v2 m2 => bR (cl (d - 1) 286 [pR (vl m2 a0 4)] (mst m2 a0 3 v2)) fun v3 m3 => bR (cl (d - 1) 286 [pR (vl m3 a0 5)] (mst m3 a0 4 v3)) fun v4 m4 => bR (cl (d - 1) 286 [pR (vl m4 a0 6)] (mst m4 a0 5 v4)) fun v5 m5 => bR (cl (d - 1) 286 [pR (vl m5 a0 7)] (mst m5 a0 6 v5)) fun v6 m6 => bR (cl (d - 1) 286 [pR (vl m6 a0 8)] (mst m6 a0 7 v6)) fun v7 m7 => bR (cl (d - 1) 286 [pR (vl m7 a0 9)] (mst m7 a0 8 v7)) fun v8 m8 => rn d 285 152 [pR a0, pI a1, pR a2, pI a3] [] (mst m8 a0 9 v8)) (rn d 285 35 [pR a0, pI a1, pR a2, pI a3] [] m) := by
  refine r_iln3 (p := 36) f285_35 rfl ?_
  refine r_aln0 (p := 37) f285_36 rfl ?_
  refine le2_gd (fun h1 => ?_)
  refine r_gfR (f := 1) (p := 40) f285_37 rfl rfl rfl (Or.inl h1) rfl ?_
  refine r_nmR (fun v9 ev9 => ?_)
  refine le2_gd (fun h2 => ?_)
  refine r_alen (p := 41) f285_40 rfl (dj2 (fun x => 100 < x % 1000 ∧ x % 1000 < 119) h2 (by decide) (by decide)) ?_
  refine r_icge (t := 59) (p := 44) f285_41 (by decide) rfl rfl ?_ ?_
  · refine r_aln2 (p := 45) f285_44 rfl ?_
    refine r_iln3 (p := 46) f285_45 rfl ?_
    refine r_aln0 (p := 47) f285_46 rfl ?_
    refine r_gfR (f := 1) (p := 50) f285_47 rfl rfl rfl (Or.inl h1) ev9.symm ?_
    refine r_iln3 (p := 51) f285_50 rfl ?_
    refine le2_gd (fun h11 => ?_)
    refine r_laload (p := 52) f285_51 rfl (dj2 (fun x => x % 1000 = 102) h2 (by decide) (by decide)) h11 rfl ?_
    refine le2_gd (fun h12 => ?_)
    refine le2_gd (fun h13 => ?_)
    refine r_lastore (p := 53) f285_52 rfl (dj1 (fun x => 1000 ≤ x ∧ x % 1000 = 102 ∧ Nat.testBit (eM 285) (bix x 0) = true) h12 (by decide)) h13 ?_
    refine r_iinc3 (p := 56) f285_53 rfl rfl ?_
    refine r_goto (p := 35) f285_56 (by decide) rfl ?_
    exact le2_refl _
  · refine r_aln0 (p := 60) f285_59 rfl ?_
    refine r_aln2 (p := 61) f285_60 rfl ?_
    refine r_pfR (f := 1) (p := 64) f285_61 rfl rfl rfl (by decide) (by decide) (Or.inl h1) rfl ?_
    refine r_aln0 (p := 65) f285_64 rfl ?_
    refine r_aln0 (p := 66) f285_65 rfl ?_
    refine r_gfR (f := 2) (p := 69) f285_66 rfl rfl rfl (Or.inl h1) (sk_f (by decide)) ?_
    refine r_istR (p := 72) f285_69 rfl rfl rfl hd (Nat.le_of_ble_eq_true rfl) rfl rfl rfl (fun _ => rfl) (fun v1 m1 c1 => ?_)
    have hz1 := z_k c1 hz
    have h3 := k_t1 c1 hz h1 (by decide)
    refine r_pfR (f := 2) (p := 75) f285_72 rfl rfl rfl (by decide) (by decide) (Or.inl h3) rfl ?_
    refine r_aln0 (p := 76) f285_75 rfl ?_
    refine r_aln0 (p := 77) f285_76 rfl ?_
    refine r_gfR (f := 3) (p := 80) f285_77 rfl rfl rfl (Or.inl h3) (sk_f (by decide)) ?_
    refine r_istR (p := 83) f285_80 rfl rfl rfl hd (Nat.le_of_ble_eq_true rfl) rfl rfl rfl (fun _ => rfl) (fun v2 m2 c2 => ?_)
    have hz2 := z_k c2 hz1
    have h4 := k_t1 c2 hz1 h3 (by decide)
    refine r_pfR (f := 3) (p := 86) f285_83 rfl rfl rfl (by decide) (by decide) (Or.inl h4) rfl ?_
    refine r_aln0 (p := 87) f285_86 rfl ?_
    refine r_aln0 (p := 88) f285_87 rfl ?_
    refine r_gfR (f := 4) (p := 91) f285_88 rfl rfl rfl (Or.inl h4) (sk_f (by decide)) ?_
    refine r_istR (p := 94) f285_91 rfl rfl rfl hd (Nat.le_of_ble_eq_true rfl) rfl rfl rfl (fun _ => rfl) (fun v3 m3 c3 => ?_)
    have hz3 := z_k c3 hz2
    have h5 := k_t1 c3 hz2 h4 (by decide)
    refine r_pfR (f := 4) (p := 97) f285_94 rfl rfl rfl (by decide) (by decide) (Or.inl h5) rfl ?_
    refine r_aln0 (p := 98) f285_97 rfl ?_
    refine r_aln0 (p := 99) f285_98 rfl ?_
    refine r_gfR (f := 5) (p := 102) f285_99 rfl rfl rfl (Or.inl h5) (sk_f (by decide)) ?_
    refine r_istR (p := 105) f285_102 rfl rfl rfl hd (Nat.le_of_ble_eq_true rfl) rfl rfl rfl (fun _ => rfl) (fun v4 m4 c4 => ?_)
    have hz4 := z_k c4 hz3
    have h6 := k_t1 c4 hz3 h5 (by decide)
    refine r_pfR (f := 5) (p := 108) f285_105 rfl rfl rfl (by decide) (by decide) (Or.inl h6) rfl ?_
    refine r_aln0 (p := 109) f285_108 rfl ?_
    refine r_aln0 (p := 110) f285_109 rfl ?_
    refine r_gfR (f := 6) (p := 113) f285_110 rfl rfl rfl (Or.inl h6) (sk_f (by decide)) ?_
    refine r_istR (p := 116) f285_113 rfl rfl rfl hd (Nat.le_of_ble_eq_true rfl) rfl rfl rfl (fun _ => rfl) (fun v5 m5 c5 => ?_)
    have hz5 := z_k c5 hz4
    have h7 := k_t1 c5 hz4 h6 (by decide)
    refine r_pfR (f := 6) (p := 119) f285_116 rfl rfl rfl (by decide) (by decide) (Or.inl h7) rfl ?_
    refine r_aln0 (p := 120) f285_119 rfl ?_
    refine r_aln0 (p := 121) f285_120 rfl ?_
    refine r_gfR (f := 7) (p := 124) f285_121 rfl rfl rfl (Or.inl h7) (sk_f (by decide)) ?_
    refine r_istR (p := 127) f285_124 rfl rfl rfl hd (Nat.le_of_ble_eq_true rfl) rfl rfl rfl (fun _ => rfl) (fun v6 m6 c6 => ?_)
    have hz6 := z_k c6 hz5
    have h8 := k_t1 c6 hz5 h7 (by decide)
    refine r_pfR (f := 7) (p := 130) f285_127 rfl rfl rfl (by decide) (by decide) (Or.inl h8) rfl ?_
    refine r_aln0 (p := 131) f285_130 rfl ?_
    refine r_aln0 (p := 132) f285_131 rfl ?_
    refine r_gfR (f := 8) (p := 135) f285_132 rfl rfl rfl (Or.inl h8) (sk_f (by decide)) ?_
    refine r_istR (p := 138) f285_135 rfl rfl rfl hd (Nat.le_of_ble_eq_true rfl) rfl rfl rfl (fun _ => rfl) (fun v7 m7 c7 => ?_)
    have hz7 := z_k c7 hz6
    have h9 := k_t1 c7 hz6 h8 (by decide)
    refine r_pfR (f := 8) (p := 141) f285_138 rfl rfl rfl (by decide) (by decide) (Or.inl h9) rfl ?_
    refine r_aln0 (p := 142) f285_141 rfl ?_
    refine r_aln0 (p := 143) f285_142 rfl ?_
    refine r_gfR (f := 9) (p := 146) f285_143 rfl rfl rfl (Or.inl h9) (sk_f (by decide)) ?_
    refine r_istR (p := 149) f285_146 rfl rfl rfl hd (Nat.le_of_ble_eq_true rfl) rfl rfl rfl (fun _ => rfl) (fun v8 m8 c8 => ?_)
    have hz8 := z_k c8 hz7
    have h10 := k_t1 c8 hz7 h9 (by decide)
    refine r_pfR (f := 9) (p := 152) f285_149 rfl rfl rfl (by decide) (by decide) (Or.inl h10) rfl ?_
    exact le2_refl _
theorem q285_152 {d : Nat} {m : Mem} {a0 a1 : Int} {z2 z3 : PV} (hz : TZ m) (hcz2 : cat z2 = 1) (hcz3 : cat z3 = 1) : le2 (gd (tg m a0 = 13) <| nm (vl m a0 0) fun v1 => nm (vl m a0 10) fun v2 => gd (tg m v1 = 284101 ∨ tg m v1 = 287101) <| gd ((0 : Int) ≤ v2 ∧ v2 < ln m v1) <| nm (vl m a0 4) fun v3 => gd (tg m v3 = 284101 ∨ tg m v3 = 287101) <| gd ((0 : Int) ≤ v2 ∧ v2 < ln m v3) <| nm (vl m a0 5) fun v4 => gd (tg m v4 = 284101 ∨ tg m v4 = 287101) <| gd ((0 : Int) ≤ v2 ∧ v2 < ln m v4) <| nm (vl m a0 8) fun v5 => gd (tg m v5 = 284101 ∨ tg m v5 = 287101) <| gd ((0 : Int) ≤ v2 ∧ v2 < ln m v5) <| nm (vl m a0 6) fun v6 => gd (tg m v6 = 284101 ∨ tg m v6 = 287101) <| gd ((0 : Int) ≤ v2 ∧ v2 < ln m v6) <| nm (vl m a0 3) fun v7 => gd (tg m v7 = 284101 ∨ tg m v7 = 287101) <| gd ((0 : Int) ≤ v2 ∧ v2 < ln m v7) <| nm (vl m a0 2) fun v8 => gd (tg m v8 = 284101 ∨ tg m v8 = 287101) <| gd ((0 : Int) ≤ v2 ∧ v2 < ln m v8) <| nm (w32 (v2 + 1)) fun v9 => some (.inl (some (pI (w32 (v9 - 1)))), (mst (mst (mst (mst (mst (mst (mst (mst m v1 v2 a1) v3 v2 (-1)) v4 v2 (-1)) v5 v2 (-1)) v6 v2 (-1)) v7 v2 0) v8 v2 (vl m a0 12)) a0 10 v9))) (rn d 285 152 [pR a0, pI a1, z2, z3] [] m) := by
  refine r_aln0 (p := 153) f285_152 rfl ?_
  refine le2_gd (fun h1 => ?_)
  refine r_gfR (f := 0) (p := 156) f285_153 rfl rfl rfl (Or.inl h1) rfl ?_
  refine r_nmR (fun v1 ev1 => ?_)
  refine r_aln0 (p := 157) f285_156 rfl ?_
  refine r_gfI (f := 10) (p := 160) f285_157 rfl rfl rfl (Or.inl h1) rfl ?_
  refine r_nmI (fun v2 ev2 => ?_)
  refine r_iln1 (p := 161) f285_160 rfl ?_
  refine le2_gd (fun h2 => ?_)
  refine le2_gd (fun h3 => ?_)
  refine r_iastore (p := 162) f285_161 rfl (dj2 (fun x => 1000 ≤ x ∧ x % 1000 = 101 ∧ Nat.testBit (eM 285) (bix x 0) = true) h2 (by decide) (by decide)) h3 ?_
  refine r_aln0 (p := 163) f285_162 rfl ?_
  refine r_gfR (f := 4) (p := 166) f285_163 rfl rfl rfl (Or.inl h1) (sk_o (ne_oa (dj1 (fun x => x < 100) h1 (by decide)) (dj2 (fun x => ¬ x < 100) h2 (by decide) (by decide)))) ?_
  refine r_nmR (fun v3 ev3 => ?_)
  refine r_aln0 (p := 167) f285_166 rfl ?_
  refine r_gfI (f := 10) (p := 170) f285_167 rfl rfl rfl (Or.inl h1) (Eq.trans (sk_o (ne_oa (dj1 (fun x => x < 100) h1 (by decide)) (dj2 (fun x => ¬ x < 100) h2 (by decide) (by decide)))) ev2.symm) ?_
  refine r_iconst (p := 171) f285_170 rfl (pinD rfl rfl) ?_
  refine le2_gd (fun h4 => ?_)
  refine le2_gd (fun h5 => ?_)
  refine r_iastore (p := 172) f285_171 rfl (dj2 (fun x => 1000 ≤ x ∧ x % 1000 = 101 ∧ Nat.testBit (eM 285) (bix x 0) = true) h4 (by decide) (by decide)) h5 ?_
  refine r_aln0 (p := 173) f285_172 rfl ?_
  refine r_gfR (f := 5) (p := 176) f285_173 rfl rfl rfl (Or.inl h1) (Eq.trans (sk_o (ne_oa (dj1 (fun x => x < 100) h1 (by decide)) (dj2 (fun x => ¬ x < 100) h4 (by decide) (by decide)))) (sk_o (ne_oa (dj1 (fun x => x < 100) h1 (by decide)) (dj2 (fun x => ¬ x < 100) h2 (by decide) (by decide))))) ?_
  refine r_nmR (fun v4 ev4 => ?_)
  refine r_aln0 (p := 177) f285_176 rfl ?_
  refine r_gfI (f := 10) (p := 180) f285_177 rfl rfl rfl (Or.inl h1) (Eq.trans (sk_o (ne_oa (dj1 (fun x => x < 100) h1 (by decide)) (dj2 (fun x => ¬ x < 100) h4 (by decide) (by decide)))) (Eq.trans (sk_o (ne_oa (dj1 (fun x => x < 100) h1 (by decide)) (dj2 (fun x => ¬ x < 100) h2 (by decide) (by decide)))) ev2.symm)) ?_
  refine r_iconst (p := 181) f285_180 rfl (pinD rfl rfl) ?_
  refine le2_gd (fun h6 => ?_)
  refine le2_gd (fun h7 => ?_)
  refine r_iastore (p := 182) f285_181 rfl (dj2 (fun x => 1000 ≤ x ∧ x % 1000 = 101 ∧ Nat.testBit (eM 285) (bix x 0) = true) h6 (by decide) (by decide)) h7 ?_
  refine r_aln0 (p := 183) f285_182 rfl ?_
  refine r_gfR (f := 8) (p := 186) f285_183 rfl rfl rfl (Or.inl h1) (Eq.trans (sk_o (ne_oa (dj1 (fun x => x < 100) h1 (by decide)) (dj2 (fun x => ¬ x < 100) h6 (by decide) (by decide)))) (Eq.trans (sk_o (ne_oa (dj1 (fun x => x < 100) h1 (by decide)) (dj2 (fun x => ¬ x < 100) h4 (by decide) (by decide)))) (sk_o (ne_oa (dj1 (fun x => x < 100) h1 (by decide)) (dj2 (fun x => ¬ x < 100) h2 (by decide) (by decide)))))) ?_
  refine r_nmR (fun v5 ev5 => ?_)
  refine r_aln0 (p := 187) f285_186 rfl ?_
  refine r_gfI (f := 10) (p := 190) f285_187 rfl rfl rfl (Or.inl h1) (Eq.trans (sk_o (ne_oa (dj1 (fun x => x < 100) h1 (by decide)) (dj2 (fun x => ¬ x < 100) h6 (by decide) (by decide)))) (Eq.trans (sk_o (ne_oa (dj1 (fun x => x < 100) h1 (by decide)) (dj2 (fun x => ¬ x < 100) h4 (by decide) (by decide)))) (Eq.trans (sk_o (ne_oa (dj1 (fun x => x < 100) h1 (by decide)) (dj2 (fun x => ¬ x < 100) h2 (by decide) (by decide)))) ev2.symm))) ?_
  refine r_iconst (p := 191) f285_190 rfl (pinD rfl rfl) ?_
  refine le2_gd (fun h8 => ?_)
  refine le2_gd (fun h9 => ?_)
  refine r_iastore (p := 192) f285_191 rfl (dj2 (fun x => 1000 ≤ x ∧ x % 1000 = 101 ∧ Nat.testBit (eM 285) (bix x 0) = true) h8 (by decide) (by decide)) h9 ?_
  refine r_aln0 (p := 193) f285_192 rfl ?_
  refine r_gfR (f := 6) (p := 196) f285_193 rfl rfl rfl (Or.inl h1) (Eq.trans (sk_o (ne_oa (dj1 (fun x => x < 100) h1 (by decide)) (dj2 (fun x => ¬ x < 100) h8 (by decide) (by decide)))) (Eq.trans (sk_o (ne_oa (dj1 (fun x => x < 100) h1 (by decide)) (dj2 (fun x => ¬ x < 100) h6 (by decide) (by decide)))) (Eq.trans (sk_o (ne_oa (dj1 (fun x => x < 100) h1 (by decide)) (dj2 (fun x => ¬ x < 100) h4 (by decide) (by decide)))) (sk_o (ne_oa (dj1 (fun x => x < 100) h1 (by decide)) (dj2 (fun x => ¬ x < 100) h2 (by decide) (by decide))))))) ?_
  refine r_nmR (fun v6 ev6 => ?_)
  refine r_aln0 (p := 197) f285_196 rfl ?_
  refine r_gfI (f := 10) (p := 200) f285_197 rfl rfl rfl (Or.inl h1) (Eq.trans (sk_o (ne_oa (dj1 (fun x => x < 100) h1 (by decide)) (dj2 (fun x => ¬ x < 100) h8 (by decide) (by decide)))) (Eq.trans (sk_o (ne_oa (dj1 (fun x => x < 100) h1 (by decide)) (dj2 (fun x => ¬ x < 100) h6 (by decide) (by decide)))) (Eq.trans (sk_o (ne_oa (dj1 (fun x => x < 100) h1 (by decide)) (dj2 (fun x => ¬ x < 100) h4 (by decide) (by decide)))) (Eq.trans (sk_o (ne_oa (dj1 (fun x => x < 100) h1 (by decide)) (dj2 (fun x => ¬ x < 100) h2 (by decide) (by decide)))) ev2.symm)))) ?_
  refine r_iconst (p := 201) f285_200 rfl (pinD rfl rfl) ?_
  refine le2_gd (fun h10 => ?_)
  refine le2_gd (fun h11 => ?_)
  refine r_iastore (p := 202) f285_201 rfl (dj2 (fun x => 1000 ≤ x ∧ x % 1000 = 101 ∧ Nat.testBit (eM 285) (bix x 0) = true) h10 (by decide) (by decide)) h11 ?_
  refine r_aln0 (p := 203) f285_202 rfl ?_
  refine r_gfR (f := 3) (p := 206) f285_203 rfl rfl rfl (Or.inl h1) (Eq.trans (sk_o (ne_oa (dj1 (fun x => x < 100) h1 (by decide)) (dj2 (fun x => ¬ x < 100) h10 (by decide) (by decide)))) (Eq.trans (sk_o (ne_oa (dj1 (fun x => x < 100) h1 (by decide)) (dj2 (fun x => ¬ x < 100) h8 (by decide) (by decide)))) (Eq.trans (sk_o (ne_oa (dj1 (fun x => x < 100) h1 (by decide)) (dj2 (fun x => ¬ x < 100) h6 (by decide) (by decide)))) (Eq.trans (sk_o (ne_oa (dj1 (fun x => x < 100) h1 (by decide)) (dj2 (fun x => ¬ x < 100) h4 (by decide) (by decide)))) (sk_o (ne_oa (dj1 (fun x => x < 100) h1 (by decide)) (dj2 (fun x => ¬ x < 100) h2 (by decide) (by decide)))))))) ?_
  refine r_nmR (fun v7 ev7 => ?_)
  refine r_aln0 (p := 207) f285_206 rfl ?_
  refine r_gfI (f := 10) (p := 210) f285_207 rfl rfl rfl (Or.inl h1) (Eq.trans (sk_o (ne_oa (dj1 (fun x => x < 100) h1 (by decide)) (dj2 (fun x => ¬ x < 100) h10 (by decide) (by decide)))) (Eq.trans (sk_o (ne_oa (dj1 (fun x => x < 100) h1 (by decide)) (dj2 (fun x => ¬ x < 100) h8 (by decide) (by decide)))) (Eq.trans (sk_o (ne_oa (dj1 (fun x => x < 100) h1 (by decide)) (dj2 (fun x => ¬ x < 100) h6 (by decide) (by decide)))) (Eq.trans (sk_o (ne_oa (dj1 (fun x => x < 100) h1 (by decide)) (dj2 (fun x => ¬ x < 100) h4 (by decide) (by decide)))) (Eq.trans (sk_o (ne_oa (dj1 (fun x => x < 100) h1 (by decide)) (dj2 (fun x => ¬ x < 100) h2 (by decide) (by decide)))) ev2.symm))))) ?_
  refine r_iconst (p := 211) f285_210 rfl (pinD rfl rfl) ?_
  refine le2_gd (fun h12 => ?_)
  refine le2_gd (fun h13 => ?_)
  refine r_iastore (p := 212) f285_211 rfl (dj2 (fun x => 1000 ≤ x ∧ x % 1000 = 101 ∧ Nat.testBit (eM 285) (bix x 0) = true) h12 (by decide) (by decide)) h13 ?_
  refine r_aln0 (p := 213) f285_212 rfl ?_
  refine r_gfR (f := 2) (p := 216) f285_213 rfl rfl rfl (Or.inl h1) (Eq.trans (sk_o (ne_oa (dj1 (fun x => x < 100) h1 (by decide)) (dj2 (fun x => ¬ x < 100) h12 (by decide) (by decide)))) (Eq.trans (sk_o (ne_oa (dj1 (fun x => x < 100) h1 (by decide)) (dj2 (fun x => ¬ x < 100) h10 (by decide) (by decide)))) (Eq.trans (sk_o (ne_oa (dj1 (fun x => x < 100) h1 (by decide)) (dj2 (fun x => ¬ x < 100) h8 (by decide) (by decide)))) (Eq.trans (sk_o (ne_oa (dj1 (fun x => x < 100) h1 (by decide)) (dj2 (fun x => ¬ x < 100) h6 (by decide) (by decide)))) (Eq.trans (sk_o (ne_oa (dj1 (fun x => x < 100) h1 (by decide)) (dj2 (fun x => ¬ x < 100) h4 (by decide) (by decide)))) (sk_o (ne_oa (dj1 (fun x => x < 100) h1 (by decide)) (dj2 (fun x => ¬ x < 100) h2 (by decide) (by decide))))))))) ?_
  refine r_nmR (fun v8 ev8 => ?_)
  refine r_aln0 (p := 217) f285_216 rfl ?_
  refine r_gfI (f := 10) (p := 220) f285_217 rfl rfl rfl (Or.inl h1) (Eq.trans (sk_o (ne_oa (dj1 (fun x => x < 100) h1 (by decide)) (dj2 (fun x => ¬ x < 100) h12 (by decide) (by decide)))) (Eq.trans (sk_o (ne_oa (dj1 (fun x => x < 100) h1 (by decide)) (dj2 (fun x => ¬ x < 100) h10 (by decide) (by decide)))) (Eq.trans (sk_o (ne_oa (dj1 (fun x => x < 100) h1 (by decide)) (dj2 (fun x => ¬ x < 100) h8 (by decide) (by decide)))) (Eq.trans (sk_o (ne_oa (dj1 (fun x => x < 100) h1 (by decide)) (dj2 (fun x => ¬ x < 100) h6 (by decide) (by decide)))) (Eq.trans (sk_o (ne_oa (dj1 (fun x => x < 100) h1 (by decide)) (dj2 (fun x => ¬ x < 100) h4 (by decide) (by decide)))) (Eq.trans (sk_o (ne_oa (dj1 (fun x => x < 100) h1 (by decide)) (dj2 (fun x => ¬ x < 100) h2 (by decide) (by decide)))) ev2.symm)))))) ?_
  refine r_aln0 (p := 221) f285_220 rfl ?_
  refine r_gfI (f := 12) (p := 224) f285_221 rfl rfl rfl (Or.inl h1) (Eq.trans (sk_o (ne_oa (dj1 (fun x => x < 100) h1 (by decide)) (dj2 (fun x => ¬ x < 100) h12 (by decide) (by decide)))) (Eq.trans (sk_o (ne_oa (dj1 (fun x => x < 100) h1 (by decide)) (dj2 (fun x => ¬ x < 100) h10 (by decide) (by decide)))) (Eq.trans (sk_o (ne_oa (dj1 (fun x => x < 100) h1 (by decide)) (dj2 (fun x => ¬ x < 100) h8 (by decide) (by decide)))) (Eq.trans (sk_o (ne_oa (dj1 (fun x => x < 100) h1 (by decide)) (dj2 (fun x => ¬ x < 100) h6 (by decide) (by decide)))) (Eq.trans (sk_o (ne_oa (dj1 (fun x => x < 100) h1 (by decide)) (dj2 (fun x => ¬ x < 100) h4 (by decide) (by decide)))) (sk_o (ne_oa (dj1 (fun x => x < 100) h1 (by decide)) (dj2 (fun x => ¬ x < 100) h2 (by decide) (by decide))))))))) ?_
  refine le2_gd (fun h14 => ?_)
  refine le2_gd (fun h15 => ?_)
  refine r_iastore (p := 225) f285_224 rfl (dj2 (fun x => 1000 ≤ x ∧ x % 1000 = 101 ∧ Nat.testBit (eM 285) (bix x 0) = true) h14 (by decide) (by decide)) h15 ?_
  refine r_aln0 (p := 226) f285_225 rfl ?_
  refine r_dup (p := 227) f285_226 rfl rfl ?_
  refine r_gfI (f := 10) (p := 230) f285_227 rfl rfl rfl (Or.inl h1) (Eq.trans (sk_o (ne_oa (dj1 (fun x => x < 100) h1 (by decide)) (dj2 (fun x => ¬ x < 100) h14 (by decide) (by decide)))) (Eq.trans (sk_o (ne_oa (dj1 (fun x => x < 100) h1 (by decide)) (dj2 (fun x => ¬ x < 100) h12 (by decide) (by decide)))) (Eq.trans (sk_o (ne_oa (dj1 (fun x => x < 100) h1 (by decide)) (dj2 (fun x => ¬ x < 100) h10 (by decide) (by decide)))) (Eq.trans (sk_o (ne_oa (dj1 (fun x => x < 100) h1 (by decide)) (dj2 (fun x => ¬ x < 100) h8 (by decide) (by decide)))) (Eq.trans (sk_o (ne_oa (dj1 (fun x => x < 100) h1 (by decide)) (dj2 (fun x => ¬ x < 100) h6 (by decide) (by decide)))) (Eq.trans (sk_o (ne_oa (dj1 (fun x => x < 100) h1 (by decide)) (dj2 (fun x => ¬ x < 100) h4 (by decide) (by decide)))) (Eq.trans (sk_o (ne_oa (dj1 (fun x => x < 100) h1 (by decide)) (dj2 (fun x => ¬ x < 100) h2 (by decide) (by decide)))) ev2.symm))))))) ?_
  refine r_iconst (p := 231) f285_230 rfl (pinD rfl rfl) ?_
  refine r_iadd (p := 232) f285_231 rfl ?_
  refine r_nmI (fun v9 ev9 => ?_)
  refine r_pfI (f := 10) (p := 235) f285_232 rfl rfl rfl (by decide) (by decide) (Or.inl h1) rfl ?_
  refine r_aln0 (p := 236) f285_235 rfl ?_
  refine r_gfI (f := 10) (p := 239) f285_236 rfl rfl rfl (Or.inl h1) sk_s ?_
  refine r_iconst (p := 240) f285_239 rfl (pinD rfl rfl) ?_
  refine r_isub (p := 241) f285_240 rfl ?_
  exact r_iret1 f285_241
/-! 286 PathStoreModel$Tree.longer ([I)[I -/
def w286_1 : List UInt8 := [167, 255, 241, 43, 176]
abbrev u286_1 : List UInt8 := w286_1 ++ []
def w286_0 : List UInt8 := [5, 42, 190, 104, 188, 10, 76, 3, 61, 28, 42, 190, 162, 0, 15, 43, 28, 42, 28, 46, 79, 132, 2, 1]
abbrev u286_0 : List UInt8 := w286_0 ++ u286_1
theorem s286_0 : (prog_34_method_3_code).data.toList.drop 0 = u286_0 := by decide +kernel
theorem s286_1 : (prog_34_method_3_code).data.toList.drop 24 = u286_1 := dk_seg s286_0 24 rfl rfl
theorem Fm286 {pc len : Nat} {i : Instr} (h : decode (prog_34_method_3_code) pc = .ok (i, len)) (hl : len = ilen i len) : ft 286 pc = some (13, 3, 0, i, len) := ft_mk rfl h hl
theorem f286_0 : ft 286 0 = some (13, 3, 0, .iconst 2, 1) := Fm286 (dk_5 (dk_at s286_0 0 rfl rfl)) rfl
theorem f286_1 : ft 286 1 = some (13, 3, 0, .aload_n 0, 1) := Fm286 (dk_42 (dk_at s286_0 1 rfl rfl)) rfl
theorem f286_2 : ft 286 2 = some (13, 3, 0, .arraylength, 1) := Fm286 (dk_190 (dk_at s286_0 2 rfl rfl)) rfl
theorem f286_3 : ft 286 3 = some (13, 3, 0, .imul, 1) := Fm286 (dk_104 (dk_at s286_0 3 rfl rfl)) rfl
theorem f286_4 : ft 286 4 = some (13, 3, 0, .newarray .int, 2) := Fm286 (dk_188_10 (dk_at s286_0 4 rfl rfl)) rfl
theorem f286_6 : ft 286 6 = some (13, 3, 0, .astore_n 1, 1) := Fm286 (dk_76 (dk_at s286_0 6 rfl rfl)) rfl
theorem f286_7 : ft 286 7 = some (13, 3, 0, .iconst 0, 1) := Fm286 (dk_3 (dk_at s286_0 7 rfl rfl)) rfl
theorem f286_8 : ft 286 8 = some (13, 3, 0, .istore_n 2, 1) := Fm286 (dk_61 (dk_at s286_0 8 rfl rfl)) rfl
theorem f286_9 : ft 286 9 = some (13, 3, 0, .iload_n 2, 1) := Fm286 (dk_28 (dk_at s286_0 9 rfl rfl)) rfl
theorem f286_10 : ft 286 10 = some (13, 3, 0, .aload_n 0, 1) := Fm286 (dk_42 (dk_at s286_0 10 rfl rfl)) rfl
theorem f286_11 : ft 286 11 = some (13, 3, 0, .arraylength, 1) := Fm286 (dk_190 (dk_at s286_0 11 rfl rfl)) rfl
theorem f286_12 : ft 286 12 = some (13, 3, 0, .if_icmp .ge 15, 3) := Fm286 (dk_162 0 15 (dk_at s286_0 12 rfl rfl)) rfl
theorem f286_15 : ft 286 15 = some (13, 3, 0, .aload_n 1, 1) := Fm286 (dk_43 (dk_at s286_0 15 rfl rfl)) rfl
theorem f286_16 : ft 286 16 = some (13, 3, 0, .iload_n 2, 1) := Fm286 (dk_28 (dk_at s286_0 16 rfl rfl)) rfl
theorem f286_17 : ft 286 17 = some (13, 3, 0, .aload_n 0, 1) := Fm286 (dk_42 (dk_at s286_0 17 rfl rfl)) rfl
theorem f286_18 : ft 286 18 = some (13, 3, 0, .iload_n 2, 1) := Fm286 (dk_28 (dk_at s286_0 18 rfl rfl)) rfl
theorem f286_19 : ft 286 19 = some (13, 3, 0, .iaload, 1) := Fm286 (dk_46 (dk_at s286_0 19 rfl rfl)) rfl
theorem f286_20 : ft 286 20 = some (13, 3, 0, .iastore, 1) := Fm286 (dk_79 (dk_at s286_0 20 rfl rfl)) rfl
theorem f286_21 : ft 286 21 = some (13, 3, 0, .iinc 2 1, 3) := Fm286 (dk_132 2 1 (dk_at s286_0 21 rfl rfl)) rfl
theorem f286_24 : ft 286 24 = some (13, 3, 0, .goto (-15), 3) := Fm286 (dk_167 255 241 (dk_at s286_1 0 rfl rfl)) rfl
theorem f286_27 : ft 286 27 = some (13, 3, 0, .aload_n 1, 1) := Fm286 (dk_43 (dk_at s286_1 3 rfl rfl)) rfl
theorem f286_28 : ft 286 28 = some (13, 3, 0, .areturn, 1) := Fm286 (dk_176 (dk_at s286_1 4 rfl rfl)) rfl
theorem q286 {d : Nat} {m : Mem} {a0 : Int} (hz : TZ m) : le2 (gd (tg m a0 = 284101 ∨ tg m a0 = 287101) <| nm (w32 (2 * (ln m a0))) fun v2 => gd ((0 : Int) ≤ v2 ∧ v2 ≤ 2000000) <| nw (nx m) (mal m 287101 v2) fun o1 m1 => rn d 286 9 [pR a0, pR o1, pI 0] [] m1) (cl d 286 [pR a0] m) := by
  refine q_in (n := 3) (L := [pR a0, pU, pU]) rfl rfl rfl ?_
  refine r_iconst (p := 1) f286_0 rfl (pinD rfl rfl) ?_
  refine r_aln0 (p := 2) f286_1 rfl ?_
  refine le2_gd (fun h1 => ?_)
  refine r_alen (p := 3) f286_2 rfl (dj2 (fun x => 100 < x % 1000 ∧ x % 1000 < 119) h1 (by decide) (by decide)) ?_
  refine r_imul (p := 4) f286_3 rfl ?_
  refine r_nmI (fun v2 ev2 => ?_)
  refine le2_gd (fun h2 => ?_)
  refine r_newa (t1 := 287101) (p := 6) f286_4 rfl rfl h2 rfl rfl (fun o1 m1 h3 k1 => ?_)
  have hz1 := z_k k1 hz
  refine r_asn1 (p := 7) f286_6 rfl rfl ?_
  refine r_iconst (p := 8) f286_7 rfl (pinD rfl rfl) ?_
  refine r_isn2 (p := 9) f286_8 rfl rfl ?_
  exact le2_refl _
theorem q286_9 {d : Nat} {m : Mem} {a0 a1 a2 : Int} (hz : TZ m) : le2 (gd (tg m a0 = 284101 ∨ tg m a0 = 287101) <| if a2 < (ln m a0) then (gd ((0 : Int) ≤ a2 ∧ a2 < ln m a0) <| gd (tg m a1 = 287101) <| gd ((0 : Int) ≤ a2 ∧ a2 < ln m a1) <| rn d 286 9 [pR a0, pR a1, pI (w32 (a2 + 1))] [] (mst m a1 a2 (vl m a0 a2))) else some (.inl (some (pR a1)), m)) (rn d 286 9 [pR a0, pR a1, pI a2] [] m) := by
  refine r_iln2 (p := 10) f286_9 rfl ?_
  refine r_aln0 (p := 11) f286_10 rfl ?_
  refine le2_gd (fun h1 => ?_)
  refine r_alen (p := 12) f286_11 rfl (dj2 (fun x => 100 < x % 1000 ∧ x % 1000 < 119) h1 (by decide) (by decide)) ?_
  refine r_icge (t := 27) (p := 15) f286_12 (by decide) rfl rfl ?_ ?_
  · refine r_aln1 (p := 16) f286_15 rfl ?_
    refine r_iln2 (p := 17) f286_16 rfl ?_
    refine r_aln0 (p := 18) f286_17 rfl ?_
    refine r_iln2 (p := 19) f286_18 rfl ?_
    refine le2_gd (fun h2 => ?_)
    refine r_iaload (p := 20) f286_19 rfl (dj2 (fun x => x % 1000 = 101) h1 (by decide) (by decide)) h2 rfl ?_
    refine le2_gd (fun h3 => ?_)
    refine le2_gd (fun h4 => ?_)
    refine r_iastore (p := 21) f286_20 rfl (dj1 (fun x => 1000 ≤ x ∧ x % 1000 = 101 ∧ Nat.testBit (eM 286) (bix x 0) = true) h3 (by decide)) h4 ?_
    refine r_iinc2 (p := 24) f286_21 rfl rfl ?_
    refine r_goto (p := 9) f286_24 (by decide) rfl ?_
    exact le2_refl _
  · refine r_aln1 (p := 28) f286_27 rfl ?_
    exact r_aret f286_28
/-! 287 PathStoreModel$Tree.unit (I)V -/
def w287_3 : List UInt8 := [177]
abbrev u287_3 : List UInt8 := w287_3 ++ []
def w287_2 : List UInt8 := [181, 0, 43, 42, 180, 0, 43, 42, 180, 0, 51, 27, 146, 85, 42, 89, 180, 0, 51, 4, 96, 181, 0, 51]
abbrev u287_2 : List UInt8 := w287_2 ++ u287_3
def w287_1 : List UInt8 := [42, 180, 0, 51, 162, 0, 18, 44, 29, 42, 180, 0, 43, 29, 52, 85, 132, 3, 1, 167, 255, 236, 42, 44]
abbrev u287_1 : List UInt8 := w287_1 ++ u287_2
def w287_0 : List UInt8 := [42, 180, 0, 51, 42, 180, 0, 43, 190, 160, 0, 42, 5, 42, 180, 0, 51, 104, 188, 5, 77, 3, 62, 29]
abbrev u287_0 : List UInt8 := w287_0 ++ u287_1
theorem s287_0 : (prog_34_method_5_code).data.toList.drop 0 = u287_0 := by decide +kernel
theorem s287_1 : (prog_34_method_5_code).data.toList.drop 24 = u287_1 := dk_seg s287_0 24 rfl rfl
theorem s287_2 : (prog_34_method_5_code).data.toList.drop 48 = u287_2 := dk_seg s287_1 24 rfl rfl
theorem s287_3 : (prog_34_method_5_code).data.toList.drop 72 = u287_3 := dk_seg s287_2 24 rfl rfl
theorem Fm287 {pc len : Nat} {i : Instr} (h : decode (prog_34_method_5_code) pc = .ok (i, len)) (hl : len = ilen i len) : ft 287 pc = some (13, 0, 0, i, len) := ft_mk rfl h hl
theorem f287_0 : ft 287 0 = some (13, 0, 0, .aload_n 0, 1) := Fm287 (dk_42 (dk_at s287_0 0 rfl rfl)) rfl
theorem f287_1 : ft 287 1 = some (13, 0, 0, .getfield 51, 3) := Fm287 (dk_180 0 51 (dk_at s287_0 1 rfl rfl)) rfl
theorem f287_4 : ft 287 4 = some (13, 0, 0, .aload_n 0, 1) := Fm287 (dk_42 (dk_at s287_0 4 rfl rfl)) rfl
theorem f287_5 : ft 287 5 = some (13, 0, 0, .getfield 43, 3) := Fm287 (dk_180 0 43 (dk_at s287_0 5 rfl rfl)) rfl
theorem f287_8 : ft 287 8 = some (13, 0, 0, .arraylength, 1) := Fm287 (dk_190 (dk_at s287_0 8 rfl rfl)) rfl
theorem f287_9 : ft 287 9 = some (13, 0, 0, .if_icmp .ne 42, 3) := Fm287 (dk_160 0 42 (dk_at s287_0 9 rfl rfl)) rfl
theorem f287_12 : ft 287 12 = some (13, 0, 0, .iconst 2, 1) := Fm287 (dk_5 (dk_at s287_0 12 rfl rfl)) rfl
theorem f287_13 : ft 287 13 = some (13, 0, 0, .aload_n 0, 1) := Fm287 (dk_42 (dk_at s287_0 13 rfl rfl)) rfl
theorem f287_14 : ft 287 14 = some (13, 0, 0, .getfield 51, 3) := Fm287 (dk_180 0 51 (dk_at s287_0 14 rfl rfl)) rfl
theorem f287_17 : ft 287 17 = some (13, 0, 0, .imul, 1) := Fm287 (dk_104 (dk_at s287_0 17 rfl rfl)) rfl
theorem f287_18 : ft 287 18 = some (13, 0, 0, .newarray .char, 2) := Fm287 (dk_188_5 (dk_at s287_0 18 rfl rfl)) rfl
theorem f287_20 : ft 287 20 = some (13, 0, 0, .astore_n 2, 1) := Fm287 (dk_77 (dk_at s287_0 20 rfl rfl)) rfl
theorem f287_21 : ft 287 21 = some (13, 0, 0, .iconst 0, 1) := Fm287 (dk_3 (dk_at s287_0 21 rfl rfl)) rfl
theorem f287_22 : ft 287 22 = some (13, 0, 0, .istore_n 3, 1) := Fm287 (dk_62 (dk_at s287_0 22 rfl rfl)) rfl
theorem f287_23 : ft 287 23 = some (13, 0, 0, .iload_n 3, 1) := Fm287 (dk_29 (dk_at s287_0 23 rfl rfl)) rfl
theorem f287_24 : ft 287 24 = some (13, 0, 0, .aload_n 0, 1) := Fm287 (dk_42 (dk_at s287_1 0 rfl rfl)) rfl
theorem f287_25 : ft 287 25 = some (13, 0, 0, .getfield 51, 3) := Fm287 (dk_180 0 51 (dk_at s287_1 1 rfl rfl)) rfl
theorem f287_28 : ft 287 28 = some (13, 0, 0, .if_icmp .ge 18, 3) := Fm287 (dk_162 0 18 (dk_at s287_1 4 rfl rfl)) rfl
theorem f287_31 : ft 287 31 = some (13, 0, 0, .aload_n 2, 1) := Fm287 (dk_44 (dk_at s287_1 7 rfl rfl)) rfl
theorem f287_32 : ft 287 32 = some (13, 0, 0, .iload_n 3, 1) := Fm287 (dk_29 (dk_at s287_1 8 rfl rfl)) rfl
theorem f287_33 : ft 287 33 = some (13, 0, 0, .aload_n 0, 1) := Fm287 (dk_42 (dk_at s287_1 9 rfl rfl)) rfl
theorem f287_34 : ft 287 34 = some (13, 0, 0, .getfield 43, 3) := Fm287 (dk_180 0 43 (dk_at s287_1 10 rfl rfl)) rfl
theorem f287_37 : ft 287 37 = some (13, 0, 0, .iload_n 3, 1) := Fm287 (dk_29 (dk_at s287_1 13 rfl rfl)) rfl
theorem f287_38 : ft 287 38 = some (13, 0, 0, .caload, 1) := Fm287 (dk_52 (dk_at s287_1 14 rfl rfl)) rfl
theorem f287_39 : ft 287 39 = some (13, 0, 0, .castore, 1) := Fm287 (dk_85 (dk_at s287_1 15 rfl rfl)) rfl
theorem f287_40 : ft 287 40 = some (13, 0, 0, .iinc 3 1, 3) := Fm287 (dk_132 3 1 (dk_at s287_1 16 rfl rfl)) rfl
theorem f287_43 : ft 287 43 = some (13, 0, 0, .goto (-20), 3) := Fm287 (dk_167 255 236 (dk_at s287_1 19 rfl rfl)) rfl
theorem f287_46 : ft 287 46 = some (13, 0, 0, .aload_n 0, 1) := Fm287 (dk_42 (dk_at s287_1 22 rfl rfl)) rfl
theorem f287_47 : ft 287 47 = some (13, 0, 0, .aload_n 2, 1) := Fm287 (dk_44 (dk_at s287_1 23 rfl rfl)) rfl
theorem f287_48 : ft 287 48 = some (13, 0, 0, .putfield 43, 3) := Fm287 (dk_181 0 43 (dk_at s287_2 0 rfl rfl)) rfl
theorem f287_51 : ft 287 51 = some (13, 0, 0, .aload_n 0, 1) := Fm287 (dk_42 (dk_at s287_2 3 rfl rfl)) rfl
theorem f287_52 : ft 287 52 = some (13, 0, 0, .getfield 43, 3) := Fm287 (dk_180 0 43 (dk_at s287_2 4 rfl rfl)) rfl
theorem f287_55 : ft 287 55 = some (13, 0, 0, .aload_n 0, 1) := Fm287 (dk_42 (dk_at s287_2 7 rfl rfl)) rfl
theorem f287_56 : ft 287 56 = some (13, 0, 0, .getfield 51, 3) := Fm287 (dk_180 0 51 (dk_at s287_2 8 rfl rfl)) rfl
theorem f287_59 : ft 287 59 = some (13, 0, 0, .iload_n 1, 1) := Fm287 (dk_27 (dk_at s287_2 11 rfl rfl)) rfl
theorem f287_60 : ft 287 60 = some (13, 0, 0, .i2c, 1) := Fm287 (dk_146 (dk_at s287_2 12 rfl rfl)) rfl
theorem f287_61 : ft 287 61 = some (13, 0, 0, .castore, 1) := Fm287 (dk_85 (dk_at s287_2 13 rfl rfl)) rfl
theorem f287_62 : ft 287 62 = some (13, 0, 0, .aload_n 0, 1) := Fm287 (dk_42 (dk_at s287_2 14 rfl rfl)) rfl
theorem f287_63 : ft 287 63 = some (13, 0, 0, .dup, 1) := Fm287 (dk_89 (dk_at s287_2 15 rfl rfl)) rfl
theorem f287_64 : ft 287 64 = some (13, 0, 0, .getfield 51, 3) := Fm287 (dk_180 0 51 (dk_at s287_2 16 rfl rfl)) rfl
theorem f287_67 : ft 287 67 = some (13, 0, 0, .iconst 1, 1) := Fm287 (dk_4 (dk_at s287_2 19 rfl rfl)) rfl
theorem f287_68 : ft 287 68 = some (13, 0, 0, .iadd, 1) := Fm287 (dk_96 (dk_at s287_2 20 rfl rfl)) rfl
theorem f287_69 : ft 287 69 = some (13, 0, 0, .putfield 51, 3) := Fm287 (dk_181 0 51 (dk_at s287_2 21 rfl rfl)) rfl
theorem f287_72 : ft 287 72 = some (13, 0, 0, .return_, 1) := Fm287 (dk_177 (dk_at s287_3 0 rfl rfl)) rfl
theorem q287 {d : Nat} {m : Mem} {a0 a1 : Int} (hz : TZ m) : le2 (gd (tg m a0 = 13) <| nm (vl m a0 12) fun v2 => nm (vl m a0 11) fun v3 => gd (tg m v3 = 284104 ∨ tg m v3 = 288104) <| if v2 = (ln m v3) then (nm (w32 (2 * v2)) fun v4 => gd ((0 : Int) ≤ v4 ∧ v4 ≤ 2000000) <| nw (nx m) (mal m 288104 v4) fun o1 m1 => rn d 287 23 [pR a0, pI a1, pR o1, pI 0] [] m1) else rn d 287 51 [pR a0, pI a1, pU, pU] [] m) (cl d 287 [pR a0, pI a1] m) := by
  refine q_in (n := 4) (L := [pR a0, pI a1, pU, pU]) rfl rfl rfl ?_
  refine r_aln0 (p := 1) f287_0 rfl ?_
  refine le2_gd (fun h1 => ?_)
  refine r_gfI (f := 12) (p := 4) f287_1 rfl rfl rfl (Or.inl h1) rfl ?_
  refine r_nmI (fun v2 ev2 => ?_)
  refine r_aln0 (p := 5) f287_4 rfl ?_
  refine r_gfR (f := 11) (p := 8) f287_5 rfl rfl rfl (Or.inl h1) rfl ?_
  refine r_nmR (fun v3 ev3 => ?_)
  refine le2_gd (fun h2 => ?_)
  refine r_alen (p := 9) f287_8 rfl (dj2 (fun x => 100 < x % 1000 ∧ x % 1000 < 119) h2 (by decide) (by decide)) ?_
  refine r_icne (t := 51) (p := 12) f287_9 (by decide) rfl rfl ?_ ?_
  · refine r_iconst (p := 13) f287_12 rfl (pinD rfl rfl) ?_
    refine r_aln0 (p := 14) f287_13 rfl ?_
    refine r_gfI (f := 12) (p := 17) f287_14 rfl rfl rfl (Or.inl h1) ev2.symm ?_
    refine r_imul (p := 18) f287_17 rfl ?_
    refine r_nmI (fun v4 ev4 => ?_)
    refine le2_gd (fun h3 => ?_)
    refine r_newa (t1 := 288104) (p := 20) f287_18 rfl rfl h3 rfl rfl (fun o1 m1 h4 k1 => ?_)
    have hz1 := z_k k1 hz
    refine r_asn2 (p := 21) f287_20 rfl rfl ?_
    refine r_iconst (p := 22) f287_21 rfl (pinD rfl rfl) ?_
    refine r_isn3 (p := 23) f287_22 rfl rfl ?_
    exact le2_refl _
  · exact le2_refl _
theorem q287_23 {d : Nat} {m : Mem} {a0 a1 a2 a3 : Int} (hz : TZ m) : le2 (gd (tg m a0 = 13) <| if a3 < (vl m a0 12) then (nm (vl m a0 11) fun v1 => gd (tg m v1 = 284104 ∨ tg m v1 = 288104) <| gd ((0 : Int) ≤ a3 ∧ a3 < ln m v1) <| gd (tg m a2 = 288104) <| gd ((0 : Int) ≤ a3 ∧ a3 < ln m a2) <| rn d 287 23 [pR a0, pI a1, pR a2, pI (w32 (a3 + 1))] [] (mst m a2 a3 ((vl m v1 a3) % 65536))) else rn d 287 51 [pR a0, pI a1, pR a2, pI a3] [] (mst m a0 11 a2)) (rn d 287 23 [pR a0, pI a1, pR a2, pI a3] [] m) := by
  refine r_iln3 (p := 24) f287_23 rfl ?_
  refine r_aln0 (p := 25) f287_24 rfl ?_
  refine le2_gd (fun h1 => ?_)
  refine r_gfI (f := 12) (p := 28) f287_25 rfl rfl rfl (Or.inl h1) rfl ?_
  refine r_icge (t := 46) (p := 31) f287_28 (by decide) rfl rfl ?_ ?_
  · refine r_aln2 (p := 32) f287_31 rfl ?_
    refine r_iln3 (p := 33) f287_32 rfl ?_
    refine r_aln0 (p := 34) f287_33 rfl ?_
    refine r_gfR (f := 11) (p := 37) f287_34 rfl rfl rfl (Or.inl h1) rfl ?_
    refine r_nmR (fun v1 ev1 => ?_)
    refine r_iln3 (p := 38) f287_37 rfl ?_
    refine le2_gd (fun h2 => ?_)
    refine le2_gd (fun h3 => ?_)
    refine r_caload (p := 39) f287_38 rfl (dj2 (fun x => x % 1000 = 104) h2 (by decide) (by decide)) h3 rfl ?_
    refine le2_gd (fun h4 => ?_)
    refine le2_gd (fun h5 => ?_)
    refine r_castore (p := 40) f287_39 rfl (dj1 (fun x => 1000 ≤ x ∧ x % 1000 = 104 ∧ Nat.testBit (eM 287) (bix x 0) = true) h4 (by decide)) h5 ?_
    refine r_iinc3 (p := 43) f287_40 rfl rfl ?_
    refine r_goto (p := 23) f287_43 (by decide) rfl ?_
    exact le2_refl _
  · refine r_aln0 (p := 47) f287_46 rfl ?_
    refine r_aln2 (p := 48) f287_47 rfl ?_
    refine r_pfR (f := 11) (p := 51) f287_48 rfl rfl rfl (by decide) (by decide) (Or.inl h1) rfl ?_
    exact le2_refl _
theorem q287_51 {d : Nat} {m : Mem} {a0 a1 : Int} {z2 z3 : PV} (hz : TZ m) (hcz2 : cat z2 = 1) (hcz3 : cat z3 = 1) : le2 (gd (tg m a0 = 13) <| nm (vl m a0 11) fun v1 => nm (vl m a0 12) fun v2 => gd (tg m v1 = 284104 ∨ tg m v1 = 288104) <| gd ((0 : Int) ≤ v2 ∧ v2 < ln m v1) <| some (.inl none, (mst (mst m v1 v2 ((a1 % 65536) % 65536)) a0 12 (w32 (v2 + 1))))) (rn d 287 51 [pR a0, pI a1, z2, z3] [] m) := by
  refine r_aln0 (p := 52) f287_51 rfl ?_
  refine le2_gd (fun h1 => ?_)
  refine r_gfR (f := 11) (p := 55) f287_52 rfl rfl rfl (Or.inl h1) rfl ?_
  refine r_nmR (fun v1 ev1 => ?_)
  refine r_aln0 (p := 56) f287_55 rfl ?_
  refine r_gfI (f := 12) (p := 59) f287_56 rfl rfl rfl (Or.inl h1) rfl ?_
  refine r_nmI (fun v2 ev2 => ?_)
  refine r_iln1 (p := 60) f287_59 rfl ?_
  refine r_i2c (p := 61) f287_60 rfl ?_
  refine le2_gd (fun h2 => ?_)
  refine le2_gd (fun h3 => ?_)
  refine r_castore (p := 62) f287_61 rfl (dj2 (fun x => 1000 ≤ x ∧ x % 1000 = 104 ∧ Nat.testBit (eM 287) (bix x 0) = true) h2 (by decide) (by decide)) h3 ?_
  refine r_aln0 (p := 63) f287_62 rfl ?_
  refine r_dup (p := 64) f287_63 rfl rfl ?_
  refine r_gfI (f := 12) (p := 67) f287_64 rfl rfl rfl (Or.inl h1) (Eq.trans (sk_o (ne_oa (dj1 (fun x => x < 100) h1 (by decide)) (dj2 (fun x => ¬ x < 100) h2 (by decide) (by decide)))) ev2.symm) ?_
  refine r_iconst (p := 68) f287_67 rfl (pinD rfl rfl) ?_
  refine r_iadd (p := 69) f287_68 rfl ?_
  refine r_pfI (f := 12) (p := 72) f287_69 rfl rfl rfl (by decide) (by decide) (Or.inl h1) rfl ?_
  exact r_ret f287_72
/-! 288 PathStoreModel$Tree.find (ILPathStoreModel$Tree;II)I -/
def w288_1 : List UInt8 := [153, 0, 6, 21, 5, 172, 42, 180, 0, 28, 21, 5, 46, 54, 5, 167, 255, 226, 2, 172]
abbrev u288_1 : List UInt8 := w288_1 ++ []
def w288_0 : List UInt8 := [42, 180, 0, 25, 27, 46, 54, 5, 21, 5, 155, 0, 31, 42, 21, 5, 44, 29, 21, 4, 182, 0, 58]
abbrev u288_0 : List UInt8 := w288_0 ++ u288_1
theorem s288_0 : (prog_34_method_10_code).data.toList.drop 0 = u288_0 := by decide +kernel
theorem s288_1 : (prog_34_method_10_code).data.toList.drop 23 = u288_1 := dk_seg s288_0 23 rfl rfl
theorem Fm288 {pc len : Nat} {i : Instr} (h : decode (prog_34_method_10_code) pc = .ok (i, len)) (hl : len = ilen i len) : ft 288 pc = some (13, 1, 0, i, len) := ft_mk rfl h hl
theorem f288_0 : ft 288 0 = some (13, 1, 0, .aload_n 0, 1) := Fm288 (dk_42 (dk_at s288_0 0 rfl rfl)) rfl
theorem f288_1 : ft 288 1 = some (13, 1, 0, .getfield 25, 3) := Fm288 (dk_180 0 25 (dk_at s288_0 1 rfl rfl)) rfl
theorem f288_4 : ft 288 4 = some (13, 1, 0, .iload_n 1, 1) := Fm288 (dk_27 (dk_at s288_0 4 rfl rfl)) rfl
theorem f288_5 : ft 288 5 = some (13, 1, 0, .iaload, 1) := Fm288 (dk_46 (dk_at s288_0 5 rfl rfl)) rfl
theorem f288_6 : ft 288 6 = some (13, 1, 0, .istore 5, 2) := Fm288 (dk_54 5 (dk_at s288_0 6 rfl rfl)) rfl
theorem f288_8 : ft 288 8 = some (13, 1, 0, .iload 5, 2) := Fm288 (dk_21 5 (dk_at s288_0 8 rfl rfl)) rfl
theorem f288_10 : ft 288 10 = some (13, 1, 0, .ifCond .lt 31, 3) := Fm288 (dk_155 0 31 (dk_at s288_0 10 rfl rfl)) rfl
theorem f288_13 : ft 288 13 = some (13, 1, 0, .aload_n 0, 1) := Fm288 (dk_42 (dk_at s288_0 13 rfl rfl)) rfl
theorem f288_14 : ft 288 14 = some (13, 1, 0, .iload 5, 2) := Fm288 (dk_21 5 (dk_at s288_0 14 rfl rfl)) rfl
theorem f288_16 : ft 288 16 = some (13, 1, 0, .aload_n 2, 1) := Fm288 (dk_44 (dk_at s288_0 16 rfl rfl)) rfl
theorem f288_17 : ft 288 17 = some (13, 1, 0, .iload_n 3, 1) := Fm288 (dk_29 (dk_at s288_0 17 rfl rfl)) rfl
theorem f288_18 : ft 288 18 = some (13, 1, 0, .iload 4, 2) := Fm288 (dk_21 4 (dk_at s288_0 18 rfl rfl)) rfl
theorem f288_20 : ft 288 20 = some (13, 1, 0, .invokevirtual 58, 3) := Fm288 (dk_182 0 58 (dk_at s288_0 20 rfl rfl)) rfl
theorem f288_23 : ft 288 23 = some (13, 1, 0, .ifCond .eq 6, 3) := Fm288 (dk_153 0 6 (dk_at s288_1 0 rfl rfl)) rfl
theorem f288_26 : ft 288 26 = some (13, 1, 0, .iload 5, 2) := Fm288 (dk_21 5 (dk_at s288_1 3 rfl rfl)) rfl
theorem f288_28 : ft 288 28 = some (13, 1, 0, .ireturn, 1) := Fm288 (dk_172 (dk_at s288_1 5 rfl rfl)) rfl
theorem f288_29 : ft 288 29 = some (13, 1, 0, .aload_n 0, 1) := Fm288 (dk_42 (dk_at s288_1 6 rfl rfl)) rfl
theorem f288_30 : ft 288 30 = some (13, 1, 0, .getfield 28, 3) := Fm288 (dk_180 0 28 (dk_at s288_1 7 rfl rfl)) rfl
theorem f288_33 : ft 288 33 = some (13, 1, 0, .iload 5, 2) := Fm288 (dk_21 5 (dk_at s288_1 10 rfl rfl)) rfl
theorem f288_35 : ft 288 35 = some (13, 1, 0, .iaload, 1) := Fm288 (dk_46 (dk_at s288_1 12 rfl rfl)) rfl
theorem f288_36 : ft 288 36 = some (13, 1, 0, .istore 5, 2) := Fm288 (dk_54 5 (dk_at s288_1 13 rfl rfl)) rfl
theorem f288_38 : ft 288 38 = some (13, 1, 0, .goto (-30), 3) := Fm288 (dk_167 255 226 (dk_at s288_1 15 rfl rfl)) rfl
theorem f288_41 : ft 288 41 = some (13, 1, 0, .iconst (-1), 1) := Fm288 (dk_2 (dk_at s288_1 18 rfl rfl)) rfl
theorem f288_42 : ft 288 42 = some (13, 1, 0, .ireturn, 1) := Fm288 (dk_172 (dk_at s288_1 19 rfl rfl)) rfl
theorem q288 {d : Nat} {m : Mem} {a0 a1 a2 a3 a4 : Int} (hz : TZ m) : le2 (gd (tg m a0 = 13) <| nm (vl m a0 4) fun v1 => gd (tg m v1 = 284101 ∨ tg m v1 = 287101) <| gd ((0 : Int) ≤ a1 ∧ a1 < ln m v1) <| rn d 288 8 [pR a0, pI a1, pR a2, pI a3, pI a4, pI (vl m v1 a1)] [] m) (cl d 288 [pR a0, pI a1, pR a2, pI a3, pI a4] m) := by
  refine q_in (n := 6) (L := [pR a0, pI a1, pR a2, pI a3, pI a4, pU]) rfl rfl rfl ?_
  refine r_aln0 (p := 1) f288_0 rfl ?_
  refine le2_gd (fun h1 => ?_)
  refine r_gfR (f := 4) (p := 4) f288_1 rfl rfl rfl (Or.inl h1) rfl ?_
  refine r_nmR (fun v1 ev1 => ?_)
  refine r_iln1 (p := 5) f288_4 rfl ?_
  refine le2_gd (fun h2 => ?_)
  refine le2_gd (fun h3 => ?_)
  refine r_iaload (p := 6) f288_5 rfl (dj2 (fun x => x % 1000 = 101) h2 (by decide) (by decide)) h3 rfl ?_
  refine r_isw5 (p := 8) f288_6 rfl rfl ?_
  exact le2_refl _
theorem q288_8 {d : Nat} {m : Mem} {a0 a1 a2 a3 a4 a5 : Int} (hd : 0 < d) (hz : TZ m) : le2 (if a5 < 0 then (some (.inl (some (pI (-1))), m)) else gd (tg m a0 = 13) <| bI (cl (d - 1) 289 [pR a0, pI a5, pR a2, pI a3, pI a4] m) fun v1 m1 => if v1 = 0 then (nm (vl m1 a0 5) fun v2 => gd (tg m1 v2 = 284101 ∨ tg m1 v2 = 287101) <| gd ((0 : Int) ≤ a5 ∧ a5 < ln m1 v2) <| rn d 288 8 [pR a0, pI a1, pR a2, pI a3, pI a4, pI (vl m1 v2 a5)] [] m1) else some (.inl (some (pI a5)), m1)) (rn d 288 8 [pR a0, pI a1, pR a2, pI a3, pI a4, pI a5] [] m) := by
  refine r_ilw5 (p := 10) f288_8 rfl ?_
  refine r_iflt (t := 41) (p := 13) f288_10 (by decide) rfl rfl ?_ ?_
  · refine r_iconst (p := 42) f288_41 rfl (pinD rfl rfl) ?_
    exact r_iret1 f288_42
  · refine r_aln0 (p := 14) f288_13 rfl ?_
    refine r_ilw5 (p := 16) f288_14 rfl ?_
    refine r_aln2 (p := 17) f288_16 rfl ?_
    refine r_iln3 (p := 18) f288_17 rfl ?_
    refine r_ilw4 (p := 20) f288_18 rfl ?_
    refine le2_gd (fun h1 => ?_)
    refine r_invI (p := 23) f288_20 rfl rfl rfl (Or.inl h1) hd (Nat.le_of_ble_eq_true rfl) rfl rfl rfl (fun _ => rfl) (fun v1 m1 c1 => ?_)
    have hz1 := z_k c1 hz
    refine r_ifeq (t := 29) (p := 26) f288_23 (by decide) rfl rfl ?_ ?_
    · refine r_aln0 (p := 30) f288_29 rfl ?_
      have h2 := k_t1 c1 hz h1 (by decide)
      refine r_gfR (f := 5) (p := 33) f288_30 rfl rfl rfl (Or.inl h2) rfl ?_
      refine r_nmR (fun v2 ev2 => ?_)
      refine r_ilw5 (p := 35) f288_33 rfl ?_
      refine le2_gd (fun h3 => ?_)
      refine le2_gd (fun h4 => ?_)
      refine r_iaload (p := 36) f288_35 rfl (dj2 (fun x => x % 1000 = 101) h3 (by decide) (by decide)) h4 rfl ?_
      refine r_isw5 (p := 38) f288_36 rfl rfl ?_
      refine r_goto (p := 8) f288_38 (by decide) rfl ?_
      exact le2_refl _
    · refine r_ilw5 (p := 28) f288_26 rfl ?_
      exact r_iret1 f288_28
/-! 289 PathStoreModel$Tree.named (ILPathStoreModel$Tree;II)Z -/
def w289_2 : List UInt8 := [159, 0, 5, 3, 172, 132, 5, 1, 167, 255, 218, 4, 172]
abbrev u289_2 : List UInt8 := w289_2 ++ []
def w289_1 : List UInt8 := [180, 0, 43, 42, 180, 0, 31, 27, 46, 21, 5, 96, 52, 44, 180, 0, 43, 29, 21, 5, 96, 52]
abbrev u289_1 : List UInt8 := w289_1 ++ u289_2
def w289_0 : List UInt8 := [42, 180, 0, 34, 27, 46, 21, 4, 159, 0, 5, 3, 172, 3, 54, 5, 21, 5, 21, 4, 162, 0, 37, 42]
abbrev u289_0 : List UInt8 := w289_0 ++ u289_1
theorem s289_0 : (prog_34_method_9_code).data.toList.drop 0 = u289_0 := by decide +kernel
theorem s289_1 : (prog_34_method_9_code).data.toList.drop 24 = u289_1 := dk_seg s289_0 24 rfl rfl
theorem s289_2 : (prog_34_method_9_code).data.toList.drop 46 = u289_2 := dk_seg s289_1 22 rfl rfl
theorem Fm289 {pc len : Nat} {i : Instr} (h : decode (prog_34_method_9_code) pc = .ok (i, len)) (hl : len = ilen i len) : ft 289 pc = some (13, 4, 0, i, len) := ft_mk rfl h hl
theorem f289_0 : ft 289 0 = some (13, 4, 0, .aload_n 0, 1) := Fm289 (dk_42 (dk_at s289_0 0 rfl rfl)) rfl
theorem f289_1 : ft 289 1 = some (13, 4, 0, .getfield 34, 3) := Fm289 (dk_180 0 34 (dk_at s289_0 1 rfl rfl)) rfl
theorem f289_4 : ft 289 4 = some (13, 4, 0, .iload_n 1, 1) := Fm289 (dk_27 (dk_at s289_0 4 rfl rfl)) rfl
theorem f289_5 : ft 289 5 = some (13, 4, 0, .iaload, 1) := Fm289 (dk_46 (dk_at s289_0 5 rfl rfl)) rfl
theorem f289_6 : ft 289 6 = some (13, 4, 0, .iload 4, 2) := Fm289 (dk_21 4 (dk_at s289_0 6 rfl rfl)) rfl
theorem f289_8 : ft 289 8 = some (13, 4, 0, .if_icmp .eq 5, 3) := Fm289 (dk_159 0 5 (dk_at s289_0 8 rfl rfl)) rfl
theorem f289_11 : ft 289 11 = some (13, 4, 0, .iconst 0, 1) := Fm289 (dk_3 (dk_at s289_0 11 rfl rfl)) rfl
theorem f289_12 : ft 289 12 = some (13, 4, 0, .ireturn, 1) := Fm289 (dk_172 (dk_at s289_0 12 rfl rfl)) rfl
theorem f289_13 : ft 289 13 = some (13, 4, 0, .iconst 0, 1) := Fm289 (dk_3 (dk_at s289_0 13 rfl rfl)) rfl
theorem f289_14 : ft 289 14 = some (13, 4, 0, .istore 5, 2) := Fm289 (dk_54 5 (dk_at s289_0 14 rfl rfl)) rfl
theorem f289_16 : ft 289 16 = some (13, 4, 0, .iload 5, 2) := Fm289 (dk_21 5 (dk_at s289_0 16 rfl rfl)) rfl
theorem f289_18 : ft 289 18 = some (13, 4, 0, .iload 4, 2) := Fm289 (dk_21 4 (dk_at s289_0 18 rfl rfl)) rfl
theorem f289_20 : ft 289 20 = some (13, 4, 0, .if_icmp .ge 37, 3) := Fm289 (dk_162 0 37 (dk_at s289_0 20 rfl rfl)) rfl
theorem f289_23 : ft 289 23 = some (13, 4, 0, .aload_n 0, 1) := Fm289 (dk_42 (dk_at s289_0 23 rfl rfl)) rfl
theorem f289_24 : ft 289 24 = some (13, 4, 0, .getfield 43, 3) := Fm289 (dk_180 0 43 (dk_at s289_1 0 rfl rfl)) rfl
theorem f289_27 : ft 289 27 = some (13, 4, 0, .aload_n 0, 1) := Fm289 (dk_42 (dk_at s289_1 3 rfl rfl)) rfl
theorem f289_28 : ft 289 28 = some (13, 4, 0, .getfield 31, 3) := Fm289 (dk_180 0 31 (dk_at s289_1 4 rfl rfl)) rfl
theorem f289_31 : ft 289 31 = some (13, 4, 0, .iload_n 1, 1) := Fm289 (dk_27 (dk_at s289_1 7 rfl rfl)) rfl
theorem f289_32 : ft 289 32 = some (13, 4, 0, .iaload, 1) := Fm289 (dk_46 (dk_at s289_1 8 rfl rfl)) rfl
theorem f289_33 : ft 289 33 = some (13, 4, 0, .iload 5, 2) := Fm289 (dk_21 5 (dk_at s289_1 9 rfl rfl)) rfl
theorem f289_35 : ft 289 35 = some (13, 4, 0, .iadd, 1) := Fm289 (dk_96 (dk_at s289_1 11 rfl rfl)) rfl
theorem f289_36 : ft 289 36 = some (13, 4, 0, .caload, 1) := Fm289 (dk_52 (dk_at s289_1 12 rfl rfl)) rfl
theorem f289_37 : ft 289 37 = some (13, 4, 0, .aload_n 2, 1) := Fm289 (dk_44 (dk_at s289_1 13 rfl rfl)) rfl
theorem f289_38 : ft 289 38 = some (13, 4, 0, .getfield 43, 3) := Fm289 (dk_180 0 43 (dk_at s289_1 14 rfl rfl)) rfl
theorem f289_41 : ft 289 41 = some (13, 4, 0, .iload_n 3, 1) := Fm289 (dk_29 (dk_at s289_1 17 rfl rfl)) rfl
theorem f289_42 : ft 289 42 = some (13, 4, 0, .iload 5, 2) := Fm289 (dk_21 5 (dk_at s289_1 18 rfl rfl)) rfl
theorem f289_44 : ft 289 44 = some (13, 4, 0, .iadd, 1) := Fm289 (dk_96 (dk_at s289_1 20 rfl rfl)) rfl
theorem f289_45 : ft 289 45 = some (13, 4, 0, .caload, 1) := Fm289 (dk_52 (dk_at s289_1 21 rfl rfl)) rfl
theorem f289_46 : ft 289 46 = some (13, 4, 0, .if_icmp .eq 5, 3) := Fm289 (dk_159 0 5 (dk_at s289_2 0 rfl rfl)) rfl
theorem f289_49 : ft 289 49 = some (13, 4, 0, .iconst 0, 1) := Fm289 (dk_3 (dk_at s289_2 3 rfl rfl)) rfl
theorem f289_50 : ft 289 50 = some (13, 4, 0, .ireturn, 1) := Fm289 (dk_172 (dk_at s289_2 4 rfl rfl)) rfl
theorem f289_51 : ft 289 51 = some (13, 4, 0, .iinc 5 1, 3) := Fm289 (dk_132 5 1 (dk_at s289_2 5 rfl rfl)) rfl
theorem f289_54 : ft 289 54 = some (13, 4, 0, .goto (-38), 3) := Fm289 (dk_167 255 218 (dk_at s289_2 8 rfl rfl)) rfl
theorem f289_57 : ft 289 57 = some (13, 4, 0, .iconst 1, 1) := Fm289 (dk_4 (dk_at s289_2 11 rfl rfl)) rfl
theorem f289_58 : ft 289 58 = some (13, 4, 0, .ireturn, 1) := Fm289 (dk_172 (dk_at s289_2 12 rfl rfl)) rfl
theorem q289 {d : Nat} {m : Mem} {a0 a1 a2 a3 a4 : Int} (hz : TZ m) : le2 (gd (tg m a0 = 13) <| nm (vl m a0 7) fun v1 => gd (tg m v1 = 284101 ∨ tg m v1 = 287101) <| gd ((0 : Int) ≤ a1 ∧ a1 < ln m v1) <| if (vl m v1 a1) = a4 then (rn d 289 16 [pR a0, pI a1, pR a2, pI a3, pI a4, pI 0] [] m) else some (.inl (some (pI 0)), m)) (cl d 289 [pR a0, pI a1, pR a2, pI a3, pI a4] m) := by
  refine q_in (n := 6) (L := [pR a0, pI a1, pR a2, pI a3, pI a4, pU]) rfl rfl rfl ?_
  refine r_aln0 (p := 1) f289_0 rfl ?_
  refine le2_gd (fun h1 => ?_)
  refine r_gfR (f := 7) (p := 4) f289_1 rfl rfl rfl (Or.inl h1) rfl ?_
  refine r_nmR (fun v1 ev1 => ?_)
  refine r_iln1 (p := 5) f289_4 rfl ?_
  refine le2_gd (fun h2 => ?_)
  refine le2_gd (fun h3 => ?_)
  refine r_iaload (p := 6) f289_5 rfl (dj2 (fun x => x % 1000 = 101) h2 (by decide) (by decide)) h3 rfl ?_
  refine r_ilw4 (p := 8) f289_6 rfl ?_
  refine r_iceq (t := 13) (p := 11) f289_8 (by decide) rfl rfl ?_ ?_
  · refine r_iconst (p := 14) f289_13 rfl (pinD rfl rfl) ?_
    refine r_isw5 (p := 16) f289_14 rfl rfl ?_
    exact le2_refl _
  · refine r_iconst (p := 12) f289_11 rfl (pinD rfl rfl) ?_
    exact r_iret4 f289_12 (by decide)
theorem q289_16 {d : Nat} {m : Mem} {a0 a1 a2 a3 a4 a5 : Int} (hz : TZ m) : le2 (if a5 < a4 then (gd (tg m a0 = 13) <| nm (vl m a0 11) fun v1 => nm (vl m a0 6) fun v2 => gd (tg m v2 = 284101 ∨ tg m v2 = 287101) <| gd ((0 : Int) ≤ a1 ∧ a1 < ln m v2) <| nm (w32 ((vl m v2 a1) + a5)) fun v3 => gd (tg m v1 = 284104 ∨ tg m v1 = 288104) <| gd ((0 : Int) ≤ v3 ∧ v3 < ln m v1) <| gd (tg m a2 = 13) <| nm (vl m a2 11) fun v4 => nm (w32 (a3 + a5)) fun v5 => gd (tg m v4 = 284104 ∨ tg m v4 = 288104) <| gd ((0 : Int) ≤ v5 ∧ v5 < ln m v4) <| if (vl m v1 v3) = (vl m v4 v5) then (rn d 289 16 [pR a0, pI a1, pR a2, pI a3, pI a4, pI (w32 (a5 + 1))] [] m) else some (.inl (some (pI 0)), m)) else some (.inl (some (pI 1)), m)) (rn d 289 16 [pR a0, pI a1, pR a2, pI a3, pI a4, pI a5] [] m) := by
  refine r_ilw5 (p := 18) f289_16 rfl ?_
  refine r_ilw4 (p := 20) f289_18 rfl ?_
  refine r_icge (t := 57) (p := 23) f289_20 (by decide) rfl rfl ?_ ?_
  · refine r_aln0 (p := 24) f289_23 rfl ?_
    refine le2_gd (fun h1 => ?_)
    refine r_gfR (f := 11) (p := 27) f289_24 rfl rfl rfl (Or.inl h1) rfl ?_
    refine r_nmR (fun v1 ev1 => ?_)
    refine r_aln0 (p := 28) f289_27 rfl ?_
    refine r_gfR (f := 6) (p := 31) f289_28 rfl rfl rfl (Or.inl h1) rfl ?_
    refine r_nmR (fun v2 ev2 => ?_)
    refine r_iln1 (p := 32) f289_31 rfl ?_
    refine le2_gd (fun h2 => ?_)
    refine le2_gd (fun h3 => ?_)
    refine r_iaload (p := 33) f289_32 rfl (dj2 (fun x => x % 1000 = 101) h2 (by decide) (by decide)) h3 rfl ?_
    refine r_ilw5 (p := 35) f289_33 rfl ?_
    refine r_iadd (p := 36) f289_35 rfl ?_
    refine r_nmI (fun v3 ev3 => ?_)
    refine le2_gd (fun h4 => ?_)
    refine le2_gd (fun h5 => ?_)
    refine r_caload (p := 37) f289_36 rfl (dj2 (fun x => x % 1000 = 104) h4 (by decide) (by decide)) h5 rfl ?_
    refine r_aln2 (p := 38) f289_37 rfl ?_
    refine le2_gd (fun h6 => ?_)
    refine r_gfR (f := 11) (p := 41) f289_38 rfl rfl rfl (Or.inl h6) rfl ?_
    refine r_nmR (fun v4 ev4 => ?_)
    refine r_iln3 (p := 42) f289_41 rfl ?_
    refine r_ilw5 (p := 44) f289_42 rfl ?_
    refine r_iadd (p := 45) f289_44 rfl ?_
    refine r_nmI (fun v5 ev5 => ?_)
    refine le2_gd (fun h7 => ?_)
    refine le2_gd (fun h8 => ?_)
    refine r_caload (p := 46) f289_45 rfl (dj2 (fun x => x % 1000 = 104) h7 (by decide) (by decide)) h8 rfl ?_
    refine r_iceq (t := 51) (p := 49) f289_46 (by decide) rfl rfl ?_ ?_
    · refine r_iinc5 (p := 54) f289_51 rfl rfl ?_
      refine r_goto (p := 16) f289_54 (by decide) rfl ?_
      exact le2_refl _
    · refine r_iconst (p := 50) f289_49 rfl (pinD rfl rfl) ?_
      exact r_iret4 f289_50 (by decide)
  · refine r_iconst (p := 58) f289_57 rfl (pinD rfl rfl) ?_
    exact r_iret4 f289_58 (by decide)
/-! 290 PathStoreModel$Tree.insert (III)V -/
def w290_2 : List UInt8 := [180, 0, 28, 28, 29, 79, 177]
abbrev u290_2 : List UInt8 := w290_2 ++ []
def w290_1 : List UInt8 := [180, 0, 25, 27, 29, 79, 167, 0, 22, 42, 180, 0, 28, 29, 42, 180, 0, 28, 28, 46, 79, 42]
abbrev u290_1 : List UInt8 := w290_1 ++ u290_2
def w290_0 : List UInt8 := [42, 180, 0, 37, 29, 27, 79, 28, 156, 0, 25, 42, 180, 0, 28, 29, 42, 180, 0, 25, 27, 46, 79, 42]
abbrev u290_0 : List UInt8 := w290_0 ++ u290_1
theorem s290_0 : (prog_34_method_7_code).data.toList.drop 0 = u290_0 := by decide +kernel
theorem s290_1 : (prog_34_method_7_code).data.toList.drop 24 = u290_1 := dk_seg s290_0 24 rfl rfl
theorem s290_2 : (prog_34_method_7_code).data.toList.drop 46 = u290_2 := dk_seg s290_1 22 rfl rfl
theorem Fm290 {pc len : Nat} {i : Instr} (h : decode (prog_34_method_7_code) pc = .ok (i, len)) (hl : len = ilen i len) : ft 290 pc = some (13, 0, 0, i, len) := ft_mk rfl h hl
theorem f290_0 : ft 290 0 = some (13, 0, 0, .aload_n 0, 1) := Fm290 (dk_42 (dk_at s290_0 0 rfl rfl)) rfl
theorem f290_1 : ft 290 1 = some (13, 0, 0, .getfield 37, 3) := Fm290 (dk_180 0 37 (dk_at s290_0 1 rfl rfl)) rfl
theorem f290_4 : ft 290 4 = some (13, 0, 0, .iload_n 3, 1) := Fm290 (dk_29 (dk_at s290_0 4 rfl rfl)) rfl
theorem f290_5 : ft 290 5 = some (13, 0, 0, .iload_n 1, 1) := Fm290 (dk_27 (dk_at s290_0 5 rfl rfl)) rfl
theorem f290_6 : ft 290 6 = some (13, 0, 0, .iastore, 1) := Fm290 (dk_79 (dk_at s290_0 6 rfl rfl)) rfl
theorem f290_7 : ft 290 7 = some (13, 0, 0, .iload_n 2, 1) := Fm290 (dk_28 (dk_at s290_0 7 rfl rfl)) rfl
theorem f290_8 : ft 290 8 = some (13, 0, 0, .ifCond .ge 25, 3) := Fm290 (dk_156 0 25 (dk_at s290_0 8 rfl rfl)) rfl
theorem f290_11 : ft 290 11 = some (13, 0, 0, .aload_n 0, 1) := Fm290 (dk_42 (dk_at s290_0 11 rfl rfl)) rfl
theorem f290_12 : ft 290 12 = some (13, 0, 0, .getfield 28, 3) := Fm290 (dk_180 0 28 (dk_at s290_0 12 rfl rfl)) rfl
theorem f290_15 : ft 290 15 = some (13, 0, 0, .iload_n 3, 1) := Fm290 (dk_29 (dk_at s290_0 15 rfl rfl)) rfl
theorem f290_16 : ft 290 16 = some (13, 0, 0, .aload_n 0, 1) := Fm290 (dk_42 (dk_at s290_0 16 rfl rfl)) rfl
theorem f290_17 : ft 290 17 = some (13, 0, 0, .getfield 25, 3) := Fm290 (dk_180 0 25 (dk_at s290_0 17 rfl rfl)) rfl
theorem f290_20 : ft 290 20 = some (13, 0, 0, .iload_n 1, 1) := Fm290 (dk_27 (dk_at s290_0 20 rfl rfl)) rfl
theorem f290_21 : ft 290 21 = some (13, 0, 0, .iaload, 1) := Fm290 (dk_46 (dk_at s290_0 21 rfl rfl)) rfl
theorem f290_22 : ft 290 22 = some (13, 0, 0, .iastore, 1) := Fm290 (dk_79 (dk_at s290_0 22 rfl rfl)) rfl
theorem f290_23 : ft 290 23 = some (13, 0, 0, .aload_n 0, 1) := Fm290 (dk_42 (dk_at s290_0 23 rfl rfl)) rfl
theorem f290_24 : ft 290 24 = some (13, 0, 0, .getfield 25, 3) := Fm290 (dk_180 0 25 (dk_at s290_1 0 rfl rfl)) rfl
theorem f290_27 : ft 290 27 = some (13, 0, 0, .iload_n 1, 1) := Fm290 (dk_27 (dk_at s290_1 3 rfl rfl)) rfl
theorem f290_28 : ft 290 28 = some (13, 0, 0, .iload_n 3, 1) := Fm290 (dk_29 (dk_at s290_1 4 rfl rfl)) rfl
theorem f290_29 : ft 290 29 = some (13, 0, 0, .iastore, 1) := Fm290 (dk_79 (dk_at s290_1 5 rfl rfl)) rfl
theorem f290_30 : ft 290 30 = some (13, 0, 0, .goto 22, 3) := Fm290 (dk_167 0 22 (dk_at s290_1 6 rfl rfl)) rfl
theorem f290_33 : ft 290 33 = some (13, 0, 0, .aload_n 0, 1) := Fm290 (dk_42 (dk_at s290_1 9 rfl rfl)) rfl
theorem f290_34 : ft 290 34 = some (13, 0, 0, .getfield 28, 3) := Fm290 (dk_180 0 28 (dk_at s290_1 10 rfl rfl)) rfl
theorem f290_37 : ft 290 37 = some (13, 0, 0, .iload_n 3, 1) := Fm290 (dk_29 (dk_at s290_1 13 rfl rfl)) rfl
theorem f290_38 : ft 290 38 = some (13, 0, 0, .aload_n 0, 1) := Fm290 (dk_42 (dk_at s290_1 14 rfl rfl)) rfl
theorem f290_39 : ft 290 39 = some (13, 0, 0, .getfield 28, 3) := Fm290 (dk_180 0 28 (dk_at s290_1 15 rfl rfl)) rfl
theorem f290_42 : ft 290 42 = some (13, 0, 0, .iload_n 2, 1) := Fm290 (dk_28 (dk_at s290_1 18 rfl rfl)) rfl
theorem f290_43 : ft 290 43 = some (13, 0, 0, .iaload, 1) := Fm290 (dk_46 (dk_at s290_1 19 rfl rfl)) rfl
theorem f290_44 : ft 290 44 = some (13, 0, 0, .iastore, 1) := Fm290 (dk_79 (dk_at s290_1 20 rfl rfl)) rfl
theorem f290_45 : ft 290 45 = some (13, 0, 0, .aload_n 0, 1) := Fm290 (dk_42 (dk_at s290_1 21 rfl rfl)) rfl
theorem f290_46 : ft 290 46 = some (13, 0, 0, .getfield 28, 3) := Fm290 (dk_180 0 28 (dk_at s290_2 0 rfl rfl)) rfl
theorem f290_49 : ft 290 49 = some (13, 0, 0, .iload_n 2, 1) := Fm290 (dk_28 (dk_at s290_2 3 rfl rfl)) rfl
theorem f290_50 : ft 290 50 = some (13, 0, 0, .iload_n 3, 1) := Fm290 (dk_29 (dk_at s290_2 4 rfl rfl)) rfl
theorem f290_51 : ft 290 51 = some (13, 0, 0, .iastore, 1) := Fm290 (dk_79 (dk_at s290_2 5 rfl rfl)) rfl
theorem f290_52 : ft 290 52 = some (13, 0, 0, .return_, 1) := Fm290 (dk_177 (dk_at s290_2 6 rfl rfl)) rfl
theorem q290 {d : Nat} {m : Mem} {a0 a1 a2 a3 : Int} (hz : TZ m) : le2 (gd (tg m a0 = 13) <| nm (vl m a0 8) fun v1 => gd (tg m v1 = 284101 ∨ tg m v1 = 287101) <| gd ((0 : Int) ≤ a3 ∧ a3 < ln m v1) <| if a2 < 0 then (nm (vl m a0 5) fun v2 => nm (vl m a0 4) fun v3 => gd (tg m v3 = 284101 ∨ tg m v3 = 287101) <| gd ((0 : Int) ≤ a1 ∧ a1 < ln m v3) <| gd (tg m v2 = 284101 ∨ tg m v2 = 287101) <| gd ((0 : Int) ≤ a3 ∧ a3 < ln m v2) <| some (.inl none, (mst (mst (mst m v1 a3 a1) v2 a3 (vl (mst m v1 a3 a1) v3 a1)) v3 a1 a3))) else nm (vl m a0 5) fun v4 => gd (tg m v4 = 284101 ∨ tg m v4 = 287101) <| gd ((0 : Int) ≤ a2 ∧ a2 < ln m v4) <| gd ((0 : Int) ≤ a3 ∧ a3 < ln m v4) <| some (.inl none, (mst (mst (mst m v1 a3 a1) v4 a3 (vl (mst m v1 a3 a1) v4 a2)) v4 a2 a3))) (cl d 290 [pR a0, pI a1, pI a2, pI a3] m) := by
  refine q_in (n := 4) (L := [pR a0, pI a1, pI a2, pI a3]) rfl rfl rfl ?_
  refine r_aln0 (p := 1) f290_0 rfl ?_
  refine le2_gd (fun h1 => ?_)
  refine r_gfR (f := 8) (p := 4) f290_1 rfl rfl rfl (Or.inl h1) rfl ?_
  refine r_nmR (fun v1 ev1 => ?_)
  refine r_iln3 (p := 5) f290_4 rfl ?_
  refine r_iln1 (p := 6) f290_5 rfl ?_
  refine le2_gd (fun h2 => ?_)
  refine le2_gd (fun h3 => ?_)
  refine r_iastore (p := 7) f290_6 rfl (dj2 (fun x => 1000 ≤ x ∧ x % 1000 = 101 ∧ Nat.testBit (eM 290) (bix x 0) = true) h2 (by decide) (by decide)) h3 ?_
  refine r_iln2 (p := 8) f290_7 rfl ?_
  refine r_ifge (t := 33) (p := 11) f290_8 (by decide) rfl rfl ?_ ?_
  · refine r_aln0 (p := 12) f290_11 rfl ?_
    refine r_gfR (f := 5) (p := 15) f290_12 rfl rfl rfl (Or.inl h1) (sk_o (ne_oa (dj1 (fun x => x < 100) h1 (by decide)) (dj2 (fun x => ¬ x < 100) h2 (by decide) (by decide)))) ?_
    refine r_nmR (fun v2 ev2 => ?_)
    refine r_iln3 (p := 16) f290_15 rfl ?_
    refine r_aln0 (p := 17) f290_16 rfl ?_
    refine r_gfR (f := 4) (p := 20) f290_17 rfl rfl rfl (Or.inl h1) (sk_o (ne_oa (dj1 (fun x => x < 100) h1 (by decide)) (dj2 (fun x => ¬ x < 100) h2 (by decide) (by decide)))) ?_
    refine r_nmR (fun v3 ev3 => ?_)
    refine r_iln1 (p := 21) f290_20 rfl ?_
    refine le2_gd (fun h7 => ?_)
    refine le2_gd (fun h8 => ?_)
    refine r_iaload (p := 22) f290_21 rfl (dj2 (fun x => x % 1000 = 101) h7 (by decide) (by decide)) h8 rfl ?_
    refine le2_gd (fun h9 => ?_)
    refine le2_gd (fun h10 => ?_)
    refine r_iastore (p := 23) f290_22 rfl (dj2 (fun x => 1000 ≤ x ∧ x % 1000 = 101 ∧ Nat.testBit (eM 290) (bix x 0) = true) h9 (by decide) (by decide)) h10 ?_
    refine r_aln0 (p := 24) f290_23 rfl ?_
    refine r_gfR (f := 4) (p := 27) f290_24 rfl rfl rfl (Or.inl h1) (Eq.trans (sk_o (ne_oa (dj1 (fun x => x < 100) h1 (by decide)) (dj2 (fun x => ¬ x < 100) h9 (by decide) (by decide)))) (Eq.trans (sk_o (ne_oa (dj1 (fun x => x < 100) h1 (by decide)) (dj2 (fun x => ¬ x < 100) h2 (by decide) (by decide)))) ev3.symm)) ?_
    refine r_iln1 (p := 28) f290_27 rfl ?_
    refine r_iln3 (p := 29) f290_28 rfl ?_
    refine r_iastore (p := 30) f290_29 rfl (dj2 (fun x => 1000 ≤ x ∧ x % 1000 = 101 ∧ Nat.testBit (eM 290) (bix x 0) = true) h7 (by decide) (by decide)) h8 ?_
    refine r_goto (p := 52) f290_30 (by decide) rfl ?_
    exact r_ret f290_52
  · refine r_aln0 (p := 34) f290_33 rfl ?_
    refine r_gfR (f := 5) (p := 37) f290_34 rfl rfl rfl (Or.inl h1) (sk_o (ne_oa (dj1 (fun x => x < 100) h1 (by decide)) (dj2 (fun x => ¬ x < 100) h2 (by decide) (by decide)))) ?_
    refine r_nmR (fun v4 ev4 => ?_)
    refine r_iln3 (p := 38) f290_37 rfl ?_
    refine r_aln0 (p := 39) f290_38 rfl ?_
    refine r_gfR (f := 5) (p := 42) f290_39 rfl rfl rfl (Or.inl h1) (Eq.trans (sk_o (ne_oa (dj1 (fun x => x < 100) h1 (by decide)) (dj2 (fun x => ¬ x < 100) h2 (by decide) (by decide)))) ev4.symm) ?_
    refine r_iln2 (p := 43) f290_42 rfl ?_
    refine le2_gd (fun h4 => ?_)
    refine le2_gd (fun h5 => ?_)
    refine r_iaload (p := 44) f290_43 rfl (dj2 (fun x => x % 1000 = 101) h4 (by decide) (by decide)) h5 rfl ?_
    refine le2_gd (fun h6 => ?_)
    refine r_iastore (p := 45) f290_44 rfl (dj2 (fun x => 1000 ≤ x ∧ x % 1000 = 101 ∧ Nat.testBit (eM 290) (bix x 0) = true) h4 (by decide) (by decide)) h6 ?_
    refine r_aln0 (p := 46) f290_45 rfl ?_
    refine r_gfR (f := 5) (p := 49) f290_46 rfl rfl rfl (Or.inl h1) (Eq.trans (sk_o (ne_oa (dj1 (fun x => x < 100) h1 (by decide)) (dj2 (fun x => ¬ x < 100) h4 (by decide) (by decide)))) (Eq.trans (sk_o (ne_oa (dj1 (fun x => x < 100) h1 (by decide)) (dj2 (fun x => ¬ x < 100) h2 (by decide) (by decide)))) ev4.symm)) ?_
    refine r_iln2 (p := 50) f290_49 rfl ?_
    refine r_iln3 (p := 51) f290_50 rfl ?_
    refine r_iastore (p := 52) f290_51 rfl (dj2 (fun x => 1000 ≤ x ∧ x % 1000 = 101 ∧ Nat.testBit (eM 290) (bix x 0) = true) h4 (by decide) (by decide)) h5 ?_
    exact r_ret f290_52
/-! 291 PathStoreModel$Tree.size (I)I -/
def w291_1 : List UInt8 := [167, 255, 242, 28, 172]
abbrev u291_1 : List UInt8 := w291_1 ++ []
def w291_0 : List UInt8 := [3, 61, 42, 180, 0, 25, 27, 46, 62, 29, 155, 0, 16, 132, 2, 1, 42, 180, 0, 28, 29, 46, 62]
abbrev u291_0 : List UInt8 := w291_0 ++ u291_1
theorem s291_0 : (prog_34_method_6_code).data.toList.drop 0 = u291_0 := by decide +kernel
theorem s291_1 : (prog_34_method_6_code).data.toList.drop 23 = u291_1 := dk_seg s291_0 23 rfl rfl
theorem Fm291 {pc len : Nat} {i : Instr} (h : decode (prog_34_method_6_code) pc = .ok (i, len)) (hl : len = ilen i len) : ft 291 pc = some (13, 1, 0, i, len) := ft_mk rfl h hl
theorem f291_0 : ft 291 0 = some (13, 1, 0, .iconst 0, 1) := Fm291 (dk_3 (dk_at s291_0 0 rfl rfl)) rfl
theorem f291_1 : ft 291 1 = some (13, 1, 0, .istore_n 2, 1) := Fm291 (dk_61 (dk_at s291_0 1 rfl rfl)) rfl
theorem f291_2 : ft 291 2 = some (13, 1, 0, .aload_n 0, 1) := Fm291 (dk_42 (dk_at s291_0 2 rfl rfl)) rfl
theorem f291_3 : ft 291 3 = some (13, 1, 0, .getfield 25, 3) := Fm291 (dk_180 0 25 (dk_at s291_0 3 rfl rfl)) rfl
theorem f291_6 : ft 291 6 = some (13, 1, 0, .iload_n 1, 1) := Fm291 (dk_27 (dk_at s291_0 6 rfl rfl)) rfl
theorem f291_7 : ft 291 7 = some (13, 1, 0, .iaload, 1) := Fm291 (dk_46 (dk_at s291_0 7 rfl rfl)) rfl
theorem f291_8 : ft 291 8 = some (13, 1, 0, .istore_n 3, 1) := Fm291 (dk_62 (dk_at s291_0 8 rfl rfl)) rfl
theorem f291_9 : ft 291 9 = some (13, 1, 0, .iload_n 3, 1) := Fm291 (dk_29 (dk_at s291_0 9 rfl rfl)) rfl
theorem f291_10 : ft 291 10 = some (13, 1, 0, .ifCond .lt 16, 3) := Fm291 (dk_155 0 16 (dk_at s291_0 10 rfl rfl)) rfl
theorem f291_13 : ft 291 13 = some (13, 1, 0, .iinc 2 1, 3) := Fm291 (dk_132 2 1 (dk_at s291_0 13 rfl rfl)) rfl
theorem f291_16 : ft 291 16 = some (13, 1, 0, .aload_n 0, 1) := Fm291 (dk_42 (dk_at s291_0 16 rfl rfl)) rfl
theorem f291_17 : ft 291 17 = some (13, 1, 0, .getfield 28, 3) := Fm291 (dk_180 0 28 (dk_at s291_0 17 rfl rfl)) rfl
theorem f291_20 : ft 291 20 = some (13, 1, 0, .iload_n 3, 1) := Fm291 (dk_29 (dk_at s291_0 20 rfl rfl)) rfl
theorem f291_21 : ft 291 21 = some (13, 1, 0, .iaload, 1) := Fm291 (dk_46 (dk_at s291_0 21 rfl rfl)) rfl
theorem f291_22 : ft 291 22 = some (13, 1, 0, .istore_n 3, 1) := Fm291 (dk_62 (dk_at s291_0 22 rfl rfl)) rfl
theorem f291_23 : ft 291 23 = some (13, 1, 0, .goto (-14), 3) := Fm291 (dk_167 255 242 (dk_at s291_1 0 rfl rfl)) rfl
theorem f291_26 : ft 291 26 = some (13, 1, 0, .iload_n 2, 1) := Fm291 (dk_28 (dk_at s291_1 3 rfl rfl)) rfl
theorem f291_27 : ft 291 27 = some (13, 1, 0, .ireturn, 1) := Fm291 (dk_172 (dk_at s291_1 4 rfl rfl)) rfl
theorem q291 {d : Nat} {m : Mem} {a0 a1 : Int} (hz : TZ m) : le2 (gd (tg m a0 = 13) <| nm (vl m a0 4) fun v1 => gd (tg m v1 = 284101 ∨ tg m v1 = 287101) <| gd ((0 : Int) ≤ a1 ∧ a1 < ln m v1) <| rn d 291 9 [pR a0, pI a1, pI 0, pI (vl m v1 a1)] [] m) (cl d 291 [pR a0, pI a1] m) := by
  refine q_in (n := 4) (L := [pR a0, pI a1, pU, pU]) rfl rfl rfl ?_
  refine r_iconst (p := 1) f291_0 rfl (pinD rfl rfl) ?_
  refine r_isn2 (p := 2) f291_1 rfl rfl ?_
  refine r_aln0 (p := 3) f291_2 rfl ?_
  refine le2_gd (fun h1 => ?_)
  refine r_gfR (f := 4) (p := 6) f291_3 rfl rfl rfl (Or.inl h1) rfl ?_
  refine r_nmR (fun v1 ev1 => ?_)
  refine r_iln1 (p := 7) f291_6 rfl ?_
  refine le2_gd (fun h2 => ?_)
  refine le2_gd (fun h3 => ?_)
  refine r_iaload (p := 8) f291_7 rfl (dj2 (fun x => x % 1000 = 101) h2 (by decide) (by decide)) h3 rfl ?_
  refine r_isn3 (p := 9) f291_8 rfl rfl ?_
  exact le2_refl _
theorem q291_9 {d : Nat} {m : Mem} {a0 a1 a2 a3 : Int} (hz : TZ m) : le2 (if a3 < 0 then (some (.inl (some (pI a2)), m)) else gd (tg m a0 = 13) <| nm (vl m a0 5) fun v1 => gd (tg m v1 = 284101 ∨ tg m v1 = 287101) <| gd ((0 : Int) ≤ a3 ∧ a3 < ln m v1) <| rn d 291 9 [pR a0, pI a1, pI (w32 (a2 + 1)), pI (vl m v1 a3)] [] m) (rn d 291 9 [pR a0, pI a1, pI a2, pI a3] [] m) := by
  refine r_iln3 (p := 10) f291_9 rfl ?_
  refine r_iflt (t := 26) (p := 13) f291_10 (by decide) rfl rfl ?_ ?_
  · refine r_iln2 (p := 27) f291_26 rfl ?_
    exact r_iret1 f291_27
  · refine r_iinc2 (p := 16) f291_13 rfl rfl ?_
    refine r_aln0 (p := 17) f291_16 rfl ?_
    refine le2_gd (fun h1 => ?_)
    refine r_gfR (f := 5) (p := 20) f291_17 rfl rfl rfl (Or.inl h1) rfl ?_
    refine r_nmR (fun v1 ev1 => ?_)
    refine r_iln3 (p := 21) f291_20 rfl ?_
    refine le2_gd (fun h2 => ?_)
    refine le2_gd (fun h3 => ?_)
    refine r_iaload (p := 22) f291_21 rfl (dj2 (fun x => x % 1000 = 101) h2 (by decide) (by decide)) h3 rfl ?_
    refine r_isn3 (p := 23) f291_22 rfl rfl ?_
    refine r_goto (p := 9) f291_23 (by decide) rfl ?_
    exact le2_refl _
/-! 292 PathStoreModel$Tree.copy (LPathStoreModel$Tree;I)I -/
def w292_7 : List UInt8 := [180, 0, 28, 21, 7, 46, 54, 7, 167, 255, 180, 29, 172]
abbrev u292_7 : List UInt8 := w292_7 ++ []
def w292_6 : List UInt8 := [180, 0, 34, 21, 7, 46, 182, 0, 77, 42, 29, 21, 6, 21, 8, 182, 0, 81, 21, 8, 54, 6, 43]
abbrev u292_6 : List UInt8 := w292_6 ++ u292_7
def w292_5 : List UInt8 := [43, 180, 0, 9, 28, 46, 16, 6, 160, 0, 24, 42, 21, 8, 43, 43, 180, 0, 31, 21, 7, 46, 43]
abbrev u292_5 : List UInt8 := w292_5 ++ u292_6
def w292_4 : List UInt8 := [54, 7, 21, 7, 155, 0, 77, 42, 43, 21, 7, 182, 0, 73, 54, 8, 42, 180, 0, 31, 21, 8, 2, 79]
abbrev u292_4 : List UInt8 := w292_4 ++ u292_5
def w292_3 : List UInt8 := [21, 5, 21, 6, 96, 52, 182, 0, 69, 132, 6, 1, 167, 255, 232, 2, 54, 6, 43, 180, 0, 25, 28, 46]
abbrev u292_3 : List UInt8 := w292_3 ++ u292_4
def w292_2 : List UInt8 := [79, 42, 180, 0, 22, 29, 21, 4, 79, 3, 54, 6, 21, 6, 21, 4, 162, 0, 23, 42, 43, 180, 0, 43]
abbrev u292_2 : List UInt8 := w292_2 ++ u292_3
def w292_1 : List UInt8 := [180, 0, 22, 28, 46, 54, 4, 43, 180, 0, 19, 28, 46, 54, 5, 42, 180, 0, 19, 29, 42, 180, 0, 51]
abbrev u292_1 : List UInt8 := w292_1 ++ u292_2
def w292_0 : List UInt8 := [42, 43, 180, 0, 9, 28, 46, 182, 0, 66, 62, 42, 180, 0, 15, 29, 43, 180, 0, 15, 28, 47, 80, 43]
abbrev u292_0 : List UInt8 := w292_0 ++ u292_1
theorem s292_0 : (prog_34_method_13_code).data.toList.drop 0 = u292_0 := by decide +kernel
theorem s292_1 : (prog_34_method_13_code).data.toList.drop 24 = u292_1 := dk_seg s292_0 24 rfl rfl
theorem s292_2 : (prog_34_method_13_code).data.toList.drop 48 = u292_2 := dk_seg s292_1 24 rfl rfl
theorem s292_3 : (prog_34_method_13_code).data.toList.drop 72 = u292_3 := dk_seg s292_2 24 rfl rfl
theorem s292_4 : (prog_34_method_13_code).data.toList.drop 96 = u292_4 := dk_seg s292_3 24 rfl rfl
theorem s292_5 : (prog_34_method_13_code).data.toList.drop 120 = u292_5 := dk_seg s292_4 24 rfl rfl
theorem s292_6 : (prog_34_method_13_code).data.toList.drop 143 = u292_6 := dk_seg s292_5 23 rfl rfl
theorem s292_7 : (prog_34_method_13_code).data.toList.drop 166 = u292_7 := dk_seg s292_6 23 rfl rfl
theorem Fm292 {pc len : Nat} {i : Instr} (h : decode (prog_34_method_13_code) pc = .ok (i, len)) (hl : len = ilen i len) : ft 292 pc = some (13, 1, 0, i, len) := ft_mk rfl h hl
theorem f292_0 : ft 292 0 = some (13, 1, 0, .aload_n 0, 1) := Fm292 (dk_42 (dk_at s292_0 0 rfl rfl)) rfl
theorem f292_1 : ft 292 1 = some (13, 1, 0, .aload_n 1, 1) := Fm292 (dk_43 (dk_at s292_0 1 rfl rfl)) rfl
theorem f292_2 : ft 292 2 = some (13, 1, 0, .getfield 9, 3) := Fm292 (dk_180 0 9 (dk_at s292_0 2 rfl rfl)) rfl
theorem f292_5 : ft 292 5 = some (13, 1, 0, .iload_n 2, 1) := Fm292 (dk_28 (dk_at s292_0 5 rfl rfl)) rfl
theorem f292_6 : ft 292 6 = some (13, 1, 0, .iaload, 1) := Fm292 (dk_46 (dk_at s292_0 6 rfl rfl)) rfl
theorem f292_7 : ft 292 7 = some (13, 1, 0, .invokevirtual 66, 3) := Fm292 (dk_182 0 66 (dk_at s292_0 7 rfl rfl)) rfl
theorem f292_10 : ft 292 10 = some (13, 1, 0, .istore_n 3, 1) := Fm292 (dk_62 (dk_at s292_0 10 rfl rfl)) rfl
theorem f292_11 : ft 292 11 = some (13, 1, 0, .aload_n 0, 1) := Fm292 (dk_42 (dk_at s292_0 11 rfl rfl)) rfl
theorem f292_12 : ft 292 12 = some (13, 1, 0, .getfield 15, 3) := Fm292 (dk_180 0 15 (dk_at s292_0 12 rfl rfl)) rfl
theorem f292_15 : ft 292 15 = some (13, 1, 0, .iload_n 3, 1) := Fm292 (dk_29 (dk_at s292_0 15 rfl rfl)) rfl
theorem f292_16 : ft 292 16 = some (13, 1, 0, .aload_n 1, 1) := Fm292 (dk_43 (dk_at s292_0 16 rfl rfl)) rfl
theorem f292_17 : ft 292 17 = some (13, 1, 0, .getfield 15, 3) := Fm292 (dk_180 0 15 (dk_at s292_0 17 rfl rfl)) rfl
theorem f292_20 : ft 292 20 = some (13, 1, 0, .iload_n 2, 1) := Fm292 (dk_28 (dk_at s292_0 20 rfl rfl)) rfl
theorem f292_21 : ft 292 21 = some (13, 1, 0, .laload, 1) := Fm292 (dk_47 (dk_at s292_0 21 rfl rfl)) rfl
theorem f292_22 : ft 292 22 = some (13, 1, 0, .lastore, 1) := Fm292 (dk_80 (dk_at s292_0 22 rfl rfl)) rfl
theorem f292_23 : ft 292 23 = some (13, 1, 0, .aload_n 1, 1) := Fm292 (dk_43 (dk_at s292_0 23 rfl rfl)) rfl
theorem f292_24 : ft 292 24 = some (13, 1, 0, .getfield 22, 3) := Fm292 (dk_180 0 22 (dk_at s292_1 0 rfl rfl)) rfl
theorem f292_27 : ft 292 27 = some (13, 1, 0, .iload_n 2, 1) := Fm292 (dk_28 (dk_at s292_1 3 rfl rfl)) rfl
theorem f292_28 : ft 292 28 = some (13, 1, 0, .iaload, 1) := Fm292 (dk_46 (dk_at s292_1 4 rfl rfl)) rfl
theorem f292_29 : ft 292 29 = some (13, 1, 0, .istore 4, 2) := Fm292 (dk_54 4 (dk_at s292_1 5 rfl rfl)) rfl
theorem f292_31 : ft 292 31 = some (13, 1, 0, .aload_n 1, 1) := Fm292 (dk_43 (dk_at s292_1 7 rfl rfl)) rfl
theorem f292_32 : ft 292 32 = some (13, 1, 0, .getfield 19, 3) := Fm292 (dk_180 0 19 (dk_at s292_1 8 rfl rfl)) rfl
theorem f292_35 : ft 292 35 = some (13, 1, 0, .iload_n 2, 1) := Fm292 (dk_28 (dk_at s292_1 11 rfl rfl)) rfl
theorem f292_36 : ft 292 36 = some (13, 1, 0, .iaload, 1) := Fm292 (dk_46 (dk_at s292_1 12 rfl rfl)) rfl
theorem f292_37 : ft 292 37 = some (13, 1, 0, .istore 5, 2) := Fm292 (dk_54 5 (dk_at s292_1 13 rfl rfl)) rfl
theorem f292_39 : ft 292 39 = some (13, 1, 0, .aload_n 0, 1) := Fm292 (dk_42 (dk_at s292_1 15 rfl rfl)) rfl
theorem f292_40 : ft 292 40 = some (13, 1, 0, .getfield 19, 3) := Fm292 (dk_180 0 19 (dk_at s292_1 16 rfl rfl)) rfl
theorem f292_43 : ft 292 43 = some (13, 1, 0, .iload_n 3, 1) := Fm292 (dk_29 (dk_at s292_1 19 rfl rfl)) rfl
theorem f292_44 : ft 292 44 = some (13, 1, 0, .aload_n 0, 1) := Fm292 (dk_42 (dk_at s292_1 20 rfl rfl)) rfl
theorem f292_45 : ft 292 45 = some (13, 1, 0, .getfield 51, 3) := Fm292 (dk_180 0 51 (dk_at s292_1 21 rfl rfl)) rfl
theorem f292_48 : ft 292 48 = some (13, 1, 0, .iastore, 1) := Fm292 (dk_79 (dk_at s292_2 0 rfl rfl)) rfl
theorem f292_49 : ft 292 49 = some (13, 1, 0, .aload_n 0, 1) := Fm292 (dk_42 (dk_at s292_2 1 rfl rfl)) rfl
theorem f292_50 : ft 292 50 = some (13, 1, 0, .getfield 22, 3) := Fm292 (dk_180 0 22 (dk_at s292_2 2 rfl rfl)) rfl
theorem f292_53 : ft 292 53 = some (13, 1, 0, .iload_n 3, 1) := Fm292 (dk_29 (dk_at s292_2 5 rfl rfl)) rfl
theorem f292_54 : ft 292 54 = some (13, 1, 0, .iload 4, 2) := Fm292 (dk_21 4 (dk_at s292_2 6 rfl rfl)) rfl
theorem f292_56 : ft 292 56 = some (13, 1, 0, .iastore, 1) := Fm292 (dk_79 (dk_at s292_2 8 rfl rfl)) rfl
theorem f292_57 : ft 292 57 = some (13, 1, 0, .iconst 0, 1) := Fm292 (dk_3 (dk_at s292_2 9 rfl rfl)) rfl
theorem f292_58 : ft 292 58 = some (13, 1, 0, .istore 6, 2) := Fm292 (dk_54 6 (dk_at s292_2 10 rfl rfl)) rfl
theorem f292_60 : ft 292 60 = some (13, 1, 0, .iload 6, 2) := Fm292 (dk_21 6 (dk_at s292_2 12 rfl rfl)) rfl
theorem f292_62 : ft 292 62 = some (13, 1, 0, .iload 4, 2) := Fm292 (dk_21 4 (dk_at s292_2 14 rfl rfl)) rfl
theorem f292_64 : ft 292 64 = some (13, 1, 0, .if_icmp .ge 23, 3) := Fm292 (dk_162 0 23 (dk_at s292_2 16 rfl rfl)) rfl
theorem f292_67 : ft 292 67 = some (13, 1, 0, .aload_n 0, 1) := Fm292 (dk_42 (dk_at s292_2 19 rfl rfl)) rfl
theorem f292_68 : ft 292 68 = some (13, 1, 0, .aload_n 1, 1) := Fm292 (dk_43 (dk_at s292_2 20 rfl rfl)) rfl
theorem f292_69 : ft 292 69 = some (13, 1, 0, .getfield 43, 3) := Fm292 (dk_180 0 43 (dk_at s292_2 21 rfl rfl)) rfl
theorem f292_72 : ft 292 72 = some (13, 1, 0, .iload 5, 2) := Fm292 (dk_21 5 (dk_at s292_3 0 rfl rfl)) rfl
theorem f292_74 : ft 292 74 = some (13, 1, 0, .iload 6, 2) := Fm292 (dk_21 6 (dk_at s292_3 2 rfl rfl)) rfl
theorem f292_76 : ft 292 76 = some (13, 1, 0, .iadd, 1) := Fm292 (dk_96 (dk_at s292_3 4 rfl rfl)) rfl
theorem f292_77 : ft 292 77 = some (13, 1, 0, .caload, 1) := Fm292 (dk_52 (dk_at s292_3 5 rfl rfl)) rfl
theorem f292_78 : ft 292 78 = some (13, 1, 0, .invokevirtual 69, 3) := Fm292 (dk_182 0 69 (dk_at s292_3 6 rfl rfl)) rfl
theorem f292_81 : ft 292 81 = some (13, 1, 0, .iinc 6 1, 3) := Fm292 (dk_132 6 1 (dk_at s292_3 9 rfl rfl)) rfl
theorem f292_84 : ft 292 84 = some (13, 1, 0, .goto (-24), 3) := Fm292 (dk_167 255 232 (dk_at s292_3 12 rfl rfl)) rfl
theorem f292_87 : ft 292 87 = some (13, 1, 0, .iconst (-1), 1) := Fm292 (dk_2 (dk_at s292_3 15 rfl rfl)) rfl
theorem f292_88 : ft 292 88 = some (13, 1, 0, .istore 6, 2) := Fm292 (dk_54 6 (dk_at s292_3 16 rfl rfl)) rfl
theorem f292_90 : ft 292 90 = some (13, 1, 0, .aload_n 1, 1) := Fm292 (dk_43 (dk_at s292_3 18 rfl rfl)) rfl
theorem f292_91 : ft 292 91 = some (13, 1, 0, .getfield 25, 3) := Fm292 (dk_180 0 25 (dk_at s292_3 19 rfl rfl)) rfl
theorem f292_94 : ft 292 94 = some (13, 1, 0, .iload_n 2, 1) := Fm292 (dk_28 (dk_at s292_3 22 rfl rfl)) rfl
theorem f292_95 : ft 292 95 = some (13, 1, 0, .iaload, 1) := Fm292 (dk_46 (dk_at s292_3 23 rfl rfl)) rfl
theorem f292_96 : ft 292 96 = some (13, 1, 0, .istore 7, 2) := Fm292 (dk_54 7 (dk_at s292_4 0 rfl rfl)) rfl
theorem f292_98 : ft 292 98 = some (13, 1, 0, .iload 7, 2) := Fm292 (dk_21 7 (dk_at s292_4 2 rfl rfl)) rfl
theorem f292_100 : ft 292 100 = some (13, 1, 0, .ifCond .lt 77, 3) := Fm292 (dk_155 0 77 (dk_at s292_4 4 rfl rfl)) rfl
theorem f292_103 : ft 292 103 = some (13, 1, 0, .aload_n 0, 1) := Fm292 (dk_42 (dk_at s292_4 7 rfl rfl)) rfl
theorem f292_104 : ft 292 104 = some (13, 1, 0, .aload_n 1, 1) := Fm292 (dk_43 (dk_at s292_4 8 rfl rfl)) rfl
theorem f292_105 : ft 292 105 = some (13, 1, 0, .iload 7, 2) := Fm292 (dk_21 7 (dk_at s292_4 9 rfl rfl)) rfl
theorem f292_107 : ft 292 107 = some (13, 1, 0, .invokevirtual 73, 3) := Fm292 (dk_182 0 73 (dk_at s292_4 11 rfl rfl)) rfl
theorem f292_110 : ft 292 110 = some (13, 1, 0, .istore 8, 2) := Fm292 (dk_54 8 (dk_at s292_4 14 rfl rfl)) rfl
theorem f292_112 : ft 292 112 = some (13, 1, 0, .aload_n 0, 1) := Fm292 (dk_42 (dk_at s292_4 16 rfl rfl)) rfl
theorem f292_113 : ft 292 113 = some (13, 1, 0, .getfield 31, 3) := Fm292 (dk_180 0 31 (dk_at s292_4 17 rfl rfl)) rfl
theorem f292_116 : ft 292 116 = some (13, 1, 0, .iload 8, 2) := Fm292 (dk_21 8 (dk_at s292_4 20 rfl rfl)) rfl
theorem f292_118 : ft 292 118 = some (13, 1, 0, .iconst (-1), 1) := Fm292 (dk_2 (dk_at s292_4 22 rfl rfl)) rfl
theorem f292_119 : ft 292 119 = some (13, 1, 0, .iastore, 1) := Fm292 (dk_79 (dk_at s292_4 23 rfl rfl)) rfl
theorem f292_120 : ft 292 120 = some (13, 1, 0, .aload_n 1, 1) := Fm292 (dk_43 (dk_at s292_5 0 rfl rfl)) rfl
theorem f292_121 : ft 292 121 = some (13, 1, 0, .getfield 9, 3) := Fm292 (dk_180 0 9 (dk_at s292_5 1 rfl rfl)) rfl
theorem f292_124 : ft 292 124 = some (13, 1, 0, .iload_n 2, 1) := Fm292 (dk_28 (dk_at s292_5 4 rfl rfl)) rfl
theorem f292_125 : ft 292 125 = some (13, 1, 0, .iaload, 1) := Fm292 (dk_46 (dk_at s292_5 5 rfl rfl)) rfl
theorem f292_126 : ft 292 126 = some (13, 1, 0, .bipush 6, 2) := Fm292 (dk_16 6 (dk_at s292_5 6 rfl rfl)) rfl
theorem f292_128 : ft 292 128 = some (13, 1, 0, .if_icmp .ne 24, 3) := Fm292 (dk_160 0 24 (dk_at s292_5 8 rfl rfl)) rfl
theorem f292_131 : ft 292 131 = some (13, 1, 0, .aload_n 0, 1) := Fm292 (dk_42 (dk_at s292_5 11 rfl rfl)) rfl
theorem f292_132 : ft 292 132 = some (13, 1, 0, .iload 8, 2) := Fm292 (dk_21 8 (dk_at s292_5 12 rfl rfl)) rfl
theorem f292_134 : ft 292 134 = some (13, 1, 0, .aload_n 1, 1) := Fm292 (dk_43 (dk_at s292_5 14 rfl rfl)) rfl
theorem f292_135 : ft 292 135 = some (13, 1, 0, .aload_n 1, 1) := Fm292 (dk_43 (dk_at s292_5 15 rfl rfl)) rfl
theorem f292_136 : ft 292 136 = some (13, 1, 0, .getfield 31, 3) := Fm292 (dk_180 0 31 (dk_at s292_5 16 rfl rfl)) rfl
theorem f292_139 : ft 292 139 = some (13, 1, 0, .iload 7, 2) := Fm292 (dk_21 7 (dk_at s292_5 19 rfl rfl)) rfl
theorem f292_141 : ft 292 141 = some (13, 1, 0, .iaload, 1) := Fm292 (dk_46 (dk_at s292_5 21 rfl rfl)) rfl
theorem f292_142 : ft 292 142 = some (13, 1, 0, .aload_n 1, 1) := Fm292 (dk_43 (dk_at s292_5 22 rfl rfl)) rfl
theorem f292_143 : ft 292 143 = some (13, 1, 0, .getfield 34, 3) := Fm292 (dk_180 0 34 (dk_at s292_6 0 rfl rfl)) rfl
theorem f292_146 : ft 292 146 = some (13, 1, 0, .iload 7, 2) := Fm292 (dk_21 7 (dk_at s292_6 3 rfl rfl)) rfl
theorem f292_148 : ft 292 148 = some (13, 1, 0, .iaload, 1) := Fm292 (dk_46 (dk_at s292_6 5 rfl rfl)) rfl
theorem f292_149 : ft 292 149 = some (13, 1, 0, .invokevirtual 77, 3) := Fm292 (dk_182 0 77 (dk_at s292_6 6 rfl rfl)) rfl
theorem f292_152 : ft 292 152 = some (13, 1, 0, .aload_n 0, 1) := Fm292 (dk_42 (dk_at s292_6 9 rfl rfl)) rfl
theorem f292_153 : ft 292 153 = some (13, 1, 0, .iload_n 3, 1) := Fm292 (dk_29 (dk_at s292_6 10 rfl rfl)) rfl
theorem f292_154 : ft 292 154 = some (13, 1, 0, .iload 6, 2) := Fm292 (dk_21 6 (dk_at s292_6 11 rfl rfl)) rfl
theorem f292_156 : ft 292 156 = some (13, 1, 0, .iload 8, 2) := Fm292 (dk_21 8 (dk_at s292_6 13 rfl rfl)) rfl
theorem f292_158 : ft 292 158 = some (13, 1, 0, .invokevirtual 81, 3) := Fm292 (dk_182 0 81 (dk_at s292_6 15 rfl rfl)) rfl
theorem f292_161 : ft 292 161 = some (13, 1, 0, .iload 8, 2) := Fm292 (dk_21 8 (dk_at s292_6 18 rfl rfl)) rfl
theorem f292_163 : ft 292 163 = some (13, 1, 0, .istore 6, 2) := Fm292 (dk_54 6 (dk_at s292_6 20 rfl rfl)) rfl
theorem f292_165 : ft 292 165 = some (13, 1, 0, .aload_n 1, 1) := Fm292 (dk_43 (dk_at s292_6 22 rfl rfl)) rfl
theorem f292_166 : ft 292 166 = some (13, 1, 0, .getfield 28, 3) := Fm292 (dk_180 0 28 (dk_at s292_7 0 rfl rfl)) rfl
theorem f292_169 : ft 292 169 = some (13, 1, 0, .iload 7, 2) := Fm292 (dk_21 7 (dk_at s292_7 3 rfl rfl)) rfl
theorem f292_171 : ft 292 171 = some (13, 1, 0, .iaload, 1) := Fm292 (dk_46 (dk_at s292_7 5 rfl rfl)) rfl
theorem f292_172 : ft 292 172 = some (13, 1, 0, .istore 7, 2) := Fm292 (dk_54 7 (dk_at s292_7 6 rfl rfl)) rfl
theorem f292_174 : ft 292 174 = some (13, 1, 0, .goto (-76), 3) := Fm292 (dk_167 255 180 (dk_at s292_7 8 rfl rfl)) rfl
theorem f292_177 : ft 292 177 = some (13, 1, 0, .iload_n 3, 1) := Fm292 (dk_29 (dk_at s292_7 11 rfl rfl)) rfl
theorem f292_178 : ft 292 178 = some (13, 1, 0, .ireturn, 1) := Fm292 (dk_172 (dk_at s292_7 12 rfl rfl)) rfl
theorem q292 {d : Nat} {m : Mem} {a0 a1 a2 : Int} (hd : 0 < d) (hz : TZ m) : le2 (gd (tg m a1 = 13) <| nm (vl m a1 0) fun v2 => gd (tg m v2 = 284101 ∨ tg m v2 = 287101) <| gd ((0 : Int) ≤ a2 ∧ a2 < ln m v2) <| gd (tg m a0 = 13) <| bI (cl (d - 1) 285 [pR a0, pI (vl m v2 a2)] m) fun v1 m1 => nm (vl m1 a0 1) fun v3 => nm (vl m1 a1 1) fun v4 => gd (tg m1 v4 = 284102 ∨ tg m1 v4 = 286102) <| gd ((0 : Int) ≤ a2 ∧ a2 < ln m1 v4) <| gd (tg m1 v3 = 284102 ∨ tg m1 v3 = 286102) <| gd ((0 : Int) ≤ v1 ∧ v1 < ln m1 v3) <| nm (vl m1 a1 3) fun v5 => gd (tg m1 v5 = 284101 ∨ tg m1 v5 = 287101) <| gd ((0 : Int) ≤ a2 ∧ a2 < ln m1 v5) <| nm (vl m1 v5 a2) fun v6 => nm (vl m1 a1 2) fun v7 => gd (tg m1 v7 = 284101 ∨ tg m1 v7 = 287101) <| gd ((0 : Int) ≤ a2 ∧ a2 < ln m1 v7) <| nm (vl m1 a0 2) fun v8 => gd (tg m1 v8 = 284101 ∨ tg m1 v8 = 287101) <| gd ((0 : Int) ≤ v1 ∧ v1 < ln m1 v8) <| nm (vl m1 a0 3) fun v9 => gd (tg m1 v9 = 284101 ∨ tg m1 v9 = 287101) <| gd ((0 : Int) ≤ v1 ∧ v1 < ln m1 v9) <| rn d 292 60 [pR a0, pR a1, pI a2, pI v1, pI v6, pI (vl m1 v7 a2), pI 0, pU, pU] [] (mst (mst (mst m1 v3 v1 (vl m1 v4 a2)) v8 v1 (vl m1 a0 12)) v9 v1 v6)) (cl d 292 [pR a0, pR a1, pI a2] m) := by
  refine q_in (n := 9) (L := [pR a0, pR a1, pI a2, pU, pU, pU, pU, pU, pU]) rfl rfl rfl ?_
  refine r_aln0 (p := 1) f292_0 rfl ?_
  refine r_aln1 (p := 2) f292_1 rfl ?_
  refine le2_gd (fun h1 => ?_)
  refine r_gfR (f := 0) (p := 5) f292_2 rfl rfl rfl (Or.inl h1) rfl ?_
  refine r_nmR (fun v2 ev2 => ?_)
  refine r_iln2 (p := 6) f292_5 rfl ?_
  refine le2_gd (fun h2 => ?_)
  refine le2_gd (fun h3 => ?_)
  refine r_iaload (p := 7) f292_6 rfl (dj2 (fun x => x % 1000 = 101) h2 (by decide) (by decide)) h3 rfl ?_
  refine le2_gd (fun h4 => ?_)
  refine r_invI (p := 10) f292_7 rfl rfl rfl (Or.inl h4) hd (Nat.le_of_ble_eq_true rfl) rfl rfl rfl (fun _ => rfl) (fun v1 m1 c1 => ?_)
  have hz1 := z_k c1 hz
  refine r_isn3 (p := 11) f292_10 rfl rfl ?_
  refine r_aln0 (p := 12) f292_11 rfl ?_
  have h5 := k_t1 c1 hz h4 (by decide)
  refine r_gfR (f := 1) (p := 15) f292_12 rfl rfl rfl (Or.inl h5) rfl ?_
  refine r_nmR (fun v3 ev3 => ?_)
  refine r_iln3 (p := 16) f292_15 rfl ?_
  refine r_aln1 (p := 17) f292_16 rfl ?_
  have h6 := k_t1 c1 hz h1 (by decide)
  refine r_gfR (f := 1) (p := 20) f292_17 rfl rfl rfl (Or.inl h6) rfl ?_
  refine r_nmR (fun v4 ev4 => ?_)
  refine r_iln2 (p := 21) f292_20 rfl ?_
  refine le2_gd (fun h7 => ?_)
  refine le2_gd (fun h8 => ?_)
  refine r_laload (p := 22) f292_21 rfl (dj2 (fun x => x % 1000 = 102) h7 (by decide) (by decide)) h8 rfl ?_
  refine le2_gd (fun h9 => ?_)
  refine le2_gd (fun h10 => ?_)
  refine r_lastore (p := 23) f292_22 rfl (dj2 (fun x => 1000 ≤ x ∧ x % 1000 = 102 ∧ Nat.testBit (eM 292) (bix x 0) = true) h9 (by decide) (by decide)) h10 ?_
  refine r_aln1 (p := 24) f292_23 rfl ?_
  refine r_gfR (f := 3) (p := 27) f292_24 rfl rfl rfl (Or.inl h6) (sk_o (ne_oa (dj1 (fun x => x < 100) h6 (by decide)) (dj2 (fun x => ¬ x < 100) h9 (by decide) (by decide)))) ?_
  refine r_nmR (fun v5 ev5 => ?_)
  refine r_iln2 (p := 28) f292_27 rfl ?_
  refine le2_gd (fun h11 => ?_)
  refine le2_gd (fun h12 => ?_)
  refine r_iaload (p := 29) f292_28 rfl (dj2 (fun x => x % 1000 = 101) h11 (by decide) (by decide)) h12 (sk_o (neP (fun x => x = 284101 ∨ x = 287101) h11 (dj2 (fun x => ¬ (x = 284101 ∨ x = 287101)) h9 (by decide) (by decide)))) ?_
  refine r_nmI (fun v6 ev6 => ?_)
  refine r_isw4 (p := 31) f292_29 rfl rfl ?_
  refine r_aln1 (p := 32) f292_31 rfl ?_
  refine r_gfR (f := 2) (p := 35) f292_32 rfl rfl rfl (Or.inl h6) (sk_o (ne_oa (dj1 (fun x => x < 100) h6 (by decide)) (dj2 (fun x => ¬ x < 100) h9 (by decide) (by decide)))) ?_
  refine r_nmR (fun v7 ev7 => ?_)
  refine r_iln2 (p := 36) f292_35 rfl ?_
  refine le2_gd (fun h13 => ?_)
  refine le2_gd (fun h14 => ?_)
  refine r_iaload (p := 37) f292_36 rfl (dj2 (fun x => x % 1000 = 101) h13 (by decide) (by decide)) h14 (sk_o (neP (fun x => x = 284101 ∨ x = 287101) h13 (dj2 (fun x => ¬ (x = 284101 ∨ x = 287101)) h9 (by decide) (by decide)))) ?_
  refine r_isw5 (p := 39) f292_37 rfl rfl ?_
  refine r_aln0 (p := 40) f292_39 rfl ?_
  refine r_gfR (f := 2) (p := 43) f292_40 rfl rfl rfl (Or.inl h5) (sk_o (ne_oa (dj1 (fun x => x < 100) h5 (by decide)) (dj2 (fun x => ¬ x < 100) h9 (by decide) (by decide)))) ?_
  refine r_nmR (fun v8 ev8 => ?_)
  refine r_iln3 (p := 44) f292_43 rfl ?_
  refine r_aln0 (p := 45) f292_44 rfl ?_
  refine r_gfI (f := 12) (p := 48) f292_45 rfl rfl rfl (Or.inl h5) (sk_o (ne_oa (dj1 (fun x => x < 100) h5 (by decide)) (dj2 (fun x => ¬ x < 100) h9 (by decide) (by decide)))) ?_
  refine le2_gd (fun h15 => ?_)
  refine le2_gd (fun h16 => ?_)
  refine r_iastore (p := 49) f292_48 rfl (dj2 (fun x => 1000 ≤ x ∧ x % 1000 = 101 ∧ Nat.testBit (eM 292) (bix x 0) = true) h15 (by decide) (by decide)) h16 ?_
  refine r_aln0 (p := 50) f292_49 rfl ?_
  refine r_gfR (f := 3) (p := 53) f292_50 rfl rfl rfl (Or.inl h5) (Eq.trans (sk_o (ne_oa (dj1 (fun x => x < 100) h5 (by decide)) (dj2 (fun x => ¬ x < 100) h15 (by decide) (by decide)))) (sk_o (ne_oa (dj1 (fun x => x < 100) h5 (by decide)) (dj2 (fun x => ¬ x < 100) h9 (by decide) (by decide))))) ?_
  refine r_nmR (fun v9 ev9 => ?_)
  refine r_iln3 (p := 54) f292_53 rfl ?_
  refine r_ilw4 (p := 56) f292_54 rfl ?_
  refine le2_gd (fun h17 => ?_)
  refine le2_gd (fun h18 => ?_)
  refine r_iastore (p := 57) f292_56 rfl (dj2 (fun x => 1000 ≤ x ∧ x % 1000 = 101 ∧ Nat.testBit (eM 292) (bix x 0) = true) h17 (by decide) (by decide)) h18 ?_
  refine r_iconst (p := 58) f292_57 rfl (pinD rfl rfl) ?_
  refine r_isw6 (p := 60) f292_58 rfl rfl ?_
  exact le2_refl _
theorem q292_60 {d : Nat} {m : Mem} {a0 a1 a2 a3 a4 a5 a6 : Int} (hd : 0 < d) (hz : TZ m) : le2 (if a6 < a4 then (gd (tg m a1 = 13) <| nm (vl m a1 11) fun v2 => nm (w32 (a5 + a6)) fun v3 => gd (tg m v2 = 284104 ∨ tg m v2 = 288104) <| gd ((0 : Int) ≤ v3 ∧ v3 < ln m v2) <| gd (tg m a0 = 13) <| bV (cl (d - 1) 287 [pR a0, pI (vl m v2 v3)] m) fun m1 => rn d 292 60 [pR a0, pR a1, pI a2, pI a3, pI a4, pI a5, pI (w32 (a6 + 1)), pU, pU] [] m1) else gd (tg m a1 = 13) <| nm (vl m a1 4) fun v4 => gd (tg m v4 = 284101 ∨ tg m v4 = 287101) <| gd ((0 : Int) ≤ a2 ∧ a2 < ln m v4) <| rn d 292 98 [pR a0, pR a1, pI a2, pI a3, pI a4, pI a5, pI (-1), pI (vl m v4 a2), pU] [] m) (rn d 292 60 [pR a0, pR a1, pI a2, pI a3, pI a4, pI a5, pI a6, pU, pU] [] m) := by
  refine r_ilw6 (p := 62) f292_60 rfl ?_
  refine r_ilw4 (p := 64) f292_62 rfl ?_
  refine r_icge (t := 87) (p := 67) f292_64 (by decide) rfl rfl ?_ ?_
  · refine r_aln0 (p := 68) f292_67 rfl ?_
    refine r_aln1 (p := 69) f292_68 rfl ?_
    refine le2_gd (fun h4 => ?_)
    refine r_gfR (f := 11) (p := 72) f292_69 rfl rfl rfl (Or.inl h4) rfl ?_
    refine r_nmR (fun v2 ev2 => ?_)
    refine r_ilw5 (p := 74) f292_72 rfl ?_
    refine r_ilw6 (p := 76) f292_74 rfl ?_
    refine r_iadd (p := 77) f292_76 rfl ?_
    refine r_nmI (fun v3 ev3 => ?_)
    refine le2_gd (fun h5 => ?_)
    refine le2_gd (fun h6 => ?_)
    refine r_caload (p := 78) f292_77 rfl (dj2 (fun x => x % 1000 = 104) h5 (by decide) (by decide)) h6 rfl ?_
    refine le2_gd (fun h7 => ?_)
    refine r_invV (p := 81) f292_78 rfl rfl rfl (Or.inl h7) hd (Nat.le_of_ble_eq_true rfl) rfl rfl rfl (fun _ => rfl) (fun m1 c1 => ?_)
    have hz1 := z_k c1 hz
    refine r_iinc6 (p := 84) f292_81 rfl rfl ?_
    refine r_goto (p := 60) f292_84 (by decide) rfl ?_
    exact le2_refl _
  · refine r_iconst (p := 88) f292_87 rfl (pinD rfl rfl) ?_
    refine r_isw6 (p := 90) f292_88 rfl rfl ?_
    refine r_aln1 (p := 91) f292_90 rfl ?_
    refine le2_gd (fun h1 => ?_)
    refine r_gfR (f := 4) (p := 94) f292_91 rfl rfl rfl (Or.inl h1) rfl ?_
    refine r_nmR (fun v4 ev4 => ?_)
    refine r_iln2 (p := 95) f292_94 rfl ?_
    refine le2_gd (fun h2 => ?_)
    refine le2_gd (fun h3 => ?_)
    refine r_iaload (p := 96) f292_95 rfl (dj2 (fun x => x % 1000 = 101) h2 (by decide) (by decide)) h3 rfl ?_
    refine r_isw7 (p := 98) f292_96 rfl rfl ?_
    exact le2_refl _
theorem q292_98 {d : Nat} {m : Mem} {a0 a1 a2 a3 a4 a5 a6 a7 : Int} {z8 : PV} (hd : 0 < d) (hz : TZ m) (hcz8 : cat z8 = 1) : le2 (if a7 < 0 then (some (.inl (some (pI a3)), m)) else gd (tg m a0 = 13) <| bI (cl (d - 1) 292 [pR a0, pR a1, pI a7] m) fun v1 m1 => nm (vl m1 a0 6) fun v3 => gd (tg m1 v3 = 284101 ∨ tg m1 v3 = 287101) <| gd ((0 : Int) ≤ v1 ∧ v1 < ln m1 v3) <| gd (tg m1 a1 = 13) <| nm (vl m1 a1 0) fun v4 => gd (tg m1 v4 = 284101 ∨ tg m1 v4 = 287101) <| gd ((0 : Int) ≤ a2 ∧ a2 < ln m1 v4) <| if (vl (mst m1 v3 v1 (-1)) v4 a2) = 6 then (nm (vl m1 a1 6) fun v5 => gd (tg m1 v5 = 284101 ∨ tg m1 v5 = 287101) <| gd ((0 : Int) ≤ a7 ∧ a7 < ln m1 v5) <| nm (vl m1 a1 7) fun v6 => gd (tg m1 v6 = 284101 ∨ tg m1 v6 = 287101) <| gd ((0 : Int) ≤ a7 ∧ a7 < ln m1 v6) <| bV (cl (d - 1) 293 [pR a0, pI v1, pR a1, pI (vl (mst m1 v3 v1 (-1)) v5 a7), pI (vl (mst m1 v3 v1 (-1)) v6 a7)] (mst m1 v3 v1 (-1))) fun m2 => rn d 292 152 [pR a0, pR a1, pI a2, pI a3, pI a4, pI a5, pI a6, pI a7, pI v1] [] m2) else rn d 292 152 [pR a0, pR a1, pI a2, pI a3, pI a4, pI a5, pI a6, pI a7, pI v1] [] (mst m1 v3 v1 (-1))) (rn d 292 98 [pR a0, pR a1, pI a2, pI a3, pI a4, pI a5, pI a6, pI a7, z8] [] m) := by
  refine r_ilw7 (p := 100) f292_98 rfl ?_
  refine r_iflt (t := 177) (p := 103) f292_100 (by decide) rfl rfl ?_ ?_
  · refine r_iln3 (p := 178) f292_177 rfl ?_
    exact r_iret1 f292_178
  · refine r_aln0 (p := 104) f292_103 rfl ?_
    refine r_aln1 (p := 105) f292_104 rfl ?_
    refine r_ilw7 (p := 107) f292_105 rfl ?_
    refine le2_gd (fun h1 => ?_)
    refine r_invI (p := 110) f292_107 rfl rfl rfl (Or.inl h1) hd (Nat.le_of_ble_eq_true rfl) rfl rfl rfl (fun _ => rfl) (fun v1 m1 c1 => ?_)
    have hz1 := z_k c1 hz
    refine r_isw8 (p := 112) f292_110 rfl rfl ?_
    refine r_aln0 (p := 113) f292_112 rfl ?_
    have h2 := k_t1 c1 hz h1 (by decide)
    refine r_gfR (f := 6) (p := 116) f292_113 rfl rfl rfl (Or.inl h2) rfl ?_
    refine r_nmR (fun v3 ev3 => ?_)
    refine r_ilw8 (p := 118) f292_116 rfl ?_
    refine r_iconst (p := 119) f292_118 rfl (pinD rfl rfl) ?_
    refine le2_gd (fun h3 => ?_)
    refine le2_gd (fun h4 => ?_)
    refine r_iastore (p := 120) f292_119 rfl (dj2 (fun x => 1000 ≤ x ∧ x % 1000 = 101 ∧ Nat.testBit (eM 292) (bix x 0) = true) h3 (by decide) (by decide)) h4 ?_
    refine r_aln1 (p := 121) f292_120 rfl ?_
    refine le2_gd (fun h5 => ?_)
    refine r_gfR (f := 0) (p := 124) f292_121 rfl rfl rfl (Or.inl h5) (sk_o (ne_oa (dj1 (fun x => x < 100) h5 (by decide)) (dj2 (fun x => ¬ x < 100) h3 (by decide) (by decide)))) ?_
    refine r_nmR (fun v4 ev4 => ?_)
    refine r_iln2 (p := 125) f292_124 rfl ?_
    refine le2_gd (fun h6 => ?_)
    refine le2_gd (fun h7 => ?_)
    refine r_iaload (p := 126) f292_125 rfl (dj2 (fun x => x % 1000 = 101) h6 (by decide) (by decide)) h7 rfl ?_
    refine r_bipush (p := 128) f292_126 rfl (pinD rfl rfl) ?_
    refine r_icne (t := 152) (p := 131) f292_128 (by decide) rfl rfl ?_ ?_
    · refine r_aln0 (p := 132) f292_131 rfl ?_
      refine r_ilw8 (p := 134) f292_132 rfl ?_
      refine r_aln1 (p := 135) f292_134 rfl ?_
      refine r_aln1 (p := 136) f292_135 rfl ?_
      refine r_gfR (f := 6) (p := 139) f292_136 rfl rfl rfl (Or.inl h5) (sk_o (ne_oa (dj1 (fun x => x < 100) h5 (by decide)) (dj2 (fun x => ¬ x < 100) h3 (by decide) (by decide)))) ?_
      refine r_nmR (fun v5 ev5 => ?_)
      refine r_ilw7 (p := 141) f292_139 rfl ?_
      refine le2_gd (fun h8 => ?_)
      refine le2_gd (fun h9 => ?_)
      refine r_iaload (p := 142) f292_141 rfl (dj2 (fun x => x % 1000 = 101) h8 (by decide) (by decide)) h9 rfl ?_
      refine r_aln1 (p := 143) f292_142 rfl ?_
      refine r_gfR (f := 7) (p := 146) f292_143 rfl rfl rfl (Or.inl h5) (sk_o (ne_oa (dj1 (fun x => x < 100) h5 (by decide)) (dj2 (fun x => ¬ x < 100) h3 (by decide) (by decide)))) ?_
      refine r_nmR (fun v6 ev6 => ?_)
      refine r_ilw7 (p := 148) f292_146 rfl ?_
      refine le2_gd (fun h10 => ?_)
      refine le2_gd (fun h11 => ?_)
      refine r_iaload (p := 149) f292_148 rfl (dj2 (fun x => x % 1000 = 101) h10 (by decide) (by decide)) h11 rfl ?_
      refine r_invV (p := 152) f292_149 rfl rfl rfl (Or.inl h2) hd (Nat.le_of_ble_eq_true rfl) rfl rfl rfl (fun _ => rfl) (fun m2 c2 => ?_)
      have hz2 := z_k c2 hz1
      exact le2_refl _
    · exact le2_refl _
theorem q292_152 {d : Nat} {m : Mem} {a0 a1 a2 a3 a4 a5 a6 a7 a8 : Int} (hd : 0 < d) (hz : TZ m) : le2 (gd (tg m a0 = 13) <| bV (cl (d - 1) 290 [pR a0, pI a3, pI a6, pI a8] m) fun m1 => gd (tg m1 a1 = 13) <| nm (vl m1 a1 5) fun v2 => gd (tg m1 v2 = 284101 ∨ tg m1 v2 = 287101) <| gd ((0 : Int) ≤ a7 ∧ a7 < ln m1 v2) <| rn d 292 98 [pR a0, pR a1, pI a2, pI a3, pI a4, pI a5, pI a8, pI (vl m1 v2 a7), pI a8] [] m1) (rn d 292 152 [pR a0, pR a1, pI a2, pI a3, pI a4, pI a5, pI a6, pI a7, pI a8] [] m) := by
  refine r_aln0 (p := 153) f292_152 rfl ?_
  refine r_iln3 (p := 154) f292_153 rfl ?_
  refine r_ilw6 (p := 156) f292_154 rfl ?_
  refine r_ilw8 (p := 158) f292_156 rfl ?_
  refine le2_gd (fun h1 => ?_)
  refine r_invV (p := 161) f292_158 rfl rfl rfl (Or.inl h1) hd (Nat.le_of_ble_eq_true rfl) rfl rfl rfl (fun _ => rfl) (fun m1 c1 => ?_)
  have hz1 := z_k c1 hz
  refine r_ilw8 (p := 163) f292_161 rfl ?_
  refine r_isw6 (p := 165) f292_163 rfl rfl ?_
  refine r_aln1 (p := 166) f292_165 rfl ?_
  refine le2_gd (fun h2 => ?_)
  refine r_gfR (f := 5) (p := 169) f292_166 rfl rfl rfl (Or.inl h2) rfl ?_
  refine r_nmR (fun v2 ev2 => ?_)
  refine r_ilw7 (p := 171) f292_169 rfl ?_
  refine le2_gd (fun h3 => ?_)
  refine le2_gd (fun h4 => ?_)
  refine r_iaload (p := 172) f292_171 rfl (dj2 (fun x => x % 1000 = 101) h3 (by decide) (by decide)) h4 rfl ?_
  refine r_isw7 (p := 174) f292_172 rfl rfl ?_
  refine r_goto (p := 98) f292_174 (by decide) rfl ?_
  exact le2_refl _
/-! 293 PathStoreModel$Tree.name (ILPathStoreModel$Tree;II)V -/
def w293_2 : List UInt8 := [177]
abbrev u293_2 : List UInt8 := w293_2 ++ []
def w293_1 : List UInt8 := [21, 4, 162, 0, 22, 42, 44, 180, 0, 43, 29, 21, 5, 96, 52, 182, 0, 69, 132, 5, 1, 167, 255, 233]
abbrev u293_1 : List UInt8 := w293_1 ++ u293_2
def w293_0 : List UInt8 := [42, 180, 0, 31, 27, 42, 180, 0, 51, 79, 42, 180, 0, 34, 27, 21, 4, 79, 3, 54, 5, 21, 5]
abbrev u293_0 : List UInt8 := w293_0 ++ u293_1
theorem s293_0 : (prog_34_method_14_code).data.toList.drop 0 = u293_0 := by decide +kernel
theorem s293_1 : (prog_34_method_14_code).data.toList.drop 23 = u293_1 := dk_seg s293_0 23 rfl rfl
theorem s293_2 : (prog_34_method_14_code).data.toList.drop 47 = u293_2 := dk_seg s293_1 24 rfl rfl
theorem Fm293 {pc len : Nat} {i : Instr} (h : decode (prog_34_method_14_code) pc = .ok (i, len)) (hl : len = ilen i len) : ft 293 pc = some (13, 0, 0, i, len) := ft_mk rfl h hl
theorem f293_0 : ft 293 0 = some (13, 0, 0, .aload_n 0, 1) := Fm293 (dk_42 (dk_at s293_0 0 rfl rfl)) rfl
theorem f293_1 : ft 293 1 = some (13, 0, 0, .getfield 31, 3) := Fm293 (dk_180 0 31 (dk_at s293_0 1 rfl rfl)) rfl
theorem f293_4 : ft 293 4 = some (13, 0, 0, .iload_n 1, 1) := Fm293 (dk_27 (dk_at s293_0 4 rfl rfl)) rfl
theorem f293_5 : ft 293 5 = some (13, 0, 0, .aload_n 0, 1) := Fm293 (dk_42 (dk_at s293_0 5 rfl rfl)) rfl
theorem f293_6 : ft 293 6 = some (13, 0, 0, .getfield 51, 3) := Fm293 (dk_180 0 51 (dk_at s293_0 6 rfl rfl)) rfl
theorem f293_9 : ft 293 9 = some (13, 0, 0, .iastore, 1) := Fm293 (dk_79 (dk_at s293_0 9 rfl rfl)) rfl
theorem f293_10 : ft 293 10 = some (13, 0, 0, .aload_n 0, 1) := Fm293 (dk_42 (dk_at s293_0 10 rfl rfl)) rfl
theorem f293_11 : ft 293 11 = some (13, 0, 0, .getfield 34, 3) := Fm293 (dk_180 0 34 (dk_at s293_0 11 rfl rfl)) rfl
theorem f293_14 : ft 293 14 = some (13, 0, 0, .iload_n 1, 1) := Fm293 (dk_27 (dk_at s293_0 14 rfl rfl)) rfl
theorem f293_15 : ft 293 15 = some (13, 0, 0, .iload 4, 2) := Fm293 (dk_21 4 (dk_at s293_0 15 rfl rfl)) rfl
theorem f293_17 : ft 293 17 = some (13, 0, 0, .iastore, 1) := Fm293 (dk_79 (dk_at s293_0 17 rfl rfl)) rfl
theorem f293_18 : ft 293 18 = some (13, 0, 0, .iconst 0, 1) := Fm293 (dk_3 (dk_at s293_0 18 rfl rfl)) rfl
theorem f293_19 : ft 293 19 = some (13, 0, 0, .istore 5, 2) := Fm293 (dk_54 5 (dk_at s293_0 19 rfl rfl)) rfl
theorem f293_21 : ft 293 21 = some (13, 0, 0, .iload 5, 2) := Fm293 (dk_21 5 (dk_at s293_0 21 rfl rfl)) rfl
theorem f293_23 : ft 293 23 = some (13, 0, 0, .iload 4, 2) := Fm293 (dk_21 4 (dk_at s293_1 0 rfl rfl)) rfl
theorem f293_25 : ft 293 25 = some (13, 0, 0, .if_icmp .ge 22, 3) := Fm293 (dk_162 0 22 (dk_at s293_1 2 rfl rfl)) rfl
theorem f293_28 : ft 293 28 = some (13, 0, 0, .aload_n 0, 1) := Fm293 (dk_42 (dk_at s293_1 5 rfl rfl)) rfl
theorem f293_29 : ft 293 29 = some (13, 0, 0, .aload_n 2, 1) := Fm293 (dk_44 (dk_at s293_1 6 rfl rfl)) rfl
theorem f293_30 : ft 293 30 = some (13, 0, 0, .getfield 43, 3) := Fm293 (dk_180 0 43 (dk_at s293_1 7 rfl rfl)) rfl
theorem f293_33 : ft 293 33 = some (13, 0, 0, .iload_n 3, 1) := Fm293 (dk_29 (dk_at s293_1 10 rfl rfl)) rfl
theorem f293_34 : ft 293 34 = some (13, 0, 0, .iload 5, 2) := Fm293 (dk_21 5 (dk_at s293_1 11 rfl rfl)) rfl
theorem f293_36 : ft 293 36 = some (13, 0, 0, .iadd, 1) := Fm293 (dk_96 (dk_at s293_1 13 rfl rfl)) rfl
theorem f293_37 : ft 293 37 = some (13, 0, 0, .caload, 1) := Fm293 (dk_52 (dk_at s293_1 14 rfl rfl)) rfl
theorem f293_38 : ft 293 38 = some (13, 0, 0, .invokevirtual 69, 3) := Fm293 (dk_182 0 69 (dk_at s293_1 15 rfl rfl)) rfl
theorem f293_41 : ft 293 41 = some (13, 0, 0, .iinc 5 1, 3) := Fm293 (dk_132 5 1 (dk_at s293_1 18 rfl rfl)) rfl
theorem f293_44 : ft 293 44 = some (13, 0, 0, .goto (-23), 3) := Fm293 (dk_167 255 233 (dk_at s293_1 21 rfl rfl)) rfl
theorem f293_47 : ft 293 47 = some (13, 0, 0, .return_, 1) := Fm293 (dk_177 (dk_at s293_2 0 rfl rfl)) rfl
theorem q293 {d : Nat} {m : Mem} {a0 a1 a2 a3 a4 : Int} (hz : TZ m) : le2 (gd (tg m a0 = 13) <| nm (vl m a0 6) fun v1 => gd (tg m v1 = 284101 ∨ tg m v1 = 287101) <| gd ((0 : Int) ≤ a1 ∧ a1 < ln m v1) <| nm (vl m a0 7) fun v2 => gd (tg m v2 = 284101 ∨ tg m v2 = 287101) <| gd ((0 : Int) ≤ a1 ∧ a1 < ln m v2) <| rn d 293 21 [pR a0, pI a1, pR a2, pI a3, pI a4, pI 0] [] (mst (mst m v1 a1 (vl m a0 12)) v2 a1 a4)) (cl d 293 [pR a0, pI a1, pR a2, pI a3, pI a4] m) := by
  refine q_in (n := 6) (L := [pR a0, pI a1, pR a2, pI a3, pI a4, pU]) rfl rfl rfl ?_
  refine r_aln0 (p := 1) f293_0 rfl ?_
  refine le2_gd (fun h1 => ?_)
  refine r_gfR (f := 6) (p := 4) f293_1 rfl rfl rfl (Or.inl h1) rfl ?_
  refine r_nmR (fun v1 ev1 => ?_)
  refine r_iln1 (p := 5) f293_4 rfl ?_
  refine r_aln0 (p := 6) f293_5 rfl ?_
  refine r_gfI (f := 12) (p := 9) f293_6 rfl rfl rfl (Or.inl h1) rfl ?_
  refine le2_gd (fun h2 => ?_)
  refine le2_gd (fun h3 => ?_)
  refine r_iastore (p := 10) f293_9 rfl (dj2 (fun x => 1000 ≤ x ∧ x % 1000 = 101 ∧ Nat.testBit (eM 293) (bix x 0) = true) h2 (by decide) (by decide)) h3 ?_
  refine r_aln0 (p := 11) f293_10 rfl ?_
  refine r_gfR (f := 7) (p := 14) f293_11 rfl rfl rfl (Or.inl h1) (sk_o (ne_oa (dj1 (fun x => x < 100) h1 (by decide)) (dj2 (fun x => ¬ x < 100) h2 (by decide) (by decide)))) ?_
  refine r_nmR (fun v2 ev2 => ?_)
  refine r_iln1 (p := 15) f293_14 rfl ?_
  refine r_ilw4 (p := 17) f293_15 rfl ?_
  refine le2_gd (fun h4 => ?_)
  refine le2_gd (fun h5 => ?_)
  refine r_iastore (p := 18) f293_17 rfl (dj2 (fun x => 1000 ≤ x ∧ x % 1000 = 101 ∧ Nat.testBit (eM 293) (bix x 0) = true) h4 (by decide) (by decide)) h5 ?_
  refine r_iconst (p := 19) f293_18 rfl (pinD rfl rfl) ?_
  refine r_isw5 (p := 21) f293_19 rfl rfl ?_
  exact le2_refl _
theorem q293_21 {d : Nat} {m : Mem} {a0 a1 a2 a3 a4 a5 : Int} (hd : 0 < d) (hz : TZ m) : le2 (if a5 < a4 then (gd (tg m a2 = 13) <| nm (vl m a2 11) fun v2 => nm (w32 (a3 + a5)) fun v3 => gd (tg m v2 = 284104 ∨ tg m v2 = 288104) <| gd ((0 : Int) ≤ v3 ∧ v3 < ln m v2) <| gd (tg m a0 = 13) <| bV (cl (d - 1) 287 [pR a0, pI (vl m v2 v3)] m) fun m1 => rn d 293 21 [pR a0, pI a1, pR a2, pI a3, pI a4, pI (w32 (a5 + 1))] [] m1) else some (.inl none, m)) (rn d 293 21 [pR a0, pI a1, pR a2, pI a3, pI a4, pI a5] [] m) := by
  refine r_ilw5 (p := 23) f293_21 rfl ?_
  refine r_ilw4 (p := 25) f293_23 rfl ?_
  refine r_icge (t := 47) (p := 28) f293_25 (by decide) rfl rfl ?_ ?_
  · refine r_aln0 (p := 29) f293_28 rfl ?_
    refine r_aln2 (p := 30) f293_29 rfl ?_
    refine le2_gd (fun h1 => ?_)
    refine r_gfR (f := 11) (p := 33) f293_30 rfl rfl rfl (Or.inl h1) rfl ?_
    refine r_nmR (fun v2 ev2 => ?_)
    refine r_iln3 (p := 34) f293_33 rfl ?_
    refine r_ilw5 (p := 36) f293_34 rfl ?_
    refine r_iadd (p := 37) f293_36 rfl ?_
    refine r_nmI (fun v3 ev3 => ?_)
    refine le2_gd (fun h2 => ?_)
    refine le2_gd (fun h3 => ?_)
    refine r_caload (p := 38) f293_37 rfl (dj2 (fun x => x % 1000 = 104) h2 (by decide) (by decide)) h3 rfl ?_
    refine le2_gd (fun h4 => ?_)
    refine r_invV (p := 41) f293_38 rfl rfl rfl (Or.inl h4) hd (Nat.le_of_ble_eq_true rfl) rfl rfl rfl (fun _ => rfl) (fun m1 c1 => ?_)
    have hz1 := z_k c1 hz
    refine r_iinc5 (p := 44) f293_41 rfl rfl ?_
    refine r_goto (p := 21) f293_44 (by decide) rfl ?_
    exact le2_refl _
  · exact r_ret f293_47
/-! 294 PathStoreModel$Tree.remove (I)V -/
def w294_2 : List UInt8 := [42, 180, 0, 28, 29, 46, 62, 167, 255, 239, 42, 180, 0, 28, 29, 42, 180, 0, 28, 27, 46, 79, 177]
abbrev u294_2 : List UInt8 := w294_2 ++ []
def w294_1 : List UInt8 := [180, 0, 28, 27, 46, 79, 177, 42, 180, 0, 25, 28, 46, 62, 42, 180, 0, 28, 29, 46, 27, 159, 0, 13]
abbrev u294_1 : List UInt8 := w294_1 ++ u294_2
def w294_0 : List UInt8 := [42, 180, 0, 37, 27, 46, 61, 42, 180, 0, 25, 28, 46, 27, 160, 0, 16, 42, 180, 0, 25, 28, 42]
abbrev u294_0 : List UInt8 := w294_0 ++ u294_1
theorem s294_0 : (prog_34_method_8_code).data.toList.drop 0 = u294_0 := by decide +kernel
theorem s294_1 : (prog_34_method_8_code).data.toList.drop 23 = u294_1 := dk_seg s294_0 23 rfl rfl
theorem s294_2 : (prog_34_method_8_code).data.toList.drop 47 = u294_2 := dk_seg s294_1 24 rfl rfl
theorem Fm294 {pc len : Nat} {i : Instr} (h : decode (prog_34_method_8_code) pc = .ok (i, len)) (hl : len = ilen i len) : ft 294 pc = some (13, 0, 0, i, len) := ft_mk rfl h hl
theorem f294_0 : ft 294 0 = some (13, 0, 0, .aload_n 0, 1) := Fm294 (dk_42 (dk_at s294_0 0 rfl rfl)) rfl
theorem f294_1 : ft 294 1 = some (13, 0, 0, .getfield 37, 3) := Fm294 (dk_180 0 37 (dk_at s294_0 1 rfl rfl)) rfl
theorem f294_4 : ft 294 4 = some (13, 0, 0, .iload_n 1, 1) := Fm294 (dk_27 (dk_at s294_0 4 rfl rfl)) rfl
theorem f294_5 : ft 294 5 = some (13, 0, 0, .iaload, 1) := Fm294 (dk_46 (dk_at s294_0 5 rfl rfl)) rfl
theorem f294_6 : ft 294 6 = some (13, 0, 0, .istore_n 2, 1) := Fm294 (dk_61 (dk_at s294_0 6 rfl rfl)) rfl
theorem f294_7 : ft 294 7 = some (13, 0, 0, .aload_n 0, 1) := Fm294 (dk_42 (dk_at s294_0 7 rfl rfl)) rfl
theorem f294_8 : ft 294 8 = some (13, 0, 0, .getfield 25, 3) := Fm294 (dk_180 0 25 (dk_at s294_0 8 rfl rfl)) rfl
theorem f294_11 : ft 294 11 = some (13, 0, 0, .iload_n 2, 1) := Fm294 (dk_28 (dk_at s294_0 11 rfl rfl)) rfl
theorem f294_12 : ft 294 12 = some (13, 0, 0, .iaload, 1) := Fm294 (dk_46 (dk_at s294_0 12 rfl rfl)) rfl
theorem f294_13 : ft 294 13 = some (13, 0, 0, .iload_n 1, 1) := Fm294 (dk_27 (dk_at s294_0 13 rfl rfl)) rfl
theorem f294_14 : ft 294 14 = some (13, 0, 0, .if_icmp .ne 16, 3) := Fm294 (dk_160 0 16 (dk_at s294_0 14 rfl rfl)) rfl
theorem f294_17 : ft 294 17 = some (13, 0, 0, .aload_n 0, 1) := Fm294 (dk_42 (dk_at s294_0 17 rfl rfl)) rfl
theorem f294_18 : ft 294 18 = some (13, 0, 0, .getfield 25, 3) := Fm294 (dk_180 0 25 (dk_at s294_0 18 rfl rfl)) rfl
theorem f294_21 : ft 294 21 = some (13, 0, 0, .iload_n 2, 1) := Fm294 (dk_28 (dk_at s294_0 21 rfl rfl)) rfl
theorem f294_22 : ft 294 22 = some (13, 0, 0, .aload_n 0, 1) := Fm294 (dk_42 (dk_at s294_0 22 rfl rfl)) rfl
theorem f294_23 : ft 294 23 = some (13, 0, 0, .getfield 28, 3) := Fm294 (dk_180 0 28 (dk_at s294_1 0 rfl rfl)) rfl
theorem f294_26 : ft 294 26 = some (13, 0, 0, .iload_n 1, 1) := Fm294 (dk_27 (dk_at s294_1 3 rfl rfl)) rfl
theorem f294_27 : ft 294 27 = some (13, 0, 0, .iaload, 1) := Fm294 (dk_46 (dk_at s294_1 4 rfl rfl)) rfl
theorem f294_28 : ft 294 28 = some (13, 0, 0, .iastore, 1) := Fm294 (dk_79 (dk_at s294_1 5 rfl rfl)) rfl
theorem f294_29 : ft 294 29 = some (13, 0, 0, .return_, 1) := Fm294 (dk_177 (dk_at s294_1 6 rfl rfl)) rfl
theorem f294_30 : ft 294 30 = some (13, 0, 0, .aload_n 0, 1) := Fm294 (dk_42 (dk_at s294_1 7 rfl rfl)) rfl
theorem f294_31 : ft 294 31 = some (13, 0, 0, .getfield 25, 3) := Fm294 (dk_180 0 25 (dk_at s294_1 8 rfl rfl)) rfl
theorem f294_34 : ft 294 34 = some (13, 0, 0, .iload_n 2, 1) := Fm294 (dk_28 (dk_at s294_1 11 rfl rfl)) rfl
theorem f294_35 : ft 294 35 = some (13, 0, 0, .iaload, 1) := Fm294 (dk_46 (dk_at s294_1 12 rfl rfl)) rfl
theorem f294_36 : ft 294 36 = some (13, 0, 0, .istore_n 3, 1) := Fm294 (dk_62 (dk_at s294_1 13 rfl rfl)) rfl
theorem f294_37 : ft 294 37 = some (13, 0, 0, .aload_n 0, 1) := Fm294 (dk_42 (dk_at s294_1 14 rfl rfl)) rfl
theorem f294_38 : ft 294 38 = some (13, 0, 0, .getfield 28, 3) := Fm294 (dk_180 0 28 (dk_at s294_1 15 rfl rfl)) rfl
theorem f294_41 : ft 294 41 = some (13, 0, 0, .iload_n 3, 1) := Fm294 (dk_29 (dk_at s294_1 18 rfl rfl)) rfl
theorem f294_42 : ft 294 42 = some (13, 0, 0, .iaload, 1) := Fm294 (dk_46 (dk_at s294_1 19 rfl rfl)) rfl
theorem f294_43 : ft 294 43 = some (13, 0, 0, .iload_n 1, 1) := Fm294 (dk_27 (dk_at s294_1 20 rfl rfl)) rfl
theorem f294_44 : ft 294 44 = some (13, 0, 0, .if_icmp .eq 13, 3) := Fm294 (dk_159 0 13 (dk_at s294_1 21 rfl rfl)) rfl
theorem f294_47 : ft 294 47 = some (13, 0, 0, .aload_n 0, 1) := Fm294 (dk_42 (dk_at s294_2 0 rfl rfl)) rfl
theorem f294_48 : ft 294 48 = some (13, 0, 0, .getfield 28, 3) := Fm294 (dk_180 0 28 (dk_at s294_2 1 rfl rfl)) rfl
theorem f294_51 : ft 294 51 = some (13, 0, 0, .iload_n 3, 1) := Fm294 (dk_29 (dk_at s294_2 4 rfl rfl)) rfl
theorem f294_52 : ft 294 52 = some (13, 0, 0, .iaload, 1) := Fm294 (dk_46 (dk_at s294_2 5 rfl rfl)) rfl
theorem f294_53 : ft 294 53 = some (13, 0, 0, .istore_n 3, 1) := Fm294 (dk_62 (dk_at s294_2 6 rfl rfl)) rfl
theorem f294_54 : ft 294 54 = some (13, 0, 0, .goto (-17), 3) := Fm294 (dk_167 255 239 (dk_at s294_2 7 rfl rfl)) rfl
theorem f294_57 : ft 294 57 = some (13, 0, 0, .aload_n 0, 1) := Fm294 (dk_42 (dk_at s294_2 10 rfl rfl)) rfl
theorem f294_58 : ft 294 58 = some (13, 0, 0, .getfield 28, 3) := Fm294 (dk_180 0 28 (dk_at s294_2 11 rfl rfl)) rfl
theorem f294_61 : ft 294 61 = some (13, 0, 0, .iload_n 3, 1) := Fm294 (dk_29 (dk_at s294_2 14 rfl rfl)) rfl
theorem f294_62 : ft 294 62 = some (13, 0, 0, .aload_n 0, 1) := Fm294 (dk_42 (dk_at s294_2 15 rfl rfl)) rfl
theorem f294_63 : ft 294 63 = some (13, 0, 0, .getfield 28, 3) := Fm294 (dk_180 0 28 (dk_at s294_2 16 rfl rfl)) rfl
theorem f294_66 : ft 294 66 = some (13, 0, 0, .iload_n 1, 1) := Fm294 (dk_27 (dk_at s294_2 19 rfl rfl)) rfl
theorem f294_67 : ft 294 67 = some (13, 0, 0, .iaload, 1) := Fm294 (dk_46 (dk_at s294_2 20 rfl rfl)) rfl
theorem f294_68 : ft 294 68 = some (13, 0, 0, .iastore, 1) := Fm294 (dk_79 (dk_at s294_2 21 rfl rfl)) rfl
theorem f294_69 : ft 294 69 = some (13, 0, 0, .return_, 1) := Fm294 (dk_177 (dk_at s294_2 22 rfl rfl)) rfl
theorem q294 {d : Nat} {m : Mem} {a0 a1 : Int} (hz : TZ m) : le2 (gd (tg m a0 = 13) <| nm (vl m a0 8) fun v1 => gd (tg m v1 = 284101 ∨ tg m v1 = 287101) <| gd ((0 : Int) ≤ a1 ∧ a1 < ln m v1) <| nm (vl m v1 a1) fun v2 => nm (vl m a0 4) fun v3 => gd (tg m v3 = 284101 ∨ tg m v3 = 287101) <| gd ((0 : Int) ≤ v2 ∧ v2 < ln m v3) <| nm (vl m v3 v2) fun v4 => if v4 = a1 then (nm (vl m a0 5) fun v5 => gd (tg m v5 = 284101 ∨ tg m v5 = 287101) <| gd ((0 : Int) ≤ a1 ∧ a1 < ln m v5) <| some (.inl none, (mst m v3 v2 (vl m v5 a1)))) else rn d 294 37 [pR a0, pI a1, pI v2, pI v4] [] m) (cl d 294 [pR a0, pI a1] m) := by
  refine q_in (n := 4) (L := [pR a0, pI a1, pU, pU]) rfl rfl rfl ?_
  refine r_aln0 (p := 1) f294_0 rfl ?_
  refine le2_gd (fun h1 => ?_)
  refine r_gfR (f := 8) (p := 4) f294_1 rfl rfl rfl (Or.inl h1) rfl ?_
  refine r_nmR (fun v1 ev1 => ?_)
  refine r_iln1 (p := 5) f294_4 rfl ?_
  refine le2_gd (fun h2 => ?_)
  refine le2_gd (fun h3 => ?_)
  refine r_iaload (p := 6) f294_5 rfl (dj2 (fun x => x % 1000 = 101) h2 (by decide) (by decide)) h3 rfl ?_
  refine r_nmI (fun v2 ev2 => ?_)
  refine r_isn2 (p := 7) f294_6 rfl rfl ?_
  refine r_aln0 (p := 8) f294_7 rfl ?_
  refine r_gfR (f := 4) (p := 11) f294_8 rfl rfl rfl (Or.inl h1) rfl ?_
  refine r_nmR (fun v3 ev3 => ?_)
  refine r_iln2 (p := 12) f294_11 rfl ?_
  refine le2_gd (fun h4 => ?_)
  refine le2_gd (fun h5 => ?_)
  refine r_iaload (p := 13) f294_12 rfl (dj2 (fun x => x % 1000 = 101) h4 (by decide) (by decide)) h5 rfl ?_
  refine r_nmI (fun v4 ev4 => ?_)
  refine r_iln1 (p := 14) f294_13 rfl ?_
  refine r_icne (t := 30) (p := 17) f294_14 (by decide) rfl rfl ?_ ?_
  · refine r_aln0 (p := 18) f294_17 rfl ?_
    refine r_gfR (f := 4) (p := 21) f294_18 rfl rfl rfl (Or.inl h1) ev3.symm ?_
    refine r_iln2 (p := 22) f294_21 rfl ?_
    refine r_aln0 (p := 23) f294_22 rfl ?_
    refine r_gfR (f := 5) (p := 26) f294_23 rfl rfl rfl (Or.inl h1) rfl ?_
    refine r_nmR (fun v5 ev5 => ?_)
    refine r_iln1 (p := 27) f294_26 rfl ?_
    refine le2_gd (fun h6 => ?_)
    refine le2_gd (fun h7 => ?_)
    refine r_iaload (p := 28) f294_27 rfl (dj2 (fun x => x % 1000 = 101) h6 (by decide) (by decide)) h7 rfl ?_
    refine r_iastore (p := 29) f294_28 rfl (dj2 (fun x => 1000 ≤ x ∧ x % 1000 = 101 ∧ Nat.testBit (eM 294) (bix x 0) = true) h4 (by decide) (by decide)) h5 ?_
    exact r_ret f294_29
  · refine r_aln0 (p := 31) f294_30 rfl ?_
    refine r_gfR (f := 4) (p := 34) f294_31 rfl rfl rfl (Or.inl h1) ev3.symm ?_
    refine r_iln2 (p := 35) f294_34 rfl ?_
    refine r_iaload (p := 36) f294_35 rfl (dj2 (fun x => x % 1000 = 101) h4 (by decide) (by decide)) h5 ev4.symm ?_
    refine r_isn3 (p := 37) f294_36 rfl rfl ?_
    exact le2_refl _
theorem q294_37 {d : Nat} {m : Mem} {a0 a1 a2 a3 : Int} (hz : TZ m) : le2 (gd (tg m a0 = 13) <| nm (vl m a0 5) fun v1 => gd (tg m v1 = 284101 ∨ tg m v1 = 287101) <| gd ((0 : Int) ≤ a3 ∧ a3 < ln m v1) <| nm (vl m v1 a3) fun v2 => if v2 = a1 then (gd ((0 : Int) ≤ a1 ∧ a1 < ln m v1) <| some (.inl none, (mst m v1 a3 (vl m v1 a1)))) else rn d 294 37 [pR a0, pI a1, pI a2, pI v2] [] m) (rn d 294 37 [pR a0, pI a1, pI a2, pI a3] [] m) := by
  refine r_aln0 (p := 38) f294_37 rfl ?_
  refine le2_gd (fun h1 => ?_)
  refine r_gfR (f := 5) (p := 41) f294_38 rfl rfl rfl (Or.inl h1) rfl ?_
  refine r_nmR (fun v1 ev1 => ?_)
  refine r_iln3 (p := 42) f294_41 rfl ?_
  refine le2_gd (fun h2 => ?_)
  refine le2_gd (fun h3 => ?_)
  refine r_iaload (p := 43) f294_42 rfl (dj2 (fun x => x % 1000 = 101) h2 (by decide) (by decide)) h3 rfl ?_
  refine r_nmI (fun v2 ev2 => ?_)
  refine r_iln1 (p := 44) f294_43 rfl ?_
  refine r_iceq (t := 57) (p := 47) f294_44 (by decide) rfl rfl ?_ ?_
  · refine r_aln0 (p := 58) f294_57 rfl ?_
    refine r_gfR (f := 5) (p := 61) f294_58 rfl rfl rfl (Or.inl h1) ev1.symm ?_
    refine r_iln3 (p := 62) f294_61 rfl ?_
    refine r_aln0 (p := 63) f294_62 rfl ?_
    refine r_gfR (f := 5) (p := 66) f294_63 rfl rfl rfl (Or.inl h1) ev1.symm ?_
    refine r_iln1 (p := 67) f294_66 rfl ?_
    refine le2_gd (fun h4 => ?_)
    refine r_iaload (p := 68) f294_67 rfl (dj2 (fun x => x % 1000 = 101) h2 (by decide) (by decide)) h4 rfl ?_
    refine r_iastore (p := 69) f294_68 rfl (dj2 (fun x => 1000 ≤ x ∧ x % 1000 = 101 ∧ Nat.testBit (eM 294) (bix x 0) = true) h2 (by decide) (by decide)) h3 ?_
    exact r_ret f294_69
  · refine r_aln0 (p := 48) f294_47 rfl ?_
    refine r_gfR (f := 5) (p := 51) f294_48 rfl rfl rfl (Or.inl h1) ev1.symm ?_
    refine r_iln3 (p := 52) f294_51 rfl ?_
    refine r_iaload (p := 53) f294_52 rfl (dj2 (fun x => x % 1000 = 101) h2 (by decide) (by decide)) h3 ev2.symm ?_
    refine r_isn3 (p := 54) f294_53 rfl rfl ?_
    refine r_goto (p := 37) f294_54 (by decide) rfl ?_
    exact le2_refl _
/-! 295 PathStoreModel$Tree.last (I)I -/
def w295_1 : List UInt8 := [167, 255, 243, 28, 172]
abbrev u295_1 : List UInt8 := w295_1 ++ []
def w295_0 : List UInt8 := [2, 61, 42, 180, 0, 25, 27, 46, 62, 29, 155, 0, 15, 29, 61, 42, 180, 0, 28, 29, 46, 62]
abbrev u295_0 : List UInt8 := w295_0 ++ u295_1
theorem s295_0 : (prog_34_method_11_code).data.toList.drop 0 = u295_0 := by decide +kernel
theorem s295_1 : (prog_34_method_11_code).data.toList.drop 22 = u295_1 := dk_seg s295_0 22 rfl rfl
theorem Fm295 {pc len : Nat} {i : Instr} (h : decode (prog_34_method_11_code) pc = .ok (i, len)) (hl : len = ilen i len) : ft 295 pc = some (13, 1, 0, i, len) := ft_mk rfl h hl
theorem f295_0 : ft 295 0 = some (13, 1, 0, .iconst (-1), 1) := Fm295 (dk_2 (dk_at s295_0 0 rfl rfl)) rfl
theorem f295_1 : ft 295 1 = some (13, 1, 0, .istore_n 2, 1) := Fm295 (dk_61 (dk_at s295_0 1 rfl rfl)) rfl
theorem f295_2 : ft 295 2 = some (13, 1, 0, .aload_n 0, 1) := Fm295 (dk_42 (dk_at s295_0 2 rfl rfl)) rfl
theorem f295_3 : ft 295 3 = some (13, 1, 0, .getfield 25, 3) := Fm295 (dk_180 0 25 (dk_at s295_0 3 rfl rfl)) rfl
theorem f295_6 : ft 295 6 = some (13, 1, 0, .iload_n 1, 1) := Fm295 (dk_27 (dk_at s295_0 6 rfl rfl)) rfl
theorem f295_7 : ft 295 7 = some (13, 1, 0, .iaload, 1) := Fm295 (dk_46 (dk_at s295_0 7 rfl rfl)) rfl
theorem f295_8 : ft 295 8 = some (13, 1, 0, .istore_n 3, 1) := Fm295 (dk_62 (dk_at s295_0 8 rfl rfl)) rfl
theorem f295_9 : ft 295 9 = some (13, 1, 0, .iload_n 3, 1) := Fm295 (dk_29 (dk_at s295_0 9 rfl rfl)) rfl
theorem f295_10 : ft 295 10 = some (13, 1, 0, .ifCond .lt 15, 3) := Fm295 (dk_155 0 15 (dk_at s295_0 10 rfl rfl)) rfl
theorem f295_13 : ft 295 13 = some (13, 1, 0, .iload_n 3, 1) := Fm295 (dk_29 (dk_at s295_0 13 rfl rfl)) rfl
theorem f295_14 : ft 295 14 = some (13, 1, 0, .istore_n 2, 1) := Fm295 (dk_61 (dk_at s295_0 14 rfl rfl)) rfl
theorem f295_15 : ft 295 15 = some (13, 1, 0, .aload_n 0, 1) := Fm295 (dk_42 (dk_at s295_0 15 rfl rfl)) rfl
theorem f295_16 : ft 295 16 = some (13, 1, 0, .getfield 28, 3) := Fm295 (dk_180 0 28 (dk_at s295_0 16 rfl rfl)) rfl
theorem f295_19 : ft 295 19 = some (13, 1, 0, .iload_n 3, 1) := Fm295 (dk_29 (dk_at s295_0 19 rfl rfl)) rfl
theorem f295_20 : ft 295 20 = some (13, 1, 0, .iaload, 1) := Fm295 (dk_46 (dk_at s295_0 20 rfl rfl)) rfl
theorem f295_21 : ft 295 21 = some (13, 1, 0, .istore_n 3, 1) := Fm295 (dk_62 (dk_at s295_0 21 rfl rfl)) rfl
theorem f295_22 : ft 295 22 = some (13, 1, 0, .goto (-13), 3) := Fm295 (dk_167 255 243 (dk_at s295_1 0 rfl rfl)) rfl
theorem f295_25 : ft 295 25 = some (13, 1, 0, .iload_n 2, 1) := Fm295 (dk_28 (dk_at s295_1 3 rfl rfl)) rfl
theorem f295_26 : ft 295 26 = some (13, 1, 0, .ireturn, 1) := Fm295 (dk_172 (dk_at s295_1 4 rfl rfl)) rfl
theorem q295 {d : Nat} {m : Mem} {a0 a1 : Int} (hz : TZ m) : le2 (gd (tg m a0 = 13) <| nm (vl m a0 4) fun v1 => gd (tg m v1 = 284101 ∨ tg m v1 = 287101) <| gd ((0 : Int) ≤ a1 ∧ a1 < ln m v1) <| rn d 295 9 [pR a0, pI a1, pI (-1), pI (vl m v1 a1)] [] m) (cl d 295 [pR a0, pI a1] m) := by
  refine q_in (n := 4) (L := [pR a0, pI a1, pU, pU]) rfl rfl rfl ?_
  refine r_iconst (p := 1) f295_0 rfl (pinD rfl rfl) ?_
  refine r_isn2 (p := 2) f295_1 rfl rfl ?_
  refine r_aln0 (p := 3) f295_2 rfl ?_
  refine le2_gd (fun h1 => ?_)
  refine r_gfR (f := 4) (p := 6) f295_3 rfl rfl rfl (Or.inl h1) rfl ?_
  refine r_nmR (fun v1 ev1 => ?_)
  refine r_iln1 (p := 7) f295_6 rfl ?_
  refine le2_gd (fun h2 => ?_)
  refine le2_gd (fun h3 => ?_)
  refine r_iaload (p := 8) f295_7 rfl (dj2 (fun x => x % 1000 = 101) h2 (by decide) (by decide)) h3 rfl ?_
  refine r_isn3 (p := 9) f295_8 rfl rfl ?_
  exact le2_refl _
theorem q295_9 {d : Nat} {m : Mem} {a0 a1 a2 a3 : Int} (hz : TZ m) : le2 (if a3 < 0 then (some (.inl (some (pI a2)), m)) else gd (tg m a0 = 13) <| nm (vl m a0 5) fun v1 => gd (tg m v1 = 284101 ∨ tg m v1 = 287101) <| gd ((0 : Int) ≤ a3 ∧ a3 < ln m v1) <| rn d 295 9 [pR a0, pI a1, pI a3, pI (vl m v1 a3)] [] m) (rn d 295 9 [pR a0, pI a1, pI a2, pI a3] [] m) := by
  refine r_iln3 (p := 10) f295_9 rfl ?_
  refine r_iflt (t := 25) (p := 13) f295_10 (by decide) rfl rfl ?_ ?_
  · refine r_iln2 (p := 26) f295_25 rfl ?_
    exact r_iret1 f295_26
  · refine r_iln3 (p := 14) f295_13 rfl ?_
    refine r_isn2 (p := 15) f295_14 rfl rfl ?_
    refine r_aln0 (p := 16) f295_15 rfl ?_
    refine le2_gd (fun h1 => ?_)
    refine r_gfR (f := 5) (p := 19) f295_16 rfl rfl rfl (Or.inl h1) rfl ?_
    refine r_nmR (fun v1 ev1 => ?_)
    refine r_iln3 (p := 20) f295_19 rfl ?_
    refine le2_gd (fun h2 => ?_)
    refine le2_gd (fun h3 => ?_)
    refine r_iaload (p := 21) f295_20 rfl (dj2 (fun x => x % 1000 = 101) h2 (by decide) (by decide)) h3 rfl ?_
    refine r_isn3 (p := 22) f295_21 rfl rfl ?_
    refine r_goto (p := 9) f295_22 (by decide) rfl ?_
    exact le2_refl _
/-! 296 PathStoreModel$Tree.depth (I)I -/
def w296_2 : List UInt8 := [161, 0, 9, 28, 4, 96, 167, 0, 4, 28, 172]
abbrev u296_2 : List UInt8 := w296_2 ++ []
def w296_1 : List UInt8 := [164, 0, 6, 21, 4, 61, 42, 180, 0, 28, 29, 46, 62, 167, 255, 229, 42, 180, 0, 9, 27, 46, 8]
abbrev u296_1 : List UInt8 := w296_1 ++ u296_2
def w296_0 : List UInt8 := [3, 61, 42, 180, 0, 25, 27, 46, 62, 29, 155, 0, 29, 42, 29, 182, 0, 62, 54, 4, 21, 4, 28]
abbrev u296_0 : List UInt8 := w296_0 ++ u296_1
theorem s296_0 : (prog_34_method_12_code).data.toList.drop 0 = u296_0 := by decide +kernel
theorem s296_1 : (prog_34_method_12_code).data.toList.drop 23 = u296_1 := dk_seg s296_0 23 rfl rfl
theorem s296_2 : (prog_34_method_12_code).data.toList.drop 46 = u296_2 := dk_seg s296_1 23 rfl rfl
theorem Fm296 {pc len : Nat} {i : Instr} (h : decode (prog_34_method_12_code) pc = .ok (i, len)) (hl : len = ilen i len) : ft 296 pc = some (13, 1, 0, i, len) := ft_mk rfl h hl
theorem f296_0 : ft 296 0 = some (13, 1, 0, .iconst 0, 1) := Fm296 (dk_3 (dk_at s296_0 0 rfl rfl)) rfl
theorem f296_1 : ft 296 1 = some (13, 1, 0, .istore_n 2, 1) := Fm296 (dk_61 (dk_at s296_0 1 rfl rfl)) rfl
theorem f296_2 : ft 296 2 = some (13, 1, 0, .aload_n 0, 1) := Fm296 (dk_42 (dk_at s296_0 2 rfl rfl)) rfl
theorem f296_3 : ft 296 3 = some (13, 1, 0, .getfield 25, 3) := Fm296 (dk_180 0 25 (dk_at s296_0 3 rfl rfl)) rfl
theorem f296_6 : ft 296 6 = some (13, 1, 0, .iload_n 1, 1) := Fm296 (dk_27 (dk_at s296_0 6 rfl rfl)) rfl
theorem f296_7 : ft 296 7 = some (13, 1, 0, .iaload, 1) := Fm296 (dk_46 (dk_at s296_0 7 rfl rfl)) rfl
theorem f296_8 : ft 296 8 = some (13, 1, 0, .istore_n 3, 1) := Fm296 (dk_62 (dk_at s296_0 8 rfl rfl)) rfl
theorem f296_9 : ft 296 9 = some (13, 1, 0, .iload_n 3, 1) := Fm296 (dk_29 (dk_at s296_0 9 rfl rfl)) rfl
theorem f296_10 : ft 296 10 = some (13, 1, 0, .ifCond .lt 29, 3) := Fm296 (dk_155 0 29 (dk_at s296_0 10 rfl rfl)) rfl
theorem f296_13 : ft 296 13 = some (13, 1, 0, .aload_n 0, 1) := Fm296 (dk_42 (dk_at s296_0 13 rfl rfl)) rfl
theorem f296_14 : ft 296 14 = some (13, 1, 0, .iload_n 3, 1) := Fm296 (dk_29 (dk_at s296_0 14 rfl rfl)) rfl
theorem f296_15 : ft 296 15 = some (13, 1, 0, .invokevirtual 62, 3) := Fm296 (dk_182 0 62 (dk_at s296_0 15 rfl rfl)) rfl
theorem f296_18 : ft 296 18 = some (13, 1, 0, .istore 4, 2) := Fm296 (dk_54 4 (dk_at s296_0 18 rfl rfl)) rfl
theorem f296_20 : ft 296 20 = some (13, 1, 0, .iload 4, 2) := Fm296 (dk_21 4 (dk_at s296_0 20 rfl rfl)) rfl
theorem f296_22 : ft 296 22 = some (13, 1, 0, .iload_n 2, 1) := Fm296 (dk_28 (dk_at s296_0 22 rfl rfl)) rfl
theorem f296_23 : ft 296 23 = some (13, 1, 0, .if_icmp .le 6, 3) := Fm296 (dk_164 0 6 (dk_at s296_1 0 rfl rfl)) rfl
theorem f296_26 : ft 296 26 = some (13, 1, 0, .iload 4, 2) := Fm296 (dk_21 4 (dk_at s296_1 3 rfl rfl)) rfl
theorem f296_28 : ft 296 28 = some (13, 1, 0, .istore_n 2, 1) := Fm296 (dk_61 (dk_at s296_1 5 rfl rfl)) rfl
theorem f296_29 : ft 296 29 = some (13, 1, 0, .aload_n 0, 1) := Fm296 (dk_42 (dk_at s296_1 6 rfl rfl)) rfl
theorem f296_30 : ft 296 30 = some (13, 1, 0, .getfield 28, 3) := Fm296 (dk_180 0 28 (dk_at s296_1 7 rfl rfl)) rfl
theorem f296_33 : ft 296 33 = some (13, 1, 0, .iload_n 3, 1) := Fm296 (dk_29 (dk_at s296_1 10 rfl rfl)) rfl
theorem f296_34 : ft 296 34 = some (13, 1, 0, .iaload, 1) := Fm296 (dk_46 (dk_at s296_1 11 rfl rfl)) rfl
theorem f296_35 : ft 296 35 = some (13, 1, 0, .istore_n 3, 1) := Fm296 (dk_62 (dk_at s296_1 12 rfl rfl)) rfl
theorem f296_36 : ft 296 36 = some (13, 1, 0, .goto (-27), 3) := Fm296 (dk_167 255 229 (dk_at s296_1 13 rfl rfl)) rfl
theorem f296_39 : ft 296 39 = some (13, 1, 0, .aload_n 0, 1) := Fm296 (dk_42 (dk_at s296_1 16 rfl rfl)) rfl
theorem f296_40 : ft 296 40 = some (13, 1, 0, .getfield 9, 3) := Fm296 (dk_180 0 9 (dk_at s296_1 17 rfl rfl)) rfl
theorem f296_43 : ft 296 43 = some (13, 1, 0, .iload_n 1, 1) := Fm296 (dk_27 (dk_at s296_1 20 rfl rfl)) rfl
theorem f296_44 : ft 296 44 = some (13, 1, 0, .iaload, 1) := Fm296 (dk_46 (dk_at s296_1 21 rfl rfl)) rfl
theorem f296_45 : ft 296 45 = some (13, 1, 0, .iconst 5, 1) := Fm296 (dk_8 (dk_at s296_1 22 rfl rfl)) rfl
theorem f296_46 : ft 296 46 = some (13, 1, 0, .if_icmp .lt 9, 3) := Fm296 (dk_161 0 9 (dk_at s296_2 0 rfl rfl)) rfl
theorem f296_49 : ft 296 49 = some (13, 1, 0, .iload_n 2, 1) := Fm296 (dk_28 (dk_at s296_2 3 rfl rfl)) rfl
theorem f296_50 : ft 296 50 = some (13, 1, 0, .iconst 1, 1) := Fm296 (dk_4 (dk_at s296_2 4 rfl rfl)) rfl
theorem f296_51 : ft 296 51 = some (13, 1, 0, .iadd, 1) := Fm296 (dk_96 (dk_at s296_2 5 rfl rfl)) rfl
theorem f296_52 : ft 296 52 = some (13, 1, 0, .goto 4, 3) := Fm296 (dk_167 0 4 (dk_at s296_2 6 rfl rfl)) rfl
theorem f296_55 : ft 296 55 = some (13, 1, 0, .iload_n 2, 1) := Fm296 (dk_28 (dk_at s296_2 9 rfl rfl)) rfl
theorem f296_56 : ft 296 56 = some (13, 1, 0, .ireturn, 1) := Fm296 (dk_172 (dk_at s296_2 10 rfl rfl)) rfl
theorem q296 {d : Nat} {m : Mem} {a0 a1 : Int} (hz : TZ m) : le2 (gd (tg m a0 = 13) <| nm (vl m a0 4) fun v1 => gd (tg m v1 = 284101 ∨ tg m v1 = 287101) <| gd ((0 : Int) ≤ a1 ∧ a1 < ln m v1) <| rn d 296 9 [pR a0, pI a1, pI 0, pI (vl m v1 a1), pU] [] m) (cl d 296 [pR a0, pI a1] m) := by
  refine q_in (n := 5) (L := [pR a0, pI a1, pU, pU, pU]) rfl rfl rfl ?_
  refine r_iconst (p := 1) f296_0 rfl (pinD rfl rfl) ?_
  refine r_isn2 (p := 2) f296_1 rfl rfl ?_
  refine r_aln0 (p := 3) f296_2 rfl ?_
  refine le2_gd (fun h1 => ?_)
  refine r_gfR (f := 4) (p := 6) f296_3 rfl rfl rfl (Or.inl h1) rfl ?_
  refine r_nmR (fun v1 ev1 => ?_)
  refine r_iln1 (p := 7) f296_6 rfl ?_
  refine le2_gd (fun h2 => ?_)
  refine le2_gd (fun h3 => ?_)
  refine r_iaload (p := 8) f296_7 rfl (dj2 (fun x => x % 1000 = 101) h2 (by decide) (by decide)) h3 rfl ?_
  refine r_isn3 (p := 9) f296_8 rfl rfl ?_
  exact le2_refl _
theorem q296_9 {d : Nat} {m : Mem} {a0 a1 a2 a3 : Int} {z4 : PV} (hd : 0 < d) (hz : TZ m) (hcz4 : cat z4 = 1) : le2 (if a3 < 0 then (gd (tg m a0 = 13) <| nm (vl m a0 0) fun v2 => gd (tg m v2 = 284101 ∨ tg m v2 = 287101) <| gd ((0 : Int) ≤ a1 ∧ a1 < ln m v2) <| if (vl m v2 a1) < 5 then (some (.inl (some (pI a2)), m)) else some (.inl (some (pI (w32 (a2 + 1)))), m)) else gd (tg m a0 = 13) <| bI (cl (d - 1) 296 [pR a0, pI a3] m) fun v1 m1 => if a2 < v1 then (nm (vl m1 a0 5) fun v3 => gd (tg m1 v3 = 284101 ∨ tg m1 v3 = 287101) <| gd ((0 : Int) ≤ a3 ∧ a3 < ln m1 v3) <| rn d 296 9 [pR a0, pI a1, pI v1, pI (vl m1 v3 a3), pI v1] [] m1) else nm (vl m1 a0 5) fun v4 => gd (tg m1 v4 = 284101 ∨ tg m1 v4 = 287101) <| gd ((0 : Int) ≤ a3 ∧ a3 < ln m1 v4) <| rn d 296 9 [pR a0, pI a1, pI a2, pI (vl m1 v4 a3), pI v1] [] m1) (rn d 296 9 [pR a0, pI a1, pI a2, pI a3, z4] [] m) := by
  refine r_iln3 (p := 10) f296_9 rfl ?_
  refine r_iflt (t := 39) (p := 13) f296_10 (by decide) rfl rfl ?_ ?_
  · refine r_aln0 (p := 40) f296_39 rfl ?_
    refine le2_gd (fun h1 => ?_)
    refine r_gfR (f := 0) (p := 43) f296_40 rfl rfl rfl (Or.inl h1) rfl ?_
    refine r_nmR (fun v2 ev2 => ?_)
    refine r_iln1 (p := 44) f296_43 rfl ?_
    refine le2_gd (fun h2 => ?_)
    refine le2_gd (fun h3 => ?_)
    refine r_iaload (p := 45) f296_44 rfl (dj2 (fun x => x % 1000 = 101) h2 (by decide) (by decide)) h3 rfl ?_
    refine r_iconst (p := 46) f296_45 rfl (pinD rfl rfl) ?_
    refine r_iclt (t := 55) (p := 49) f296_46 (by decide) rfl rfl ?_ ?_
    · refine r_iln2 (p := 56) f296_55 rfl ?_
      exact r_iret1 f296_56
    · refine r_iln2 (p := 50) f296_49 rfl ?_
      refine r_iconst (p := 51) f296_50 rfl (pinD rfl rfl) ?_
      refine r_iadd (p := 52) f296_51 rfl ?_
      refine r_goto (p := 56) f296_52 (by decide) rfl ?_
      exact r_iret1 f296_56
  · refine r_aln0 (p := 14) f296_13 rfl ?_
    refine r_iln3 (p := 15) f296_14 rfl ?_
    refine le2_gd (fun h4 => ?_)
    refine r_invI (p := 18) f296_15 rfl rfl rfl (Or.inl h4) hd (Nat.le_of_ble_eq_true rfl) rfl rfl rfl (fun _ => rfl) (fun v1 m1 c1 => ?_)
    have hz1 := z_k c1 hz
    refine r_isw4 (p := 20) f296_18 rfl rfl ?_
    refine r_ilw4 (p := 22) f296_20 rfl ?_
    refine r_iln2 (p := 23) f296_22 rfl ?_
    refine r_icle (t := 29) (p := 26) f296_23 (by decide) rfl rfl ?_ ?_
    · refine r_ilw4 (p := 28) f296_26 rfl ?_
      refine r_isn2 (p := 29) f296_28 rfl rfl ?_
      refine r_aln0 (p := 30) f296_29 rfl ?_
      have h8 := k_t1 c1 hz h4 (by decide)
      refine r_gfR (f := 5) (p := 33) f296_30 rfl rfl rfl (Or.inl h8) rfl ?_
      refine r_nmR (fun v3 ev3 => ?_)
      refine r_iln3 (p := 34) f296_33 rfl ?_
      refine le2_gd (fun h9 => ?_)
      refine le2_gd (fun h10 => ?_)
      refine r_iaload (p := 35) f296_34 rfl (dj2 (fun x => x % 1000 = 101) h9 (by decide) (by decide)) h10 rfl ?_
      refine r_isn3 (p := 36) f296_35 rfl rfl ?_
      refine r_goto (p := 9) f296_36 (by decide) rfl ?_
      exact le2_refl _
    · refine r_aln0 (p := 30) f296_29 rfl ?_
      have h5 := k_t1 c1 hz h4 (by decide)
      refine r_gfR (f := 5) (p := 33) f296_30 rfl rfl rfl (Or.inl h5) rfl ?_
      refine r_nmR (fun v4 ev4 => ?_)
      refine r_iln3 (p := 34) f296_33 rfl ?_
      refine le2_gd (fun h6 => ?_)
      refine le2_gd (fun h7 => ?_)
      refine r_iaload (p := 35) f296_34 rfl (dj2 (fun x => x % 1000 = 101) h6 (by decide) (by decide)) h7 rfl ?_
      refine r_isn3 (p := 36) f296_35 rfl rfl ?_
      refine r_goto (p := 9) f296_36 (by decide) rfl ?_
      exact le2_refl _
/-! 349 java/lang/String.length ()I -/
def w349_0 : List UInt8 := [42, 180, 0, 9, 190, 42, 182, 1, 79, 122, 172]
abbrev u349_0 : List UInt8 := w349_0 ++ []
theorem s349_0 : (prog_47_method_54_code).data.toList.drop 0 = u349_0 := by decide +kernel
theorem Fm349 {pc len : Nat} {i : Instr} (h : decode (prog_47_method_54_code) pc = .ok (i, len)) (hl : len = ilen i len) : ft 349 pc = some (31, 1, 0, i, len) := ft_mk rfl h hl
theorem f349_0 : ft 349 0 = some (31, 1, 0, .aload_n 0, 1) := Fm349 (dk_42 (dk_at s349_0 0 rfl rfl)) rfl
theorem f349_1 : ft 349 1 = some (31, 1, 0, .getfield 9, 3) := Fm349 (dk_180 0 9 (dk_at s349_0 1 rfl rfl)) rfl
theorem f349_4 : ft 349 4 = some (31, 1, 0, .arraylength, 1) := Fm349 (dk_190 (dk_at s349_0 4 rfl rfl)) rfl
theorem f349_5 : ft 349 5 = some (31, 1, 0, .aload_n 0, 1) := Fm349 (dk_42 (dk_at s349_0 5 rfl rfl)) rfl
theorem f349_6 : ft 349 6 = some (31, 1, 0, .invokevirtual 335, 3) := Fm349 (dk_182 1 79 (dk_at s349_0 6 rfl rfl)) rfl
theorem f349_9 : ft 349 9 = some (31, 1, 0, .ishr, 1) := Fm349 (dk_122 (dk_at s349_0 9 rfl rfl)) rfl
theorem f349_10 : ft 349 10 = some (31, 1, 0, .ireturn, 1) := Fm349 (dk_172 (dk_at s349_0 10 rfl rfl)) rfl
theorem q349 {d : Nat} {m : Mem} {a0 : Int} (hd : 0 < d) (hz : TZ m) : le2 (gd (tg m a0 = 31) <| nm (vl m a0 0) fun v2 => gd (tg m v2 % 1000 = 103) <| bI (cl (d - 1) 350 [pR a0] m) fun v1 m1 => some (.inl (some (pI (pShr (ln m v2) v1))), m1)) (cl d 349 [pR a0] m) := by
  refine q_in (n := 1) (L := [pR a0]) rfl rfl rfl ?_
  refine r_aln0 (p := 1) f349_0 rfl ?_
  refine le2_gd (fun h1 => ?_)
  refine r_gfR (f := 0) (p := 4) f349_1 rfl rfl rfl (Or.inl h1) rfl ?_
  refine r_nmR (fun v2 ev2 => ?_)
  refine le2_gd (fun h2 => ?_)
  refine r_alen (p := 5) f349_4 rfl (by rw [h2]; decide) ?_
  refine r_aln0 (p := 6) f349_5 rfl ?_
  refine r_invI (p := 9) f349_6 rfl rfl rfl (Or.inl h1) hd (Nat.le_of_ble_eq_true rfl) rfl rfl rfl (fun _ => rfl) (fun v1 m1 c1 => ?_)
  have hz1 := z_k c1 hz
  refine r_ishr (p := 10) f349_9 rfl ?_
  exact r_iret1 f349_10
/-! 350 java/lang/String.coder ()B -/
def w350_0 : List UInt8 := [178, 0, 38, 153, 0, 10, 42, 180, 0, 15, 167, 0, 4, 4, 172]
abbrev u350_0 : List UInt8 := w350_0 ++ []
theorem s350_0 : (prog_47_method_152_code).data.toList.drop 0 = u350_0 := by decide +kernel
theorem Fm350 {pc len : Nat} {i : Instr} (h : decode (prog_47_method_152_code) pc = .ok (i, len)) (hl : len = ilen i len) : ft 350 pc = some (31, 6, 0, i, len) := ft_mk rfl h hl
theorem f350_0 : ft 350 0 = some (31, 6, 0, .getstatic 38, 3) := Fm350 (dk_178 0 38 (dk_at s350_0 0 rfl rfl)) rfl
theorem f350_3 : ft 350 3 = some (31, 6, 0, .ifCond .eq 10, 3) := Fm350 (dk_153 0 10 (dk_at s350_0 3 rfl rfl)) rfl
theorem f350_6 : ft 350 6 = some (31, 6, 0, .aload_n 0, 1) := Fm350 (dk_42 (dk_at s350_0 6 rfl rfl)) rfl
theorem f350_7 : ft 350 7 = some (31, 6, 0, .getfield 15, 3) := Fm350 (dk_180 0 15 (dk_at s350_0 7 rfl rfl)) rfl
theorem f350_10 : ft 350 10 = some (31, 6, 0, .goto 4, 3) := Fm350 (dk_167 0 4 (dk_at s350_0 10 rfl rfl)) rfl
theorem f350_13 : ft 350 13 = some (31, 6, 0, .iconst 1, 1) := Fm350 (dk_4 (dk_at s350_0 13 rfl rfl)) rfl
theorem f350_14 : ft 350 14 = some (31, 6, 0, .ireturn, 1) := Fm350 (dk_172 (dk_at s350_0 14 rfl rfl)) rfl
theorem q350 {d : Nat} {m : Mem} {a0 : Int} (hz : TZ m) : le2 (if (1 : Int) = 0 then (gd (pin 1 (-128) 128) <| some (.inl (some (pI 1)), m)) else gd (tg m a0 = 31) <| nm (vl m a0 1) fun v1 => gd (pin v1 (-128) 128) <| some (.inl (some (pI v1)), m)) (cl d 350 [pR a0] m) := by
  refine q_in (n := 1) (L := [pR a0]) rfl rfl rfl ?_
  refine r_gs38 (p := 3) f350_0 rfl ?_
  refine r_ifeq (t := 13) (p := 6) f350_3 (by decide) rfl rfl ?_ ?_
  · refine r_iconst (p := 14) f350_13 rfl (pinD rfl rfl) ?_
    refine le2_gd (fun h1 => ?_)
    exact r_iret6 f350_14 h1
  · refine r_aln0 (p := 7) f350_6 rfl ?_
    refine le2_gd (fun h2 => ?_)
    refine r_gfI (f := 1) (p := 10) f350_7 rfl rfl rfl (Or.inl h2) rfl ?_
    refine r_nmI (fun v1 ev1 => ?_)
    refine r_goto (p := 14) f350_10 (by decide) rfl ?_
    refine le2_gd (fun h3 => ?_)
    exact r_iret6 f350_14 h3
/-! 351 java/lang/String.charAt (I)C -/
def w351_1 : List UInt8 := [172]
abbrev u351_1 : List UInt8 := w351_1 ++ []
def w351_0 : List UInt8 := [42, 182, 1, 236, 153, 0, 12, 42, 180, 0, 9, 27, 184, 1, 239, 172, 42, 180, 0, 9, 27, 184, 1, 242]
abbrev u351_0 : List UInt8 := w351_0 ++ u351_1
theorem s351_0 : (prog_47_method_56_code).data.toList.drop 0 = u351_0 := by decide +kernel
theorem s351_1 : (prog_47_method_56_code).data.toList.drop 24 = u351_1 := dk_seg s351_0 24 rfl rfl
theorem Fm351 {pc len : Nat} {i : Instr} (h : decode (prog_47_method_56_code) pc = .ok (i, len)) (hl : len = ilen i len) : ft 351 pc = some (31, 5, 0, i, len) := ft_mk rfl h hl
theorem f351_0 : ft 351 0 = some (31, 5, 0, .aload_n 0, 1) := Fm351 (dk_42 (dk_at s351_0 0 rfl rfl)) rfl
theorem f351_1 : ft 351 1 = some (31, 5, 0, .invokevirtual 492, 3) := Fm351 (dk_182 1 236 (dk_at s351_0 1 rfl rfl)) rfl
theorem f351_4 : ft 351 4 = some (31, 5, 0, .ifCond .eq 12, 3) := Fm351 (dk_153 0 12 (dk_at s351_0 4 rfl rfl)) rfl
theorem f351_7 : ft 351 7 = some (31, 5, 0, .aload_n 0, 1) := Fm351 (dk_42 (dk_at s351_0 7 rfl rfl)) rfl
theorem f351_8 : ft 351 8 = some (31, 5, 0, .getfield 9, 3) := Fm351 (dk_180 0 9 (dk_at s351_0 8 rfl rfl)) rfl
theorem f351_11 : ft 351 11 = some (31, 5, 0, .iload_n 1, 1) := Fm351 (dk_27 (dk_at s351_0 11 rfl rfl)) rfl
theorem f351_12 : ft 351 12 = some (31, 5, 0, .invokestatic 495, 3) := Fm351 (dk_184 1 239 (dk_at s351_0 12 rfl rfl)) rfl
theorem f351_15 : ft 351 15 = some (31, 5, 0, .ireturn, 1) := Fm351 (dk_172 (dk_at s351_0 15 rfl rfl)) rfl
theorem f351_16 : ft 351 16 = some (31, 5, 0, .aload_n 0, 1) := Fm351 (dk_42 (dk_at s351_0 16 rfl rfl)) rfl
theorem f351_17 : ft 351 17 = some (31, 5, 0, .getfield 9, 3) := Fm351 (dk_180 0 9 (dk_at s351_0 17 rfl rfl)) rfl
theorem f351_20 : ft 351 20 = some (31, 5, 0, .iload_n 1, 1) := Fm351 (dk_27 (dk_at s351_0 20 rfl rfl)) rfl
theorem f351_21 : ft 351 21 = some (31, 5, 0, .invokestatic 498, 3) := Fm351 (dk_184 1 242 (dk_at s351_0 21 rfl rfl)) rfl
theorem q351 {d : Nat} {m : Mem} {a0 a1 : Int} (hd : 0 < d) (hz : TZ m) : le2 (gd (tg m a0 = 31) <| bI (cl (d - 1) 352 [pR a0] m) fun v1 m1 => if v1 = 0 then (none) else bI (cl (d - 1) 357 [pR (vl m1 a0 0), pI a1] m1) fun v2 m2 => gd (pin v2 0 65536) <| some (.inl (some (pI v2)), m2)) (cl d 351 [pR a0, pI a1] m) := by
  refine q_in (n := 2) (L := [pR a0, pI a1]) rfl rfl rfl ?_
  refine r_aln0 (p := 1) f351_0 rfl ?_
  refine le2_gd (fun h1 => ?_)
  refine r_invI (p := 4) f351_1 rfl rfl rfl (Or.inl h1) hd (Nat.le_of_ble_eq_true rfl) rfl rfl rfl (fun _ => rfl) (fun v1 m1 c1 => ?_)
  have hz1 := z_k c1 hz
  refine r_ifeq (t := 16) (p := 7) f351_4 (by decide) rfl rfl ?_ ?_
  · refine r_aln0 (p := 17) f351_16 rfl ?_
    have h2 := k_t1 c1 hz h1 (by decide)
    refine r_gfR (f := 0) (p := 20) f351_17 rfl rfl rfl (Or.inl h2) rfl ?_
    refine r_iln1 (p := 21) f351_20 rfl ?_
    exact le2_none
  · refine r_aln0 (p := 8) f351_7 rfl ?_
    have h3 := k_t1 c1 hz h1 (by decide)
    refine r_gfR (f := 0) (p := 11) f351_8 rfl rfl rfl (Or.inl h3) rfl ?_
    refine r_iln1 (p := 12) f351_11 rfl ?_
    refine r_istI (p := 15) f351_12 rfl rfl rfl hd (Nat.le_of_ble_eq_true rfl) rfl rfl rfl (fun _ => rfl) (fun v2 m2 c2 => ?_)
    have hz2 := z_k c2 hz1
    refine le2_gd (fun h4 => ?_)
    exact r_iret5 f351_15 h4
/-! 352 java/lang/String.isLatin1 ()Z -/
def w352_0 : List UInt8 := [178, 0, 38, 153, 0, 14, 42, 180, 0, 15, 154, 0, 7, 4, 167, 0, 4, 3, 172]
abbrev u352_0 : List UInt8 := w352_0 ++ []
theorem s352_0 : (prog_47_method_154_code).data.toList.drop 0 = u352_0 := by decide +kernel
theorem Fm352 {pc len : Nat} {i : Instr} (h : decode (prog_47_method_154_code) pc = .ok (i, len)) (hl : len = ilen i len) : ft 352 pc = some (31, 4, 0, i, len) := ft_mk rfl h hl
theorem f352_0 : ft 352 0 = some (31, 4, 0, .getstatic 38, 3) := Fm352 (dk_178 0 38 (dk_at s352_0 0 rfl rfl)) rfl
theorem f352_3 : ft 352 3 = some (31, 4, 0, .ifCond .eq 14, 3) := Fm352 (dk_153 0 14 (dk_at s352_0 3 rfl rfl)) rfl
theorem f352_6 : ft 352 6 = some (31, 4, 0, .aload_n 0, 1) := Fm352 (dk_42 (dk_at s352_0 6 rfl rfl)) rfl
theorem f352_7 : ft 352 7 = some (31, 4, 0, .getfield 15, 3) := Fm352 (dk_180 0 15 (dk_at s352_0 7 rfl rfl)) rfl
theorem f352_10 : ft 352 10 = some (31, 4, 0, .ifCond .ne 7, 3) := Fm352 (dk_154 0 7 (dk_at s352_0 10 rfl rfl)) rfl
theorem f352_13 : ft 352 13 = some (31, 4, 0, .iconst 1, 1) := Fm352 (dk_4 (dk_at s352_0 13 rfl rfl)) rfl
theorem f352_14 : ft 352 14 = some (31, 4, 0, .goto 4, 3) := Fm352 (dk_167 0 4 (dk_at s352_0 14 rfl rfl)) rfl
theorem f352_17 : ft 352 17 = some (31, 4, 0, .iconst 0, 1) := Fm352 (dk_3 (dk_at s352_0 17 rfl rfl)) rfl
theorem f352_18 : ft 352 18 = some (31, 4, 0, .ireturn, 1) := Fm352 (dk_172 (dk_at s352_0 18 rfl rfl)) rfl
theorem q352 {d : Nat} {m : Mem} {a0 : Int} (hz : TZ m) : le2 (if (1 : Int) = 0 then (some (.inl (some (pI 0)), m)) else gd (tg m a0 = 31) <| if (vl m a0 1) = 0 then (some (.inl (some (pI 1)), m)) else some (.inl (some (pI 0)), m)) (cl d 352 [pR a0] m) := by
  refine q_in (n := 1) (L := [pR a0]) rfl rfl rfl ?_
  refine r_gs38 (p := 3) f352_0 rfl ?_
  refine r_ifeq (t := 17) (p := 6) f352_3 (by decide) rfl rfl ?_ ?_
  · refine r_iconst (p := 18) f352_17 rfl (pinD rfl rfl) ?_
    exact r_iret4 f352_18 (by decide)
  · refine r_aln0 (p := 7) f352_6 rfl ?_
    refine le2_gd (fun h1 => ?_)
    refine r_gfI (f := 1) (p := 10) f352_7 rfl rfl rfl (Or.inl h1) rfl ?_
    refine r_ifne (t := 17) (p := 13) f352_10 (by decide) rfl rfl ?_ ?_
    · refine r_iconst (p := 14) f352_13 rfl (pinD rfl rfl) ?_
      refine r_goto (p := 18) f352_14 (by decide) rfl ?_
      exact r_iret4 f352_18 (by decide)
    · refine r_iconst (p := 18) f352_17 rfl (pinD rfl rfl) ?_
      exact r_iret4 f352_18 (by decide)
/-! 353 java/lang/String.checkIndex (II)V -/
def w353_0 : List UInt8 := [26, 27, 178, 4, 29, 184, 4, 35, 87, 177]
abbrev u353_0 : List UInt8 := w353_0 ++ []
theorem s353_0 : (prog_47_method_155_code).data.toList.drop 0 = u353_0 := by decide +kernel
theorem Fm353 {pc len : Nat} {i : Instr} (h : decode (prog_47_method_155_code) pc = .ok (i, len)) (hl : len = ilen i len) : ft 353 pc = some (31, 0, 0, i, len) := ft_mk rfl h hl
theorem f353_0 : ft 353 0 = some (31, 0, 0, .iload_n 0, 1) := Fm353 (dk_26 (dk_at s353_0 0 rfl rfl)) rfl
theorem f353_1 : ft 353 1 = some (31, 0, 0, .iload_n 1, 1) := Fm353 (dk_27 (dk_at s353_0 1 rfl rfl)) rfl
theorem f353_2 : ft 353 2 = some (31, 0, 0, .getstatic 1053, 3) := Fm353 (dk_178 4 29 (dk_at s353_0 2 rfl rfl)) rfl
theorem f353_5 : ft 353 5 = some (31, 0, 0, .invokestatic 1059, 3) := Fm353 (dk_184 4 35 (dk_at s353_0 5 rfl rfl)) rfl
theorem f353_8 : ft 353 8 = some (31, 0, 0, .pop, 1) := Fm353 (dk_87 (dk_at s353_0 8 rfl rfl)) rfl
theorem f353_9 : ft 353 9 = some (31, 0, 0, .return_, 1) := Fm353 (dk_177 (dk_at s353_0 9 rfl rfl)) rfl
theorem q353 {d : Nat} {m : Mem} {a0 a1 : Int} (hd : 0 < d) (hz : TZ m) : le2 (bI (cl (d - 1) 361 [pI a0, pI a1, pU] m) fun v1 m1 => some (.inl none, m1)) (cl d 353 [pI a0, pI a1] m) := by
  refine q_in (n := 2) (L := [pI a0, pI a1]) rfl rfl rfl ?_
  refine r_iln0 (p := 1) f353_0 rfl ?_
  refine r_iln1 (p := 2) f353_1 rfl ?_
  refine r_gs1053 (p := 5) f353_2 rfl ?_
  refine r_istI (p := 8) f353_5 rfl rfl rfl hd (Nat.le_of_ble_eq_true rfl) rfl rfl rfl (fun _ => rfl) (fun v1 m1 c1 => ?_)
  have hz1 := z_k c1 hz
  refine r_pop (p := 9) f353_8 rfl rfl ?_
  exact r_ret f353_9
/-! 354 java/lang/String.indexOf (I)I -/
def w354_0 : List UInt8 := [42, 27, 3, 182, 2, 121, 172]
abbrev u354_0 : List UInt8 := w354_0 ++ []
theorem s354_0 : (prog_47_method_79_code).data.toList.drop 0 = u354_0 := by decide +kernel
theorem Fm354 {pc len : Nat} {i : Instr} (h : decode (prog_47_method_79_code) pc = .ok (i, len)) (hl : len = ilen i len) : ft 354 pc = some (31, 1, 0, i, len) := ft_mk rfl h hl
theorem f354_0 : ft 354 0 = some (31, 1, 0, .aload_n 0, 1) := Fm354 (dk_42 (dk_at s354_0 0 rfl rfl)) rfl
theorem f354_1 : ft 354 1 = some (31, 1, 0, .iload_n 1, 1) := Fm354 (dk_27 (dk_at s354_0 1 rfl rfl)) rfl
theorem f354_2 : ft 354 2 = some (31, 1, 0, .iconst 0, 1) := Fm354 (dk_3 (dk_at s354_0 2 rfl rfl)) rfl
theorem f354_3 : ft 354 3 = some (31, 1, 0, .invokevirtual 633, 3) := Fm354 (dk_182 2 121 (dk_at s354_0 3 rfl rfl)) rfl
theorem f354_6 : ft 354 6 = some (31, 1, 0, .ireturn, 1) := Fm354 (dk_172 (dk_at s354_0 6 rfl rfl)) rfl
theorem q354 {d : Nat} {m : Mem} {a0 a1 : Int} (hd : 0 < d) (hz : TZ m) : le2 (gd (tg m a0 = 31) <| bI (cl (d - 1) 355 [pR a0, pI a1, pI 0] m) fun v1 m1 => some (.inl (some (pI v1)), m1)) (cl d 354 [pR a0, pI a1] m) := by
  refine q_in (n := 2) (L := [pR a0, pI a1]) rfl rfl rfl ?_
  refine r_aln0 (p := 1) f354_0 rfl ?_
  refine r_iln1 (p := 2) f354_1 rfl ?_
  refine r_iconst (p := 3) f354_2 rfl (pinD rfl rfl) ?_
  refine le2_gd (fun h1 => ?_)
  refine r_invI (p := 6) f354_3 rfl rfl rfl (Or.inl h1) hd (Nat.le_of_ble_eq_true rfl) rfl rfl rfl (fun _ => rfl) (fun v1 m1 c1 => ?_)
  have hz1 := z_k c1 hz
  exact r_iret1 f354_6
/-! 355 java/lang/String.indexOf (II)I -/
def w355_1 : List UInt8 := [180, 0, 9, 27, 28, 42, 182, 1, 249, 184, 2, 128, 172]
abbrev u355_1 : List UInt8 := w355_1 ++ []
def w355_0 : List UInt8 := [42, 182, 1, 236, 153, 0, 19, 42, 180, 0, 9, 27, 28, 42, 182, 1, 249, 184, 2, 125, 167, 0, 16, 42]
abbrev u355_0 : List UInt8 := w355_0 ++ u355_1
theorem s355_0 : (prog_47_method_80_code).data.toList.drop 0 = u355_0 := by decide +kernel
theorem s355_1 : (prog_47_method_80_code).data.toList.drop 24 = u355_1 := dk_seg s355_0 24 rfl rfl
theorem Fm355 {pc len : Nat} {i : Instr} (h : decode (prog_47_method_80_code) pc = .ok (i, len)) (hl : len = ilen i len) : ft 355 pc = some (31, 1, 0, i, len) := ft_mk rfl h hl
theorem f355_0 : ft 355 0 = some (31, 1, 0, .aload_n 0, 1) := Fm355 (dk_42 (dk_at s355_0 0 rfl rfl)) rfl
theorem f355_1 : ft 355 1 = some (31, 1, 0, .invokevirtual 492, 3) := Fm355 (dk_182 1 236 (dk_at s355_0 1 rfl rfl)) rfl
theorem f355_4 : ft 355 4 = some (31, 1, 0, .ifCond .eq 19, 3) := Fm355 (dk_153 0 19 (dk_at s355_0 4 rfl rfl)) rfl
theorem f355_7 : ft 355 7 = some (31, 1, 0, .aload_n 0, 1) := Fm355 (dk_42 (dk_at s355_0 7 rfl rfl)) rfl
theorem f355_8 : ft 355 8 = some (31, 1, 0, .getfield 9, 3) := Fm355 (dk_180 0 9 (dk_at s355_0 8 rfl rfl)) rfl
theorem f355_11 : ft 355 11 = some (31, 1, 0, .iload_n 1, 1) := Fm355 (dk_27 (dk_at s355_0 11 rfl rfl)) rfl
theorem f355_12 : ft 355 12 = some (31, 1, 0, .iload_n 2, 1) := Fm355 (dk_28 (dk_at s355_0 12 rfl rfl)) rfl
theorem f355_13 : ft 355 13 = some (31, 1, 0, .aload_n 0, 1) := Fm355 (dk_42 (dk_at s355_0 13 rfl rfl)) rfl
theorem f355_14 : ft 355 14 = some (31, 1, 0, .invokevirtual 505, 3) := Fm355 (dk_182 1 249 (dk_at s355_0 14 rfl rfl)) rfl
theorem f355_17 : ft 355 17 = some (31, 1, 0, .invokestatic 637, 3) := Fm355 (dk_184 2 125 (dk_at s355_0 17 rfl rfl)) rfl
theorem f355_20 : ft 355 20 = some (31, 1, 0, .goto 16, 3) := Fm355 (dk_167 0 16 (dk_at s355_0 20 rfl rfl)) rfl
theorem f355_23 : ft 355 23 = some (31, 1, 0, .aload_n 0, 1) := Fm355 (dk_42 (dk_at s355_0 23 rfl rfl)) rfl
theorem f355_24 : ft 355 24 = some (31, 1, 0, .getfield 9, 3) := Fm355 (dk_180 0 9 (dk_at s355_1 0 rfl rfl)) rfl
theorem f355_27 : ft 355 27 = some (31, 1, 0, .iload_n 1, 1) := Fm355 (dk_27 (dk_at s355_1 3 rfl rfl)) rfl
theorem f355_28 : ft 355 28 = some (31, 1, 0, .iload_n 2, 1) := Fm355 (dk_28 (dk_at s355_1 4 rfl rfl)) rfl
theorem f355_29 : ft 355 29 = some (31, 1, 0, .aload_n 0, 1) := Fm355 (dk_42 (dk_at s355_1 5 rfl rfl)) rfl
theorem f355_30 : ft 355 30 = some (31, 1, 0, .invokevirtual 505, 3) := Fm355 (dk_182 1 249 (dk_at s355_1 6 rfl rfl)) rfl
theorem f355_33 : ft 355 33 = some (31, 1, 0, .invokestatic 640, 3) := Fm355 (dk_184 2 128 (dk_at s355_1 9 rfl rfl)) rfl
theorem f355_36 : ft 355 36 = some (31, 1, 0, .ireturn, 1) := Fm355 (dk_172 (dk_at s355_1 12 rfl rfl)) rfl
theorem q355 {d : Nat} {m : Mem} {a0 a1 a2 : Int} (hd : 0 < d) (hz : TZ m) : le2 (gd (tg m a0 = 31) <| bI (cl (d - 1) 352 [pR a0] m) fun v1 m1 => if v1 = 0 then (bI (cl (d - 1) 349 [pR a0] m1) fun v2 m2 => none) else bI (cl (d - 1) 349 [pR a0] m1) fun v3 m3 => bI (cl (d - 1) 358 [pR (vl m1 a0 0), pI a1, pI a2, pI v3] m3) fun v4 m4 => some (.inl (some (pI v4)), m4)) (cl d 355 [pR a0, pI a1, pI a2] m) := by
  refine q_in (n := 3) (L := [pR a0, pI a1, pI a2]) rfl rfl rfl ?_
  refine r_aln0 (p := 1) f355_0 rfl ?_
  refine le2_gd (fun h1 => ?_)
  refine r_invI (p := 4) f355_1 rfl rfl rfl (Or.inl h1) hd (Nat.le_of_ble_eq_true rfl) rfl rfl rfl (fun _ => rfl) (fun v1 m1 c1 => ?_)
  have hz1 := z_k c1 hz
  refine r_ifeq (t := 23) (p := 7) f355_4 (by decide) rfl rfl ?_ ?_
  · refine r_aln0 (p := 24) f355_23 rfl ?_
    have h2 := k_t1 c1 hz h1 (by decide)
    refine r_gfR (f := 0) (p := 27) f355_24 rfl rfl rfl (Or.inl h2) rfl ?_
    refine r_iln1 (p := 28) f355_27 rfl ?_
    refine r_iln2 (p := 29) f355_28 rfl ?_
    refine r_aln0 (p := 30) f355_29 rfl ?_
    refine r_invI (p := 33) f355_30 rfl rfl rfl (Or.inl h2) hd (Nat.le_of_ble_eq_true rfl) rfl rfl rfl (fun _ => rfl) (fun v2 m2 c2 => ?_)
    have hz2 := z_k c2 hz1
    exact le2_none
  · refine r_aln0 (p := 8) f355_7 rfl ?_
    have h3 := k_t1 c1 hz h1 (by decide)
    refine r_gfR (f := 0) (p := 11) f355_8 rfl rfl rfl (Or.inl h3) rfl ?_
    refine r_iln1 (p := 12) f355_11 rfl ?_
    refine r_iln2 (p := 13) f355_12 rfl ?_
    refine r_aln0 (p := 14) f355_13 rfl ?_
    refine r_invI (p := 17) f355_14 rfl rfl rfl (Or.inl h3) hd (Nat.le_of_ble_eq_true rfl) rfl rfl rfl (fun _ => rfl) (fun v3 m3 c3 => ?_)
    have hz3 := z_k c3 hz1
    refine r_istI (p := 20) f355_17 rfl rfl rfl hd (Nat.le_of_ble_eq_true rfl) rfl rfl rfl (fun _ => rfl) (fun v4 m4 c4 => ?_)
    have hz4 := z_k c4 hz3
    refine r_goto (p := 36) f355_20 (by decide) rfl ?_
    exact r_iret1 f355_36
/-! 356 java/lang/String.checkBoundsBeginEnd (III)V -/
def w356_0 : List UInt8 := [26, 27, 28, 178, 4, 29, 184, 4, 38, 87, 177]
abbrev u356_0 : List UInt8 := w356_0 ++ []
theorem s356_0 : (prog_47_method_158_code).data.toList.drop 0 = u356_0 := by decide +kernel
theorem Fm356 {pc len : Nat} {i : Instr} (h : decode (prog_47_method_158_code) pc = .ok (i, len)) (hl : len = ilen i len) : ft 356 pc = some (31, 0, 0, i, len) := ft_mk rfl h hl
theorem f356_0 : ft 356 0 = some (31, 0, 0, .iload_n 0, 1) := Fm356 (dk_26 (dk_at s356_0 0 rfl rfl)) rfl
theorem f356_1 : ft 356 1 = some (31, 0, 0, .iload_n 1, 1) := Fm356 (dk_27 (dk_at s356_0 1 rfl rfl)) rfl
theorem f356_2 : ft 356 2 = some (31, 0, 0, .iload_n 2, 1) := Fm356 (dk_28 (dk_at s356_0 2 rfl rfl)) rfl
theorem f356_3 : ft 356 3 = some (31, 0, 0, .getstatic 1053, 3) := Fm356 (dk_178 4 29 (dk_at s356_0 3 rfl rfl)) rfl
theorem f356_6 : ft 356 6 = some (31, 0, 0, .invokestatic 1062, 3) := Fm356 (dk_184 4 38 (dk_at s356_0 6 rfl rfl)) rfl
theorem f356_9 : ft 356 9 = some (31, 0, 0, .pop, 1) := Fm356 (dk_87 (dk_at s356_0 9 rfl rfl)) rfl
theorem f356_10 : ft 356 10 = some (31, 0, 0, .return_, 1) := Fm356 (dk_177 (dk_at s356_0 10 rfl rfl)) rfl
theorem q356 {d : Nat} {m : Mem} {a0 a1 a2 : Int} (hd : 0 < d) (hz : TZ m) : le2 (bI (cl (d - 1) 362 [pI a0, pI a1, pI a2, pU] m) fun v1 m1 => some (.inl none, m1)) (cl d 356 [pI a0, pI a1, pI a2] m) := by
  refine q_in (n := 3) (L := [pI a0, pI a1, pI a2]) rfl rfl rfl ?_
  refine r_iln0 (p := 1) f356_0 rfl ?_
  refine r_iln1 (p := 2) f356_1 rfl ?_
  refine r_iln2 (p := 3) f356_2 rfl ?_
  refine r_gs1053 (p := 6) f356_3 rfl ?_
  refine r_istI (p := 9) f356_6 rfl rfl rfl hd (Nat.le_of_ble_eq_true rfl) rfl rfl rfl (fun _ => rfl) (fun v1 m1 c1 => ?_)
  have hz1 := z_k c1 hz
  refine r_pop (p := 10) f356_9 rfl rfl ?_
  exact r_ret f356_10
/-! 357 java/lang/StringLatin1.charAt ([BI)C -/
def w357_0 : List UInt8 := [27, 42, 190, 184, 0, 9, 42, 27, 51, 17, 0, 255, 126, 146, 172]
abbrev u357_0 : List UInt8 := w357_0 ++ []
theorem s357_0 : (prog_48_method_2_code).data.toList.drop 0 = u357_0 := by decide +kernel
theorem Fm357 {pc len : Nat} {i : Instr} (h : decode (prog_48_method_2_code) pc = .ok (i, len)) (hl : len = ilen i len) : ft 357 pc = some (32, 5, 0, i, len) := ft_mk rfl h hl
theorem f357_0 : ft 357 0 = some (32, 5, 0, .iload_n 1, 1) := Fm357 (dk_27 (dk_at s357_0 0 rfl rfl)) rfl
theorem f357_1 : ft 357 1 = some (32, 5, 0, .aload_n 0, 1) := Fm357 (dk_42 (dk_at s357_0 1 rfl rfl)) rfl
theorem f357_2 : ft 357 2 = some (32, 5, 0, .arraylength, 1) := Fm357 (dk_190 (dk_at s357_0 2 rfl rfl)) rfl
theorem f357_3 : ft 357 3 = some (32, 5, 0, .invokestatic 9, 3) := Fm357 (dk_184 0 9 (dk_at s357_0 3 rfl rfl)) rfl
theorem f357_6 : ft 357 6 = some (32, 5, 0, .aload_n 0, 1) := Fm357 (dk_42 (dk_at s357_0 6 rfl rfl)) rfl
theorem f357_7 : ft 357 7 = some (32, 5, 0, .iload_n 1, 1) := Fm357 (dk_27 (dk_at s357_0 7 rfl rfl)) rfl
theorem f357_8 : ft 357 8 = some (32, 5, 0, .baload, 1) := Fm357 (dk_51 (dk_at s357_0 8 rfl rfl)) rfl
theorem f357_9 : ft 357 9 = some (32, 5, 0, .sipush 255, 3) := Fm357 (dk_17 0 255 (dk_at s357_0 9 rfl rfl)) rfl
theorem f357_12 : ft 357 12 = some (32, 5, 0, .iand, 1) := Fm357 (dk_126 (dk_at s357_0 12 rfl rfl)) rfl
theorem f357_13 : ft 357 13 = some (32, 5, 0, .i2c, 1) := Fm357 (dk_146 (dk_at s357_0 13 rfl rfl)) rfl
theorem f357_14 : ft 357 14 = some (32, 5, 0, .ireturn, 1) := Fm357 (dk_172 (dk_at s357_0 14 rfl rfl)) rfl
theorem q357 {d : Nat} {m : Mem} {a0 a1 : Int} (hd : 0 < d) (hz : TZ m) : le2 (gd (tg m a0 % 1000 = 103) <| bV (cl (d - 1) 353 [pI a1, pI (ln m a0)] m) fun m1 => gd ((0 : Int) ≤ a1 ∧ a1 < ln m1 a0) <| nm ((pAnd (vl m1 a0 a1) 255) % 65536) fun v2 => gd (pin v2 0 65536) <| some (.inl (some (pI v2)), m1)) (cl d 357 [pR a0, pI a1] m) := by
  refine q_in (n := 2) (L := [pR a0, pI a1]) rfl rfl rfl ?_
  refine r_iln1 (p := 1) f357_0 rfl ?_
  refine r_aln0 (p := 2) f357_1 rfl ?_
  refine le2_gd (fun h1 => ?_)
  refine r_alen (p := 3) f357_2 rfl (by rw [h1]; decide) ?_
  refine r_istV (p := 6) f357_3 rfl rfl rfl hd (Nat.le_of_ble_eq_true rfl) rfl rfl rfl (fun _ => rfl) (fun m1 c1 => ?_)
  have hz1 := z_k c1 hz
  refine r_aln0 (p := 7) f357_6 rfl ?_
  refine r_iln1 (p := 8) f357_7 rfl ?_
  have h2 := k_tm c1 hz h1 (by decide)
  refine le2_gd (fun h3 => ?_)
  refine r_baload (p := 9) f357_8 rfl (Or.inl h2) h3 rfl ?_
  refine r_sipush (p := 12) f357_9 rfl (pinD rfl rfl) ?_
  refine r_iand (p := 13) f357_12 rfl ?_
  refine r_i2c (p := 14) f357_13 rfl ?_
  refine r_nmI (fun v2 ev2 => ?_)
  refine le2_gd (fun h4 => ?_)
  exact r_iret5 f357_14 h4
/-! 358 java/lang/StringLatin1.indexOf ([BIII)I -/
def w358_1 : List UInt8 := [161, 0, 5, 2, 172, 42, 27, 28, 29, 184, 0, 95, 172]
abbrev u358_1 : List UInt8 := w358_1 ++ []
def w358_0 : List UInt8 := [27, 184, 0, 88, 154, 0, 5, 2, 172, 28, 3, 184, 0, 92, 61, 29, 42, 190, 184, 0, 38, 62, 28, 29]
abbrev u358_0 : List UInt8 := w358_0 ++ u358_1
theorem s358_0 : (prog_48_method_22_code).data.toList.drop 0 = u358_0 := by decide +kernel
theorem s358_1 : (prog_48_method_22_code).data.toList.drop 24 = u358_1 := dk_seg s358_0 24 rfl rfl
theorem Fm358 {pc len : Nat} {i : Instr} (h : decode (prog_48_method_22_code) pc = .ok (i, len)) (hl : len = ilen i len) : ft 358 pc = some (32, 1, 0, i, len) := ft_mk rfl h hl
theorem f358_0 : ft 358 0 = some (32, 1, 0, .iload_n 1, 1) := Fm358 (dk_27 (dk_at s358_0 0 rfl rfl)) rfl
theorem f358_1 : ft 358 1 = some (32, 1, 0, .invokestatic 88, 3) := Fm358 (dk_184 0 88 (dk_at s358_0 1 rfl rfl)) rfl
theorem f358_4 : ft 358 4 = some (32, 1, 0, .ifCond .ne 5, 3) := Fm358 (dk_154 0 5 (dk_at s358_0 4 rfl rfl)) rfl
theorem f358_7 : ft 358 7 = some (32, 1, 0, .iconst (-1), 1) := Fm358 (dk_2 (dk_at s358_0 7 rfl rfl)) rfl
theorem f358_8 : ft 358 8 = some (32, 1, 0, .ireturn, 1) := Fm358 (dk_172 (dk_at s358_0 8 rfl rfl)) rfl
theorem f358_9 : ft 358 9 = some (32, 1, 0, .iload_n 2, 1) := Fm358 (dk_28 (dk_at s358_0 9 rfl rfl)) rfl
theorem f358_10 : ft 358 10 = some (32, 1, 0, .iconst 0, 1) := Fm358 (dk_3 (dk_at s358_0 10 rfl rfl)) rfl
theorem f358_11 : ft 358 11 = some (32, 1, 0, .invokestatic 92, 3) := Fm358 (dk_184 0 92 (dk_at s358_0 11 rfl rfl)) rfl
theorem f358_14 : ft 358 14 = some (32, 1, 0, .istore_n 2, 1) := Fm358 (dk_61 (dk_at s358_0 14 rfl rfl)) rfl
theorem f358_15 : ft 358 15 = some (32, 1, 0, .iload_n 3, 1) := Fm358 (dk_29 (dk_at s358_0 15 rfl rfl)) rfl
theorem f358_16 : ft 358 16 = some (32, 1, 0, .aload_n 0, 1) := Fm358 (dk_42 (dk_at s358_0 16 rfl rfl)) rfl
theorem f358_17 : ft 358 17 = some (32, 1, 0, .arraylength, 1) := Fm358 (dk_190 (dk_at s358_0 17 rfl rfl)) rfl
theorem f358_18 : ft 358 18 = some (32, 1, 0, .invokestatic 38, 3) := Fm358 (dk_184 0 38 (dk_at s358_0 18 rfl rfl)) rfl
theorem f358_21 : ft 358 21 = some (32, 1, 0, .istore_n 3, 1) := Fm358 (dk_62 (dk_at s358_0 21 rfl rfl)) rfl
theorem f358_22 : ft 358 22 = some (32, 1, 0, .iload_n 2, 1) := Fm358 (dk_28 (dk_at s358_0 22 rfl rfl)) rfl
theorem f358_23 : ft 358 23 = some (32, 1, 0, .iload_n 3, 1) := Fm358 (dk_29 (dk_at s358_0 23 rfl rfl)) rfl
theorem f358_24 : ft 358 24 = some (32, 1, 0, .if_icmp .lt 5, 3) := Fm358 (dk_161 0 5 (dk_at s358_1 0 rfl rfl)) rfl
theorem f358_27 : ft 358 27 = some (32, 1, 0, .iconst (-1), 1) := Fm358 (dk_2 (dk_at s358_1 3 rfl rfl)) rfl
theorem f358_28 : ft 358 28 = some (32, 1, 0, .ireturn, 1) := Fm358 (dk_172 (dk_at s358_1 4 rfl rfl)) rfl
theorem f358_29 : ft 358 29 = some (32, 1, 0, .aload_n 0, 1) := Fm358 (dk_42 (dk_at s358_1 5 rfl rfl)) rfl
theorem f358_30 : ft 358 30 = some (32, 1, 0, .iload_n 1, 1) := Fm358 (dk_27 (dk_at s358_1 6 rfl rfl)) rfl
theorem f358_31 : ft 358 31 = some (32, 1, 0, .iload_n 2, 1) := Fm358 (dk_28 (dk_at s358_1 7 rfl rfl)) rfl
theorem f358_32 : ft 358 32 = some (32, 1, 0, .iload_n 3, 1) := Fm358 (dk_29 (dk_at s358_1 8 rfl rfl)) rfl
theorem f358_33 : ft 358 33 = some (32, 1, 0, .invokestatic 95, 3) := Fm358 (dk_184 0 95 (dk_at s358_1 9 rfl rfl)) rfl
theorem f358_36 : ft 358 36 = some (32, 1, 0, .ireturn, 1) := Fm358 (dk_172 (dk_at s358_1 12 rfl rfl)) rfl
theorem q358 {d : Nat} {m : Mem} {a0 a1 a2 a3 : Int} (hd : 0 < d) (hz : TZ m) : le2 (bI (cl (d - 1) 359 [pI a1] m) fun v1 m1 => if v1 = 0 then (some (.inl (some (pI (-1))), m1)) else nm (max a2 0) fun v3 => gd (tg m1 a0 % 1000 = 103) <| nm (min a3 (ln m1 a0)) fun v4 => if v3 < v4 then (bI (cl (d - 1) 360 [pR a0, pI a1, pI v3, pI v4] m1) fun v2 m2 => some (.inl (some (pI v2)), m2)) else some (.inl (some (pI (-1))), m1)) (cl d 358 [pR a0, pI a1, pI a2, pI a3] m) := by
  refine q_in (n := 4) (L := [pR a0, pI a1, pI a2, pI a3]) rfl rfl rfl ?_
  refine r_iln1 (p := 1) f358_0 rfl ?_
  refine r_istI (p := 4) f358_1 rfl rfl rfl hd (Nat.le_of_ble_eq_true rfl) rfl rfl rfl (fun _ => rfl) (fun v1 m1 c1 => ?_)
  have hz1 := z_k c1 hz
  refine r_ifne (t := 9) (p := 7) f358_4 (by decide) rfl rfl ?_ ?_
  · refine r_iconst (p := 8) f358_7 rfl (pinD rfl rfl) ?_
    exact r_iret1 f358_8
  · refine r_iln2 (p := 10) f358_9 rfl ?_
    refine r_iconst (p := 11) f358_10 rfl (pinD rfl rfl) ?_
    refine r_math6 (p := 14) f358_11 rfl rfl (Nat.le_of_ble_eq_true rfl) ?_
    refine r_nmI (fun v3 ev3 => ?_)
    refine r_isn2 (p := 15) f358_14 rfl rfl ?_
    refine r_iln3 (p := 16) f358_15 rfl ?_
    refine r_aln0 (p := 17) f358_16 rfl ?_
    refine le2_gd (fun h1 => ?_)
    refine r_alen (p := 18) f358_17 rfl (by rw [h1]; decide) ?_
    refine r_math7 (p := 21) f358_18 rfl rfl (Nat.le_of_ble_eq_true rfl) ?_
    refine r_nmI (fun v4 ev4 => ?_)
    refine r_isn3 (p := 22) f358_21 rfl rfl ?_
    refine r_iln2 (p := 23) f358_22 rfl ?_
    refine r_iln3 (p := 24) f358_23 rfl ?_
    refine r_iclt (t := 29) (p := 27) f358_24 (by decide) rfl rfl ?_ ?_
    · refine r_aln0 (p := 30) f358_29 rfl ?_
      refine r_iln1 (p := 31) f358_30 rfl ?_
      refine r_iln2 (p := 32) f358_31 rfl ?_
      refine r_iln3 (p := 33) f358_32 rfl ?_
      refine r_istI (p := 36) f358_33 rfl rfl rfl hd (Nat.le_of_ble_eq_true rfl) rfl rfl rfl (fun _ => rfl) (fun v2 m2 c2 => ?_)
      have hz2 := z_k c2 hz1
      exact r_iret1 f358_36
    · refine r_iconst (p := 28) f358_27 rfl (pinD rfl rfl) ?_
      exact r_iret1 f358_28
/-! 359 java/lang/StringLatin1.canEncode (I)Z -/
def w359_0 : List UInt8 := [26, 155, 0, 14, 26, 17, 0, 255, 163, 0, 7, 4, 167, 0, 4, 3, 172]
abbrev u359_0 : List UInt8 := w359_0 ++ []
theorem s359_0 : (prog_48_method_4_code).data.toList.drop 0 = u359_0 := by decide +kernel
theorem Fm359 {pc len : Nat} {i : Instr} (h : decode (prog_48_method_4_code) pc = .ok (i, len)) (hl : len = ilen i len) : ft 359 pc = some (32, 4, 0, i, len) := ft_mk rfl h hl
theorem f359_0 : ft 359 0 = some (32, 4, 0, .iload_n 0, 1) := Fm359 (dk_26 (dk_at s359_0 0 rfl rfl)) rfl
theorem f359_1 : ft 359 1 = some (32, 4, 0, .ifCond .lt 14, 3) := Fm359 (dk_155 0 14 (dk_at s359_0 1 rfl rfl)) rfl
theorem f359_4 : ft 359 4 = some (32, 4, 0, .iload_n 0, 1) := Fm359 (dk_26 (dk_at s359_0 4 rfl rfl)) rfl
theorem f359_5 : ft 359 5 = some (32, 4, 0, .sipush 255, 3) := Fm359 (dk_17 0 255 (dk_at s359_0 5 rfl rfl)) rfl
theorem f359_8 : ft 359 8 = some (32, 4, 0, .if_icmp .gt 7, 3) := Fm359 (dk_163 0 7 (dk_at s359_0 8 rfl rfl)) rfl
theorem f359_11 : ft 359 11 = some (32, 4, 0, .iconst 1, 1) := Fm359 (dk_4 (dk_at s359_0 11 rfl rfl)) rfl
theorem f359_12 : ft 359 12 = some (32, 4, 0, .goto 4, 3) := Fm359 (dk_167 0 4 (dk_at s359_0 12 rfl rfl)) rfl
theorem f359_15 : ft 359 15 = some (32, 4, 0, .iconst 0, 1) := Fm359 (dk_3 (dk_at s359_0 15 rfl rfl)) rfl
theorem f359_16 : ft 359 16 = some (32, 4, 0, .ireturn, 1) := Fm359 (dk_172 (dk_at s359_0 16 rfl rfl)) rfl
theorem q359 {d : Nat} {m : Mem} {a0 : Int} (hz : TZ m) : le2 (if a0 < 0 then (some (.inl (some (pI 0)), m)) else if 255 < a0 then (some (.inl (some (pI 0)), m)) else some (.inl (some (pI 1)), m)) (cl d 359 [pI a0] m) := by
  refine q_in (n := 1) (L := [pI a0]) rfl rfl rfl ?_
  refine r_iln0 (p := 1) f359_0 rfl ?_
  refine r_iflt (t := 15) (p := 4) f359_1 (by decide) rfl rfl ?_ ?_
  · refine r_iconst (p := 16) f359_15 rfl (pinD rfl rfl) ?_
    exact r_iret4 f359_16 (by decide)
  · refine r_iln0 (p := 5) f359_4 rfl ?_
    refine r_sipush (p := 8) f359_5 rfl (pinD rfl rfl) ?_
    refine r_icgt (t := 15) (p := 11) f359_8 (by decide) rfl rfl ?_ ?_
    · refine r_iconst (p := 16) f359_15 rfl (pinD rfl rfl) ?_
      exact r_iret4 f359_16 (by decide)
    · refine r_iconst (p := 12) f359_11 rfl (pinD rfl rfl) ?_
      refine r_goto (p := 16) f359_12 (by decide) rfl ?_
      exact r_iret4 f359_16 (by decide)
/-! 360 java/lang/StringLatin1.indexOfChar ([BIII)I -/
def w360_1 : List UInt8 := [172, 132, 5, 1, 167, 255, 235, 2, 172]
abbrev u360_1 : List UInt8 := w360_1 ++ []
def w360_0 : List UInt8 := [27, 145, 54, 4, 28, 54, 5, 21, 5, 29, 162, 0, 21, 42, 21, 5, 51, 21, 4, 160, 0, 6, 21, 5]
abbrev u360_0 : List UInt8 := w360_0 ++ u360_1
theorem s360_0 : (prog_48_method_23_code).data.toList.drop 0 = u360_0 := by decide +kernel
theorem s360_1 : (prog_48_method_23_code).data.toList.drop 24 = u360_1 := dk_seg s360_0 24 rfl rfl
theorem Fm360 {pc len : Nat} {i : Instr} (h : decode (prog_48_method_23_code) pc = .ok (i, len)) (hl : len = ilen i len) : ft 360 pc = some (32, 1, 0, i, len) := ft_mk rfl h hl
theorem f360_0 : ft 360 0 = some (32, 1, 0, .iload_n 1, 1) := Fm360 (dk_27 (dk_at s360_0 0 rfl rfl)) rfl
theorem f360_1 : ft 360 1 = some (32, 1, 0, .i2b, 1) := Fm360 (dk_145 (dk_at s360_0 1 rfl rfl)) rfl
theorem f360_2 : ft 360 2 = some (32, 1, 0, .istore 4, 2) := Fm360 (dk_54 4 (dk_at s360_0 2 rfl rfl)) rfl
theorem f360_4 : ft 360 4 = some (32, 1, 0, .iload_n 2, 1) := Fm360 (dk_28 (dk_at s360_0 4 rfl rfl)) rfl
theorem f360_5 : ft 360 5 = some (32, 1, 0, .istore 5, 2) := Fm360 (dk_54 5 (dk_at s360_0 5 rfl rfl)) rfl
theorem f360_7 : ft 360 7 = some (32, 1, 0, .iload 5, 2) := Fm360 (dk_21 5 (dk_at s360_0 7 rfl rfl)) rfl
theorem f360_9 : ft 360 9 = some (32, 1, 0, .iload_n 3, 1) := Fm360 (dk_29 (dk_at s360_0 9 rfl rfl)) rfl
theorem f360_10 : ft 360 10 = some (32, 1, 0, .if_icmp .ge 21, 3) := Fm360 (dk_162 0 21 (dk_at s360_0 10 rfl rfl)) rfl
theorem f360_13 : ft 360 13 = some (32, 1, 0, .aload_n 0, 1) := Fm360 (dk_42 (dk_at s360_0 13 rfl rfl)) rfl
theorem f360_14 : ft 360 14 = some (32, 1, 0, .iload 5, 2) := Fm360 (dk_21 5 (dk_at s360_0 14 rfl rfl)) rfl
theorem f360_16 : ft 360 16 = some (32, 1, 0, .baload, 1) := Fm360 (dk_51 (dk_at s360_0 16 rfl rfl)) rfl
theorem f360_17 : ft 360 17 = some (32, 1, 0, .iload 4, 2) := Fm360 (dk_21 4 (dk_at s360_0 17 rfl rfl)) rfl
theorem f360_19 : ft 360 19 = some (32, 1, 0, .if_icmp .ne 6, 3) := Fm360 (dk_160 0 6 (dk_at s360_0 19 rfl rfl)) rfl
theorem f360_22 : ft 360 22 = some (32, 1, 0, .iload 5, 2) := Fm360 (dk_21 5 (dk_at s360_0 22 rfl rfl)) rfl
theorem f360_24 : ft 360 24 = some (32, 1, 0, .ireturn, 1) := Fm360 (dk_172 (dk_at s360_1 0 rfl rfl)) rfl
theorem f360_25 : ft 360 25 = some (32, 1, 0, .iinc 5 1, 3) := Fm360 (dk_132 5 1 (dk_at s360_1 1 rfl rfl)) rfl
theorem f360_28 : ft 360 28 = some (32, 1, 0, .goto (-21), 3) := Fm360 (dk_167 255 235 (dk_at s360_1 4 rfl rfl)) rfl
theorem f360_31 : ft 360 31 = some (32, 1, 0, .iconst (-1), 1) := Fm360 (dk_2 (dk_at s360_1 7 rfl rfl)) rfl
theorem f360_32 : ft 360 32 = some (32, 1, 0, .ireturn, 1) := Fm360 (dk_172 (dk_at s360_1 8 rfl rfl)) rfl
theorem q360 {d : Nat} {m : Mem} {a0 a1 a2 a3 : Int} (hz : TZ m) : le2 (rn d 360 7 [pR a0, pI a1, pI a2, pI a3, pI (w8 a1), pI a2] [] m) (cl d 360 [pR a0, pI a1, pI a2, pI a3] m) := by
  refine q_in (n := 6) (L := [pR a0, pI a1, pI a2, pI a3, pU, pU]) rfl rfl rfl ?_
  refine r_iln1 (p := 1) f360_0 rfl ?_
  refine r_i2b (p := 2) f360_1 rfl ?_
  refine r_isw4 (p := 4) f360_2 rfl rfl ?_
  refine r_iln2 (p := 5) f360_4 rfl ?_
  refine r_isw5 (p := 7) f360_5 rfl rfl ?_
  exact le2_refl _
theorem q360_7 {d : Nat} {m : Mem} {a0 a1 a2 a3 a4 a5 : Int} (hz : TZ m) : le2 (if a5 < a3 then (gd (tg m a0 % 1000 = 103) <| gd ((0 : Int) ≤ a5 ∧ a5 < ln m a0) <| if (vl m a0 a5) = a4 then (some (.inl (some (pI a5)), m)) else rn d 360 7 [pR a0, pI a1, pI a2, pI a3, pI a4, pI (w32 (a5 + 1))] [] m) else some (.inl (some (pI (-1))), m)) (rn d 360 7 [pR a0, pI a1, pI a2, pI a3, pI a4, pI a5] [] m) := by
  refine r_ilw5 (p := 9) f360_7 rfl ?_
  refine r_iln3 (p := 10) f360_9 rfl ?_
  refine r_icge (t := 31) (p := 13) f360_10 (by decide) rfl rfl ?_ ?_
  · refine r_aln0 (p := 14) f360_13 rfl ?_
    refine r_ilw5 (p := 16) f360_14 rfl ?_
    refine le2_gd (fun h1 => ?_)
    refine le2_gd (fun h2 => ?_)
    refine r_baload (p := 17) f360_16 rfl (Or.inl h1) h2 rfl ?_
    refine r_ilw4 (p := 19) f360_17 rfl ?_
    refine r_icne (t := 25) (p := 22) f360_19 (by decide) rfl rfl ?_ ?_
    · refine r_ilw5 (p := 24) f360_22 rfl ?_
      exact r_iret1 f360_24
    · refine r_iinc5 (p := 28) f360_25 rfl rfl ?_
      refine r_goto (p := 7) f360_28 (by decide) rfl ?_
      exact le2_refl _
  · refine r_iconst (p := 32) f360_31 rfl (pinD rfl rfl) ?_
    exact r_iret1 f360_32
/-! 361 jdk/internal/util/Preconditions.checkIndex (IILjava/util/function/BiFunction;)I -/
def w361_0 : List UInt8 := [26, 155, 0, 8, 26, 27, 161, 0, 10, 44, 26, 27, 184, 0, 95, 191, 26, 172]
abbrev u361_0 : List UInt8 := w361_0 ++ []
theorem s361_0 : (prog_56_method_11_code).data.toList.drop 0 = u361_0 := by decide +kernel
theorem Fm361 {pc len : Nat} {i : Instr} (h : decode (prog_56_method_11_code) pc = .ok (i, len)) (hl : len = ilen i len) : ft 361 pc = some (33, 1, 0, i, len) := ft_mk rfl h hl
theorem f361_0 : ft 361 0 = some (33, 1, 0, .iload_n 0, 1) := Fm361 (dk_26 (dk_at s361_0 0 rfl rfl)) rfl
theorem f361_1 : ft 361 1 = some (33, 1, 0, .ifCond .lt 8, 3) := Fm361 (dk_155 0 8 (dk_at s361_0 1 rfl rfl)) rfl
theorem f361_4 : ft 361 4 = some (33, 1, 0, .iload_n 0, 1) := Fm361 (dk_26 (dk_at s361_0 4 rfl rfl)) rfl
theorem f361_5 : ft 361 5 = some (33, 1, 0, .iload_n 1, 1) := Fm361 (dk_27 (dk_at s361_0 5 rfl rfl)) rfl
theorem f361_6 : ft 361 6 = some (33, 1, 0, .if_icmp .lt 10, 3) := Fm361 (dk_161 0 10 (dk_at s361_0 6 rfl rfl)) rfl
theorem f361_9 : ft 361 9 = some (33, 1, 0, .aload_n 2, 1) := Fm361 (dk_44 (dk_at s361_0 9 rfl rfl)) rfl
theorem f361_10 : ft 361 10 = some (33, 1, 0, .iload_n 0, 1) := Fm361 (dk_26 (dk_at s361_0 10 rfl rfl)) rfl
theorem f361_11 : ft 361 11 = some (33, 1, 0, .iload_n 1, 1) := Fm361 (dk_27 (dk_at s361_0 11 rfl rfl)) rfl
theorem f361_12 : ft 361 12 = some (33, 1, 0, .invokestatic 95, 3) := Fm361 (dk_184 0 95 (dk_at s361_0 12 rfl rfl)) rfl
theorem f361_16 : ft 361 16 = some (33, 1, 0, .iload_n 0, 1) := Fm361 (dk_26 (dk_at s361_0 16 rfl rfl)) rfl
theorem f361_17 : ft 361 17 = some (33, 1, 0, .ireturn, 1) := Fm361 (dk_172 (dk_at s361_0 17 rfl rfl)) rfl
theorem q361 {d : Nat} {m : Mem} {a0 a1 a2 : Int} (hz : TZ m) : le2 (if a0 < 0 then (none) else if a0 < a1 then (some (.inl (some (pI a0)), m)) else none) (cl d 361 [pI a0, pI a1, pR a2] m) := by
  refine q_in (n := 3) (L := [pI a0, pI a1, pR a2]) rfl rfl rfl ?_
  refine r_iln0 (p := 1) f361_0 rfl ?_
  refine r_iflt (t := 9) (p := 4) f361_1 (by decide) rfl rfl ?_ ?_
  · refine r_aln2 (p := 10) f361_9 rfl ?_
    refine r_iln0 (p := 11) f361_10 rfl ?_
    refine r_iln1 (p := 12) f361_11 rfl ?_
    exact le2_none
  · refine r_iln0 (p := 5) f361_4 rfl ?_
    refine r_iln1 (p := 6) f361_5 rfl ?_
    refine r_iclt (t := 16) (p := 9) f361_6 (by decide) rfl rfl ?_ ?_
    · refine r_iln0 (p := 17) f361_16 rfl ?_
      exact r_iret1 f361_17
    · refine r_aln2 (p := 10) f361_9 rfl ?_
      refine r_iln0 (p := 11) f361_10 rfl ?_
      refine r_iln1 (p := 12) f361_11 rfl ?_
      exact le2_none
/-! 362 jdk/internal/util/Preconditions.checkFromToIndex (IIILjava/util/function/BiFunction;)I -/
def w362_0 : List UInt8 := [26, 155, 0, 13, 26, 27, 163, 0, 8, 27, 28, 164, 0, 11, 45, 26, 27, 28, 184, 0, 99, 191, 26, 172]
abbrev u362_0 : List UInt8 := w362_0 ++ []
theorem s362_0 : (prog_56_method_12_code).data.toList.drop 0 = u362_0 := by decide +kernel
theorem Fm362 {pc len : Nat} {i : Instr} (h : decode (prog_56_method_12_code) pc = .ok (i, len)) (hl : len = ilen i len) : ft 362 pc = some (33, 1, 0, i, len) := ft_mk rfl h hl
theorem f362_0 : ft 362 0 = some (33, 1, 0, .iload_n 0, 1) := Fm362 (dk_26 (dk_at s362_0 0 rfl rfl)) rfl
theorem f362_1 : ft 362 1 = some (33, 1, 0, .ifCond .lt 13, 3) := Fm362 (dk_155 0 13 (dk_at s362_0 1 rfl rfl)) rfl
theorem f362_4 : ft 362 4 = some (33, 1, 0, .iload_n 0, 1) := Fm362 (dk_26 (dk_at s362_0 4 rfl rfl)) rfl
theorem f362_5 : ft 362 5 = some (33, 1, 0, .iload_n 1, 1) := Fm362 (dk_27 (dk_at s362_0 5 rfl rfl)) rfl
theorem f362_6 : ft 362 6 = some (33, 1, 0, .if_icmp .gt 8, 3) := Fm362 (dk_163 0 8 (dk_at s362_0 6 rfl rfl)) rfl
theorem f362_9 : ft 362 9 = some (33, 1, 0, .iload_n 1, 1) := Fm362 (dk_27 (dk_at s362_0 9 rfl rfl)) rfl
theorem f362_10 : ft 362 10 = some (33, 1, 0, .iload_n 2, 1) := Fm362 (dk_28 (dk_at s362_0 10 rfl rfl)) rfl
theorem f362_11 : ft 362 11 = some (33, 1, 0, .if_icmp .le 11, 3) := Fm362 (dk_164 0 11 (dk_at s362_0 11 rfl rfl)) rfl
theorem f362_14 : ft 362 14 = some (33, 1, 0, .aload_n 3, 1) := Fm362 (dk_45 (dk_at s362_0 14 rfl rfl)) rfl
theorem f362_15 : ft 362 15 = some (33, 1, 0, .iload_n 0, 1) := Fm362 (dk_26 (dk_at s362_0 15 rfl rfl)) rfl
theorem f362_16 : ft 362 16 = some (33, 1, 0, .iload_n 1, 1) := Fm362 (dk_27 (dk_at s362_0 16 rfl rfl)) rfl
theorem f362_17 : ft 362 17 = some (33, 1, 0, .iload_n 2, 1) := Fm362 (dk_28 (dk_at s362_0 17 rfl rfl)) rfl
theorem f362_18 : ft 362 18 = some (33, 1, 0, .invokestatic 99, 3) := Fm362 (dk_184 0 99 (dk_at s362_0 18 rfl rfl)) rfl
theorem f362_22 : ft 362 22 = some (33, 1, 0, .iload_n 0, 1) := Fm362 (dk_26 (dk_at s362_0 22 rfl rfl)) rfl
theorem f362_23 : ft 362 23 = some (33, 1, 0, .ireturn, 1) := Fm362 (dk_172 (dk_at s362_0 23 rfl rfl)) rfl
theorem q362 {d : Nat} {m : Mem} {a0 a1 a2 a3 : Int} (hz : TZ m) : le2 (if a0 < 0 then (none) else if a1 < a0 then (none) else if a2 < a1 then (none) else some (.inl (some (pI a0)), m)) (cl d 362 [pI a0, pI a1, pI a2, pR a3] m) := by
  refine q_in (n := 4) (L := [pI a0, pI a1, pI a2, pR a3]) rfl rfl rfl ?_
  refine r_iln0 (p := 1) f362_0 rfl ?_
  refine r_iflt (t := 14) (p := 4) f362_1 (by decide) rfl rfl ?_ ?_
  · refine r_aln3 (p := 15) f362_14 rfl ?_
    refine r_iln0 (p := 16) f362_15 rfl ?_
    refine r_iln1 (p := 17) f362_16 rfl ?_
    refine r_iln2 (p := 18) f362_17 rfl ?_
    exact le2_none
  · refine r_iln0 (p := 5) f362_4 rfl ?_
    refine r_iln1 (p := 6) f362_5 rfl ?_
    refine r_icgt (t := 14) (p := 9) f362_6 (by decide) rfl rfl ?_ ?_
    · refine r_aln3 (p := 15) f362_14 rfl ?_
      refine r_iln0 (p := 16) f362_15 rfl ?_
      refine r_iln1 (p := 17) f362_16 rfl ?_
      refine r_iln2 (p := 18) f362_17 rfl ?_
      exact le2_none
    · refine r_iln1 (p := 10) f362_9 rfl ?_
      refine r_iln2 (p := 11) f362_10 rfl ?_
      refine r_icle (t := 22) (p := 14) f362_11 (by decide) rfl rfl ?_ ?_
      · refine r_aln3 (p := 15) f362_14 rfl ?_
        refine r_iln0 (p := 16) f362_15 rfl ?_
        refine r_iln1 (p := 17) f362_16 rfl ?_
        refine r_iln2 (p := 18) f362_17 rfl ?_
        exact le2_none
      · refine r_iln0 (p := 23) f362_22 rfl ?_
        exact r_iret1 f362_23
