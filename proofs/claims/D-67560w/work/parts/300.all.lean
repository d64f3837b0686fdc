/-! any step that calls nothing; what a step leaves as it was -/
set_option maxRecDepth 100000
set_option maxHeartbeats 4000000
section ALL
variable {p : Program} {l : Launch} {e : Env} {R : Room} {s : State} {mid : MethodId} {args : Array Value} {below : List Frame} {meth : Method} {c : Code} {Q : State → Prop}
variable {s0 : State} {b0 : Addr} {pre : Int → Nat} {dC : Nat → ClassId} {dI : Nat → Nat → Nat} {mb : Mem} {pc : Nat} {ls st : List PV} {m : Mem} {k : Nat} {en : mE} {len : Nat} {pc1 : Nat} {l1 s1 : List PV} {m1 : Mem}
theorem stp_go {i : Instr} (hG : G0 s0 b0 pre dC dI) (hE : EM s0 p s mid args meth c en mb) (hls : ls.length = enL en) (hb1 : nx mb ≤ nx m) (hb2 : sl mb ≤ sl m) (hf : 10 ≤ R.frames) (hl2 : 120 ≤ R.locals) (hc1 : (nx m1 - nx mb).toNat ≤ R.cells) (hc2 : (sl m1 - sl mb).toNat ≤ R.slots) (kk : WS s0 pre dC dI p l e R s mid args below meth c mb Q pc1 l1 s1 m1) (hd : decode (enB en) pc = .ok (i, len)) (hlen : len = ilen i len) (h : stp en.1 k (enK en) (enI en) i pc len ls st m = some (.inl (pc1, l1, s1, m1))) : WS s0 pre dC dI p l e R s mid args below meth c mb Q pc ls st m := by
  cases i
  case iadd => have hl9 : len = 1 := hlen; subst hl9; exact s_iadd hG hE hls hb1 hb2 hf hl2 hc1 hc2 kk hd h
  case isub => have hl9 : len = 1 := hlen; subst hl9; exact s_isub hG hE hls hb1 hb2 hf hl2 hc1 hc2 kk hd h
  case imul => have hl9 : len = 1 := hlen; subst hl9; exact s_imul hG hE hls hb1 hb2 hf hl2 hc1 hc2 kk hd h
  case iand => have hl9 : len = 1 := hlen; subst hl9; exact s_iand hG hE hls hb1 hb2 hf hl2 hc1 hc2 kk hd h
  case ior => have hl9 : len = 1 := hlen; subst hl9; exact s_ior hG hE hls hb1 hb2 hf hl2 hc1 hc2 kk hd h
  case ishl => have hl9 : len = 1 := hlen; subst hl9; exact s_ishl hG hE hls hb1 hb2 hf hl2 hc1 hc2 kk hd h
  case ishr => have hl9 : len = 1 := hlen; subst hl9; exact s_ishr hG hE hls hb1 hb2 hf hl2 hc1 hc2 kk hd h
  case iushr => have hl9 : len = 1 := hlen; subst hl9; exact s_iushr hG hE hls hb1 hb2 hf hl2 hc1 hc2 kk hd h
  case ladd => have hl9 : len = 1 := hlen; subst hl9; exact s_ladd hG hE hls hb1 hb2 hf hl2 hc1 hc2 kk hd h
  case lsub => have hl9 : len = 1 := hlen; subst hl9; exact s_lsub hG hE hls hb1 hb2 hf hl2 hc1 hc2 kk hd h
  case lmul => have hl9 : len = 1 := hlen; subst hl9; exact s_lmul hG hE hls hb1 hb2 hf hl2 hc1 hc2 kk hd h
  case lneg => have hl9 : len = 1 := hlen; subst hl9; exact s_lneg hG hE hls hb1 hb2 hf hl2 hc1 hc2 kk hd h
  case land => have hl9 : len = 1 := hlen; subst hl9; exact s_land hG hE hls hb1 hb2 hf hl2 hc1 hc2 kk hd h
  case lor => have hl9 : len = 1 := hlen; subst hl9; exact s_lor hG hE hls hb1 hb2 hf hl2 hc1 hc2 kk hd h
  case lxor => have hl9 : len = 1 := hlen; subst hl9; exact s_lxor hG hE hls hb1 hb2 hf hl2 hc1 hc2 kk hd h
  case lshl => have hl9 : len = 1 := hlen; subst hl9; exact s_lshl hG hE hls hb1 hb2 hf hl2 hc1 hc2 kk hd h
  case lshr => have hl9 : len = 1 := hlen; subst hl9; exact s_lshr hG hE hls hb1 hb2 hf hl2 hc1 hc2 kk hd h
  case lushr => have hl9 : len = 1 := hlen; subst hl9; exact s_lushr hG hE hls hb1 hb2 hf hl2 hc1 hc2 kk hd h
  case lcmp => have hl9 : len = 1 := hlen; subst hl9; exact s_lcmp hG hE hls hb1 hb2 hf hl2 hc1 hc2 kk hd h
  case i2l => have hl9 : len = 1 := hlen; subst hl9; exact s_i2l hG hE hls hb1 hb2 hf hl2 hc1 hc2 kk hd h
  case l2i => have hl9 : len = 1 := hlen; subst hl9; exact s_l2i hG hE hls hb1 hb2 hf hl2 hc1 hc2 kk hd h
  case i2b => have hl9 : len = 1 := hlen; subst hl9; exact s_i2b hG hE hls hb1 hb2 hf hl2 hc1 hc2 kk hd h
  case i2c => have hl9 : len = 1 := hlen; subst hl9; exact s_i2c hG hE hls hb1 hb2 hf hl2 hc1 hc2 kk hd h
  case idiv => have hl9 : len = 1 := hlen; subst hl9; exact s_idiv hG hE hls hb1 hb2 hf hl2 hc1 hc2 kk hd h
  case ldiv => have hl9 : len = 1 := hlen; subst hl9; exact s_ldiv hG hE hls hb1 hb2 hf hl2 hc1 hc2 kk hd h
  case lrem => have hl9 : len = 1 := hlen; subst hl9; exact s_lrem hG hE hls hb1 hb2 hf hl2 hc1 hc2 kk hd h
  case dup => have hl9 : len = 1 := hlen; subst hl9; exact s_dup hG hE hls hb1 hb2 hf hl2 hc1 hc2 kk hd h
  case pop => have hl9 : len = 1 := hlen; subst hl9; exact s_pop hG hE hls hb1 hb2 hf hl2 hc1 hc2 kk hd h
  case dup_x1 => have hl9 : len = 1 := hlen; subst hl9; exact s_dup_x1 hG hE hls hb1 hb2 hf hl2 hc1 hc2 kk hd h
  case dup2 => have hl9 : len = 1 := hlen; subst hl9; exact s_dup2 hG hE hls hb1 hb2 hf hl2 hc1 hc2 kk hd h
  case iaload => have hl9 : len = 1 := hlen; subst hl9; exact s_iaload hG hE hls hb1 hb2 hf hl2 hc1 hc2 kk hd h
  case laload => have hl9 : len = 1 := hlen; subst hl9; exact s_laload hG hE hls hb1 hb2 hf hl2 hc1 hc2 kk hd h
  case caload => have hl9 : len = 1 := hlen; subst hl9; exact s_caload hG hE hls hb1 hb2 hf hl2 hc1 hc2 kk hd h
  case baload => have hl9 : len = 1 := hlen; subst hl9; exact s_baload hG hE hls hb1 hb2 hf hl2 hc1 hc2 kk hd h
  case aaload => have hl9 : len = 1 := hlen; subst hl9; exact s_aaload hG hE hls hb1 hb2 hf hl2 hc1 hc2 kk hd h
  case iastore => have hl9 : len = 1 := hlen; subst hl9; exact s_iastore hG hE hls hb1 hb2 hf hl2 hc1 hc2 kk hd h
  case lastore => have hl9 : len = 1 := hlen; subst hl9; exact s_lastore hG hE hls hb1 hb2 hf hl2 hc1 hc2 kk hd h
  case castore => have hl9 : len = 1 := hlen; subst hl9; exact s_castore hG hE hls hb1 hb2 hf hl2 hc1 hc2 kk hd h
  case bastore => have hl9 : len = 1 := hlen; subst hl9; exact s_bastore hG hE hls hb1 hb2 hf hl2 hc1 hc2 kk hd h
  case arraylength => have hl9 : len = 1 := hlen; subst hl9; exact s_arraylength hG hE hls hb1 hb2 hf hl2 hc1 hc2 kk hd h
  case aastore => have hl9 : len = 1 := hlen; subst hl9; exact s_aastore hG hE hls hb1 hb2 hf hl2 hc1 hc2 kk hd h
  case lconst => have hl9 : len = 1 := hlen; subst hl9; exact s_lconst hG hE hls hb1 hb2 hf hl2 hc1 hc2 kk hd h
  case iconst => have hl9 : len = 1 := hlen; subst hl9; exact s_iconst hG hE hls hb1 hb2 hf hl2 hc1 hc2 kk hd h
  case aload_n => have hl9 : len = 1 := hlen; subst hl9; exact s_aload_n hG hE hls hb1 hb2 hf hl2 hc1 hc2 kk hd h
  case iload_n => have hl9 : len = 1 := hlen; subst hl9; exact s_iload_n hG hE hls hb1 hb2 hf hl2 hc1 hc2 kk hd h
  case lload_n => have hl9 : len = 1 := hlen; subst hl9; exact s_lload_n hG hE hls hb1 hb2 hf hl2 hc1 hc2 kk hd h
  case astore_n => have hl9 : len = 1 := hlen; subst hl9; exact s_astore_n hG hE hls hb1 hb2 hf hl2 hc1 hc2 kk hd h
  case istore_n => have hl9 : len = 1 := hlen; subst hl9; exact s_istore_n hG hE hls hb1 hb2 hf hl2 hc1 hc2 kk hd h
  case lstore_n => have hl9 : len = 1 := hlen; subst hl9; exact s_lstore_n hG hE hls hb1 hb2 hf hl2 hc1 hc2 kk hd h
  case aload => have hl9 : len = 2 := hlen; subst hl9; exact s_aload hG hE hls hb1 hb2 hf hl2 hc1 hc2 kk hd h
  case iload => have hl9 : len = 2 := hlen; subst hl9; exact s_iload hG hE hls hb1 hb2 hf hl2 hc1 hc2 kk hd h
  case lload => have hl9 : len = 2 := hlen; subst hl9; exact s_lload hG hE hls hb1 hb2 hf hl2 hc1 hc2 kk hd h
  case astore => have hl9 : len = 2 := hlen; subst hl9; exact s_astore hG hE hls hb1 hb2 hf hl2 hc1 hc2 kk hd h
  case istore => have hl9 : len = 2 := hlen; subst hl9; exact s_istore hG hE hls hb1 hb2 hf hl2 hc1 hc2 kk hd h
  case lstore => have hl9 : len = 2 := hlen; subst hl9; exact s_lstore hG hE hls hb1 hb2 hf hl2 hc1 hc2 kk hd h
  case bipush => have hl9 : len = 2 := hlen; subst hl9; exact s_bipush hG hE hls hb1 hb2 hf hl2 hc1 hc2 kk hd h
  case ldc => have hl9 : len = 2 := hlen; subst hl9; exact s_ldc hG hE hls hb1 hb2 hf hl2 hc1 hc2 kk hd h
  case newarray => have hl9 : len = 2 := hlen; subst hl9; exact s_newarray hG hE hls hb1 hb2 hf hl2 hc1 hc2 kk hd h
  case sipush => have hl9 : len = 3 := hlen; subst hl9; exact s_sipush hG hE hls hb1 hb2 hf hl2 hc1 hc2 kk hd h
  case iinc => have hl9 : len = 3 := hlen; subst hl9; exact s_iinc hG hE hls hb1 hb2 hf hl2 hc1 hc2 kk hd h
  case if_icmp => have hl9 : len = 3 := hlen; subst hl9; exact s_if_icmp hG hE hls hb1 hb2 hf hl2 hc1 hc2 kk hd h
  case ifCond => have hl9 : len = 3 := hlen; subst hl9; exact s_ifCond hG hE hls hb1 hb2 hf hl2 hc1 hc2 kk hd h
  case ifnull => have hl9 : len = 3 := hlen; subst hl9; exact s_ifnull hG hE hls hb1 hb2 hf hl2 hc1 hc2 kk hd h
  case ifnonnull => have hl9 : len = 3 := hlen; subst hl9; exact s_ifnonnull hG hE hls hb1 hb2 hf hl2 hc1 hc2 kk hd h
  case goto => have hl9 : len = 3 := hlen; subst hl9; exact s_goto hG hE hls hb1 hb2 hf hl2 hc1 hc2 kk hd h
  case getfield => have hl9 : len = 3 := hlen; subst hl9; exact s_getfield hG hE hls hb1 hb2 hf hl2 hc1 hc2 kk hd h
  case putfield => have hl9 : len = 3 := hlen; subst hl9; exact s_putfield hG hE hls hb1 hb2 hf hl2 hc1 hc2 kk hd h
  case instanceof => have hl9 : len = 3 := hlen; subst hl9; exact s_instanceof hG hE hls hb1 hb2 hf hl2 hc1 hc2 kk hd h
  case ldc_w => have hl9 : len = 3 := hlen; subst hl9; exact s_ldc_w hG hE hls hb1 hb2 hf hl2 hc1 hc2 kk hd h
  case ldc2_w => have hl9 : len = 3 := hlen; subst hl9; exact s_ldc2_w hG hE hls hb1 hb2 hf hl2 hc1 hc2 kk hd h
  case getstatic => have hl9 : len = 3 := hlen; subst hl9; exact s_getstatic hG hE hls hb1 hb2 hf hl2 hc1 hc2 kk hd h
  case new => have hl9 : len = 3 := hlen; subst hl9; exact s_new hG hE hls hb1 hb2 hf hl2 hc1 hc2 kk hd h
  case anewarray => have hl9 : len = 3 := hlen; subst hl9; exact s_anewarray hG hE hls hb1 hb2 hf hl2 hc1 hc2 kk hd h
  case aconst_null => have hl9 : len = 1 := hlen; subst hl9; exact s_null hG hE hls hb1 hb2 hf hl2 hc1 hc2 kk hd h
  case tableswitch => exact s_tableswitch hG hE hls hb1 hb2 hf hl2 hc1 hc2 kk hd h
  case lookupswitch => exact s_lookupswitch hG hE hls hb1 hb2 hf hl2 hc1 hc2 kk hd h
  case multianewarray => have hl9 : len = 4 := hlen; subst hl9; exact s_multi hG hE hls hb1 hb2 hf hl2 hc1 hc2 kk hd h
  case invokespecial => have hl9 : len = 3 := hlen; subst hl9; exact s_special hG hE hls hb1 hb2 hf hl2 hc1 hc2 kk hd h
  case invokestatic => have hl9 : len = 3 := hlen; subst hl9; exact s_static hG hE hls hb1 hb2 hf hl2 hc1 hc2 kk hd h
  all_goals (dsimp only [stp] at h; (repeat' split at h) <;> first | cases h | exact (nCall_go h).elim | exact (nR_go h).elim | exact (nT_go h).elim)
theorem stp_keep {cc rk ik : Nat} {i : Instr} (h : stp cc k rk ik i pc len ls st m = some (.inl (pc1, l1, s1, m1))) : l1.length = ls.length ∧ nx m ≤ nx m1 ∧ sl m ≤ sl m1 := by
  have fin : ∀ {a a' : Nat} {b b' x x' : List PV} {y y' : Mem}, nG a b x y = some (.inl (a', b', x', y')) → b.length = ls.length → nx m ≤ nx y → sl m ≤ sl y → b'.length = ls.length ∧ nx m ≤ nx y' ∧ sl m ≤ sl y' := by
    intro a a' b b' x x' y y' h9 h1 h2 h3
    obtain ⟨-, rfl, -, rfl⟩ := nG_inj h9
    exact ⟨h1, h2, h3⟩
  have finJ : ∀ {a a' : Nat} {o : Int} {b b' x x' : List PV} {y y' : Mem}, nJ a o b x y = some (.inl (a', b', x', y')) → b.length = ls.length → nx m ≤ nx y → sl m ≤ sl y → b'.length = ls.length ∧ nx m ≤ nx y' ∧ sl m ≤ sl y' := by
    intro a a' o b b' x x' y y' h9 h1 h2 h3
    obtain ⟨-, rfl, -, rfl⟩ := nJ_inj h9
    exact ⟨h1, h2, h3⟩
  have k1 : ∀ n v, (ls1 ls n v).length = ls.length := fun n v => by unfold ls1; simp [lkl_len]
  have k2 : ∀ n v, (ls2 ls n v).length = ls.length := fun n v => by unfold ls2; simp [lkl_len]
  cases i <;> dsimp only [stp] at h <;> (repeat' split at h) <;> first
    | exact (nCall_go h).elim
    | exact (nR_go h).elim
    | exact (nT_go h).elim
    | exact fin h rfl (Int.le_refl _) (Int.le_refl _)
    | exact finJ h rfl (Int.le_refl _) (Int.le_refl _)
    | exact fin h (k1 _ _) (Int.le_refl _) (Int.le_refl _)
    | exact fin h (k2 _ _) (Int.le_refl _) (Int.le_refl _)
    | exact fin h rfl (by rw [nx_mal]; omega) (by rw [sl_mal]; omega)
    | (rename_i h0; obtain ⟨-, -, -, rfl, rfl⟩ := h0; exact fin h rfl (by rw [nx_mgr]; omega) (by rw [sl_mgr]; omega))
    | cases h
end ALL
