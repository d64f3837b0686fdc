/-! one step -/
set_option maxRecDepth 100000
section STEP
variable {p : Program} {l : Launch} {e : Env} {R : Room} {s : State} {mid : MethodId} {args : Array Value} {below : List Frame} {meth : Method} {c : Code} {Q : State → Prop}
variable {s0 : State} {b0 : Addr} {pre : Int → Nat} {dC : Nat → ClassId} {dI : Nat → Nat → Nat} {mb : Mem} {pc : Nat} {ls st : List PV} {m : Mem} {k : Nat} {en : mE} {len : Nat} {pc1 : Nat} {l1 s1 : List PV} {m1 : Mem}
theorem s_iadd  (hG : G0 s0 b0 pre dC dI) (hE : EM s0 p s mid args meth c en mb) (hls : ls.length = enL en) (hb1 : nx mb ≤ nx m) (hb2 : sl mb ≤ sl m) (hf : 10 ≤ R.frames) (hl2 : 120 ≤ R.locals) (hc1 : (nx m1 - nx mb).toNat ≤ R.cells) (hc2 : (sl m1 - sl mb).toNat ≤ R.slots) (kk : WS s0 pre dC dI p l e R s mid args below meth c mb Q pc1 l1 s1 m1) (hd : decode (enB en) pc = .ok (.iadd, 1)) (h : stp en.1 k (enK en) (enI en) (.iadd) pc 1 ls st m = some (.inl (pc1, l1, s1, m1))) : WS s0 pre dC dI p l e R s mid args below meth c mb Q pc ls st m := by
  obtain ⟨hx, hb, hml, hret, hlocks, hts, hown, hW, hini, hs1, hs2, hmb⟩ := hE
  obtain ⟨hpre, hKn, hw0, hstr, hnc, hnx, hZc, hZf, hZu, hZs, hsx⟩ := hG
  dsimp only [stp] at h
  split at h
  · obtain ⟨rfl, rfl, rfl, rfl⟩ := nG_inj h
    exact g_iadd hx hb hd kk
  · cases h
theorem s_isub  (hG : G0 s0 b0 pre dC dI) (hE : EM s0 p s mid args meth c en mb) (hls : ls.length = enL en) (hb1 : nx mb ≤ nx m) (hb2 : sl mb ≤ sl m) (hf : 10 ≤ R.frames) (hl2 : 120 ≤ R.locals) (hc1 : (nx m1 - nx mb).toNat ≤ R.cells) (hc2 : (sl m1 - sl mb).toNat ≤ R.slots) (kk : WS s0 pre dC dI p l e R s mid args below meth c mb Q pc1 l1 s1 m1) (hd : decode (enB en) pc = .ok (.isub, 1)) (h : stp en.1 k (enK en) (enI en) (.isub) pc 1 ls st m = some (.inl (pc1, l1, s1, m1))) : WS s0 pre dC dI p l e R s mid args below meth c mb Q pc ls st m := by
  obtain ⟨hx, hb, hml, hret, hlocks, hts, hown, hW, hini, hs1, hs2, hmb⟩ := hE
  obtain ⟨hpre, hKn, hw0, hstr, hnc, hnx, hZc, hZf, hZu, hZs, hsx⟩ := hG
  dsimp only [stp] at h
  split at h
  · obtain ⟨rfl, rfl, rfl, rfl⟩ := nG_inj h
    exact g_isub hx hb hd kk
  · cases h
theorem s_imul  (hG : G0 s0 b0 pre dC dI) (hE : EM s0 p s mid args meth c en mb) (hls : ls.length = enL en) (hb1 : nx mb ≤ nx m) (hb2 : sl mb ≤ sl m) (hf : 10 ≤ R.frames) (hl2 : 120 ≤ R.locals) (hc1 : (nx m1 - nx mb).toNat ≤ R.cells) (hc2 : (sl m1 - sl mb).toNat ≤ R.slots) (kk : WS s0 pre dC dI p l e R s mid args below meth c mb Q pc1 l1 s1 m1) (hd : decode (enB en) pc = .ok (.imul, 1)) (h : stp en.1 k (enK en) (enI en) (.imul) pc 1 ls st m = some (.inl (pc1, l1, s1, m1))) : WS s0 pre dC dI p l e R s mid args below meth c mb Q pc ls st m := by
  obtain ⟨hx, hb, hml, hret, hlocks, hts, hown, hW, hini, hs1, hs2, hmb⟩ := hE
  obtain ⟨hpre, hKn, hw0, hstr, hnc, hnx, hZc, hZf, hZu, hZs, hsx⟩ := hG
  dsimp only [stp] at h
  split at h
  · obtain ⟨rfl, rfl, rfl, rfl⟩ := nG_inj h
    exact g_imul hx hb hd kk
  · cases h
theorem s_iand  (hG : G0 s0 b0 pre dC dI) (hE : EM s0 p s mid args meth c en mb) (hls : ls.length = enL en) (hb1 : nx mb ≤ nx m) (hb2 : sl mb ≤ sl m) (hf : 10 ≤ R.frames) (hl2 : 120 ≤ R.locals) (hc1 : (nx m1 - nx mb).toNat ≤ R.cells) (hc2 : (sl m1 - sl mb).toNat ≤ R.slots) (kk : WS s0 pre dC dI p l e R s mid args below meth c mb Q pc1 l1 s1 m1) (hd : decode (enB en) pc = .ok (.iand, 1)) (h : stp en.1 k (enK en) (enI en) (.iand) pc 1 ls st m = some (.inl (pc1, l1, s1, m1))) : WS s0 pre dC dI p l e R s mid args below meth c mb Q pc ls st m := by
  obtain ⟨hx, hb, hml, hret, hlocks, hts, hown, hW, hini, hs1, hs2, hmb⟩ := hE
  obtain ⟨hpre, hKn, hw0, hstr, hnc, hnx, hZc, hZf, hZu, hZs, hsx⟩ := hG
  dsimp only [stp] at h
  split at h
  · obtain ⟨rfl, rfl, rfl, rfl⟩ := nG_inj h
    exact g_iand hx hb hd kk
  · cases h
theorem s_ior  (hG : G0 s0 b0 pre dC dI) (hE : EM s0 p s mid args meth c en mb) (hls : ls.length = enL en) (hb1 : nx mb ≤ nx m) (hb2 : sl mb ≤ sl m) (hf : 10 ≤ R.frames) (hl2 : 120 ≤ R.locals) (hc1 : (nx m1 - nx mb).toNat ≤ R.cells) (hc2 : (sl m1 - sl mb).toNat ≤ R.slots) (kk : WS s0 pre dC dI p l e R s mid args below meth c mb Q pc1 l1 s1 m1) (hd : decode (enB en) pc = .ok (.ior, 1)) (h : stp en.1 k (enK en) (enI en) (.ior) pc 1 ls st m = some (.inl (pc1, l1, s1, m1))) : WS s0 pre dC dI p l e R s mid args below meth c mb Q pc ls st m := by
  obtain ⟨hx, hb, hml, hret, hlocks, hts, hown, hW, hini, hs1, hs2, hmb⟩ := hE
  obtain ⟨hpre, hKn, hw0, hstr, hnc, hnx, hZc, hZf, hZu, hZs, hsx⟩ := hG
  dsimp only [stp] at h
  split at h
  · obtain ⟨rfl, rfl, rfl, rfl⟩ := nG_inj h
    exact g_ior hx hb hd kk
  · cases h
theorem s_ishl  (hG : G0 s0 b0 pre dC dI) (hE : EM s0 p s mid args meth c en mb) (hls : ls.length = enL en) (hb1 : nx mb ≤ nx m) (hb2 : sl mb ≤ sl m) (hf : 10 ≤ R.frames) (hl2 : 120 ≤ R.locals) (hc1 : (nx m1 - nx mb).toNat ≤ R.cells) (hc2 : (sl m1 - sl mb).toNat ≤ R.slots) (kk : WS s0 pre dC dI p l e R s mid args below meth c mb Q pc1 l1 s1 m1) (hd : decode (enB en) pc = .ok (.ishl, 1)) (h : stp en.1 k (enK en) (enI en) (.ishl) pc 1 ls st m = some (.inl (pc1, l1, s1, m1))) : WS s0 pre dC dI p l e R s mid args below meth c mb Q pc ls st m := by
  obtain ⟨hx, hb, hml, hret, hlocks, hts, hown, hW, hini, hs1, hs2, hmb⟩ := hE
  obtain ⟨hpre, hKn, hw0, hstr, hnc, hnx, hZc, hZf, hZu, hZs, hsx⟩ := hG
  dsimp only [stp] at h
  split at h
  · obtain ⟨rfl, rfl, rfl, rfl⟩ := nG_inj h
    exact g_ishl hx hb hd kk
  · cases h
theorem s_ishr  (hG : G0 s0 b0 pre dC dI) (hE : EM s0 p s mid args meth c en mb) (hls : ls.length = enL en) (hb1 : nx mb ≤ nx m) (hb2 : sl mb ≤ sl m) (hf : 10 ≤ R.frames) (hl2 : 120 ≤ R.locals) (hc1 : (nx m1 - nx mb).toNat ≤ R.cells) (hc2 : (sl m1 - sl mb).toNat ≤ R.slots) (kk : WS s0 pre dC dI p l e R s mid args below meth c mb Q pc1 l1 s1 m1) (hd : decode (enB en) pc = .ok (.ishr, 1)) (h : stp en.1 k (enK en) (enI en) (.ishr) pc 1 ls st m = some (.inl (pc1, l1, s1, m1))) : WS s0 pre dC dI p l e R s mid args below meth c mb Q pc ls st m := by
  obtain ⟨hx, hb, hml, hret, hlocks, hts, hown, hW, hini, hs1, hs2, hmb⟩ := hE
  obtain ⟨hpre, hKn, hw0, hstr, hnc, hnx, hZc, hZf, hZu, hZs, hsx⟩ := hG
  dsimp only [stp] at h
  split at h
  · obtain ⟨rfl, rfl, rfl, rfl⟩ := nG_inj h
    exact g_ishr hx hb hd kk
  · cases h
theorem s_iushr  (hG : G0 s0 b0 pre dC dI) (hE : EM s0 p s mid args meth c en mb) (hls : ls.length = enL en) (hb1 : nx mb ≤ nx m) (hb2 : sl mb ≤ sl m) (hf : 10 ≤ R.frames) (hl2 : 120 ≤ R.locals) (hc1 : (nx m1 - nx mb).toNat ≤ R.cells) (hc2 : (sl m1 - sl mb).toNat ≤ R.slots) (kk : WS s0 pre dC dI p l e R s mid args below meth c mb Q pc1 l1 s1 m1) (hd : decode (enB en) pc = .ok (.iushr, 1)) (h : stp en.1 k (enK en) (enI en) (.iushr) pc 1 ls st m = some (.inl (pc1, l1, s1, m1))) : WS s0 pre dC dI p l e R s mid args below meth c mb Q pc ls st m := by
  obtain ⟨hx, hb, hml, hret, hlocks, hts, hown, hW, hini, hs1, hs2, hmb⟩ := hE
  obtain ⟨hpre, hKn, hw0, hstr, hnc, hnx, hZc, hZf, hZu, hZs, hsx⟩ := hG
  dsimp only [stp] at h
  split at h
  · obtain ⟨rfl, rfl, rfl, rfl⟩ := nG_inj h
    exact g_iushr hx hb hd kk
  · cases h
theorem s_ladd  (hG : G0 s0 b0 pre dC dI) (hE : EM s0 p s mid args meth c en mb) (hls : ls.length = enL en) (hb1 : nx mb ≤ nx m) (hb2 : sl mb ≤ sl m) (hf : 10 ≤ R.frames) (hl2 : 120 ≤ R.locals) (hc1 : (nx m1 - nx mb).toNat ≤ R.cells) (hc2 : (sl m1 - sl mb).toNat ≤ R.slots) (kk : WS s0 pre dC dI p l e R s mid args below meth c mb Q pc1 l1 s1 m1) (hd : decode (enB en) pc = .ok (.ladd, 1)) (h : stp en.1 k (enK en) (enI en) (.ladd) pc 1 ls st m = some (.inl (pc1, l1, s1, m1))) : WS s0 pre dC dI p l e R s mid args below meth c mb Q pc ls st m := by
  obtain ⟨hx, hb, hml, hret, hlocks, hts, hown, hW, hini, hs1, hs2, hmb⟩ := hE
  obtain ⟨hpre, hKn, hw0, hstr, hnc, hnx, hZc, hZf, hZu, hZs, hsx⟩ := hG
  dsimp only [stp] at h
  split at h
  · obtain ⟨rfl, rfl, rfl, rfl⟩ := nG_inj h
    exact g_ladd hx hb hd kk
  · cases h
theorem s_lsub  (hG : G0 s0 b0 pre dC dI) (hE : EM s0 p s mid args meth c en mb) (hls : ls.length = enL en) (hb1 : nx mb ≤ nx m) (hb2 : sl mb ≤ sl m) (hf : 10 ≤ R.frames) (hl2 : 120 ≤ R.locals) (hc1 : (nx m1 - nx mb).toNat ≤ R.cells) (hc2 : (sl m1 - sl mb).toNat ≤ R.slots) (kk : WS s0 pre dC dI p l e R s mid args below meth c mb Q pc1 l1 s1 m1) (hd : decode (enB en) pc = .ok (.lsub, 1)) (h : stp en.1 k (enK en) (enI en) (.lsub) pc 1 ls st m = some (.inl (pc1, l1, s1, m1))) : WS s0 pre dC dI p l e R s mid args below meth c mb Q pc ls st m := by
  obtain ⟨hx, hb, hml, hret, hlocks, hts, hown, hW, hini, hs1, hs2, hmb⟩ := hE
  obtain ⟨hpre, hKn, hw0, hstr, hnc, hnx, hZc, hZf, hZu, hZs, hsx⟩ := hG
  dsimp only [stp] at h
  split at h
  · obtain ⟨rfl, rfl, rfl, rfl⟩ := nG_inj h
    exact g_lsub hx hb hd kk
  · cases h
theorem s_lmul  (hG : G0 s0 b0 pre dC dI) (hE : EM s0 p s mid args meth c en mb) (hls : ls.length = enL en) (hb1 : nx mb ≤ nx m) (hb2 : sl mb ≤ sl m) (hf : 10 ≤ R.frames) (hl2 : 120 ≤ R.locals) (hc1 : (nx m1 - nx mb).toNat ≤ R.cells) (hc2 : (sl m1 - sl mb).toNat ≤ R.slots) (kk : WS s0 pre dC dI p l e R s mid args below meth c mb Q pc1 l1 s1 m1) (hd : decode (enB en) pc = .ok (.lmul, 1)) (h : stp en.1 k (enK en) (enI en) (.lmul) pc 1 ls st m = some (.inl (pc1, l1, s1, m1))) : WS s0 pre dC dI p l e R s mid args below meth c mb Q pc ls st m := by
  obtain ⟨hx, hb, hml, hret, hlocks, hts, hown, hW, hini, hs1, hs2, hmb⟩ := hE
  obtain ⟨hpre, hKn, hw0, hstr, hnc, hnx, hZc, hZf, hZu, hZs, hsx⟩ := hG
  dsimp only [stp] at h
  split at h
  · obtain ⟨rfl, rfl, rfl, rfl⟩ := nG_inj h
    exact g_lmul hx hb hd kk
  · cases h
theorem s_lneg  (hG : G0 s0 b0 pre dC dI) (hE : EM s0 p s mid args meth c en mb) (hls : ls.length = enL en) (hb1 : nx mb ≤ nx m) (hb2 : sl mb ≤ sl m) (hf : 10 ≤ R.frames) (hl2 : 120 ≤ R.locals) (hc1 : (nx m1 - nx mb).toNat ≤ R.cells) (hc2 : (sl m1 - sl mb).toNat ≤ R.slots) (kk : WS s0 pre dC dI p l e R s mid args below meth c mb Q pc1 l1 s1 m1) (hd : decode (enB en) pc = .ok (.lneg, 1)) (h : stp en.1 k (enK en) (enI en) (.lneg) pc 1 ls st m = some (.inl (pc1, l1, s1, m1))) : WS s0 pre dC dI p l e R s mid args below meth c mb Q pc ls st m := by
  obtain ⟨hx, hb, hml, hret, hlocks, hts, hown, hW, hini, hs1, hs2, hmb⟩ := hE
  obtain ⟨hpre, hKn, hw0, hstr, hnc, hnx, hZc, hZf, hZu, hZs, hsx⟩ := hG
  dsimp only [stp] at h
  split at h
  · obtain ⟨rfl, rfl, rfl, rfl⟩ := nG_inj h
    exact g_lneg hx hb hd kk
  · cases h
theorem s_land  (hG : G0 s0 b0 pre dC dI) (hE : EM s0 p s mid args meth c en mb) (hls : ls.length = enL en) (hb1 : nx mb ≤ nx m) (hb2 : sl mb ≤ sl m) (hf : 10 ≤ R.frames) (hl2 : 120 ≤ R.locals) (hc1 : (nx m1 - nx mb).toNat ≤ R.cells) (hc2 : (sl m1 - sl mb).toNat ≤ R.slots) (kk : WS s0 pre dC dI p l e R s mid args below meth c mb Q pc1 l1 s1 m1) (hd : decode (enB en) pc = .ok (.land, 1)) (h : stp en.1 k (enK en) (enI en) (.land) pc 1 ls st m = some (.inl (pc1, l1, s1, m1))) : WS s0 pre dC dI p l e R s mid args below meth c mb Q pc ls st m := by
  obtain ⟨hx, hb, hml, hret, hlocks, hts, hown, hW, hini, hs1, hs2, hmb⟩ := hE
  obtain ⟨hpre, hKn, hw0, hstr, hnc, hnx, hZc, hZf, hZu, hZs, hsx⟩ := hG
  dsimp only [stp] at h
  split at h
  · obtain ⟨rfl, rfl, rfl, rfl⟩ := nG_inj h
    exact g_land hx hb hd kk
  · cases h
theorem s_lor  (hG : G0 s0 b0 pre dC dI) (hE : EM s0 p s mid args meth c en mb) (hls : ls.length = enL en) (hb1 : nx mb ≤ nx m) (hb2 : sl mb ≤ sl m) (hf : 10 ≤ R.frames) (hl2 : 120 ≤ R.locals) (hc1 : (nx m1 - nx mb).toNat ≤ R.cells) (hc2 : (sl m1 - sl mb).toNat ≤ R.slots) (kk : WS s0 pre dC dI p l e R s mid args below meth c mb Q pc1 l1 s1 m1) (hd : decode (enB en) pc = .ok (.lor, 1)) (h : stp en.1 k (enK en) (enI en) (.lor) pc 1 ls st m = some (.inl (pc1, l1, s1, m1))) : WS s0 pre dC dI p l e R s mid args below meth c mb Q pc ls st m := by
  obtain ⟨hx, hb, hml, hret, hlocks, hts, hown, hW, hini, hs1, hs2, hmb⟩ := hE
  obtain ⟨hpre, hKn, hw0, hstr, hnc, hnx, hZc, hZf, hZu, hZs, hsx⟩ := hG
  dsimp only [stp] at h
  split at h
  · obtain ⟨rfl, rfl, rfl, rfl⟩ := nG_inj h
    exact g_lor hx hb hd kk
  · cases h
theorem s_lxor  (hG : G0 s0 b0 pre dC dI) (hE : EM s0 p s mid args meth c en mb) (hls : ls.length = enL en) (hb1 : nx mb ≤ nx m) (hb2 : sl mb ≤ sl m) (hf : 10 ≤ R.frames) (hl2 : 120 ≤ R.locals) (hc1 : (nx m1 - nx mb).toNat ≤ R.cells) (hc2 : (sl m1 - sl mb).toNat ≤ R.slots) (kk : WS s0 pre dC dI p l e R s mid args below meth c mb Q pc1 l1 s1 m1) (hd : decode (enB en) pc = .ok (.lxor, 1)) (h : stp en.1 k (enK en) (enI en) (.lxor) pc 1 ls st m = some (.inl (pc1, l1, s1, m1))) : WS s0 pre dC dI p l e R s mid args below meth c mb Q pc ls st m := by
  obtain ⟨hx, hb, hml, hret, hlocks, hts, hown, hW, hini, hs1, hs2, hmb⟩ := hE
  obtain ⟨hpre, hKn, hw0, hstr, hnc, hnx, hZc, hZf, hZu, hZs, hsx⟩ := hG
  dsimp only [stp] at h
  split at h
  · obtain ⟨rfl, rfl, rfl, rfl⟩ := nG_inj h
    exact g_lxor hx hb hd kk
  · cases h
theorem s_lshl  (hG : G0 s0 b0 pre dC dI) (hE : EM s0 p s mid args meth c en mb) (hls : ls.length = enL en) (hb1 : nx mb ≤ nx m) (hb2 : sl mb ≤ sl m) (hf : 10 ≤ R.frames) (hl2 : 120 ≤ R.locals) (hc1 : (nx m1 - nx mb).toNat ≤ R.cells) (hc2 : (sl m1 - sl mb).toNat ≤ R.slots) (kk : WS s0 pre dC dI p l e R s mid args below meth c mb Q pc1 l1 s1 m1) (hd : decode (enB en) pc = .ok (.lshl, 1)) (h : stp en.1 k (enK en) (enI en) (.lshl) pc 1 ls st m = some (.inl (pc1, l1, s1, m1))) : WS s0 pre dC dI p l e R s mid args below meth c mb Q pc ls st m := by
  obtain ⟨hx, hb, hml, hret, hlocks, hts, hown, hW, hini, hs1, hs2, hmb⟩ := hE
  obtain ⟨hpre, hKn, hw0, hstr, hnc, hnx, hZc, hZf, hZu, hZs, hsx⟩ := hG
  dsimp only [stp] at h
  split at h
  · obtain ⟨rfl, rfl, rfl, rfl⟩ := nG_inj h
    exact g_lshl hx hb hd kk
  · cases h
theorem s_lshr  (hG : G0 s0 b0 pre dC dI) (hE : EM s0 p s mid args meth c en mb) (hls : ls.length = enL en) (hb1 : nx mb ≤ nx m) (hb2 : sl mb ≤ sl m) (hf : 10 ≤ R.frames) (hl2 : 120 ≤ R.locals) (hc1 : (nx m1 - nx mb).toNat ≤ R.cells) (hc2 : (sl m1 - sl mb).toNat ≤ R.slots) (kk : WS s0 pre dC dI p l e R s mid args below meth c mb Q pc1 l1 s1 m1) (hd : decode (enB en) pc = .ok (.lshr, 1)) (h : stp en.1 k (enK en) (enI en) (.lshr) pc 1 ls st m = some (.inl (pc1, l1, s1, m1))) : WS s0 pre dC dI p l e R s mid args below meth c mb Q pc ls st m := by
  obtain ⟨hx, hb, hml, hret, hlocks, hts, hown, hW, hini, hs1, hs2, hmb⟩ := hE
  obtain ⟨hpre, hKn, hw0, hstr, hnc, hnx, hZc, hZf, hZu, hZs, hsx⟩ := hG
  dsimp only [stp] at h
  split at h
  · obtain ⟨rfl, rfl, rfl, rfl⟩ := nG_inj h
    exact g_lshr hx hb hd kk
  · cases h
theorem s_lushr  (hG : G0 s0 b0 pre dC dI) (hE : EM s0 p s mid args meth c en mb) (hls : ls.length = enL en) (hb1 : nx mb ≤ nx m) (hb2 : sl mb ≤ sl m) (hf : 10 ≤ R.frames) (hl2 : 120 ≤ R.locals) (hc1 : (nx m1 - nx mb).toNat ≤ R.cells) (hc2 : (sl m1 - sl mb).toNat ≤ R.slots) (kk : WS s0 pre dC dI p l e R s mid args below meth c mb Q pc1 l1 s1 m1) (hd : decode (enB en) pc = .ok (.lushr, 1)) (h : stp en.1 k (enK en) (enI en) (.lushr) pc 1 ls st m = some (.inl (pc1, l1, s1, m1))) : WS s0 pre dC dI p l e R s mid args below meth c mb Q pc ls st m := by
  obtain ⟨hx, hb, hml, hret, hlocks, hts, hown, hW, hini, hs1, hs2, hmb⟩ := hE
  obtain ⟨hpre, hKn, hw0, hstr, hnc, hnx, hZc, hZf, hZu, hZs, hsx⟩ := hG
  dsimp only [stp] at h
  split at h
  · obtain ⟨rfl, rfl, rfl, rfl⟩ := nG_inj h
    exact g_lushr hx hb hd kk
  · cases h
theorem s_lcmp  (hG : G0 s0 b0 pre dC dI) (hE : EM s0 p s mid args meth c en mb) (hls : ls.length = enL en) (hb1 : nx mb ≤ nx m) (hb2 : sl mb ≤ sl m) (hf : 10 ≤ R.frames) (hl2 : 120 ≤ R.locals) (hc1 : (nx m1 - nx mb).toNat ≤ R.cells) (hc2 : (sl m1 - sl mb).toNat ≤ R.slots) (kk : WS s0 pre dC dI p l e R s mid args below meth c mb Q pc1 l1 s1 m1) (hd : decode (enB en) pc = .ok (.lcmp, 1)) (h : stp en.1 k (enK en) (enI en) (.lcmp) pc 1 ls st m = some (.inl (pc1, l1, s1, m1))) : WS s0 pre dC dI p l e R s mid args below meth c mb Q pc ls st m := by
  obtain ⟨hx, hb, hml, hret, hlocks, hts, hown, hW, hini, hs1, hs2, hmb⟩ := hE
  obtain ⟨hpre, hKn, hw0, hstr, hnc, hnx, hZc, hZf, hZu, hZs, hsx⟩ := hG
  dsimp only [stp] at h
  split at h
  · obtain ⟨rfl, rfl, rfl, rfl⟩ := nG_inj h
    exact g_lcmp hx hb hd kk
  · cases h
theorem s_i2l  (hG : G0 s0 b0 pre dC dI) (hE : EM s0 p s mid args meth c en mb) (hls : ls.length = enL en) (hb1 : nx mb ≤ nx m) (hb2 : sl mb ≤ sl m) (hf : 10 ≤ R.frames) (hl2 : 120 ≤ R.locals) (hc1 : (nx m1 - nx mb).toNat ≤ R.cells) (hc2 : (sl m1 - sl mb).toNat ≤ R.slots) (kk : WS s0 pre dC dI p l e R s mid args below meth c mb Q pc1 l1 s1 m1) (hd : decode (enB en) pc = .ok (.i2l, 1)) (h : stp en.1 k (enK en) (enI en) (.i2l) pc 1 ls st m = some (.inl (pc1, l1, s1, m1))) : WS s0 pre dC dI p l e R s mid args below meth c mb Q pc ls st m := by
  obtain ⟨hx, hb, hml, hret, hlocks, hts, hown, hW, hini, hs1, hs2, hmb⟩ := hE
  obtain ⟨hpre, hKn, hw0, hstr, hnc, hnx, hZc, hZf, hZu, hZs, hsx⟩ := hG
  dsimp only [stp] at h
  split at h
  · obtain ⟨rfl, rfl, rfl, rfl⟩ := nG_inj h
    exact g_i2l hx hb hd kk
  · cases h
theorem s_l2i  (hG : G0 s0 b0 pre dC dI) (hE : EM s0 p s mid args meth c en mb) (hls : ls.length = enL en) (hb1 : nx mb ≤ nx m) (hb2 : sl mb ≤ sl m) (hf : 10 ≤ R.frames) (hl2 : 120 ≤ R.locals) (hc1 : (nx m1 - nx mb).toNat ≤ R.cells) (hc2 : (sl m1 - sl mb).toNat ≤ R.slots) (kk : WS s0 pre dC dI p l e R s mid args below meth c mb Q pc1 l1 s1 m1) (hd : decode (enB en) pc = .ok (.l2i, 1)) (h : stp en.1 k (enK en) (enI en) (.l2i) pc 1 ls st m = some (.inl (pc1, l1, s1, m1))) : WS s0 pre dC dI p l e R s mid args below meth c mb Q pc ls st m := by
  obtain ⟨hx, hb, hml, hret, hlocks, hts, hown, hW, hini, hs1, hs2, hmb⟩ := hE
  obtain ⟨hpre, hKn, hw0, hstr, hnc, hnx, hZc, hZf, hZu, hZs, hsx⟩ := hG
  dsimp only [stp] at h
  split at h
  · obtain ⟨rfl, rfl, rfl, rfl⟩ := nG_inj h
    exact g_l2i hx hb hd kk
  · cases h
theorem s_i2b  (hG : G0 s0 b0 pre dC dI) (hE : EM s0 p s mid args meth c en mb) (hls : ls.length = enL en) (hb1 : nx mb ≤ nx m) (hb2 : sl mb ≤ sl m) (hf : 10 ≤ R.frames) (hl2 : 120 ≤ R.locals) (hc1 : (nx m1 - nx mb).toNat ≤ R.cells) (hc2 : (sl m1 - sl mb).toNat ≤ R.slots) (kk : WS s0 pre dC dI p l e R s mid args below meth c mb Q pc1 l1 s1 m1) (hd : decode (enB en) pc = .ok (.i2b, 1)) (h : stp en.1 k (enK en) (enI en) (.i2b) pc 1 ls st m = some (.inl (pc1, l1, s1, m1))) : WS s0 pre dC dI p l e R s mid args below meth c mb Q pc ls st m := by
  obtain ⟨hx, hb, hml, hret, hlocks, hts, hown, hW, hini, hs1, hs2, hmb⟩ := hE
  obtain ⟨hpre, hKn, hw0, hstr, hnc, hnx, hZc, hZf, hZu, hZs, hsx⟩ := hG
  dsimp only [stp] at h
  split at h
  · obtain ⟨rfl, rfl, rfl, rfl⟩ := nG_inj h
    exact g_i2b hx hb hd kk
  · cases h
theorem s_i2c  (hG : G0 s0 b0 pre dC dI) (hE : EM s0 p s mid args meth c en mb) (hls : ls.length = enL en) (hb1 : nx mb ≤ nx m) (hb2 : sl mb ≤ sl m) (hf : 10 ≤ R.frames) (hl2 : 120 ≤ R.locals) (hc1 : (nx m1 - nx mb).toNat ≤ R.cells) (hc2 : (sl m1 - sl mb).toNat ≤ R.slots) (kk : WS s0 pre dC dI p l e R s mid args below meth c mb Q pc1 l1 s1 m1) (hd : decode (enB en) pc = .ok (.i2c, 1)) (h : stp en.1 k (enK en) (enI en) (.i2c) pc 1 ls st m = some (.inl (pc1, l1, s1, m1))) : WS s0 pre dC dI p l e R s mid args below meth c mb Q pc ls st m := by
  obtain ⟨hx, hb, hml, hret, hlocks, hts, hown, hW, hini, hs1, hs2, hmb⟩ := hE
  obtain ⟨hpre, hKn, hw0, hstr, hnc, hnx, hZc, hZf, hZu, hZs, hsx⟩ := hG
  dsimp only [stp] at h
  split at h
  · obtain ⟨rfl, rfl, rfl, rfl⟩ := nG_inj h
    exact g_i2c hx hb hd kk
  · cases h
theorem s_idiv  (hG : G0 s0 b0 pre dC dI) (hE : EM s0 p s mid args meth c en mb) (hls : ls.length = enL en) (hb1 : nx mb ≤ nx m) (hb2 : sl mb ≤ sl m) (hf : 10 ≤ R.frames) (hl2 : 120 ≤ R.locals) (hc1 : (nx m1 - nx mb).toNat ≤ R.cells) (hc2 : (sl m1 - sl mb).toNat ≤ R.slots) (kk : WS s0 pre dC dI p l e R s mid args below meth c mb Q pc1 l1 s1 m1) (hd : decode (enB en) pc = .ok (.idiv, 1)) (h : stp en.1 k (enK en) (enI en) (.idiv) pc 1 ls st m = some (.inl (pc1, l1, s1, m1))) : WS s0 pre dC dI p l e R s mid args below meth c mb Q pc ls st m := by
  obtain ⟨hx, hb, hml, hret, hlocks, hts, hown, hW, hini, hs1, hs2, hmb⟩ := hE
  obtain ⟨hpre, hKn, hw0, hstr, hnc, hnx, hZc, hZf, hZu, hZs, hsx⟩ := hG
  dsimp only [stp] at h
  split at h
  · split at h
    · rename_i h0
      obtain ⟨rfl, rfl, rfl, rfl⟩ := nG_inj h
      exact g_idiv hx hb hd h0 kk
    · cases h
  · cases h
theorem s_ldiv  (hG : G0 s0 b0 pre dC dI) (hE : EM s0 p s mid args meth c en mb) (hls : ls.length = enL en) (hb1 : nx mb ≤ nx m) (hb2 : sl mb ≤ sl m) (hf : 10 ≤ R.frames) (hl2 : 120 ≤ R.locals) (hc1 : (nx m1 - nx mb).toNat ≤ R.cells) (hc2 : (sl m1 - sl mb).toNat ≤ R.slots) (kk : WS s0 pre dC dI p l e R s mid args below meth c mb Q pc1 l1 s1 m1) (hd : decode (enB en) pc = .ok (.ldiv, 1)) (h : stp en.1 k (enK en) (enI en) (.ldiv) pc 1 ls st m = some (.inl (pc1, l1, s1, m1))) : WS s0 pre dC dI p l e R s mid args below meth c mb Q pc ls st m := by
  obtain ⟨hx, hb, hml, hret, hlocks, hts, hown, hW, hini, hs1, hs2, hmb⟩ := hE
  obtain ⟨hpre, hKn, hw0, hstr, hnc, hnx, hZc, hZf, hZu, hZs, hsx⟩ := hG
  dsimp only [stp] at h
  split at h
  · split at h
    · rename_i h0
      obtain ⟨rfl, rfl, rfl, rfl⟩ := nG_inj h
      exact g_ldiv hx hb hd h0 kk
    · cases h
  · cases h
theorem s_lrem  (hG : G0 s0 b0 pre dC dI) (hE : EM s0 p s mid args meth c en mb) (hls : ls.length = enL en) (hb1 : nx mb ≤ nx m) (hb2 : sl mb ≤ sl m) (hf : 10 ≤ R.frames) (hl2 : 120 ≤ R.locals) (hc1 : (nx m1 - nx mb).toNat ≤ R.cells) (hc2 : (sl m1 - sl mb).toNat ≤ R.slots) (kk : WS s0 pre dC dI p l e R s mid args below meth c mb Q pc1 l1 s1 m1) (hd : decode (enB en) pc = .ok (.lrem, 1)) (h : stp en.1 k (enK en) (enI en) (.lrem) pc 1 ls st m = some (.inl (pc1, l1, s1, m1))) : WS s0 pre dC dI p l e R s mid args below meth c mb Q pc ls st m := by
  obtain ⟨hx, hb, hml, hret, hlocks, hts, hown, hW, hini, hs1, hs2, hmb⟩ := hE
  obtain ⟨hpre, hKn, hw0, hstr, hnc, hnx, hZc, hZf, hZu, hZs, hsx⟩ := hG
  dsimp only [stp] at h
  split at h
  · split at h
    · rename_i h0
      obtain ⟨rfl, rfl, rfl, rfl⟩ := nG_inj h
      exact g_lrem hx hb hd h0 kk
    · cases h
  · cases h
theorem s_null  (hG : G0 s0 b0 pre dC dI) (hE : EM s0 p s mid args meth c en mb) (hls : ls.length = enL en) (hb1 : nx mb ≤ nx m) (hb2 : sl mb ≤ sl m) (hf : 10 ≤ R.frames) (hl2 : 120 ≤ R.locals) (hc1 : (nx m1 - nx mb).toNat ≤ R.cells) (hc2 : (sl m1 - sl mb).toNat ≤ R.slots) (kk : WS s0 pre dC dI p l e R s mid args below meth c mb Q pc1 l1 s1 m1) (hd : decode (enB en) pc = .ok (.aconst_null, 1)) (h : stp en.1 k (enK en) (enI en) (.aconst_null) pc 1 ls st m = some (.inl (pc1, l1, s1, m1))) : WS s0 pre dC dI p l e R s mid args below meth c mb Q pc ls st m := by
  obtain ⟨hx, hb, hml, hret, hlocks, hts, hown, hW, hini, hs1, hs2, hmb⟩ := hE
  obtain ⟨hpre, hKn, hw0, hstr, hnc, hnx, hZc, hZf, hZu, hZs, hsx⟩ := hG
  dsimp only [stp] at h
  obtain ⟨rfl, rfl, rfl, rfl⟩ := nG_inj h
  exact g_null hx hb hd kk
theorem s_lconst {n : Fin 2} (hG : G0 s0 b0 pre dC dI) (hE : EM s0 p s mid args meth c en mb) (hls : ls.length = enL en) (hb1 : nx mb ≤ nx m) (hb2 : sl mb ≤ sl m) (hf : 10 ≤ R.frames) (hl2 : 120 ≤ R.locals) (hc1 : (nx m1 - nx mb).toNat ≤ R.cells) (hc2 : (sl m1 - sl mb).toNat ≤ R.slots) (kk : WS s0 pre dC dI p l e R s mid args below meth c mb Q pc1 l1 s1 m1) (hd : decode (enB en) pc = .ok (.lconst n, 1)) (h : stp en.1 k (enK en) (enI en) (.lconst n) pc 1 ls st m = some (.inl (pc1, l1, s1, m1))) : WS s0 pre dC dI p l e R s mid args below meth c mb Q pc ls st m := by
  obtain ⟨hx, hb, hml, hret, hlocks, hts, hown, hW, hini, hs1, hs2, hmb⟩ := hE
  obtain ⟨hpre, hKn, hw0, hstr, hnc, hnx, hZc, hZf, hZu, hZs, hsx⟩ := hG
  dsimp only [stp] at h
  obtain ⟨rfl, rfl, rfl, rfl⟩ := nG_inj h
  exact g_lconst hx hb hd kk
theorem s_iconst {n : Int} (hG : G0 s0 b0 pre dC dI) (hE : EM s0 p s mid args meth c en mb) (hls : ls.length = enL en) (hb1 : nx mb ≤ nx m) (hb2 : sl mb ≤ sl m) (hf : 10 ≤ R.frames) (hl2 : 120 ≤ R.locals) (hc1 : (nx m1 - nx mb).toNat ≤ R.cells) (hc2 : (sl m1 - sl mb).toNat ≤ R.slots) (kk : WS s0 pre dC dI p l e R s mid args below meth c mb Q pc1 l1 s1 m1) (hd : decode (enB en) pc = .ok (.iconst n, 1)) (h : stp en.1 k (enK en) (enI en) (.iconst n) pc 1 ls st m = some (.inl (pc1, l1, s1, m1))) : WS s0 pre dC dI p l e R s mid args below meth c mb Q pc ls st m := by
  obtain ⟨hx, hb, hml, hret, hlocks, hts, hown, hW, hini, hs1, hs2, hmb⟩ := hE
  obtain ⟨hpre, hKn, hw0, hstr, hnc, hnx, hZc, hZf, hZu, hZs, hsx⟩ := hG
  dsimp only [stp] at h
  split at h
  · rename_i h0
    obtain ⟨rfl, rfl, rfl, rfl⟩ := nG_inj h
    exact g_iconst hx hb hd h0 kk
  · cases h
theorem s_bipush {n : Int} (hG : G0 s0 b0 pre dC dI) (hE : EM s0 p s mid args meth c en mb) (hls : ls.length = enL en) (hb1 : nx mb ≤ nx m) (hb2 : sl mb ≤ sl m) (hf : 10 ≤ R.frames) (hl2 : 120 ≤ R.locals) (hc1 : (nx m1 - nx mb).toNat ≤ R.cells) (hc2 : (sl m1 - sl mb).toNat ≤ R.slots) (kk : WS s0 pre dC dI p l e R s mid args below meth c mb Q pc1 l1 s1 m1) (hd : decode (enB en) pc = .ok (.bipush n, 2)) (h : stp en.1 k (enK en) (enI en) (.bipush n) pc 2 ls st m = some (.inl (pc1, l1, s1, m1))) : WS s0 pre dC dI p l e R s mid args below meth c mb Q pc ls st m := by
  obtain ⟨hx, hb, hml, hret, hlocks, hts, hown, hW, hini, hs1, hs2, hmb⟩ := hE
  obtain ⟨hpre, hKn, hw0, hstr, hnc, hnx, hZc, hZf, hZu, hZs, hsx⟩ := hG
  dsimp only [stp] at h
  split at h
  · rename_i h0
    obtain ⟨rfl, rfl, rfl, rfl⟩ := nG_inj h
    exact g_bipush hx hb hd h0 kk
  · cases h
theorem s_sipush {n : Int} (hG : G0 s0 b0 pre dC dI) (hE : EM s0 p s mid args meth c en mb) (hls : ls.length = enL en) (hb1 : nx mb ≤ nx m) (hb2 : sl mb ≤ sl m) (hf : 10 ≤ R.frames) (hl2 : 120 ≤ R.locals) (hc1 : (nx m1 - nx mb).toNat ≤ R.cells) (hc2 : (sl m1 - sl mb).toNat ≤ R.slots) (kk : WS s0 pre dC dI p l e R s mid args below meth c mb Q pc1 l1 s1 m1) (hd : decode (enB en) pc = .ok (.sipush n, 3)) (h : stp en.1 k (enK en) (enI en) (.sipush n) pc 3 ls st m = some (.inl (pc1, l1, s1, m1))) : WS s0 pre dC dI p l e R s mid args below meth c mb Q pc ls st m := by
  obtain ⟨hx, hb, hml, hret, hlocks, hts, hown, hW, hini, hs1, hs2, hmb⟩ := hE
  obtain ⟨hpre, hKn, hw0, hstr, hnc, hnx, hZc, hZf, hZu, hZs, hsx⟩ := hG
  dsimp only [stp] at h
  split at h
  · rename_i h0
    obtain ⟨rfl, rfl, rfl, rfl⟩ := nG_inj h
    exact g_sipush hx hb hd h0 kk
  · cases h
theorem s_aload {n : Nat} (hG : G0 s0 b0 pre dC dI) (hE : EM s0 p s mid args meth c en mb) (hls : ls.length = enL en) (hb1 : nx mb ≤ nx m) (hb2 : sl mb ≤ sl m) (hf : 10 ≤ R.frames) (hl2 : 120 ≤ R.locals) (hc1 : (nx m1 - nx mb).toNat ≤ R.cells) (hc2 : (sl m1 - sl mb).toNat ≤ R.slots) (kk : WS s0 pre dC dI p l e R s mid args below meth c mb Q pc1 l1 s1 m1) (hd : decode (enB en) pc = .ok (.aload n, 2)) (h : stp en.1 k (enK en) (enI en) (.aload n) pc 2 ls st m = some (.inl (pc1, l1, s1, m1))) : WS s0 pre dC dI p l e R s mid args below meth c mb Q pc ls st m := by
  obtain ⟨hx, hb, hml, hret, hlocks, hts, hown, hW, hini, hs1, hs2, hmb⟩ := hE
  obtain ⟨hpre, hKn, hw0, hstr, hnc, hnx, hZc, hZf, hZu, hZs, hsx⟩ := hG
  dsimp only [stp] at h
  split at h
  · rename_i h0
    obtain ⟨rfl, rfl, rfl, rfl⟩ := nG_inj h
    exact g_aload hx hb hd h0 kk
  · cases h
theorem s_iload {n : Nat} (hG : G0 s0 b0 pre dC dI) (hE : EM s0 p s mid args meth c en mb) (hls : ls.length = enL en) (hb1 : nx mb ≤ nx m) (hb2 : sl mb ≤ sl m) (hf : 10 ≤ R.frames) (hl2 : 120 ≤ R.locals) (hc1 : (nx m1 - nx mb).toNat ≤ R.cells) (hc2 : (sl m1 - sl mb).toNat ≤ R.slots) (kk : WS s0 pre dC dI p l e R s mid args below meth c mb Q pc1 l1 s1 m1) (hd : decode (enB en) pc = .ok (.iload n, 2)) (h : stp en.1 k (enK en) (enI en) (.iload n) pc 2 ls st m = some (.inl (pc1, l1, s1, m1))) : WS s0 pre dC dI p l e R s mid args below meth c mb Q pc ls st m := by
  obtain ⟨hx, hb, hml, hret, hlocks, hts, hown, hW, hini, hs1, hs2, hmb⟩ := hE
  obtain ⟨hpre, hKn, hw0, hstr, hnc, hnx, hZc, hZf, hZu, hZs, hsx⟩ := hG
  dsimp only [stp] at h
  split at h
  · rename_i h0
    obtain ⟨rfl, rfl, rfl, rfl⟩ := nG_inj h
    exact g_iload hx hb hd h0 kk
  · cases h
theorem s_lload {n : Nat} (hG : G0 s0 b0 pre dC dI) (hE : EM s0 p s mid args meth c en mb) (hls : ls.length = enL en) (hb1 : nx mb ≤ nx m) (hb2 : sl mb ≤ sl m) (hf : 10 ≤ R.frames) (hl2 : 120 ≤ R.locals) (hc1 : (nx m1 - nx mb).toNat ≤ R.cells) (hc2 : (sl m1 - sl mb).toNat ≤ R.slots) (kk : WS s0 pre dC dI p l e R s mid args below meth c mb Q pc1 l1 s1 m1) (hd : decode (enB en) pc = .ok (.lload n, 2)) (h : stp en.1 k (enK en) (enI en) (.lload n) pc 2 ls st m = some (.inl (pc1, l1, s1, m1))) : WS s0 pre dC dI p l e R s mid args below meth c mb Q pc ls st m := by
  obtain ⟨hx, hb, hml, hret, hlocks, hts, hown, hW, hini, hs1, hs2, hmb⟩ := hE
  obtain ⟨hpre, hKn, hw0, hstr, hnc, hnx, hZc, hZf, hZu, hZs, hsx⟩ := hG
  dsimp only [stp] at h
  split at h
  · rename_i h0
    obtain ⟨rfl, rfl, rfl, rfl⟩ := nG_inj h
    exact g_lload hx hb hd h0 kk
  · cases h
theorem s_aload_n {n : Fin 4} (hG : G0 s0 b0 pre dC dI) (hE : EM s0 p s mid args meth c en mb) (hls : ls.length = enL en) (hb1 : nx mb ≤ nx m) (hb2 : sl mb ≤ sl m) (hf : 10 ≤ R.frames) (hl2 : 120 ≤ R.locals) (hc1 : (nx m1 - nx mb).toNat ≤ R.cells) (hc2 : (sl m1 - sl mb).toNat ≤ R.slots) (kk : WS s0 pre dC dI p l e R s mid args below meth c mb Q pc1 l1 s1 m1) (hd : decode (enB en) pc = .ok (.aload_n n, 1)) (h : stp en.1 k (enK en) (enI en) (.aload_n n) pc 1 ls st m = some (.inl (pc1, l1, s1, m1))) : WS s0 pre dC dI p l e R s mid args below meth c mb Q pc ls st m := by
  obtain ⟨hx, hb, hml, hret, hlocks, hts, hown, hW, hini, hs1, hs2, hmb⟩ := hE
  obtain ⟨hpre, hKn, hw0, hstr, hnc, hnx, hZc, hZf, hZu, hZs, hsx⟩ := hG
  dsimp only [stp] at h
  split at h
  · rename_i h0
    obtain ⟨rfl, rfl, rfl, rfl⟩ := nG_inj h
    exact g_aload_n hx hb hd h0 kk
  · cases h
theorem s_iload_n {n : Fin 4} (hG : G0 s0 b0 pre dC dI) (hE : EM s0 p s mid args meth c en mb) (hls : ls.length = enL en) (hb1 : nx mb ≤ nx m) (hb2 : sl mb ≤ sl m) (hf : 10 ≤ R.frames) (hl2 : 120 ≤ R.locals) (hc1 : (nx m1 - nx mb).toNat ≤ R.cells) (hc2 : (sl m1 - sl mb).toNat ≤ R.slots) (kk : WS s0 pre dC dI p l e R s mid args below meth c mb Q pc1 l1 s1 m1) (hd : decode (enB en) pc = .ok (.iload_n n, 1)) (h : stp en.1 k (enK en) (enI en) (.iload_n n) pc 1 ls st m = some (.inl (pc1, l1, s1, m1))) : WS s0 pre dC dI p l e R s mid args below meth c mb Q pc ls st m := by
  obtain ⟨hx, hb, hml, hret, hlocks, hts, hown, hW, hini, hs1, hs2, hmb⟩ := hE
  obtain ⟨hpre, hKn, hw0, hstr, hnc, hnx, hZc, hZf, hZu, hZs, hsx⟩ := hG
  dsimp only [stp] at h
  split at h
  · rename_i h0
    obtain ⟨rfl, rfl, rfl, rfl⟩ := nG_inj h
    exact g_iload_n hx hb hd h0 kk
  · cases h
theorem s_lload_n {n : Fin 4} (hG : G0 s0 b0 pre dC dI) (hE : EM s0 p s mid args meth c en mb) (hls : ls.length = enL en) (hb1 : nx mb ≤ nx m) (hb2 : sl mb ≤ sl m) (hf : 10 ≤ R.frames) (hl2 : 120 ≤ R.locals) (hc1 : (nx m1 - nx mb).toNat ≤ R.cells) (hc2 : (sl m1 - sl mb).toNat ≤ R.slots) (kk : WS s0 pre dC dI p l e R s mid args below meth c mb Q pc1 l1 s1 m1) (hd : decode (enB en) pc = .ok (.lload_n n, 1)) (h : stp en.1 k (enK en) (enI en) (.lload_n n) pc 1 ls st m = some (.inl (pc1, l1, s1, m1))) : WS s0 pre dC dI p l e R s mid args below meth c mb Q pc ls st m := by
  obtain ⟨hx, hb, hml, hret, hlocks, hts, hown, hW, hini, hs1, hs2, hmb⟩ := hE
  obtain ⟨hpre, hKn, hw0, hstr, hnc, hnx, hZc, hZf, hZu, hZs, hsx⟩ := hG
  dsimp only [stp] at h
  split at h
  · rename_i h0
    obtain ⟨rfl, rfl, rfl, rfl⟩ := nG_inj h
    exact g_lload_n hx hb hd h0 kk
  · cases h
theorem s_astore {n : Nat} (hG : G0 s0 b0 pre dC dI) (hE : EM s0 p s mid args meth c en mb) (hls : ls.length = enL en) (hb1 : nx mb ≤ nx m) (hb2 : sl mb ≤ sl m) (hf : 10 ≤ R.frames) (hl2 : 120 ≤ R.locals) (hc1 : (nx m1 - nx mb).toNat ≤ R.cells) (hc2 : (sl m1 - sl mb).toNat ≤ R.slots) (kk : WS s0 pre dC dI p l e R s mid args below meth c mb Q pc1 l1 s1 m1) (hd : decode (enB en) pc = .ok (.astore n, 2)) (h : stp en.1 k (enK en) (enI en) (.astore n) pc 2 ls st m = some (.inl (pc1, l1, s1, m1))) : WS s0 pre dC dI p l e R s mid args below meth c mb Q pc ls st m := by
  obtain ⟨hx, hb, hml, hret, hlocks, hts, hown, hW, hini, hs1, hs2, hmb⟩ := hE
  obtain ⟨hpre, hKn, hw0, hstr, hnc, hnx, hZc, hZf, hZu, hZs, hsx⟩ := hG
  dsimp only [stp] at h
  split at h
  · split at h
    · rename_i h0
      obtain ⟨rfl, rfl, rfl, rfl⟩ := nG_inj h
      exact g_astore hx hb hd h0 kk
    · cases h
  · cases h
theorem s_istore {n : Nat} (hG : G0 s0 b0 pre dC dI) (hE : EM s0 p s mid args meth c en mb) (hls : ls.length = enL en) (hb1 : nx mb ≤ nx m) (hb2 : sl mb ≤ sl m) (hf : 10 ≤ R.frames) (hl2 : 120 ≤ R.locals) (hc1 : (nx m1 - nx mb).toNat ≤ R.cells) (hc2 : (sl m1 - sl mb).toNat ≤ R.slots) (kk : WS s0 pre dC dI p l e R s mid args below meth c mb Q pc1 l1 s1 m1) (hd : decode (enB en) pc = .ok (.istore n, 2)) (h : stp en.1 k (enK en) (enI en) (.istore n) pc 2 ls st m = some (.inl (pc1, l1, s1, m1))) : WS s0 pre dC dI p l e R s mid args below meth c mb Q pc ls st m := by
  obtain ⟨hx, hb, hml, hret, hlocks, hts, hown, hW, hini, hs1, hs2, hmb⟩ := hE
  obtain ⟨hpre, hKn, hw0, hstr, hnc, hnx, hZc, hZf, hZu, hZs, hsx⟩ := hG
  dsimp only [stp] at h
  split at h
  · split at h
    · rename_i h0
      obtain ⟨rfl, rfl, rfl, rfl⟩ := nG_inj h
      exact g_istore hx hb hd h0 kk
    · cases h
  · cases h
theorem s_lstore {n : Nat} (hG : G0 s0 b0 pre dC dI) (hE : EM s0 p s mid args meth c en mb) (hls : ls.length = enL en) (hb1 : nx mb ≤ nx m) (hb2 : sl mb ≤ sl m) (hf : 10 ≤ R.frames) (hl2 : 120 ≤ R.locals) (hc1 : (nx m1 - nx mb).toNat ≤ R.cells) (hc2 : (sl m1 - sl mb).toNat ≤ R.slots) (kk : WS s0 pre dC dI p l e R s mid args below meth c mb Q pc1 l1 s1 m1) (hd : decode (enB en) pc = .ok (.lstore n, 2)) (h : stp en.1 k (enK en) (enI en) (.lstore n) pc 2 ls st m = some (.inl (pc1, l1, s1, m1))) : WS s0 pre dC dI p l e R s mid args below meth c mb Q pc ls st m := by
  obtain ⟨hx, hb, hml, hret, hlocks, hts, hown, hW, hini, hs1, hs2, hmb⟩ := hE
  obtain ⟨hpre, hKn, hw0, hstr, hnc, hnx, hZc, hZf, hZu, hZs, hsx⟩ := hG
  dsimp only [stp] at h
  split at h
  · split at h
    · rename_i h0
      obtain ⟨rfl, rfl, rfl, rfl⟩ := nG_inj h
      exact g_lstore hx hb hd h0 kk
    · cases h
  · cases h
theorem s_astore_n {n : Fin 4} (hG : G0 s0 b0 pre dC dI) (hE : EM s0 p s mid args meth c en mb) (hls : ls.length = enL en) (hb1 : nx mb ≤ nx m) (hb2 : sl mb ≤ sl m) (hf : 10 ≤ R.frames) (hl2 : 120 ≤ R.locals) (hc1 : (nx m1 - nx mb).toNat ≤ R.cells) (hc2 : (sl m1 - sl mb).toNat ≤ R.slots) (kk : WS s0 pre dC dI p l e R s mid args below meth c mb Q pc1 l1 s1 m1) (hd : decode (enB en) pc = .ok (.astore_n n, 1)) (h : stp en.1 k (enK en) (enI en) (.astore_n n) pc 1 ls st m = some (.inl (pc1, l1, s1, m1))) : WS s0 pre dC dI p l e R s mid args below meth c mb Q pc ls st m := by
  obtain ⟨hx, hb, hml, hret, hlocks, hts, hown, hW, hini, hs1, hs2, hmb⟩ := hE
  obtain ⟨hpre, hKn, hw0, hstr, hnc, hnx, hZc, hZf, hZu, hZs, hsx⟩ := hG
  dsimp only [stp] at h
  split at h
  · split at h
    · rename_i h0
      obtain ⟨rfl, rfl, rfl, rfl⟩ := nG_inj h
      exact g_astore_n hx hb hd h0 kk
    · cases h
  · cases h
theorem s_istore_n {n : Fin 4} (hG : G0 s0 b0 pre dC dI) (hE : EM s0 p s mid args meth c en mb) (hls : ls.length = enL en) (hb1 : nx mb ≤ nx m) (hb2 : sl mb ≤ sl m) (hf : 10 ≤ R.frames) (hl2 : 120 ≤ R.locals) (hc1 : (nx m1 - nx mb).toNat ≤ R.cells) (hc2 : (sl m1 - sl mb).toNat ≤ R.slots) (kk : WS s0 pre dC dI p l e R s mid args below meth c mb Q pc1 l1 s1 m1) (hd : decode (enB en) pc = .ok (.istore_n n, 1)) (h : stp en.1 k (enK en) (enI en) (.istore_n n) pc 1 ls st m = some (.inl (pc1, l1, s1, m1))) : WS s0 pre dC dI p l e R s mid args below meth c mb Q pc ls st m := by
  obtain ⟨hx, hb, hml, hret, hlocks, hts, hown, hW, hini, hs1, hs2, hmb⟩ := hE
  obtain ⟨hpre, hKn, hw0, hstr, hnc, hnx, hZc, hZf, hZu, hZs, hsx⟩ := hG
  dsimp only [stp] at h
  split at h
  · split at h
    · rename_i h0
      obtain ⟨rfl, rfl, rfl, rfl⟩ := nG_inj h
      exact g_istore_n hx hb hd h0 kk
    · cases h
  · cases h
theorem s_lstore_n {n : Fin 4} (hG : G0 s0 b0 pre dC dI) (hE : EM s0 p s mid args meth c en mb) (hls : ls.length = enL en) (hb1 : nx mb ≤ nx m) (hb2 : sl mb ≤ sl m) (hf : 10 ≤ R.frames) (hl2 : 120 ≤ R.locals) (hc1 : (nx m1 - nx mb).toNat ≤ R.cells) (hc2 : (sl m1 - sl mb).toNat ≤ R.slots) (kk : WS s0 pre dC dI p l e R s mid args below meth c mb Q pc1 l1 s1 m1) (hd : decode (enB en) pc = .ok (.lstore_n n, 1)) (h : stp en.1 k (enK en) (enI en) (.lstore_n n) pc 1 ls st m = some (.inl (pc1, l1, s1, m1))) : WS s0 pre dC dI p l e R s mid args below meth c mb Q pc ls st m := by
  obtain ⟨hx, hb, hml, hret, hlocks, hts, hown, hW, hini, hs1, hs2, hmb⟩ := hE
  obtain ⟨hpre, hKn, hw0, hstr, hnc, hnx, hZc, hZf, hZu, hZs, hsx⟩ := hG
  dsimp only [stp] at h
  split at h
  · split at h
    · rename_i h0
      obtain ⟨rfl, rfl, rfl, rfl⟩ := nG_inj h
      exact g_lstore_n hx hb hd h0 kk
    · cases h
  · cases h
theorem s_iinc {n : Nat} {dd : Int} (hG : G0 s0 b0 pre dC dI) (hE : EM s0 p s mid args meth c en mb) (hls : ls.length = enL en) (hb1 : nx mb ≤ nx m) (hb2 : sl mb ≤ sl m) (hf : 10 ≤ R.frames) (hl2 : 120 ≤ R.locals) (hc1 : (nx m1 - nx mb).toNat ≤ R.cells) (hc2 : (sl m1 - sl mb).toNat ≤ R.slots) (kk : WS s0 pre dC dI p l e R s mid args below meth c mb Q pc1 l1 s1 m1) (hd : decode (enB en) pc = .ok (.iinc n dd, 3)) (h : stp en.1 k (enK en) (enI en) (.iinc n dd) pc 3 ls st m = some (.inl (pc1, l1, s1, m1))) : WS s0 pre dC dI p l e R s mid args below meth c mb Q pc ls st m := by
  obtain ⟨hx, hb, hml, hret, hlocks, hts, hown, hW, hini, hs1, hs2, hmb⟩ := hE
  obtain ⟨hpre, hKn, hw0, hstr, hnc, hnx, hZc, hZf, hZu, hZs, hsx⟩ := hG
  dsimp only [stp] at h
  split at h
  · rename_i h0
    split at h
    · obtain ⟨rfl, rfl, rfl, rfl⟩ := nG_inj h
      exact g_iinc hx hb hd h0 kk
    · cases h
  · cases h
theorem s_dup  (hG : G0 s0 b0 pre dC dI) (hE : EM s0 p s mid args meth c en mb) (hls : ls.length = enL en) (hb1 : nx mb ≤ nx m) (hb2 : sl mb ≤ sl m) (hf : 10 ≤ R.frames) (hl2 : 120 ≤ R.locals) (hc1 : (nx m1 - nx mb).toNat ≤ R.cells) (hc2 : (sl m1 - sl mb).toNat ≤ R.slots) (kk : WS s0 pre dC dI p l e R s mid args below meth c mb Q pc1 l1 s1 m1) (hd : decode (enB en) pc = .ok (.dup, 1)) (h : stp en.1 k (enK en) (enI en) (.dup) pc 1 ls st m = some (.inl (pc1, l1, s1, m1))) : WS s0 pre dC dI p l e R s mid args below meth c mb Q pc ls st m := by
  obtain ⟨hx, hb, hml, hret, hlocks, hts, hown, hW, hini, hs1, hs2, hmb⟩ := hE
  obtain ⟨hpre, hKn, hw0, hstr, hnc, hnx, hZc, hZf, hZu, hZs, hsx⟩ := hG
  dsimp only [stp] at h
  split at h
  · split at h
    · rename_i h0
      obtain ⟨rfl, rfl, rfl, rfl⟩ := nG_inj h
      exact g_dup hx hb hd h0 kk
    · cases h
  · cases h
theorem s_pop  (hG : G0 s0 b0 pre dC dI) (hE : EM s0 p s mid args meth c en mb) (hls : ls.length = enL en) (hb1 : nx mb ≤ nx m) (hb2 : sl mb ≤ sl m) (hf : 10 ≤ R.frames) (hl2 : 120 ≤ R.locals) (hc1 : (nx m1 - nx mb).toNat ≤ R.cells) (hc2 : (sl m1 - sl mb).toNat ≤ R.slots) (kk : WS s0 pre dC dI p l e R s mid args below meth c mb Q pc1 l1 s1 m1) (hd : decode (enB en) pc = .ok (.pop, 1)) (h : stp en.1 k (enK en) (enI en) (.pop) pc 1 ls st m = some (.inl (pc1, l1, s1, m1))) : WS s0 pre dC dI p l e R s mid args below meth c mb Q pc ls st m := by
  obtain ⟨hx, hb, hml, hret, hlocks, hts, hown, hW, hini, hs1, hs2, hmb⟩ := hE
  obtain ⟨hpre, hKn, hw0, hstr, hnc, hnx, hZc, hZf, hZu, hZs, hsx⟩ := hG
  dsimp only [stp] at h
  split at h
  · split at h
    · rename_i h0
      obtain ⟨rfl, rfl, rfl, rfl⟩ := nG_inj h
      exact g_pop hx hb hd h0 kk
    · cases h
  · cases h
theorem s_dup_x1  (hG : G0 s0 b0 pre dC dI) (hE : EM s0 p s mid args meth c en mb) (hls : ls.length = enL en) (hb1 : nx mb ≤ nx m) (hb2 : sl mb ≤ sl m) (hf : 10 ≤ R.frames) (hl2 : 120 ≤ R.locals) (hc1 : (nx m1 - nx mb).toNat ≤ R.cells) (hc2 : (sl m1 - sl mb).toNat ≤ R.slots) (kk : WS s0 pre dC dI p l e R s mid args below meth c mb Q pc1 l1 s1 m1) (hd : decode (enB en) pc = .ok (.dup_x1, 1)) (h : stp en.1 k (enK en) (enI en) (.dup_x1) pc 1 ls st m = some (.inl (pc1, l1, s1, m1))) : WS s0 pre dC dI p l e R s mid args below meth c mb Q pc ls st m := by
  obtain ⟨hx, hb, hml, hret, hlocks, hts, hown, hW, hini, hs1, hs2, hmb⟩ := hE
  obtain ⟨hpre, hKn, hw0, hstr, hnc, hnx, hZc, hZf, hZu, hZs, hsx⟩ := hG
  dsimp only [stp] at h
  split at h
  · split at h
    · rename_i h0
      obtain ⟨rfl, rfl, rfl, rfl⟩ := nG_inj h
      exact g_dup_x1 hx hb hd h0.1 h0.2 kk
    · cases h
  · cases h
theorem s_dup2  (hG : G0 s0 b0 pre dC dI) (hE : EM s0 p s mid args meth c en mb) (hls : ls.length = enL en) (hb1 : nx mb ≤ nx m) (hb2 : sl mb ≤ sl m) (hf : 10 ≤ R.frames) (hl2 : 120 ≤ R.locals) (hc1 : (nx m1 - nx mb).toNat ≤ R.cells) (hc2 : (sl m1 - sl mb).toNat ≤ R.slots) (kk : WS s0 pre dC dI p l e R s mid args below meth c mb Q pc1 l1 s1 m1) (hd : decode (enB en) pc = .ok (.dup2, 1)) (h : stp en.1 k (enK en) (enI en) (.dup2) pc 1 ls st m = some (.inl (pc1, l1, s1, m1))) : WS s0 pre dC dI p l e R s mid args below meth c mb Q pc ls st m := by
  obtain ⟨hx, hb, hml, hret, hlocks, hts, hown, hW, hini, hs1, hs2, hmb⟩ := hE
  obtain ⟨hpre, hKn, hw0, hstr, hnc, hnx, hZc, hZf, hZu, hZs, hsx⟩ := hG
  dsimp only [stp] at h
  split at h
  · split at h
    · rename_i h0
      obtain ⟨rfl, rfl, rfl, rfl⟩ := nG_inj h
      exact g_dup2 hx hb hd h0.1 h0.2 kk
    · cases h
  · cases h
theorem s_if_icmp {dd : ClassFile.Cond} {off : Int} (hG : G0 s0 b0 pre dC dI) (hE : EM s0 p s mid args meth c en mb) (hls : ls.length = enL en) (hb1 : nx mb ≤ nx m) (hb2 : sl mb ≤ sl m) (hf : 10 ≤ R.frames) (hl2 : 120 ≤ R.locals) (hc1 : (nx m1 - nx mb).toNat ≤ R.cells) (hc2 : (sl m1 - sl mb).toNat ≤ R.slots) (kk : WS s0 pre dC dI p l e R s mid args below meth c mb Q pc1 l1 s1 m1) (hd : decode (enB en) pc = .ok (.if_icmp dd off, 3)) (h : stp en.1 k (enK en) (enI en) (.if_icmp dd off) pc 3 ls st m = some (.inl (pc1, l1, s1, m1))) : WS s0 pre dC dI p l e R s mid args below meth c mb Q pc ls st m := by
  obtain ⟨hx, hb, hml, hret, hlocks, hts, hown, hW, hini, hs1, hs2, hmb⟩ := hE
  obtain ⟨hpre, hKn, hw0, hstr, hnc, hnx, hZc, hZf, hZu, hZs, hsx⟩ := hG
  dsimp only [stp] at h
  split at h
  · split at h
    · rename_i h0
      split at h
      · rename_i hc
        obtain ⟨rfl, rfl, rfl, rfl⟩ := nG_inj h
        cases dd <;> simp only [cnd, decide_eq_true_eq] at hc
        · exact g_icmp_eq hx hb hd (Int.toNat_of_nonneg h0).symm (fun _ => kk) (fun h9 => absurd hc h9)
        · exact g_icmp_ne hx hb hd (Int.toNat_of_nonneg h0).symm (fun _ => kk) (fun h9 => absurd hc h9)
        · exact g_icmp_lt hx hb hd (Int.toNat_of_nonneg h0).symm (fun _ => kk) (fun h9 => absurd hc h9)
        · exact g_icmp_ge hx hb hd (Int.toNat_of_nonneg h0).symm (fun _ => kk) (fun h9 => absurd hc h9)
        · exact g_icmp_gt hx hb hd (Int.toNat_of_nonneg h0).symm (fun _ => kk) (fun h9 => absurd hc h9)
        · exact g_icmp_le hx hb hd (Int.toNat_of_nonneg h0).symm (fun _ => kk) (fun h9 => absurd hc h9)
      · rename_i hc
        obtain ⟨rfl, rfl, rfl, rfl⟩ := nG_inj h
        cases dd <;> simp only [cnd, decide_eq_true_eq] at hc
        · exact g_icmp_eq hx hb hd (Int.toNat_of_nonneg h0).symm (fun h9 => absurd h9 hc) (fun _ => kk)
        · exact g_icmp_ne hx hb hd (Int.toNat_of_nonneg h0).symm (fun h9 => absurd h9 hc) (fun _ => kk)
        · exact g_icmp_lt hx hb hd (Int.toNat_of_nonneg h0).symm (fun h9 => absurd h9 hc) (fun _ => kk)
        · exact g_icmp_ge hx hb hd (Int.toNat_of_nonneg h0).symm (fun h9 => absurd h9 hc) (fun _ => kk)
        · exact g_icmp_gt hx hb hd (Int.toNat_of_nonneg h0).symm (fun h9 => absurd h9 hc) (fun _ => kk)
        · exact g_icmp_le hx hb hd (Int.toNat_of_nonneg h0).symm (fun h9 => absurd h9 hc) (fun _ => kk)
    · cases h
  · cases h
theorem s_ifCond {dd : ClassFile.Cond} {off : Int} (hG : G0 s0 b0 pre dC dI) (hE : EM s0 p s mid args meth c en mb) (hls : ls.length = enL en) (hb1 : nx mb ≤ nx m) (hb2 : sl mb ≤ sl m) (hf : 10 ≤ R.frames) (hl2 : 120 ≤ R.locals) (hc1 : (nx m1 - nx mb).toNat ≤ R.cells) (hc2 : (sl m1 - sl mb).toNat ≤ R.slots) (kk : WS s0 pre dC dI p l e R s mid args below meth c mb Q pc1 l1 s1 m1) (hd : decode (enB en) pc = .ok (.ifCond dd off, 3)) (h : stp en.1 k (enK en) (enI en) (.ifCond dd off) pc 3 ls st m = some (.inl (pc1, l1, s1, m1))) : WS s0 pre dC dI p l e R s mid args below meth c mb Q pc ls st m := by
  obtain ⟨hx, hb, hml, hret, hlocks, hts, hown, hW, hini, hs1, hs2, hmb⟩ := hE
  obtain ⟨hpre, hKn, hw0, hstr, hnc, hnx, hZc, hZf, hZu, hZs, hsx⟩ := hG
  dsimp only [stp] at h
  split at h
  · split at h
    · rename_i h0
      split at h
      · rename_i hc
        obtain ⟨rfl, rfl, rfl, rfl⟩ := nG_inj h
        cases dd <;> simp only [cnd, decide_eq_true_eq] at hc
        · exact g_if_eq hx hb hd (Int.toNat_of_nonneg h0).symm (fun _ => kk) (fun h9 => absurd hc h9)
        · exact g_if_ne hx hb hd (Int.toNat_of_nonneg h0).symm (fun _ => kk) (fun h9 => absurd hc h9)
        · exact g_if_lt hx hb hd (Int.toNat_of_nonneg h0).symm (fun _ => kk) (fun h9 => absurd hc h9)
        · exact g_if_ge hx hb hd (Int.toNat_of_nonneg h0).symm (fun _ => kk) (fun h9 => absurd hc h9)
        · exact g_if_gt hx hb hd (Int.toNat_of_nonneg h0).symm (fun _ => kk) (fun h9 => absurd hc h9)
        · exact g_if_le hx hb hd (Int.toNat_of_nonneg h0).symm (fun _ => kk) (fun h9 => absurd hc h9)
      · rename_i hc
        obtain ⟨rfl, rfl, rfl, rfl⟩ := nG_inj h
        cases dd <;> simp only [cnd, decide_eq_true_eq] at hc
        · exact g_if_eq hx hb hd (Int.toNat_of_nonneg h0).symm (fun h9 => absurd h9 hc) (fun _ => kk)
        · exact g_if_ne hx hb hd (Int.toNat_of_nonneg h0).symm (fun h9 => absurd h9 hc) (fun _ => kk)
        · exact g_if_lt hx hb hd (Int.toNat_of_nonneg h0).symm (fun h9 => absurd h9 hc) (fun _ => kk)
        · exact g_if_ge hx hb hd (Int.toNat_of_nonneg h0).symm (fun h9 => absurd h9 hc) (fun _ => kk)
        · exact g_if_gt hx hb hd (Int.toNat_of_nonneg h0).symm (fun h9 => absurd h9 hc) (fun _ => kk)
        · exact g_if_le hx hb hd (Int.toNat_of_nonneg h0).symm (fun h9 => absurd h9 hc) (fun _ => kk)
    · cases h
  · cases h
theorem s_ifnull {off : Int} (hG : G0 s0 b0 pre dC dI) (hE : EM s0 p s mid args meth c en mb) (hls : ls.length = enL en) (hb1 : nx mb ≤ nx m) (hb2 : sl mb ≤ sl m) (hf : 10 ≤ R.frames) (hl2 : 120 ≤ R.locals) (hc1 : (nx m1 - nx mb).toNat ≤ R.cells) (hc2 : (sl m1 - sl mb).toNat ≤ R.slots) (kk : WS s0 pre dC dI p l e R s mid args below meth c mb Q pc1 l1 s1 m1) (hd : decode (enB en) pc = .ok (.ifnull off, 3)) (h : stp en.1 k (enK en) (enI en) (.ifnull off) pc 3 ls st m = some (.inl (pc1, l1, s1, m1))) : WS s0 pre dC dI p l e R s mid args below meth c mb Q pc ls st m := by
  obtain ⟨hx, hb, hml, hret, hlocks, hts, hown, hW, hini, hs1, hs2, hmb⟩ := hE
  obtain ⟨hpre, hKn, hw0, hstr, hnc, hnx, hZc, hZf, hZu, hZs, hsx⟩ := hG
  dsimp only [stp] at h
  split at h
  · split at h
    · rename_i h0
      split at h
      · rename_i hc
        obtain ⟨rfl, rfl, rfl, rfl⟩ := nG_inj h
        exact g_ifnull hx hb hd (Int.toNat_of_nonneg h0).symm (fun _ => kk) (fun h9 => absurd hc h9)
      · rename_i hc
        obtain ⟨rfl, rfl, rfl, rfl⟩ := nG_inj h
        exact g_ifnull hx hb hd (Int.toNat_of_nonneg h0).symm (fun h9 => absurd h9 hc) (fun _ => kk)
    · cases h
  · cases h
theorem s_ifnonnull {off : Int} (hG : G0 s0 b0 pre dC dI) (hE : EM s0 p s mid args meth c en mb) (hls : ls.length = enL en) (hb1 : nx mb ≤ nx m) (hb2 : sl mb ≤ sl m) (hf : 10 ≤ R.frames) (hl2 : 120 ≤ R.locals) (hc1 : (nx m1 - nx mb).toNat ≤ R.cells) (hc2 : (sl m1 - sl mb).toNat ≤ R.slots) (kk : WS s0 pre dC dI p l e R s mid args below meth c mb Q pc1 l1 s1 m1) (hd : decode (enB en) pc = .ok (.ifnonnull off, 3)) (h : stp en.1 k (enK en) (enI en) (.ifnonnull off) pc 3 ls st m = some (.inl (pc1, l1, s1, m1))) : WS s0 pre dC dI p l e R s mid args below meth c mb Q pc ls st m := by
  obtain ⟨hx, hb, hml, hret, hlocks, hts, hown, hW, hini, hs1, hs2, hmb⟩ := hE
  obtain ⟨hpre, hKn, hw0, hstr, hnc, hnx, hZc, hZf, hZu, hZs, hsx⟩ := hG
  dsimp only [stp] at h
  split at h
  · split at h
    · rename_i h0
      split at h
      · rename_i hc
        obtain ⟨rfl, rfl, rfl, rfl⟩ := nG_inj h
        exact g_ifnonnull hx hb hd (Int.toNat_of_nonneg h0).symm (fun h9 => absurd hc h9) (fun _ => kk)
      · rename_i hc
        obtain ⟨rfl, rfl, rfl, rfl⟩ := nG_inj h
        exact g_ifnonnull hx hb hd (Int.toNat_of_nonneg h0).symm (fun _ => kk) (fun h9 => absurd h9 hc)
    · cases h
  · cases h
theorem s_goto {off : Int} (hG : G0 s0 b0 pre dC dI) (hE : EM s0 p s mid args meth c en mb) (hls : ls.length = enL en) (hb1 : nx mb ≤ nx m) (hb2 : sl mb ≤ sl m) (hf : 10 ≤ R.frames) (hl2 : 120 ≤ R.locals) (hc1 : (nx m1 - nx mb).toNat ≤ R.cells) (hc2 : (sl m1 - sl mb).toNat ≤ R.slots) (kk : WS s0 pre dC dI p l e R s mid args below meth c mb Q pc1 l1 s1 m1) (hd : decode (enB en) pc = .ok (.goto off, 3)) (h : stp en.1 k (enK en) (enI en) (.goto off) pc 3 ls st m = some (.inl (pc1, l1, s1, m1))) : WS s0 pre dC dI p l e R s mid args below meth c mb Q pc ls st m := by
  obtain ⟨hx, hb, hml, hret, hlocks, hts, hown, hW, hini, hs1, hs2, hmb⟩ := hE
  obtain ⟨hpre, hKn, hw0, hstr, hnc, hnx, hZc, hZf, hZu, hZs, hsx⟩ := hG
  dsimp only [stp] at h
  obtain ⟨e1, rfl, rfl, rfl⟩ := nJ_inj h
  exact g_goto hx hb hd e1 kk
theorem s_tableswitch {dd lo hi : Int} {offs : Array Int} (hG : G0 s0 b0 pre dC dI) (hE : EM s0 p s mid args meth c en mb) (hls : ls.length = enL en) (hb1 : nx mb ≤ nx m) (hb2 : sl mb ≤ sl m) (hf : 10 ≤ R.frames) (hl2 : 120 ≤ R.locals) (hc1 : (nx m1 - nx mb).toNat ≤ R.cells) (hc2 : (sl m1 - sl mb).toNat ≤ R.slots) (kk : WS s0 pre dC dI p l e R s mid args below meth c mb Q pc1 l1 s1 m1) (hd : decode (enB en) pc = .ok (.tableswitch dd lo hi offs, len)) (h : stp en.1 k (enK en) (enI en) (.tableswitch dd lo hi offs) pc len ls st m = some (.inl (pc1, l1, s1, m1))) : WS s0 pre dC dI p l e R s mid args below meth c mb Q pc ls st m := by
  obtain ⟨hx, hb, hml, hret, hlocks, hts, hown, hW, hini, hs1, hs2, hmb⟩ := hE
  obtain ⟨hpre, hKn, hw0, hstr, hnc, hnx, hZc, hZf, hZu, hZs, hsx⟩ := hG
  dsimp only [stp] at h
  split at h
  · split at h
    · rename_i h0
      obtain ⟨e1, rfl, rfl, rfl⟩ := nJ_inj h
      exact g_tableOut hx hb hd h0 e1 kk
    · rename_i h0
      split at h
      · rename_i off ho
        obtain ⟨e1, rfl, rfl, rfl⟩ := nJ_inj h
        exact g_tableIn hx hb hd h0 ho e1 kk
      · cases h
  · cases h
theorem s_lookupswitch {dd : Int} {ps : Array (Int × Int)} (hG : G0 s0 b0 pre dC dI) (hE : EM s0 p s mid args meth c en mb) (hls : ls.length = enL en) (hb1 : nx mb ≤ nx m) (hb2 : sl mb ≤ sl m) (hf : 10 ≤ R.frames) (hl2 : 120 ≤ R.locals) (hc1 : (nx m1 - nx mb).toNat ≤ R.cells) (hc2 : (sl m1 - sl mb).toNat ≤ R.slots) (kk : WS s0 pre dC dI p l e R s mid args below meth c mb Q pc1 l1 s1 m1) (hd : decode (enB en) pc = .ok (.lookupswitch dd ps, len)) (h : stp en.1 k (enK en) (enI en) (.lookupswitch dd ps) pc len ls st m = some (.inl (pc1, l1, s1, m1))) : WS s0 pre dC dI p l e R s mid args below meth c mb Q pc ls st m := by
  obtain ⟨hx, hb, hml, hret, hlocks, hts, hown, hW, hini, hs1, hs2, hmb⟩ := hE
  obtain ⟨hpre, hKn, hw0, hstr, hnc, hnx, hZc, hZf, hZu, hZs, hsx⟩ := hG
  dsimp only [stp] at h
  split at h
  · split at h
    · rename_i h0
      obtain ⟨e1, rfl, rfl, rfl⟩ := nJ_inj h
      exact g_lookup hx hb hd h0 e1 kk
    · cases h
  · cases h
theorem s_iaload  (hG : G0 s0 b0 pre dC dI) (hE : EM s0 p s mid args meth c en mb) (hls : ls.length = enL en) (hb1 : nx mb ≤ nx m) (hb2 : sl mb ≤ sl m) (hf : 10 ≤ R.frames) (hl2 : 120 ≤ R.locals) (hc1 : (nx m1 - nx mb).toNat ≤ R.cells) (hc2 : (sl m1 - sl mb).toNat ≤ R.slots) (kk : WS s0 pre dC dI p l e R s mid args below meth c mb Q pc1 l1 s1 m1) (hd : decode (enB en) pc = .ok (.iaload, 1)) (h : stp en.1 k (enK en) (enI en) (.iaload) pc 1 ls st m = some (.inl (pc1, l1, s1, m1))) : WS s0 pre dC dI p l e R s mid args below meth c mb Q pc ls st m := by
  obtain ⟨hx, hb, hml, hret, hlocks, hts, hown, hW, hini, hs1, hs2, hmb⟩ := hE
  obtain ⟨hpre, hKn, hw0, hstr, hnc, hnx, hZc, hZf, hZu, hZs, hsx⟩ := hG
  dsimp only [stp] at h
  split at h
  · split at h
    · rename_i h0
      obtain ⟨rfl, rfl, rfl, rfl⟩ := nG_inj h
      exact g_iald hx hb hW hd h0.1 h0.2.1 h0.2.2 kk
    · cases h
  · cases h
theorem s_laload  (hG : G0 s0 b0 pre dC dI) (hE : EM s0 p s mid args meth c en mb) (hls : ls.length = enL en) (hb1 : nx mb ≤ nx m) (hb2 : sl mb ≤ sl m) (hf : 10 ≤ R.frames) (hl2 : 120 ≤ R.locals) (hc1 : (nx m1 - nx mb).toNat ≤ R.cells) (hc2 : (sl m1 - sl mb).toNat ≤ R.slots) (kk : WS s0 pre dC dI p l e R s mid args below meth c mb Q pc1 l1 s1 m1) (hd : decode (enB en) pc = .ok (.laload, 1)) (h : stp en.1 k (enK en) (enI en) (.laload) pc 1 ls st m = some (.inl (pc1, l1, s1, m1))) : WS s0 pre dC dI p l e R s mid args below meth c mb Q pc ls st m := by
  obtain ⟨hx, hb, hml, hret, hlocks, hts, hown, hW, hini, hs1, hs2, hmb⟩ := hE
  obtain ⟨hpre, hKn, hw0, hstr, hnc, hnx, hZc, hZf, hZu, hZs, hsx⟩ := hG
  dsimp only [stp] at h
  split at h
  · split at h
    · rename_i h0
      obtain ⟨rfl, rfl, rfl, rfl⟩ := nG_inj h
      exact g_lald hx hb hW hd h0.1 h0.2.1 h0.2.2 kk
    · cases h
  · cases h
theorem s_caload  (hG : G0 s0 b0 pre dC dI) (hE : EM s0 p s mid args meth c en mb) (hls : ls.length = enL en) (hb1 : nx mb ≤ nx m) (hb2 : sl mb ≤ sl m) (hf : 10 ≤ R.frames) (hl2 : 120 ≤ R.locals) (hc1 : (nx m1 - nx mb).toNat ≤ R.cells) (hc2 : (sl m1 - sl mb).toNat ≤ R.slots) (kk : WS s0 pre dC dI p l e R s mid args below meth c mb Q pc1 l1 s1 m1) (hd : decode (enB en) pc = .ok (.caload, 1)) (h : stp en.1 k (enK en) (enI en) (.caload) pc 1 ls st m = some (.inl (pc1, l1, s1, m1))) : WS s0 pre dC dI p l e R s mid args below meth c mb Q pc ls st m := by
  obtain ⟨hx, hb, hml, hret, hlocks, hts, hown, hW, hini, hs1, hs2, hmb⟩ := hE
  obtain ⟨hpre, hKn, hw0, hstr, hnc, hnx, hZc, hZf, hZu, hZs, hsx⟩ := hG
  dsimp only [stp] at h
  split at h
  · split at h
    · rename_i h0
      obtain ⟨rfl, rfl, rfl, rfl⟩ := nG_inj h
      exact g_cald hx hb hW hd h0.1 h0.2.1 h0.2.2 kk
    · cases h
  · cases h
theorem s_baload  (hG : G0 s0 b0 pre dC dI) (hE : EM s0 p s mid args meth c en mb) (hls : ls.length = enL en) (hb1 : nx mb ≤ nx m) (hb2 : sl mb ≤ sl m) (hf : 10 ≤ R.frames) (hl2 : 120 ≤ R.locals) (hc1 : (nx m1 - nx mb).toNat ≤ R.cells) (hc2 : (sl m1 - sl mb).toNat ≤ R.slots) (kk : WS s0 pre dC dI p l e R s mid args below meth c mb Q pc1 l1 s1 m1) (hd : decode (enB en) pc = .ok (.baload, 1)) (h : stp en.1 k (enK en) (enI en) (.baload) pc 1 ls st m = some (.inl (pc1, l1, s1, m1))) : WS s0 pre dC dI p l e R s mid args below meth c mb Q pc ls st m := by
  obtain ⟨hx, hb, hml, hret, hlocks, hts, hown, hW, hini, hs1, hs2, hmb⟩ := hE
  obtain ⟨hpre, hKn, hw0, hstr, hnc, hnx, hZc, hZf, hZu, hZs, hsx⟩ := hG
  dsimp only [stp] at h
  split at h
  · split at h
    · rename_i h0
      obtain ⟨rfl, rfl, rfl, rfl⟩ := nG_inj h
      rcases h0.1 with h9 | h9
      · exact g_bald hx hb hW hd h9 h0.2.1 h0.2.2 kk
      · exact g_zald hx hb hW hd h9 h0.2.1 h0.2.2 kk
    · cases h
  · cases h
theorem s_aaload  (hG : G0 s0 b0 pre dC dI) (hE : EM s0 p s mid args meth c en mb) (hls : ls.length = enL en) (hb1 : nx mb ≤ nx m) (hb2 : sl mb ≤ sl m) (hf : 10 ≤ R.frames) (hl2 : 120 ≤ R.locals) (hc1 : (nx m1 - nx mb).toNat ≤ R.cells) (hc2 : (sl m1 - sl mb).toNat ≤ R.slots) (kk : WS s0 pre dC dI p l e R s mid args below meth c mb Q pc1 l1 s1 m1) (hd : decode (enB en) pc = .ok (.aaload, 1)) (h : stp en.1 k (enK en) (enI en) (.aaload) pc 1 ls st m = some (.inl (pc1, l1, s1, m1))) : WS s0 pre dC dI p l e R s mid args below meth c mb Q pc ls st m := by
  obtain ⟨hx, hb, hml, hret, hlocks, hts, hown, hW, hini, hs1, hs2, hmb⟩ := hE
  obtain ⟨hpre, hKn, hw0, hstr, hnc, hnx, hZc, hZf, hZu, hZs, hsx⟩ := hG
  dsimp only [stp] at h
  split at h
  · split at h
    · rename_i h0
      obtain ⟨rfl, rfl, rfl, rfl⟩ := nG_inj h
      exact g_aald hx hb hW hd h0.1 h0.2.1 h0.2.2 kk
    · cases h
  · cases h
theorem s_iastore  (hG : G0 s0 b0 pre dC dI) (hE : EM s0 p s mid args meth c en mb) (hls : ls.length = enL en) (hb1 : nx mb ≤ nx m) (hb2 : sl mb ≤ sl m) (hf : 10 ≤ R.frames) (hl2 : 120 ≤ R.locals) (hc1 : (nx m1 - nx mb).toNat ≤ R.cells) (hc2 : (sl m1 - sl mb).toNat ≤ R.slots) (kk : WS s0 pre dC dI p l e R s mid args below meth c mb Q pc1 l1 s1 m1) (hd : decode (enB en) pc = .ok (.iastore, 1)) (h : stp en.1 k (enK en) (enI en) (.iastore) pc 1 ls st m = some (.inl (pc1, l1, s1, m1))) : WS s0 pre dC dI p l e R s mid args below meth c mb Q pc ls st m := by
  obtain ⟨hx, hb, hml, hret, hlocks, hts, hown, hW, hini, hs1, hs2, hmb⟩ := hE
  obtain ⟨hpre, hKn, hw0, hstr, hnc, hnx, hZc, hZf, hZu, hZs, hsx⟩ := hG
  dsimp only [stp] at h
  split at h
  · split at h
    · rename_i h0
      obtain ⟨rfl, rfl, rfl, rfl⟩ := nG_inj h
      exact g_iast hx hb hW hpre hd h0.1 h0.2.1 h0.2.2.1 h0.2.2.2 kk
    · cases h
  · cases h
theorem s_lastore  (hG : G0 s0 b0 pre dC dI) (hE : EM s0 p s mid args meth c en mb) (hls : ls.length = enL en) (hb1 : nx mb ≤ nx m) (hb2 : sl mb ≤ sl m) (hf : 10 ≤ R.frames) (hl2 : 120 ≤ R.locals) (hc1 : (nx m1 - nx mb).toNat ≤ R.cells) (hc2 : (sl m1 - sl mb).toNat ≤ R.slots) (kk : WS s0 pre dC dI p l e R s mid args below meth c mb Q pc1 l1 s1 m1) (hd : decode (enB en) pc = .ok (.lastore, 1)) (h : stp en.1 k (enK en) (enI en) (.lastore) pc 1 ls st m = some (.inl (pc1, l1, s1, m1))) : WS s0 pre dC dI p l e R s mid args below meth c mb Q pc ls st m := by
  obtain ⟨hx, hb, hml, hret, hlocks, hts, hown, hW, hini, hs1, hs2, hmb⟩ := hE
  obtain ⟨hpre, hKn, hw0, hstr, hnc, hnx, hZc, hZf, hZu, hZs, hsx⟩ := hG
  dsimp only [stp] at h
  split at h
  · split at h
    · rename_i h0
      obtain ⟨rfl, rfl, rfl, rfl⟩ := nG_inj h
      exact g_last hx hb hW hpre hd h0.1 h0.2.1 h0.2.2.1 h0.2.2.2 kk
    · cases h
  · cases h
theorem s_castore  (hG : G0 s0 b0 pre dC dI) (hE : EM s0 p s mid args meth c en mb) (hls : ls.length = enL en) (hb1 : nx mb ≤ nx m) (hb2 : sl mb ≤ sl m) (hf : 10 ≤ R.frames) (hl2 : 120 ≤ R.locals) (hc1 : (nx m1 - nx mb).toNat ≤ R.cells) (hc2 : (sl m1 - sl mb).toNat ≤ R.slots) (kk : WS s0 pre dC dI p l e R s mid args below meth c mb Q pc1 l1 s1 m1) (hd : decode (enB en) pc = .ok (.castore, 1)) (h : stp en.1 k (enK en) (enI en) (.castore) pc 1 ls st m = some (.inl (pc1, l1, s1, m1))) : WS s0 pre dC dI p l e R s mid args below meth c mb Q pc ls st m := by
  obtain ⟨hx, hb, hml, hret, hlocks, hts, hown, hW, hini, hs1, hs2, hmb⟩ := hE
  obtain ⟨hpre, hKn, hw0, hstr, hnc, hnx, hZc, hZf, hZu, hZs, hsx⟩ := hG
  dsimp only [stp] at h
  split at h
  · split at h
    · rename_i h0
      obtain ⟨rfl, rfl, rfl, rfl⟩ := nG_inj h
      exact g_cast hx hb hW hpre hd h0.1 h0.2.1 h0.2.2.1 h0.2.2.2 kk
    · cases h
  · cases h
theorem s_bastore  (hG : G0 s0 b0 pre dC dI) (hE : EM s0 p s mid args meth c en mb) (hls : ls.length = enL en) (hb1 : nx mb ≤ nx m) (hb2 : sl mb ≤ sl m) (hf : 10 ≤ R.frames) (hl2 : 120 ≤ R.locals) (hc1 : (nx m1 - nx mb).toNat ≤ R.cells) (hc2 : (sl m1 - sl mb).toNat ≤ R.slots) (kk : WS s0 pre dC dI p l e R s mid args below meth c mb Q pc1 l1 s1 m1) (hd : decode (enB en) pc = .ok (.bastore, 1)) (h : stp en.1 k (enK en) (enI en) (.bastore) pc 1 ls st m = some (.inl (pc1, l1, s1, m1))) : WS s0 pre dC dI p l e R s mid args below meth c mb Q pc ls st m := by
  obtain ⟨hx, hb, hml, hret, hlocks, hts, hown, hW, hini, hs1, hs2, hmb⟩ := hE
  obtain ⟨hpre, hKn, hw0, hstr, hnc, hnx, hZc, hZf, hZu, hZs, hsx⟩ := hG
  dsimp only [stp] at h
  split at h
  · split at h
    · rename_i h0
      split at h
      · rename_i h9
        obtain ⟨rfl, rfl, rfl, rfl⟩ := nG_inj h
        exact g_bast hx hb hW hpre hd h0.1 h9 h0.2.1 h0.2.2 kk
      · split at h
        · rename_i h9
          obtain ⟨rfl, rfl, rfl, rfl⟩ := nG_inj h
          exact g_zast hx hb hW hpre hd h0.1 h9.1 h0.2.1 h0.2.2 h9.2 kk
        · cases h
    · cases h
  · cases h
theorem s_arraylength  (hG : G0 s0 b0 pre dC dI) (hE : EM s0 p s mid args meth c en mb) (hls : ls.length = enL en) (hb1 : nx mb ≤ nx m) (hb2 : sl mb ≤ sl m) (hf : 10 ≤ R.frames) (hl2 : 120 ≤ R.locals) (hc1 : (nx m1 - nx mb).toNat ≤ R.cells) (hc2 : (sl m1 - sl mb).toNat ≤ R.slots) (kk : WS s0 pre dC dI p l e R s mid args below meth c mb Q pc1 l1 s1 m1) (hd : decode (enB en) pc = .ok (.arraylength, 1)) (h : stp en.1 k (enK en) (enI en) (.arraylength) pc 1 ls st m = some (.inl (pc1, l1, s1, m1))) : WS s0 pre dC dI p l e R s mid args below meth c mb Q pc ls st m := by
  obtain ⟨hx, hb, hml, hret, hlocks, hts, hown, hW, hini, hs1, hs2, hmb⟩ := hE
  obtain ⟨hpre, hKn, hw0, hstr, hnc, hnx, hZc, hZf, hZu, hZs, hsx⟩ := hG
  dsimp only [stp] at h
  split at h
  · split at h
    · rename_i h0
      obtain ⟨rfl, rfl, rfl, rfl⟩ := nG_inj h
      exact g_alen hx hb hW hd h0 kk
    · cases h
  · cases h
end STEP
