/-! the pure machine's calls -/
set_option maxRecDepth 100000
set_option maxHeartbeats 4000000
theorem nCall_inj {k k' : Nat} {as as' r r' : List PV} {n n' : Nat} (h : nCall k as r n = some (.inr (.inl (k', as', r', n')))) : k = k' ∧ as = as' ∧ r = r' ∧ n = n' ∧ catS r ≤ 8 ∧ 0 < k := by
  unfold nCall nC at h
  split at h
  · rename_i h0; cases h; exact ⟨rfl, rfl, rfl, rfl, h0.1, h0.2⟩
  · cases h
theorem nG_call {a : Nat} {b c : List PV} {d : Mem} {x : Nat × List PV × List PV × Nat} (h : nG a b c d = some (.inr (.inl x))) : False := by unfold nG at h; cases h
theorem nJ_call {a : Nat} {o : Int} {b c : List PV} {d : Mem} {x : Nat × List PV × List PV × Nat} (h : nJ a o b c d = some (.inr (.inl x))) : False := by
  unfold nJ at h; split at h
  · exact nG_call h
  · cases h
theorem nR_call {v : Option PV} {x : Nat × List PV × List PV × Nat} (h : nR v = some (.inr (.inl x))) : False := by unfold nR at h; cases h
theorem nT_call {v : Int} {m : Mem} {x : Nat × List PV × List PV × Nat} (h : nT v m = some (.inr (.inl x))) : False := by unfold nT at h; cases h
theorem MOKb.use {en : mE} (h : MOKb en = true) : plainName (enY en).cls = true ∧ ((enY en).cls ≠ "java/lang/invoke/MethodHandle" ∧ (enY en).cls ≠ "java/lang/invoke/VarHandle") ∧ (parseMethodDescriptor (enY en).desc).map (fun d => d.parameters.length) = some (enN en) ∧ enL en ≤ 21 ∧ cNm en.1 = (enY en).cls ∧ rkOk (enK en) (enR en) = true ∧ (enI en = 1 → (enY en).name = "<init>") := by
  unfold MOKb at h
  simp only [Bool.and_eq_true, beq_iff_eq, bne_iff_ne, decide_eq_true_eq] at h
  obtain ⟨⟨⟨⟨⟨⟨⟨h1, h2⟩, h3⟩, h4⟩, h5⟩, h6⟩, h7⟩, h8⟩ := h
  refine ⟨h1, ⟨h2, h3⟩, h4, h5, h6, h7, fun e => ?_⟩
  rw [e] at h8
  have : ((enY en).name == "<init>") = true := h8.symm
  exact beq_iff_eq.mp this
theorem mW_nil {en : mE} (h : enH en = []) : mW en = ws_ (enY en) (enB en) (enL en) (enR en) := by
  unfold mW; rw [show en.2.2.2.2.2.2.2.2 = [] from h]
theorem mW_cons {en : mE} (h : enH en ≠ []) : mW en = wsW_ (enY en) (enB en) (enL en) (enR en) (enH en) := by
  unfold mW
  split
  · rename_i h9; exact absurd h9 h
  · rename_i h9; show _ = wsW_ _ _ _ _ en.2.2.2.2.2.2.2.2; rw [h9]
section CALL
variable {p : Program} {l : Launch} {e : Env} {R : Room} {s : State} {mid : MethodId} {args : Array Value} {below : List Frame} {meth : Method} {c : Code} {Q : State → Prop}
variable {s0 : State} {b0 : Addr} {pre : Int → Nat} {dC : Nat → ClassId} {dI : Nat → Nat → Nat} {mb : Mem} {pc : Nat} {ls st : List PV} {m : Mem} {k : Nat} {en : mE} {len : Nat} {k1 : Nat} {as rest : List PV} {len1 : Nat}
/-- what a call gives, whatever the callee's contract is -/
def CallR (l : Launch) (p : Program) (e : Env) (R : Room) (s : State) (mid : MethodId) (args : Array Value) (below : List Frame) (meth : Method) (c : Code) (s0 : State) (pre : Int → Nat) (dC : Nat → ClassId) (dI : Nat → Nat → Nat) (pc : Nat) (ls st : List PV) (m : Mem) (en1 : mE) (as rest : List PV) (len1 : Nat) : Prop :=
  ∀ (d : Nat) (r : Rs) (m1 : Mem), CTR l s0 pre dC dI d en1 as m r m1 → d + 11 ≤ R.frames → 40 * (d + 1) + 120 ≤ R.locals → ∀ (H : Heap) (locs : List Loc) (lc : Array Slot) (sc : List Value) (cells slots : Nat), cells + (nx m1 - nx m).toNat ≤ R.cells ∧ slots + (sl m1 - sl m).toNat ≤ R.slots → RP s0 pre dC dI m H → lR s0.heap.size pre ls lc → sR s0.heap.size pre st sc →
    ∃ (rC : List Value) (a : Array Value), sR s0.heap.size pre rest rC ∧
      ((len1 = 3 ∧ vx_Run p l e R s mid args below meth c H locs cells slots (nx m1 - nx m).toNat (sl m1 - sl m).toNat (F0 mid pc lc sc) rC (QcR s0 pre dC dI r m1 a) (XcR s0 pre dC dI r m1) (frO s0)) ∨
       (len1 = 5 ∧ vx_Run5 p l e R s mid args below meth c H locs cells slots (nx m1 - nx m).toNat (sl m1 - sl m).toNat (F0 mid pc lc sc) rC (QcR s0 pre dC dI r m1 a) (XcR s0 pre dC dI r m1) (frO s0)))
theorem split_st {n : Nat} {a : Int} {r : List PV} {sz : Nat} {sc : List Value} (h : takeN n st = some (as, .inr (.inr (.inl a)) :: r)) (hS : sR sz pre st sc) : ∃ aC rC, sc = aC.reverse ++ rfv sz pre a :: rC ∧ sR sz pre as aC ∧ sR sz pre r rC ∧ aC.length = n := by
  obtain ⟨e1, e2⟩ := takeN_spec h
  rw [e1] at hS
  obtain ⟨p1, q1, rfl, h1, h2⟩ := sR_app hS
  obtain ⟨q2, rfl, h3⟩ := sR_r h2
  have h4 := sR_rev h1
  rw [List.reverse_reverse] at h4
  exact ⟨p1.reverse, q2, by rw [List.reverse_reverse], h4, h3, by rw [sR_len h4]; exact e2⟩
theorem split_st0 {n : Nat} {r : List PV} {sz : Nat} {sc : List Value} (h : takeN n st = some (as, r)) (hS : sR sz pre st sc) : ∃ aC rC, sc = aC.reverse ++ rC ∧ sR sz pre as aC ∧ sR sz pre r rC ∧ aC.length = n := by
  obtain ⟨e1, e2⟩ := takeN_spec h
  rw [e1] at hS
  obtain ⟨p1, q1, rfl, h1, h2⟩ := sR_app hS
  have h4 := sR_rev h1
  rw [List.reverse_reverse] at h4
  exact ⟨p1.reverse, q1, by rw [List.reverse_reverse], h4, h2, by rw [sR_len h4]; exact e2⟩
theorem call_V {n : Nat} (hG : G0 s0 b0 pre dC dI) (hE : EM s0 p s mid args meth c en mb) (hls : ls.length = enL en) (hd : decode (enB en) pc = .ok (.invokevirtual n, 3)) (h : stp en.1 k (enK en) (enI en) (.invokevirtual n) pc 3 ls st m = some (.inr (.inl (k1, as, rest, len1)))) :
    0 < k1 ∧ ∃ en1, mI k1 = some en1 ∧ CallR l p e R s mid args below meth c s0 pre dC dI pc ls st m en1 as rest len1 := by
  obtain ⟨hx, hb, hml, hret, hlocks, hts, hown, hW, hini, hs1, hs2, hmb⟩ := hE
  obtain ⟨hpre, hKn, hw0, hstr, hnc, hnx, hZc, hZf, hZu, hZs, hsx⟩ := hG
  dsimp only [stp] at h
  split at h
  · rename_i k9 na t1 t2 hq
    obtain ⟨en1, hm1, hna, hv1, hv2⟩ := rIt_ok en.1 _ (lkN_mem hq)
    split at h
    · rename_i as9 a r htk
      split at h
      · rename_i h0
        obtain ⟨rfl, rfl, rfl, rfl, hcs, hk0⟩ := nCall_inj h
        refine ⟨hk0, en1, hm1, ?_⟩
        obtain ⟨mb1, mh, mini, mc0, mc1⟩ := mok_all k9 hk0 en1 hm1
        obtain ⟨u1, u2, u3, u4, u5, u6, u7⟩ := MOKb.use mb1
        intro d r9 m1 hM hf1 hf2 H locs lc sc cells slots hf3 hR hL hS
        obtain ⟨aC, rC, rfl, sA, sR1, hlen⟩ := split_st htk hS
        have key : ∀ t : Nat, tg m a = (t : Int) → VOK en.1 n en1 t → vx_Run p l e R s mid args below meth c H locs cells slots (nx m1 - nx m).toNat (sl m1 - sl m).toNat (F0 mid pc lc (aC.reverse ++ rfv s0.heap.size pre a :: rC)) rC (QcR s0 pre dC dI r9 m1 (Value.ref (adr s0.heap.size pre a) :: aC).toArray) (XcR s0 pre dC dI r9 m1) (frO s0) := by
          intro t ht hv
          obtain ⟨o1, ⟨o2, o3⟩, hin, hcase⟩ := hv
          have o1 := ob_of o1
          obtain ⟨g1, -⟩ := hR.obj ht o2 o3
          rw [rfv_ref (by omega)]
          have hrc := hR.recv2 hW (hKn t o1) ht o2 o3
          have hSa : sR s0.heap.size pre (pR a :: as9) (.ref (adr s0.heap.size pre a) :: aC) := ⟨by show _ = rfv _ _ _; rw [rfv_ref (by omega)], sA⟩
          have hpd : (parseMethodDescriptor (enY en1).desc).map (fun d => d.parameters.length) = some na := by rw [u3]; exact congrArg some hna
          rcases hcase with ⟨hl, hse⟩ | ⟨hnil, x, hl, hsm, hyx, hse⟩
          · by_cases hH : enH en1 = []
            · have hM : vx_Met l (enY en1) (ws_ (enY en1) (enB en1) (enL en1) (enR en1)) (rmO d (nx m1 - nx m).toNat (sl m1 - sl m).toNat) (PcR s0 pre dC dI (pR a :: as9) m) (QcR s0 pre dC dI r9 m1) (XcR s0 pre dC dI r9 m1) (nx m1 - nx m).toNat (sl m1 - sl m).toNat (frO s0) := by
                unfold CTR at hM; rw [mW_nil hH] at hM; exact hM
              exact cl_V hx hb (by rw [hml, ← hls]; exact hL.1) hW hts hown hM (mc0 hH) mini u2 hpd u4 hf1 hf2 hf3 (by rw [sR_cat sR1]; exact hcs) hR hSa hrc hlen hl hin (hts _ hse) hd
            · have hM : vx_Met l (enY en1) (wsW_ (enY en1) (enB en1) (enL en1) (enR en1) (enH en1)) (rmO d (nx m1 - nx m).toNat (sl m1 - sl m).toNat) (PcR s0 pre dC dI (pR a :: as9) m) (QcR s0 pre dC dI r9 m1) (XcR s0 pre dC dI r9 m1) (nx m1 - nx m).toNat (sl m1 - sl m).toNat (frO s0) := by
                unfold CTR at hM; rw [mW_cons hH] at hM; exact hM
              exact cl_VX hx hb (by rw [hml, ← hls]; exact hL.1) hW hts hown hM (mc1 hH) mini u2 hpd u4 hf1 hf2 hf3 (by rw [sR_cat sR1]; exact hcs) hR hSa hrc hlen hl hin (hts _ hse) hd
          · have hM : vx_Met l (enY en1) (ws_ (enY en1) (enB en1) (enL en1) (enR en1)) (rmO d (nx m1 - nx m).toNat (sl m1 - sl m).toNat) (PcR s0 pre dC dI (pR a :: as9) m) (QcR s0 pre dC dI r9 m1) (XcR s0 pre dC dI r9 m1) (nx m1 - nx m).toNat (sl m1 - sl m).toNat (frO s0) := by
              unfold CTR at hM; rw [mW_nil hnil] at hM; exact hM
            have hse : (Cond.selects (cNm t) x (enY en1)).before args s = true := by
              rcases hse with hse | hse
              · exact hts _ hse
              · exact mv_SE hW (hsx _ hse)
            exact cl_U hx hb (by rw [hml, ← hls]; exact hL.1) hW hts hown hM (mc0 hnil) mini u2 hpd u4 hf1 hf2 hf3 (by rw [sR_cat sR1]; exact hcs) hR hSa hrc hlen hl hsm hyx hin hse hd
        refine ⟨rC, (Value.ref (adr s0.heap.size pre a) :: aC).toArray, sR1, Or.inl ⟨rfl, ?_⟩⟩
        rcases h0 with h0 | h0
        · exact key _ h0 hv1
        · exact key _ h0 hv2
      · cases h
    · cases h
  · cases h
theorem call_I {n : Nat} (hG : G0 s0 b0 pre dC dI) (hE : EM s0 p s mid args meth c en mb) (hls : ls.length = enL en) (hd : decode (enB en) pc = .ok (.invokespecial n, 3)) (h : stp en.1 k (enK en) (enI en) (.invokespecial n) pc 3 ls st m = some (.inr (.inl (k1, as, rest, len1)))) :
    0 < k1 ∧ ∃ en1, mI k1 = some en1 ∧ CallR l p e R s mid args below meth c s0 pre dC dI pc ls st m en1 as rest len1 := by
  obtain ⟨hx, hb, hml, hret, hlocks, hts, hown, hW, hini, hs1, hs2, hmb⟩ := hE
  obtain ⟨hpre, hKn, hw0, hstr, hnc, hnx, hZc, hZf, hZu, hZs, hsx⟩ := hG
  dsimp only [stp] at h
  split at h
  · rename_i k9 na t1 t2 hq
    obtain ⟨en1, hm1, hna, ⟨hin, hlk, hnm, hr0, hnil⟩, ht1, ht2⟩ := rIt_ok en.1 _ (lkN_mem hq)
    split at h
    · rename_i as9 a r htk
      split at h
      · rename_i h0
        obtain ⟨rfl, rfl, rfl, rfl, hcs, hk0⟩ := nCall_inj h
        refine ⟨hk0, en1, hm1, ?_⟩
        obtain ⟨mb1, mh, mini, mc0, mc1⟩ := mok_all k9 hk0 en1 hm1
        obtain ⟨u1, u2, u3, u4, u5, u6, u7⟩ := MOKb.use mb1
        intro d r9 m1 hM hf1 hf2 H locs lc sc cells slots hf3 hR hL hS
        obtain ⟨aC, rC, rfl, sA, sR1, hlen⟩ := split_st htk hS
        have g1 : 0 < a := by
          rcases h0 with h0 | h0
          · exact (hR.obj h0 ht1.1 ht1.2).1
          · exact (hR.obj h0 ht2.1 ht2.2).1
        rw [rfv_ref (by omega)]
        have hSa : sR s0.heap.size pre (pR a :: as9) (.ref (adr s0.heap.size pre a) :: aC) := ⟨by show _ = rfv _ _ _; rw [rfv_ref (by omega)], sA⟩
        have hpd : (parseMethodDescriptor (enY en1).desc).map (fun d => d.parameters.length) = some na := by rw [u3]; exact congrArg some hna
        have hM : vx_Met l (enY en1) (ws_ (enY en1) (enB en1) (enL en1) (enR en1)) (rmO d (nx m1 - nx m).toNat (sl m1 - sl m).toNat) (PcR s0 pre dC dI (pR a :: as9) m) (QcR s0 pre dC dI r9 m1) (XcR s0 pre dC dI r9 m1) (nx m1 - nx m).toNat (sl m1 - sl m).toNat (frO s0) := by
          unfold CTR at hM; rw [mW_nil hnil] at hM; exact hM
        refine ⟨rC, (Value.ref (adr s0.heap.size pre a) :: aC).toArray, sR1, Or.inl ⟨rfl, ?_⟩⟩
        rcases hlk with hl | ⟨host, hl⟩
        · exact cl_I hx hb (by rw [hml, ← hls]; exact hL.1) hW hts hown hM (mc0 hnil) mini u2 hpd u4 hf1 hf2 hf3 (by rw [sR_cat sR1]; exact hcs) hR hSa hlen hr0 hnm hl hin hd
        · exact cl_IN hx hb (by rw [hml, ← hls]; exact hL.1) hW hts hown hM (mc0 hnil) mini u2 hpd u4 hf1 hf2 hf3 (by rw [sR_cat sR1]; exact hcs) hR hSa hlen hr0 hnm (mv_MN hW (hw0 _ hl)) hin hd
      · cases h
    · cases h
  · split at h
    · split at h
      · exact (nG_call h).elim
      · cases h
    · cases h
  · cases h
theorem call_S {n : Nat} (hG : G0 s0 b0 pre dC dI) (hE : EM s0 p s mid args meth c en mb) (hls : ls.length = enL en) (hd : decode (enB en) pc = .ok (.invokestatic n, 3)) (h : stp en.1 k (enK en) (enI en) (.invokestatic n) pc 3 ls st m = some (.inr (.inl (k1, as, rest, len1)))) :
    0 < k1 ∧ ∃ en1, mI k1 = some en1 ∧ CallR l p e R s mid args below meth c s0 pre dC dI pc ls st m en1 as rest len1 := by
  obtain ⟨hx, hb, hml, hret, hlocks, hts, hown, hW, hini, hs1, hs2, hmb⟩ := hE
  obtain ⟨hpre, hKn, hw0, hstr, hnc, hnx, hZc, hZf, hZu, hZs, hsx⟩ := hG
  dsimp only [stp] at h
  split at h
  · rename_i k9 na z9 hq
    obtain ⟨en1, hm1, hna, hst, hlk⟩ := rIt_ok en.1 _ (lkN_mem hq)
    split at h
    · rename_i as9 r htk
      obtain ⟨rfl, rfl, rfl, rfl, hcs, hk0⟩ := nCall_inj h
      refine ⟨hk0, en1, hm1, ?_⟩
      obtain ⟨mb1, mh, mini, mc0, mc1⟩ := mok_all k9 hk0 en1 hm1
      obtain ⟨u1, u2, u3, u4, u5, u6, u7⟩ := MOKb.use mb1
      intro d r9 m1 hM hf1 hf2 H locs lc sc cells slots hf3 hR hL hS
      obtain ⟨aC, rC, rfl, sA, sR1, hlen⟩ := split_st0 htk hS
      have hpd : (parseMethodDescriptor (enY en1).desc).map (fun d => d.parameters.length) = some na := by rw [u3]; exact congrArg some hna
      refine ⟨rC, aC.toArray, sR1, Or.inl ⟨rfl, ?_⟩⟩
      rcases hlk with hl | ⟨hnil, x, hl, hsm, hyx⟩
      · by_cases hH : enH en1 = []
        · have hM : vx_Met l (enY en1) (ws_ (enY en1) (enB en1) (enL en1) (enR en1)) (rmO d (nx m1 - nx m).toNat (sl m1 - sl m).toNat) (PcR s0 pre dC dI (as9) m) (QcR s0 pre dC dI r9 m1) (XcR s0 pre dC dI r9 m1) (nx m1 - nx m).toNat (sl m1 - sl m).toNat (frO s0) := by
            unfold CTR at hM; rw [mW_nil hH] at hM; exact hM
          exact cl_S hx hb (by rw [hml, ← hls]; exact hL.1) hW hts hown hM (mc0 hH) mini u2 hpd u4 hf1 hf2 hf3 (by rw [sR_cat sR1]; exact hcs) hR sA hlen hl hst hd
        · have hM : vx_Met l (enY en1) (wsW_ (enY en1) (enB en1) (enL en1) (enR en1) (enH en1)) (rmO d (nx m1 - nx m).toNat (sl m1 - sl m).toNat) (PcR s0 pre dC dI (as9) m) (QcR s0 pre dC dI r9 m1) (XcR s0 pre dC dI r9 m1) (nx m1 - nx m).toNat (sl m1 - sl m).toNat (frO s0) := by
            unfold CTR at hM; rw [mW_cons hH] at hM; exact hM
          exact cl_SX hx hb (by rw [hml, ← hls]; exact hL.1) hW hts hown hM (mc1 hH) mini u2 hpd u4 hf1 hf2 hf3 (by rw [sR_cat sR1]; exact hcs) hR sA hlen hl hst hd
      · have hM : vx_Met l (enY en1) (ws_ (enY en1) (enB en1) (enL en1) (enR en1)) (rmO d (nx m1 - nx m).toNat (sl m1 - sl m).toNat) (PcR s0 pre dC dI (as9) m) (QcR s0 pre dC dI r9 m1) (XcR s0 pre dC dI r9 m1) (nx m1 - nx m).toNat (sl m1 - sl m).toNat (frO s0) := by
          unfold CTR at hM; rw [mW_nil hnil] at hM; exact hM
        exact cl_SU hx hb (by rw [hml, ← hls]; exact hL.1) hW hts hown hM (mc0 hnil) mini u2 hpd u4 hf1 hf2 hf3 (by rw [sR_cat sR1]; exact hcs) hR sA hlen hl hsm hyx hst hd
    · cases h
  all_goals ((repeat' split at h) <;> first | exact (nG_call h).elim | cases h)
theorem call_F {n : Nat} {cnt : Nat} (hG : G0 s0 b0 pre dC dI) (hE : EM s0 p s mid args meth c en mb) (hls : ls.length = enL en) (hd : decode (enB en) pc = .ok (.invokeinterface n cnt, 5)) (h : stp en.1 k (enK en) (enI en) (.invokeinterface n cnt) pc 5 ls st m = some (.inr (.inl (k1, as, rest, len1)))) :
    0 < k1 ∧ ∃ en1, mI k1 = some en1 ∧ CallR l p e R s mid args below meth c s0 pre dC dI pc ls st m en1 as rest len1 := by
  obtain ⟨hx, hb, hml, hret, hlocks, hts, hown, hW, hini, hs1, hs2, hmb⟩ := hE
  obtain ⟨hpre, hKn, hw0, hstr, hnc, hnx, hZc, hZf, hZu, hZs, hsx⟩ := hG
  dsimp only [stp] at h
  split at h
  · rename_i f na z9 hq
    have ok := rIt_ok en.1 _ (lkN_mem hq)
    split at h
    · rename_i as9 a r htk
      split at h
      · rename_i k9 hk9
        split at h
        · rename_i h0
          obtain ⟨rfl, rfl, rfl, rfl, hcs, hk0⟩ := nCall_inj h
          obtain ⟨en1, hm1, hna, o1, ⟨o2, o3⟩, hin, hnil, x, hl, hse, w1, w2, w3, w4, w5, hxm, hpx⟩ := ok _ (lkN_mem hk9)
          refine ⟨hk0, en1, hm1, ?_⟩
          obtain ⟨mb1, mh, mini, mc0, mc1⟩ := mok_all k9 hk0 en1 hm1
          obtain ⟨u1, u2, u3, u4, u5, u6, u7⟩ := MOKb.use mb1
          intro d r9 m1 hM hf1 hf2 H locs lc sc cells slots hf3 hR hL hS
          obtain ⟨aC, rC, rfl, sA, sR1, hlen⟩ := split_st htk hS
          have ht : tg m a = (((tg m a).toNat : Nat) : Int) := (Int.toNat_of_nonneg (by omega)).symm
          have o1 := ob_of o1
          obtain ⟨g1, -⟩ := hR.obj ht o2 o3
          rw [rfv_ref (by omega)]
          have hrc := hR.recv2 hW (hKn _ o1) ht o2 o3
          have hSa : sR s0.heap.size pre (pR a :: as9) (.ref (adr s0.heap.size pre a) :: aC) := ⟨by show _ = rfv _ _ _; rw [rfv_ref (by omega)], sA⟩
          have hpd : (parseMethodDescriptor (enY en1).desc).map (fun d => d.parameters.length) = some na := by rw [u3]; exact congrArg some hna
          have hM : vx_Met l (enY en1) (ws_ (enY en1) (enB en1) (enL en1) (enR en1)) (rmO d (nx m1 - nx m).toNat (sl m1 - sl m).toNat) (PcR s0 pre dC dI (pR a :: as9) m) (QcR s0 pre dC dI r9 m1) (XcR s0 pre dC dI r9 m1) (nx m1 - nx m).toNat (sl m1 - sl m).toNat (frO s0) := by
            unfold CTR at hM; rw [mW_nil hnil] at hM; exact hM
          refine ⟨rC, (Value.ref (adr s0.heap.size pre a) :: aC).toArray, sR1, Or.inr ⟨rfl, ?_⟩⟩
          exact cl_F hx hb (by rw [hml, ← hls]; exact hL.1) hW hts hown hM (mc0 hnil) mini u2 hpd u4 hf1 hf2 hf3 (by rw [sR_cat sR1]; exact hcs) hR hSa hrc hlen hl hse hin (u_Kn_moved hW.alike (hKn _ o1)).2 (va_Fw.moved hxm hW.alike (va_Fw.of (hw0 _ w1) (hw0 _ w2) (hw0 _ w3) (hw0 _ w4) (hw0 _ w5))) hxm hpx hd
        · cases h
      · cases h
    · cases h
  · cases h
theorem stp_call {i : Instr} (hG : G0 s0 b0 pre dC dI) (hE : EM s0 p s mid args meth c en mb) (hls : ls.length = enL en) (hd : decode (enB en) pc = .ok (i, len)) (hlen : len = ilen i len) (h : stp en.1 k (enK en) (enI en) i pc len ls st m = some (.inr (.inl (k1, as, rest, len1)))) :
    0 < k1 ∧ ∃ en1, mI k1 = some en1 ∧ CallR l p e R s mid args below meth c s0 pre dC dI pc ls st m en1 as rest len1 := by
  cases i
  case invokevirtual => have hl9 : len = 3 := hlen; subst hl9; exact call_V hG hE hls hd h
  case invokespecial => have hl9 : len = 3 := hlen; subst hl9; exact call_I hG hE hls hd h
  case invokestatic => have hl9 : len = 3 := hlen; subst hl9; exact call_S hG hE hls hd h
  case invokeinterface => have hl9 : len = 5 := hlen; subst hl9; exact call_F hG hE hls hd h
  all_goals (dsimp only [stp] at h; (repeat' split at h) <;> first | exact (nG_call h).elim | exact (nJ_call h).elim | exact (nR_call h).elim | exact (nT_call h).elim | cases h)
end CALL
