/-! arraycopy, arrays of arrays -/
set_option maxRecDepth 100000
section CPY
variable {p : Program} {l : Launch} {e : Env} {R : Room} {s : State} {mid : MethodId} {args : Array Value} {below : List Frame} {meth : Method} {c : Code} {Q : State → Prop}
variable {s0 : State} {pre : Int → Nat} {dC : Nat → ClassId} {dI : Nat → Nat → Nat} {mb : Mem} {cc : ByteArray} {pc : Nat} {ls st : List PV} {m : Mem}
theorem RP.copy {H H1 : Heap} (hpre : ∀ a, 0 < a → a < 92 → pre a < s0.heap.size) (h : RP s0 pre dC dI m H) {a b sp dp n : Int} (ha : 92 ≤ a) (h1 : 100 < tg m a % 1000) (h2 : tg m a % 1000 < 119) (hn : 0 ≤ n) (hsp : 0 ≤ sp) (hdp : 0 ≤ dp) (hsn : sp + n ≤ ln m b) (hdn : dp + n ≤ ln m a) (hb : tg m b % 1000 = tg m a % 1000)
    {cell cs : Cell} (hc : H[adr s0.heap.size pre a]? = some cell) (hcs : H[adr s0.heap.size pre b]? = some cs) (he : H1[adr s0.heap.size pre a]? = some (cell.storeRun dp.toNat (cs.stretch sp.toNat n.toNat))) (hz : H1.size = H.size) (ho : ∀ q, q ≠ adr s0.heap.size pre a → H1[q]? = H[q]?) : RP s0 pre dC dI (mcp m b sp a dp n) H1 := by
  have h' := h
  obtain ⟨q1, q2, q3, q4, q5, cell9, e1, e2, e3, e4, e5, e6, e7⟩ := h.arr h1 h2
  cases Option.some.inj (hc.symm.trans e1)
  obtain ⟨r1, r2, r3, r4, r5, cs9, d1, d2, d3, d4, d5, d6, d7⟩ := h.arr (a := b) (by omega) (by omega)
  cases Option.some.inj (hcs.symm.trans d1)
  obtain ⟨f1, f2, f3, f4, f5⟩ := h'
  obtain ⟨c1, c2, c3, -, -⟩ := Cell.storeRun_facts cell dp.toNat (cs.stretch sp.toNat n.toNat)
  have hlen : (cs.stretch sp.toNat n.toNat).length = n.toNat := by unfold Cell.stretch; simp
  refine ⟨f1, by rw [hz]; exact f2, fun q hq => ?_, f4, fun x hx1 hx2 => ?_⟩
  · rw [ho q (by rw [adr_ge ha]; omega)]; exact f3 q hq
  · rw [tg_mcp, ln_mcp]
    by_cases e : x = a
    · subst e
      refine ⟨fun g1 g2 => ?_, fun _ _ => ⟨q3, q4, fun k g1 g2 => ?_, _, he, ?_, by rw [c2]; exact e3, by rw [c2]; exact e4, by rw [c3]; exact e5, fun j hj => ?_, ?_⟩⟩
      · exfalso; rw [Int.emod_eq_of_lt (by omega) (by omega)] at h1; omega
      · rw [vl_mcp]
        split
        · rw [← hb]; exact r5 _ (by omega) (by omega)
        · exact q5 k g1 g2
      · obtain ⟨z1, z2⟩ := e2
        exact ⟨by rw [c2]; exact z1, by rw [c1]; exact z2⟩
      · rw [Cell.storeRun_get _ _ _ _ (by have := e5.1.1; rw [hlen]; omega), vl_mcp, hlen]
        by_cases g : dp.toNat ≤ j ∧ j < dp.toNat + n.toNat
        · rw [if_pos g, if_pos (by omega)]
          unfold Cell.stretch
          rw [List.getElem?_map, List.getElem?_range (by omega)]
          show some (cs.slots.getD _ _) = _
          have hd := d6 (sp.toNat + (j - dp.toNat)) (by omega)
          rw [Array.getD_eq_getD_getElem?, hd, hb, show (((sp.toNat + (j - dp.toNat) : Nat)) : Int) = sp + ((j : Int) - dp) by omega]
          rfl
        · rw [if_neg g, if_neg (by omega)]
          exact e6 j hj
      · rw [c1]; exact e7
    · have : vl (mcp m b sp a dp n) x = vl m x := by
        funext j; rw [vl_mcp]; simp [e]
      rw [this]
      exact (f5 x hx1 hx2).kept (ho _ (adr_ne hpre ha hx1 e))
theorem g_copy {a b sp dp n : Int} {r : List PV} {idx : Nat} {own : String} (hx : p.tables.exec = Jvm.exec) (hb : c.code = cc) (hml : c.maxLocals = ls.length) (hW : s0.WarmedH s.vm) (hpre : ∀ a, 0 < a → a < 92 → pre a < s0.heap.size) (hts : ∀ w ∈ lw_all, w.before args s = true) (hown : s.vm.findClass own = some mid.cls)
    (hl : Cond.methodLink own idx arraycopyName ∈ lw_all) (hnat : Cond.native arraycopyName ∈ lw_all) (hst : Cond.static arraycopyName ∈ lw_all) (hini : Cond.initialized "java/lang/System" ∈ lw_all)
    (hf : 1 ≤ R.frames) (hl2 : 40 ≤ R.locals) (hr : catS r ≤ 8) (d : decode cc pc = .ok (.invokestatic idx, 3)) (hn : 0 ≤ n) (hsp : 0 ≤ sp) (hdp : 0 ≤ dp) (hsn : sp + n ≤ ln m b) (hdn : dp + n ≤ ln m a) (ha9 : 1000 ≤ tg m a) (hb9 : 1000 ≤ tg m b) (hab : tg m b % 1000 = tg m a % 1000) (ht : tg m a % 1000 = 101 ∨ tg m a % 1000 = 103)
    (k : WS s0 pre dC dI p l e R s mid args below meth c mb Q (pc + 3) ls r (mcp m b sp a dp n)) : WS s0 pre dC dI p l e R s mid args below meth c mb Q pc ls (pI n :: pI dp :: pR a :: pI sp :: pR b :: r) m := by
  intro H locs lc sc hR hL hS hQ
  obtain ⟨q, rfl, v1, hS1⟩ := sR_i hS
  obtain ⟨q, rfl, v2, hS2⟩ := sR_i hS1
  obtain ⟨q, rfl, hS3⟩ := sR_r hS2
  obtain ⟨q, rfl, v3, hS4⟩ := sR_i hS3
  obtain ⟨q, rfl, hS5⟩ := sR_r hS4
  have ha := hR.big ha9
  have hb0 := hR.big hb9
  obtain ⟨q1, q2, q3, q4, q5, cell, e1, e2, e3, e4, e5, e6, e7⟩ := hR.arr (a := a) (by omega) (by omega)
  obtain ⟨r1, r2, r3, r4, r5, cs, d1, d2, d3, d4, d5, d6, d7⟩ := hR.arr (a := b) (by omega) (by omega)
  rw [rfv_ref (by omega : a ≠ 0), rfv_ref (by omega : b ≠ 0)]
  obtain ⟨-, k1, hk1, cm1, hkk1⟩ := State.isArrayOf_alike hW.alike e2
  obtain ⟨-, k0, hk0, cm0, hkk0⟩ := State.isArrayOf_alike hW.alike d2
  have hneg : ∀ z : Int, pin z (-2147483648) 2147483648 → 0 ≤ z → ¬ Int32.ofInt z < 0 := fun z hz h0 h => by
    have h : Int32.ofInt z < Int32.ofInt 0 := h
    rw [i32_lt hz z32] at h; omega
  have hnw : nativeFrameWords "java/lang/System" "arraycopy" 5 ≤ 20 := by decide +kernel
  intro T hT X
  obtain ⟨vm', X', step⟩ := X.arraycopy hx hown (hts _ hl) (hts _ hnat) (hts _ hst) (hts _ hini) (src := adr s0.heap.size pre b) (dst := adr s0.heap.size pre a) (cs := cs) (cd := cell) (srcPos := Int32.ofInt sp) (destPos := Int32.ofInt dp) (n := Int32.ofInt n) (by rw [hT]; exact d1) (by rw [hT]; exact e1)
    d4 e4 d3 e3 hk0 hk1 hkk0 hkk1 (by rw [hab]; rcases ht with h | h <;> rw [h] <;> rfl) (hneg _ v3 hsp) (hneg _ v2 hdp) (hneg _ v1 hn)
    (by rw [i32_back v3, i32_back v1, d5.2 hb0]; omega) (by rw [i32_back v2, i32_back v1, e5.2 ha]; omega)
    (fun vm₁ _ i hi => by
      rw [cl_ofInt v1 hn] at hi
      rw [cl_ofInt v3 hsp]
      have hd := d6 (sp.toNat + i) (by omega)
      have hg := r5 ((sp.toNat + i : Nat) : Int) (by omega) (by omega)
      rw [hab] at hd hg
      have e : cs.slots.getD (sp.toNat + i) .null = .int (Int32.ofInt (vl m b ((sp.toNat + i : Nat) : Int))) := by
        rw [Array.getD_eq_getD_getElem?, hd]
        rcases ht with h | h <;> rw [h] <;> rfl
      refine ⟨?_, ?_⟩
      · rw [e]
        rcases ht with h | h
        · rw [h]; rfl
        · rw [h] at hg ⊢
          have hg : pin _ (-128) 128 := hg
          show fits .byte _ = true
          have h8 : vl m b ((sp.toNat + i : Nat) : Int) = w8 (vl m b ((sp.toNat + i : Nat) : Int)) := by unfold w8; unfold pin at hg; omega
          rw [h8, ← i32_i2b]
          exact pk_fb _
      · rw [e]; exact trivial)
    (g := F0 mid pc lc (.int (Int32.ofInt n) :: .int (Int32.ofInt dp) :: .ref (adr s0.heap.size pre a) :: .int (Int32.ofInt sp) :: .ref (adr s0.heap.size pre b) :: q)) rfl (by rw [hml]; exact hL.1) (rest := q) rfl (by rw [hb]; exact d) hf (by rw [sR_cat hS5]; show 2 * 0 + _ + (nativeFrameWords "java/lang/System" "arraycopy" 5 + 11) ≤ _; omega)
  have hl9 : adr s0.heap.size pre a < H.size := (Array.getElem?_eq_some_iff.mp e1).1
  have ec : copied cs cell (Int32.ofInt sp) (Int32.ofInt dp) (Int32.ofInt n) = cell.storeRun dp.toNat (cs.stretch sp.toNat n.toNat) := by
    show cell.storeRun (Int32.ofInt dp).toNatClampNeg (cs.stretch (Int32.ofInt sp).toNatClampNeg (Int32.ofInt n).toNatClampNeg) = _
    rw [cl_ofInt v1 hn, cl_ofInt v2 hdp, cl_ofInt v3 hsp]
  rw [ec] at X' step
  have hheap : ((T.setVm vm').setCell (adr s0.heap.size pre a) (cell.storeRun dp.toNat (cs.stretch sp.toNat n.toNat))).heap = H.setIfInBounds (adr s0.heap.size pre a) (cell.storeRun dp.toNat (cs.stretch sp.toNat n.toNat)) := by rw [← hT]; rfl
  obtain ⟨t, a1, b1⟩ := k _ _ lc q (RP.copy hpre hR ha (by omega) (by omega) hn hsp hdp hsn hdn hab e1 d1 (show (H.setIfInBounds (adr s0.heap.size pre a) _)[adr s0.heap.size pre a]? = some _ by simp [Array.getElem?_setIfInBounds, hl9]) (by simp) (fun z hz => by simp [Array.getElem?_setIfInBounds, Ne.symm hz])) hL hS5 (fun z hz => by
      rcases List.mem_append.mp hz with h | h
      · exact hQ z h
      · obtain ⟨w, -, hw⟩ := List.mem_map.mp h
        rw [← hw]; show s0.heap.size ≤ adr s0.heap.size pre a; rw [adr_ge ha]; omega) _ hheap X'
  exact ⟨t, step t a1, b1⟩
theorem tg_mgr (m : Mem) (t u n k b : Int) : tg (mgr m t u n k) b = if b = nx m then t else if nx m < b ∧ b ≤ nx m + n then u else tg m b := rfl
theorem ln_mgr (m : Mem) (t u n k b : Int) : ln (mgr m t u n k) b = if b = nx m then n else if nx m < b ∧ b ≤ nx m + n then k else ln m b := rfl
theorem vl_mgr (m : Mem) (t u n k b j : Int) : vl (mgr m t u n k) b j = if b = nx m then (if 0 ≤ j ∧ j < n then nx m + 1 + j else 0) else if nx m < b ∧ b ≤ nx m + n then 0 else vl m b j := rfl
theorem nx_mgr (m : Mem) (t u n k : Int) : nx (mgr m t u n k) = nx m + 1 + n := rfl
theorem sl_mgr (m : Mem) (t u n k : Int) : sl (mgr m t u n k) = sl m + n + n * k := rfl
theorem RP.grid {H H1 : Heap} (hpre : ∀ a, 0 < a → a < 92 → pre a < s0.heap.size) (h : RP s0 pre dC dI m H) {N K kk : Nat} (hN : N < 2147483648) (hK : K < 2147483648) {oc ic : Cell} {kA : Class} {comp : ClassId}
    (f1 : H1.size = H.size + 1 + N) (f2 : H1[H.size]? = some oc) (f3 : ∀ a, a < H.size → H1[a]? = H[a]?) (f4 : ∀ j, j < N → H1[H.size + 1 + j]? = some ic)
    (o1 : s0.isArrayOf oc (.array .byte)) (o2 : oc.vm = .none) (o3 : oc.slots.size = N) (o4 : ∀ j, j < N → oc.slots[j]? = some (.ref (H.size + 1 + j))) (o5 : s0.vm.findClass "[[B" = some oc.cls) (o6 : s0.vm.classes[oc.cls]? = some kA) (o7 : kA.kind = .array comp (.array .byte)) (o8 : s0.vm.findClass "[B" = some comp)
    (i1 : s0.isArrayOf ic .byte) (i2 : ic.vm = .none) (i3 : ic.slots.size = K) (i4 : ∀ j, j < K → ic.slots[j]? = some (.int 0)) (i5 : s0.vm.findClass "[B" = some ic.cls) : RP s0 pre dC dI (mgr m (118 + 1000 * (kk + 1)) (103 + 1000 * (kk + 1)) N K) H1 := by
  obtain ⟨ea, eb⟩ := h.at_new
  obtain ⟨p1, p2, p3, p4, p5⟩ := h
  refine ⟨by rw [nx_mgr]; omega, by rw [nx_mgr, f1, p2]; omega, fun q hq => ?_, fun a ha => ?_, fun b hb1 hb2 => ?_⟩
  · rw [f3 q (by omega)]; exact p3 q hq
  · rw [tg_mgr] at ha ⊢
    rw [nx_mgr]
    split at ha
    · exact ⟨by omega, by omega, Or.inl (by omega)⟩
    · rename_i h9
      rw [if_neg h9]
      split at ha
      · exact ⟨by omega, by omega, Or.inl (by omega)⟩
      · rename_i h8
        rw [if_neg h8]
        obtain ⟨z1, z2, z3⟩ := p4 a ha
        exact ⟨z1, by omega, z3⟩
  · rw [nx_mgr] at hb2
    rw [tg_mgr, ln_mgr]
    by_cases e1 : b = nx m
    · subst e1
      rw [if_pos rfl, if_pos rfl]
      refine cR_arr (cell := oc) (by omega) (by omega) (fun k h1 h2 => ?_) (by rw [← ea]; exact f2) o1 o2 (by rw [o3]; omega) (fun j hj => ?_) o5 (fun _ => ⟨kA, comp, o6, o7, o8⟩)
      · unfold arg; rw [if_neg (by decide)]; exact trivial
      · rw [o4 j (by omega), vl_mgr, if_pos rfl, if_pos (by omega)]
        show _ = some (rfv _ _ _)
        rw [rfv_ref (by omega), adr_ge (by omega), p2, show s0.heap.size + (nx m + 1 + (j : Int) - 92).toNat = s0.heap.size + (nx m - 92).toNat + 1 + j by omega]
    · rw [if_neg e1, if_neg e1]
      by_cases e2 : nx m < b ∧ b ≤ nx m + N
      · rw [if_pos e2, if_pos e2]
        have f5 := f4 (b - nx m - 1).toNat (by omega)
        rw [show H.size + 1 + (b - nx m - 1).toNat = adr s0.heap.size pre b by rw [adr_ge (by omega), p2]; omega] at f5
        refine cR_arr (cell := ic) (by omega) (by omega) (fun k h1 h2 => ?_) f5 i1 i2 (by rw [i3]; omega) (fun j hj => ?_) i5 (fun h => absurd h (by decide))
        · rw [vl_mgr, if_neg e1, if_pos e2]; exact arg_zero _
        · rw [vl_mgr, if_neg e1, if_pos e2, i4 j (by omega)]; rfl
      · rw [if_neg e2, if_neg e2]
        have : vl (mgr m (118 + 1000 * (kk + 1)) (103 + 1000 * (kk + 1)) N K) b = vl m b := by
          funext j; rw [vl_mgr, if_neg e1, if_neg e2]
        rw [this]
        refine (p5 b hb1 (by omega)).kept (f3 _ ?_)
        by_cases hb3 : b < 92
        · rw [adr_lt hb3]; have := hpre b hb1 hb3; omega
        · rw [adr_ge (by omega)]; omega
theorem inner_get (comp : ClassId) (M : Nat) (dv : Value) : (Jvm.Free.Multi.innerC comp M dv).slots.size = M ∧ ∀ j, j < M → (Jvm.Free.Multi.innerC comp M dv).slots[j]? = some dv := by
  constructor
  · exact Array.size_replicate
  · intro j hj
    show (Array.replicate M dv)[j]? = _
    rw [Array.getElem?_replicate, if_pos hj]
theorem g_multi0 {n k : Int32} {N K : Nat} {r : List PV} {idx kk : Nat} {own : String} (hnN : n.toNatClampNeg = N) (hkK : k.toNatClampNeg = K) (hx : p.tables.exec = Jvm.exec) (hb : c.code = cc) (hW : s0.WarmedH s.vm) (hpre : ∀ a, 0 < a → a < 92 → pre a < s0.heap.size) (hts : ∀ w ∈ lw_all, w.before args s = true) (hown : s.vm.findClass own = some mid.cls)
    (hcl : Cond.classLink own idx "[[B" ∈ lw_all) (hov : (Cond.arrayOver (.array .byte)).before args s = true) (harr : Cond.arrayClass .byte ∈ lw_all)
    (d : decode cc pc = .ok (.multianewarray idx 2, 4)) (hn0 : ¬ n < 0) (hk0 : ¬ k < 0) (hn1 : N * 4 ≤ 536870912) (hk1 : K * componentBytes .byte ≤ 536870912) (hk2 : K ≤ 536870912) (hb1 : nx mb ≤ nx m) (hb2 : sl mb ≤ sl m) (hr1 : (nx m + 1 + N - nx mb).toNat ≤ R.cells) (hr2 : (sl m - sl mb).toNat + (N + N * K) ≤ R.slots)
    (kk9 : WS s0 pre dC dI p l e R s mid args below meth c mb Q (pc + 4) ls (pR (nx m) :: r) (mgr m (118 + 1000 * (kk + 1)) (103 + 1000 * (kk + 1)) N K))
    {H : Heap} {locs : List Loc} {lc : Array Slot} {q : List Value} (hR : RP s0 pre dC dI m H) (hL : lR s0.heap.size pre ls lc) (hS2 : sR s0.heap.size pre r q) (hQ : ∀ q ∈ locs, s0.heap.size ≤ q.base) :
    W p l e R s mid args below meth c H locs (nx m - nx mb).toNat (sl m - sl mb).toNat Q (F0 mid pc lc (.int k :: .int n :: q)) := by
  obtain ⟨ea, eb⟩ := hR.at_new
  obtain ⟨comp9, cA9, kA9, z1, -, z2, z3, z4⟩ := arrayOverA_spec hov
  intro T hT X
  subst hnN; subst hkK
  obtain ⟨vm₁, cA, comp, hW1, hfA, hfC, hO, hI, X', step⟩ := X.multianewarray2F (ty := .byte) hx hown (hts _ hcl) hov (hts _ harr) (g := F0 mid pc lc (.int k :: .int n :: q)) rfl (by rw [hb]; exact d) (n := n) (k := k) (rest := q) rfl hn0 hk0 hn1 hk1 hk2 rfl rfl (by omega) hr2
  generalize n.toNatClampNeg = N at *
  generalize k.toNatClampNeg = K at *
  cases Option.some.inj (z4.symm.trans hfA)
  cases Option.some.inj (z1.symm.trans hfC)
  generalize hF : Jvm.Free.Multi.fill (T.setVm vm₁) cA9 comp9 N K (defaultValue .byte) N = F at X' step
  obtain ⟨f1, f2, -⟩ := Jvm.Free.Multi.fill_facts (T.setVm vm₁) cA9 comp9 N K (defaultValue .byte) N
  have f3 := fun a (ha : a < (T.setVm vm₁).heap.size) => Jvm.Free.Multi.fill_old (T.setVm vm₁) cA9 comp9 N K (defaultValue .byte) (a := a) ha N
  have f4 := fun j (hj : j < N) => Jvm.Free.Multi.fill_inner (T.setVm vm₁) cA9 comp9 N K (defaultValue .byte) N j hj
  have hTs : (T.setVm vm₁).heap = H := hT
  rw [hF, hTs] at f1 f2 f3 f4
  obtain ⟨o1, o2, o3⟩ := Jvm.Free.Multi.outerC_facts cA9 N H.size N
  have o4 := fun j (hj : j < N) => Jvm.Free.Multi.outerC_slot cA9 N H.size N j hj
  obtain ⟨kB, y1, y2⟩ := hW.alike.symm.2.2 _ _ z2
  have hR2 : RP s0 pre dC dI (mgr m (118 + 1000 * (kk + 1)) (103 + 1000 * (kk + 1)) N K) F.heap := by
    refine RP.grid (kA := kB) (comp := comp9) (oc := Jvm.Free.Multi.outerC cA9 N H.size N) (ic := Jvm.Free.Multi.innerC comp9 K (defaultValue .byte)) hpre hR (by omega) (by omega) f1 f2 f3 f4 (State.isArrayOf_alike hW.alike.symm (hO N H.size N).1) o2 o3 (fun j hj => by rw [o4 j hj, if_pos hj]) (by rw [o1, ← hW.alike.findClass]; exact hfA) (by rw [o1]; exact y1) (by rw [y2]; exact z3) (by rw [← hW.alike.findClass]; exact hfC)
      (State.isArrayOf_alike hW.alike.symm (hI K (defaultValue .byte)).1) rfl (inner_get _ _ _).1 (inner_get _ _ _).2 (by rw [← hW.alike.findClass]; exact hfC)
  have k1 := kk9 F.heap locs lc (.ref H.size :: q) hR2 hL ⟨eb.symm, hS2⟩ hQ
  rw [nx_mgr, sl_mgr] at k1
  rw [show (nx m + 1 + (N : Int) - nx mb).toNat = (nx m - nx mb).toNat + 1 + N by omega, show (sl m + (N : Int) + (N : Int) * (K : Int) - sl mb).toNat = (sl m - sl mb).toNat + N + N * K by rw [← Int.natCast_mul]; omega] at k1
  obtain ⟨t, a1, b1⟩ := k1 F rfl X'
  rw [hT] at step
  exact ⟨t, step t a1, b1⟩
theorem g_multi {r : List PV} {idx kk : Nat} {own : String} (hx : p.tables.exec = Jvm.exec) (hb : c.code = cc) (hW : s0.WarmedH s.vm) (hpre : ∀ a, 0 < a → a < 92 → pre a < s0.heap.size) (hts : ∀ w ∈ lw_all, w.before args s = true) (hown : s.vm.findClass own = some mid.cls)
    (hcl : Cond.classLink own idx "[[B" ∈ lw_all) (hov : (Cond.arrayOver (.array .byte)).before args s = true) (harr : Cond.arrayClass .byte ∈ lw_all)
    (d : decode cc pc = .ok (.multianewarray idx 2, 4)) (hb1 : nx mb ≤ nx m) (hb2 : sl mb ≤ sl m) (hr1 : (nx m + 1 + 100 - nx mb).toNat ≤ R.cells) (hr2 : (sl m + 100 + 48000 - sl mb).toNat ≤ R.slots)
    (k : WS s0 pre dC dI p l e R s mid args below meth c mb Q (pc + 4) ls (pR (nx m) :: r) (mgr m (118 + 1000 * (kk + 1)) (103 + 1000 * (kk + 1)) 100 480)) : WS s0 pre dC dI p l e R s mid args below meth c mb Q pc ls (pI 480 :: pI 100 :: r) m := by
  intro H locs lc sc hR hL hS hQ
  obtain ⟨q, rfl, v1, hS1⟩ := sR_i hS
  obtain ⟨q, rfl, v2, hS2⟩ := sR_i hS1
  exact g_multi0 (N := 100) (K := 480) rfl rfl hx hb hW hpre hts hown hcl hov harr d (by decide) (by decide) (by decide) (by decide) (by decide) hb1 hb2 hr1 (by omega) k hR hL hS2 hQ
end CPY
