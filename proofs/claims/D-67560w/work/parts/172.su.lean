/-! a static method of a class above: the call's first link, then the call (the library's laws for virtual calls up, and for static calls, joined) -/
set_option maxRecDepth 100000
section SU1
variable {Q : Unit → Pre} {E : CtlPost} {e : Env} {d : Bool} {acts : List Action} {T s : State} {f : JFrame}
theorem su_link {idx ci n cn : Nat} {mt : MethodId} {dk ck : Class} {cf : ClassFile} {nm ds : String} (hT : T.topJava?.isSome) (hp : e.platform.polymorphicOnlyByInvokevirtual = true) (hW : s.WarmedH T.vm) (hE : s.MethodEntryUp e T.vm f.method.cls idx cn mt ci)
    (g1 : s.vm.classes[f.method.cls]? = some dk) (g2 : dk.cf = some cf) (g3 : cf.constantPool[idx]? = some (.methodref ci n)) (g4 : cf.constantPool.nameAndType? n = some (nm, ds)) (g5 : s.vm.classes[cn]? = some ck) (g6 : (ck.methods.any fun x => x.name == nm && !x.isStatic && signaturePolymorphic ck x) = false) :
    wp (invokestatic.sem idx) Q E e d acts (T.setTop f) ↔ wp (invokestatic.sem idx) Q E e d acts ((T.setVm (T.vm.calledUp f.method.cls ci idx cn mt)).setTop f) := by
  obtain ⟨first, -, warm1, second⟩ := hE.classFirst
  have g3' : cf.constantPool[idx]? = some (if false then .interfaceMethodref ci n else .methodref ci n) := g3
  have t1 : (T.setVm (T.vm.noted f.method.cls ci (.cls cn))).topJava?.isSome := hT
  have t2 : (T.setVm (T.vm.calledUp f.method.cls ci idx cn mt)).topJava?.isSome := hT
  obtain ⟨ka, ha, ea⟩ := hW.alike.2.2 _ _ g1
  obtain ⟨kb, hb, eb⟩ := hE.warmed.alike.2.2 _ _ g1
  obtain ⟨kc, hc, ec⟩ := warm1.alike.2.2 _ _ g5
  obtain ⟨kd, hd, ed⟩ := hE.warmed.alike.2.2 _ _ g5
  have nc : (kc.methods.any fun x => x.name == nm && !x.isStatic && signaturePolymorphic kc x) = false := by rw [ec]; exact g6
  have nd : (kd.methods.any fun x => x.name == nm && !x.isStatic && signaturePolymorphic kd x) = false := by rw [ed]; exact g6
  have ra := memberRef_ask_via (e := e) ha (by rw [ea]; exact g2) g3' g4
  have rb := memberRef_ask_via (e := e) hb (by rw [eb]; exact g2) g3' g4
  have r1 : ∀ {Z : ClassId → Pre} {d' : Bool} {a' : List Action}, wp (Jvm.resolveClassAt ci) Z E e d' a' (T.setTop f) ↔ Z cn d' a' ((T.setVm (T.vm.noted f.method.cls ci (.cls cn))).setTop f) :=
    W.resolveClassAt_links (t := T.setTop f) (State.method?_setTop f hT) first
  have r2 : ∀ {Z : MethodId → Pre} {d' : Bool} {a' : List Action}, wp (Jvm.resolveMethodAt idx) Z E e d' a' ((T.setVm (T.vm.noted f.method.cls ci (.cls cn))).setTop f) ↔ Z mt d' a' ((T.setVm (T.vm.calledUp f.method.cls ci idx cn mt)).setTop f) :=
    W.resolveMethodAt_links (t := (T.setVm (T.vm.noted f.method.cls ci (.cls cn))).setTop f) (State.method?_setTop f t1) second
  simp [invokestatic.sem, hp, Seam.memberRefOf, State.method?_setTop f hT, State.method?_setTop f t2, ra, rb, r1, r2, hc, hd, nc, nd, W.resolveClassAt_ready (s := (T.setVm (T.vm.calledUp f.method.cls ci idx cn mt)).setTop f) (State.method?_setTop f t2) hE.classReady,
    W.resolveMethodAt_ready (s := (T.setVm (T.vm.calledUp f.method.cls ci idx cn mt)).setTop f) (State.method?_setTop f t2) hE.ready, -Array.any_eq_true]
end SU1
section SU2
variable {p : Program} {l : Launch} {e : Env} {R : Room} {s : State} {m : MethodId} {args : Array Value} {below : List Frame} {meth : Method} {c : Code} {T : State} {locs : List Loc} {cells slots : Nat}
theorem su_step (X : Stand p l e R s m args below meth c T locs cells slots) (hexec : p.tables.exec = Jvm.exec) {own owner : String} {idx : Nat} {x : MethodName} (hown : s.vm.findClass own = some m.cls) (hlink : (Cond.methodLink own idx x).before args s = true) (hsame : (Cond.sameMethod x.cls owner x.name x.desc).before args s = true)
    (ho : owner ≠ "java/lang/invoke/MethodHandle" ∧ owner ≠ "java/lang/invoke/VarHandle") {mt : MethodId} {mm : Method} {km : Class} (hn : s.methodNamed? ⟨owner, x.name, x.desc⟩ = some mt) (hm : s.vm.method? mt = some mm) (hst : mm.isStatic = true) (hk : s.vm.classes[mt.cls]? = some km) (hin : km.init = .initialized)
    {g : JFrame} (hg : g.method = m) {aL rest : List Value} (hlen : aL.length = mm.sig.parameters.length) (hstack : g.stack = aL.reverse ++ rest) (hdg : decode c.code g.pc = .ok (.invokestatic idx, 3)) :
    ∃ vm', Stand p l e R s m args below meth c (T.setVm vm') locs cells slots ∧ ∀ target, (∀ acts, Steps p.tables e below (doInvoke e ((T.setVm vm').setTop { g with stack := rest }) acts mt aL.toArray).1 target) → Steps p.tables e below (T.setTop g) target := by
  have pl1 : e.platform.magicAccessors = ({} : Platform).magicAccessors := by rw [X.admits.platform]
  have pl2 : e.platform.polymorphicOnlyByInvokevirtual = true := by rw [X.admits.platform]
  obtain ⟨cn, ck, r1, hcn, hck, hni, hf, hn1⟩ := Cond.sameMethod_found hsame
  cases hn.symm.trans hn1
  obtain ⟨ci, link, right⟩ := Cond.methodLink_specUp hown hcn hck hni hf hlink e.platform pl1 (by rw [X.admits.platform])
  have entry : s.MethodEntryUp e T.vm m.cls idx cn mt ci := State.methodEntryUp X.warmed link right
  obtain ⟨kx, hkx, hnx⟩ := className_of_methodNamed hn
  cases hk.symm.trans hkx
  obtain ⟨dk, cf, nt, nm, ds, ck9, _, _, hd, hcf, hcp, hnt, -, -, hck9, -, poly, -⟩ := link.here
  cases hck.symm.trans hck9
  have hcp9 : cf.constantPool[idx]? = some (if false then .interfaceMethodref ci nt else .methodref ci nt) := hcp
  have al := entry.warmed.alike
  obtain ⟨dk2, hdk2, ed2⟩ := al.2.2 _ _ hd
  obtain ⟨km2, hkm2, em2⟩ := al.2.2 _ _ hk
  obtain ⟨ck2, hck2, ec2⟩ := al.2.2 _ _ hck
  have no1 : (ck.methods.any fun y => y.name == nm && !y.isStatic && signaturePolymorphic ck y) = false := by simp [poly]
  have no2 : (ck2.methods.any fun y => y.name == nm && !y.isStatic && signaturePolymorphic ck2 y) = false := by rw [ec2]; exact no1
  refine ⟨T.vm.calledUp m.cls ci idx cn mt, X.noted entry.warmed, fun target hrest => ?_⟩
  subst hg
  jvm_step X.here [hexec, hdg, su_link (e := e) (T := T) (s := s) (f := g) X.here.top pl2 X.warmed entry hd hcf hcp hnt hck no1,
    invokestatic.wp_ready (e := e) (s := T.setVm (T.vm.calledUp g.method.cls ci idx cn mt)) (k := km2) (meth := mm) (m := mt) (args := aL) (rest := rest) (f := g) X.here.top ⟨ci, nm, ds, false, cn, ck2, memberRef_ask_via (e := e) hdk2 (by rw [ed2]; exact hcf) hcp9 hnt, entry.classReady, hck2, no2⟩ entry.ready hkm2
      (by show (T.vm.calledUp g.method.cls ci idx cn mt).method? mt = some mm; rw [al.method?]; exact hm) (by rw [em2]; show signaturePolymorphic km mm = false; simp [signaturePolymorphic, hnx, ho.1, ho.2]) hst (by rw [em2]; exact hin) hlen hstack]
  exact fun acts => hrest _
end SU2
section SU3
variable {p : Program} {l : Launch} {e : Env} {R : Room} {s : State} {mid : MethodId} {args : Array Value} {below : List Frame} {meth : Method} {c : Code} {Q : State → Prop}
variable {s0 : State} {pre : Int → Nat} {dC : Nat → ClassId} {dI : Nat → Nat → Nat} {mb : Mem} {cc : ByteArray} {pc : Nat} {ls st : List PV} {m m1 : Mem} {H : Heap} {locs : List Loc} {cells slots : Nat} {lc : Array Slot}
variable {y : MethodName} {bytes : ByteArray} {maxL : Nat} {ret : Option FieldType} {d mc ms idx na : Nat} {own : String} {as : List PV} {r : Rs} {rest : List Value} {aC : List Value}
theorem cl_SU {x : MethodName} (hx : p.tables.exec = Jvm.exec) (hb : c.code = cc) (hlc : lc.size = c.maxLocals) (hW : s0.WarmedH s.vm) (hts : ∀ w ∈ lw_all, w.before args s = true) (hown : s.vm.findClass own = some mid.cls)
    (hM : vx_Met l y (ws_ y bytes maxL ret) (rmO d mc ms) (PcR s0 pre dC dI as m) (QcR s0 pre dC dI r m1) (XcR s0 pre dC dI r m1) mc ms (frO s0)) (hcd : Cond.code y bytes maxL ret ∈ lw_all) (hini : Cond.initialized y.cls ∈ lw_all) (hmh : y.cls ≠ "java/lang/invoke/MethodHandle" ∧ y.cls ≠ "java/lang/invoke/VarHandle") (hpd : (parseMethodDescriptor y.desc).map (fun d => d.parameters.length) = some na) (hml9 : maxL ≤ 21)
    (hf1 : d + 11 ≤ R.frames) (hf2 : 40 * (d + 1) + 120 ≤ R.locals) (hf3 : cells + mc ≤ R.cells ∧ slots + ms ≤ R.slots) (hrs : (rest.map fun v => v.category).sum ≤ 8) (hR : RP s0 pre dC dI m H) (hS : sR s0.heap.size pre as aC) (hlen : aC.length = na)
    (hl : Cond.methodLink own idx x ∈ lw_all) (hsm : Cond.sameMethod x.cls y.cls x.name x.desc ∈ lw_all) (hyx : y = ⟨y.cls, x.name, x.desc⟩) (hst : Cond.static y ∈ lw_all) (dg : decode cc pc = .ok (.invokestatic idx, 3)) :
    vx_Run p l e R s mid args below meth c H locs cells slots mc ms (F0 mid pc lc (aC.reverse ++ rest)) rest (QcR s0 pre dC dI r m1 aC.toArray) (XcR s0 pre dC dI r m1) (frO s0) := by
  have hK : vx_Back l R p e below s args y 3 8 (PreOf R mc ms (PcR s0 pre dC dI as m)) (PostOf (QcR s0 pre dC dI r m1) mc ms (frO s0)) (vx_Post (XcR s0 pre dC dI r m1) mc ms (frO s0)) :=
    vx_back (bytes := bytes) (maxL := maxL) (ret := ret) hM (PcR.blind _ _ _ _ _ _) rfl rfl (by show d + 10 + 1 ≤ _; omega) (by show 8 + (maxL + 11) + (40 * d + 120) ≤ _; omega) (pay_in hts (lw_meth hcd)) List.mem_cons_self (fun a' U hW => word_at hW (Or.inl (by first | rfl | simp [Cond.onTables, Cond.keeps, Cond.steady])) (hts _ hini))
  obtain ⟨mt, hnamed⟩ := Cond.code_named (hts _ hcd)
  obtain ⟨mm, cM, hmm, -, -, -, -, -, -, hsig⟩ := Cond.code_spec hnamed (hts _ hcd)
  have hstatic : mm.isStatic = true := Cond.static_spec hnamed hmm (hts _ hst)
  obtain ⟨kP, hkP, -⟩ := className_of_methodNamed hnamed
  have hinit : kP.init = .initialized := Cond.initialized_spec (findClass_of_methodNamed hnamed) hkP (hts _ hini)
  have hn9 : s.methodNamed? ⟨y.cls, x.name, x.desc⟩ = some mt := by rw [← hyx]; exact hnamed
  have hlen9 : aC.length = mm.sig.parameters.length := by
    rw [hsig] at hpd
    exact hlen.trans (Option.some.inj hpd).symm
  intro T hT X
  obtain ⟨vm₁, X₁, step⟩ := su_step X hx hown (hts _ hl) (hts _ hsm) hmh hn9 hmm hstatic hkP hinit (g := F0 mid pc lc (aC.reverse ++ rest)) rfl (aL := aC) (rest := rest) hlen9 rfl (by rw [hb]; exact dg)
  rcases hK mid meth c ⟨T.setVm vm₁, locs, cells, slots⟩ { F0 mid pc lc (aC.reverse ++ rest) with stack := rest } (.invokestatic idx) mt aC.toArray X₁ rfl hlc (by rw [hb]; exact dg) (by show 2 * 0 + (rest.map fun v => v.category).sum ≤ 8; omega) (X₁.named hnamed) ⟨hf3.1, hf3.2, by simpa using hS, by show RP _ _ _ _ _ T.heap; rw [hT]; exact hR, State.WarmedH.trans hW X₁.warmed⟩ with
    ⟨v, ⟨U', l2, c2, s2⟩, X', ⟨g', mk, t, L, e1, e2, hq, h1, hL, h2, h3⟩, st⟩ | ⟨q, ⟨U', l2, c2, s2⟩, X', ⟨g', mk, t, L, E, ce, e1, e2, hq, hce, hcv, hcl, h1, hL, h2, h3⟩, st⟩
  · dsimp only [Pt.U, Pt.locs, Pt.cells, Pt.slots] at X' e1 e2 h1 h2 h3 st
    subst h1; subst h2; subst h3
    exact Or.inl ⟨v, (T.setVm vm₁).calling g' mk aC.toArray, t, U', L, hT, X', hL, e1, e2, hq, fun target h => step _ fun acts => by rw [doInvoke_state]; exact st.trans h⟩
  · dsimp only [Pt.U, Pt.locs, Pt.cells, Pt.slots] at X' e1 e2 h1 h2 h3 st hcl
    subst h1; subst h2; subst h3
    exact Or.inr ⟨q, (T.setVm vm₁).calling g' mk aC.toArray, t, U', L, E, ce, hT, X', hL, e1, e2, hq, hce, hcv, vx_cls X₁.warmed hcl, step _ fun acts => by rw [doInvoke_state]; exact st⟩
end SU3
