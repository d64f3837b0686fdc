/-! the rest of the instructions that call nothing -/
set_option maxRecDepth 100000
section RST
variable {p : Program} {l : Launch} {e : Env} {R : Room} {s : State} {mid : MethodId} {args : Array Value} {below : List Frame} {meth : Method} {c : Code} {Q : State → Prop}
variable {s0 : State} {pre : Int → Nat} {dC : Nat → ClassId} {dI : Nat → Nat → Nat} {mb : Mem} {cc : ByteArray} {pc : Nat} {ls st : List PV} {m : Mem}
/-- the cell of an object: its class by name -/
theorem RP.recv {H : Heap} (h : RP s0 pre dC dI m H) (hW : s0.WarmedH s.vm) {a : Int} {t : Nat} (hKn : u_Kn s0 (cNm t) (TT t) (fTy t).length (dC t) (dI t)) (ht : tg m a = (t : Int)) (h0 : 0 < t) (h1 : t < 100) : ∃ cell : Cell, H[adr s0.heap.size pre a]? = some cell ∧ cell.vm.isStatics = false ∧ s.vm.findClass (cNm t) = some cell.cls := by
  obtain ⟨g1, g2, ⟨cell, q1, q2, ⟨⟨-, q3⟩, -⟩, -⟩, -⟩ := h.obj ht h0 h1
  exact ⟨cell, q1, q3, by rw [q2]; exact (u_Kn_moved hW.alike hKn).2.1⟩
theorem RP.recv2 {H : Heap} (h : RP s0 pre dC dI m H) (hW : s0.WarmedH s.vm) {a : Int} {t : Nat} (hKn : u_Kn s0 (cNm t) (TT t) (fTy t).length (dC t) (dI t)) (ht : tg m a = (t : Int)) (h0 : 0 < t) (h1 : t < 100) : ∃ cell : Cell, H[adr s0.heap.size pre a]? = some cell ∧ cell.vm.isStatics = false ∧ s.vm.findClass (cNm t) = some cell.cls := by
  exact h.recv hW hKn ht h0 h1
theorem g_aast0 {j a x : Int} {r : List PV} (hx : p.tables.exec = Jvm.exec) (hb : c.code = cc) (hW : s0.WarmedH s.vm) (hpre : ∀ a, 0 < a → a < 92 → pre a < s0.heap.size)
    (d : decode cc pc = .ok (.aastore, 1)) (ha9 : 1000 ≤ tg m a) (ht : 110 < tg m a % 1000 ∧ tg m a % 1000 < 119) (h0 : 0 ≤ j) (h1 : j < ln m a) (hx0 : x ≠ 0)
    (hv : ∀ H : Heap, RP s0 pre dC dI m H → ∃ (cv : Cell), H[adr s0.heap.size pre x]? = some cv ∧ (∀ q, cv.vm ≠ .statics q) ∧ (∃ kv : Class, s.vm.classes[cv.cls]? = some kv) ∧ ∀ comp, s.vm.findClass (elC (tg m a % 1000)) = some comp → s.vm.assignable cv.cls comp = true)
    (k : WS s0 pre dC dI p l e R s mid args below meth c mb Q (pc + 1) ls r (mst m a j x)) : WS s0 pre dC dI p l e R s mid args below meth c mb Q pc ls (pR x :: pI j :: pR a :: r) m := by
  intro H locs lc sc hR hL hS hQ
  obtain ⟨q, rfl, hS7⟩ := sR_r hS
  obtain ⟨q, rfl, hj, hS8⟩ := sR_i hS7
  obtain ⟨q, rfl, hS9⟩ := sR_r hS8
  obtain ⟨g1, g2, g3, g4, g5, g6⟩ := hR.arr (a := a) (by omega) (by omega)
  have ha := hR.big ha9
  obtain ⟨t1, t2⟩ := elF_ref ht.1 ht.2
  obtain ⟨cell, e1, e2, e3, e3b, e4, e5, e6⟩ := g6
  obtain ⟨f1, kA, comp, f2, f3, f4⟩ := e6 ha
  have f4 := f4 t2
  obtain ⟨kB, f2', fe⟩ := hW.alike.2.2 _ _ f2
  have f4' : s.vm.findClass (elC (tg m a % 1000)) = some comp := by rw [hW.alike.findClass]; exact f4
  obtain ⟨kc, hkc, -⟩ := Vm.findClass_spec f4'
  obtain ⟨cv, v1, v2, ⟨kv, v3⟩, v4⟩ := hv H hR
  rw [rfv_ref hx0, rfv_ref (by omega : a ≠ 0)]
  have hin := in_ofInt hj h0 h1 e4.1.1
  refine W.aast hx hb e1 e3b e3 f2' (by rw [fe]; exact f3) t1 hkc ⟨fun h => hin (Or.inl h), Nat.not_le.mp fun h => hin (Or.inr h)⟩ v1 v2 v3 (v4 comp f4') rfl rfl d fun H1 f1 f2 f3 => ?_
  rw [cl_ofInt hj h0] at f1
  exact k H1 _ lc q (RP.aput hpre hR ha (by omega) (by omega) h0 h1 (by unfold arg; rw [if_neg (by omega), t2]; exact trivial) e1 (by rw [t2]; show _ = rfv _ _ _; rw [rfv_ref hx0]) f1 f2 f3) hL hS9 (fun z hz => by
    rcases List.mem_append.mp hz with h | h
    · exact hQ z h
    · rw [List.mem_singleton.mp h]; show s0.heap.size ≤ adr s0.heap.size pre a; rw [adr_ge ha]; omega)
/-- an object into an array that takes it -/
theorem g_aast {j a x : Int} {r : List PV} {t : Nat} (hx : p.tables.exec = Jvm.exec) (hb : c.code = cc) (hW : s0.WarmedH s.vm) (hpre : ∀ a, 0 < a → a < 92 → pre a < s0.heap.size) (hKn : u_Kn s0 (cNm t) (TT t) (fTy t).length (dC t) (dI t)) (h2 : 0 < t) (h3 : t < 100) (hca : cNm t = elC (tg m a % 1000) ∨ (Cond.castable (cNm t) (elC (tg m a % 1000))).before args s = true)
    (d : decode cc pc = .ok (.aastore, 1)) (ha9 : 1000 ≤ tg m a) (ht : 110 < tg m a % 1000 ∧ tg m a % 1000 < 119) (h0 : 0 ≤ j) (h1 : j < ln m a) (htx : tg m x = (t : Int))
    (k : WS s0 pre dC dI p l e R s mid args below meth c mb Q (pc + 1) ls r (mst m a j x)) : WS s0 pre dC dI p l e R s mid args below meth c mb Q pc ls (pR x :: pI j :: pR a :: r) m := by
  intro H locs lc sc hR hL hS hQ
  refine g_aast0 hx hb hW hpre d ha9 ht h0 h1 ?_ (fun H hR => ?_) k H locs lc sc hR hL hS hQ
  · obtain ⟨g1, -⟩ := hR.obj htx h2 h3
    omega
  · obtain ⟨cv, v1, v2, v3⟩ := hR.recv hW hKn htx h2 h3
    obtain ⟨kv, v4, -⟩ := Vm.findClass_spec v3
    refine ⟨cv, v1, fun q h => (by rw [h] at v2; cases v2), ⟨kv, v4⟩, fun comp hc => ?_⟩
    rcases hca with hca | hca
    · rw [← hca] at hc
      cases Option.some.inj (hc.symm.trans v3)
      exact va_asg _ _
    · obtain ⟨c3, c4, hc3, hc4, hasg⟩ := Cond.castable_spec hca
      cases Option.some.inj (hc3.symm.trans v3)
      cases Option.some.inj (hc4.symm.trans hc)
      exact hasg
/-- an array of bytes into an array of them -/
theorem g_aastB {j a x : Int} {r : List PV} (hx : p.tables.exec = Jvm.exec) (hb : c.code = cc) (hW : s0.WarmedH s.vm) (hpre : ∀ a, 0 < a → a < 92 → pre a < s0.heap.size)
    (d : decode cc pc = .ok (.aastore, 1)) (ha9 : 1000 ≤ tg m a) (ht : tg m a % 1000 = 118) (h0 : 0 ≤ j) (h1 : j < ln m a) (htx : tg m x % 1000 = 103) (hx9 : 1000 ≤ tg m x)
    (k : WS s0 pre dC dI p l e R s mid args below meth c mb Q (pc + 1) ls r (mst m a j x)) : WS s0 pre dC dI p l e R s mid args below meth c mb Q pc ls (pR x :: pI j :: pR a :: r) m := by
  intro H locs lc sc hR hL hS hQ
  refine g_aast0 hx hb hW hpre d ha9 (by omega) h0 h1 ?_ (fun H hR => ?_) k H locs lc sc hR hL hS hQ
  · have := hR.big hx9; omega
  · obtain ⟨g1, g2, g3, g4, g5, cell, e1, e2, e3, e3b, e4, e5, e6⟩ := hR.arr (a := x) (by omega) (by omega)
    obtain ⟨f1, kA, comp9, f2, f3, f4⟩ := e6 (hR.big hx9)
    obtain ⟨kB, f2', fe⟩ := hW.alike.2.2 _ _ f2
    refine ⟨cell, e1, e3b, ⟨kB, f2'⟩, fun comp hc => ?_⟩
    rw [htx] at f1
    rw [ht] at hc
    have hc' : s0.vm.findClass "[B" = some comp := by rw [← hW.alike.findClass]; exact hc
    have f1' : s0.vm.findClass "[B" = some cell.cls := f1
    cases Option.some.inj (hc'.symm.trans f1')
    exact va_asg _ _
theorem g_instY {a : Int} {r : List PV} {t idx : Nat} {own : String} (hx : p.tables.exec = Jvm.exec) (hb : c.code = cc) (hW : s0.WarmedH s.vm) (hts : ∀ w ∈ lw_all, w.before args s = true) (hown : s.vm.findClass own = some mid.cls) (hKn : u_Kn s0 (cNm t) (TT t) (fTy t).length (dC t) (dI t)) (h2 : 0 < t) (h3 : t < 100) (hcl : Cond.classLink own idx (cNm t) ∈ lw_all) (ht : tg m a = (t : Int))
    (d : decode cc pc = .ok (.instanceof idx, 3)) (k : WS s0 pre dC dI p l e R s mid args below meth c mb Q (pc + 3) ls (pI 1 :: r) m) : WS s0 pre dC dI p l e R s mid args below meth c mb Q pc ls (pR a :: r) m := by
  intro H locs lc sc hR hL hS hQ
  obtain ⟨q, rfl, hS9⟩ := sR_r hS
  obtain ⟨g1, -⟩ := hR.obj ht h2 h3
  rw [rfv_ref (by omega)]
  exact va_instE hx hb hown (hts _ hcl) (hR.recv2 hW hKn ht h2 h3) d (k H locs lc _ hR hL ⟨⟨rfl, by unfold pin; omega⟩, hS9⟩ hQ)
theorem g_instN {a : Int} {r : List PV} {t idx : Nat} {own nm : String} (hx : p.tables.exec = Jvm.exec) (hb : c.code = cc) (hW : s0.WarmedH s.vm) (hts : ∀ w ∈ lw_all, w.before args s = true) (hown : s.vm.findClass own = some mid.cls) (hKn : u_Kn s0 (cNm t) (TT t) (fTy t).length (dC t) (dI t)) (h2 : 0 < t) (h3 : t < 100) (hcl : Cond.classLink own idx nm ∈ lw_all) (hnc : va_Nc (cNm t) nm s0) (ht : tg m a = (t : Int))
    (d : decode cc pc = .ok (.instanceof idx, 3)) (k : WS s0 pre dC dI p l e R s mid args below meth c mb Q (pc + 3) ls (pI 0 :: r) m) : WS s0 pre dC dI p l e R s mid args below meth c mb Q pc ls (pR a :: r) m := by
  intro H locs lc sc hR hL hS hQ
  obtain ⟨q, rfl, hS9⟩ := sR_r hS
  obtain ⟨g1, -⟩ := hR.obj ht h2 h3
  rw [rfv_ref (by omega)]
  exact va_instNo hx hb hown (hts _ hcl) (hnc.moved hW.alike) (hR.recv2 hW hKn ht h2 h3) d (k H locs lc _ hR hL ⟨⟨rfl, by unfold pin; omega⟩, hS9⟩ hQ)
theorem g_ldc {v : Int} {idx : Nat} {own : String} (hx : p.tables.exec = Jvm.exec) (hb : c.code = cc) (hts : ∀ w ∈ lw_all, w.before args s = true) (hown : s.vm.findClass own = some mid.cls) (hc : Cond.constant own idx (Int32.ofInt v) ∈ lw_all) (hv : pin v (-2147483648) 2147483648)
    (d : decode cc pc = .ok (.ldc idx, 2)) (k : WS s0 pre dC dI p l e R s mid args below meth c mb Q (pc + 2) ls (pI v :: st) m) : WS s0 pre dC dI p l e R s mid args below meth c mb Q pc ls st m := by
  intro H locs lc sc hR hL hS hQ
  exact lv_ldc hx hb hown (hts _ hc) d (k H locs lc _ hR hL ⟨⟨rfl, hv⟩, hS⟩ hQ)
theorem g_ldc2 {v : Int} {idx : Nat} {own : String} (hx : p.tables.exec = Jvm.exec) (hb : c.code = cc) (hts : ∀ w ∈ lw_all, w.before args s = true) (hown : s.vm.findClass own = some mid.cls) (hc : Cond.constantLong own idx (Int64.ofInt v) ∈ lw_all) (hv : pin v (-9223372036854775808) 9223372036854775808)
    (d : decode cc pc = .ok (.ldc2_w idx, 3)) (k : WS s0 pre dC dI p l e R s mid args below meth c mb Q (pc + 3) ls (pL v :: st) m) : WS s0 pre dC dI p l e R s mid args below meth c mb Q pc ls st m := by
  intro H locs lc sc hR hL hS hQ
  exact lv_ldc2 hx hb hown (hts _ hc) d (k H locs lc _ hR hL ⟨⟨rfl, hv⟩, hS⟩ hQ)
theorem g_ldcS {a : Int} {idx : Nat} {own tx : String} (hx : p.tables.exec = Jvm.exec) (hb : c.code = cc) (hW : s0.WarmedH s.vm) (hown : s.vm.findClass own = some mid.cls) (ha : 0 < a ∧ a < 92) (hc : vk_R own idx tx (pre a) s0)
    (d : decode cc pc = .ok (.ldc idx, 2)) (k : WS s0 pre dC dI p l e R s mid args below meth c mb Q (pc + 2) ls (pR a :: st) m) : WS s0 pre dC dI p l e R s mid args below meth c mb Q pc ls st m := by
  intro H locs lc sc hR hL hS hQ
  exact va_ldcS hx hb hown (hc.warm hW) d (k H locs lc _ hR hL ⟨by show _ = rfv _ _ _; rw [rfv_ref (by omega), adr_lt (by omega)], hS⟩ hQ)
theorem g_ldcSw {a : Int} {idx : Nat} {own tx : String} (hx : p.tables.exec = Jvm.exec) (hb : c.code = cc) (hW : s0.WarmedH s.vm) (hown : s.vm.findClass own = some mid.cls) (ha : 0 < a ∧ a < 92) (hc : vk_R own idx tx (pre a) s0)
    (d : decode cc pc = .ok (.ldc_w idx, 3)) (k : WS s0 pre dC dI p l e R s mid args below meth c mb Q (pc + 3) ls (pR a :: st) m) : WS s0 pre dC dI p l e R s mid args below meth c mb Q pc ls st m := by
  intro H locs lc sc hR hL hS hQ
  have k1 := k H locs lc (.ref (pre a) :: sc) hR hL ⟨by show _ = rfv _ _ _; rw [rfv_ref (by omega), adr_lt (by omega)], hS⟩ hQ
  have hZ := hc.warm hW
  intro T hT X
  obtain ⟨t, a1, b1⟩ := k1 T hT X
  exact ⟨t, ldcStringW X hx hown (text := tx) (a := pre a) hZ.1 hZ.2 (g := F0 mid pc lc sc) rfl (by rw [hb]; exact d) t a1, b1⟩
/-- nothing that was there at the law's start has changed -/
theorem RP.old {H : Heap} (hR : RP s0 pre dC dI m H) (hs1 : s.heap.size = s0.heap.size + (nx mb - 92).toNat) (hs2 : ∀ q, q < s0.heap.size → s.heap[q]? = s0.heap[q]?) (hmb : 92 ≤ nx mb) (hb1 : nx mb ≤ nx m) {locs : List Loc} (hQ : ∀ q ∈ locs, s0.heap.size ≤ q.base) : va_S (fun q => s0.heap.size ≤ q) s.heap H locs := by
  obtain ⟨h1, h2, h3, -⟩ := hR
  refine ⟨by omega, fun q q1 q2 => ?_, hQ⟩
  rw [h3 q (by omega), hs2 q (by omega)]
theorem g_getsC (hx : p.tables.exec = Jvm.exec) (hb : c.code = cc) (hts : ∀ w ∈ lw_all, w.before args s = true) (hown : s.vm.findClass "java/lang/String" = some mid.cls) (hZ : va_Z "java/lang/String" "COMPACT_STRINGS" "Z" (.int 1) (fun q => s0.heap.size ≤ q) s s.heap) (hl : Cond.fieldLink "java/lang/String" 38 "java/lang/String" "COMPACT_STRINGS" "Z" ∈ lw_all)
    (hs1 : s.heap.size = s0.heap.size + (nx mb - 92).toNat) (hs2 : ∀ q, q < s0.heap.size → s.heap[q]? = s0.heap[q]?) (hmb : 92 ≤ nx mb) (hb1 : nx mb ≤ nx m)
    (d : decode cc pc = .ok (.getstatic 38, 3)) (k : WS s0 pre dC dI p l e R s mid args below meth c mb Q (pc + 3) ls (pI 1 :: st) m) : WS s0 pre dC dI p l e R s mid args below meth c mb Q pc ls st m := by
  intro H locs lc sc hR hL hS hQ
  exact va_gets hx hb hZ (hR.old hs1 hs2 hmb hb1 hQ) hown (hts _ hl) (fun _ h => h) d (k H locs lc _ hR hL ⟨⟨rfl, by unfold pin; omega⟩, hS⟩ hQ)
theorem g_getsU (hx : p.tables.exec = Jvm.exec) (hb : c.code = cc) (hts : ∀ w ∈ lw_all, w.before args s = true) (hown : s.vm.findClass "java/lang/String" = some mid.cls) (hZ : va_Zq "jdk/internal/util/Preconditions" "SIOOBE_FORMATTER" "Ljava/util/function/BiFunction;" (fun q => s0.heap.size ≤ q) s s.heap) (hl : Cond.fieldLink "java/lang/String" 1053 "jdk/internal/util/Preconditions" "SIOOBE_FORMATTER" "Ljava/util/function/BiFunction;" ∈ lw_all)
    (hs1 : s.heap.size = s0.heap.size + (nx mb - 92).toNat) (hs2 : ∀ q, q < s0.heap.size → s.heap[q]? = s0.heap[q]?) (hmb : 92 ≤ nx mb) (hb1 : nx mb ≤ nx m)
    (d : decode cc pc = .ok (.getstatic 1053, 3)) (k : WS s0 pre dC dI p l e R s mid args below meth c mb Q (pc + 3) ls (pU :: st) m) : WS s0 pre dC dI p l e R s mid args below meth c mb Q pc ls st m := by
  intro H locs lc sc hR hL hS hQ
  rcases hZ with hZ | ⟨t, hZ⟩
  · exact va_gets hx hb hZ (hR.old hs1 hs2 hmb hb1 hQ) hown (hts _ hl) (fun _ h => h) d (k H locs lc _ hR hL ⟨Or.inl rfl, hS⟩ hQ)
  · exact va_gets hx hb hZ (hR.old hs1 hs2 hmb hb1 hQ) hown (hts _ hl) (fun _ h => h) d (k H locs lc _ hR hL ⟨Or.inr ⟨t, rfl⟩, hS⟩ hQ)
theorem g_objInit {a : Int} {r : List PV} {idx : Nat} {own : String} (hx : p.tables.exec = Jvm.exec) (hb : c.code = cc) (hml : c.maxLocals = ls.length) (hts : ∀ w ∈ lw_all, w.before args s = true) (hown : s.vm.findClass own = some mid.cls) (hl : Cond.methodLink own idx Lib.objectInit ∈ lw_all) (hi : Cond.instanceMethod Lib.objectInit ∈ lw_all) (hc : Cond.code Lib.objectInit ⟨#[0xb1]⟩ 1 none ∈ lw_all)
    (hf : 1 ≤ R.frames) (hl2 : 20 ≤ R.locals) (ha : 0 < tg m a) (hr : catS r ≤ 8)
    (d : decode cc pc = .ok (.invokespecial idx, 3)) (k : WS s0 pre dC dI p l e R s mid args below meth c mb Q (pc + 3) ls r m) : WS s0 pre dC dI p l e R s mid args below meth c mb Q pc ls (pR a :: r) m := by
  intro H locs lc sc hR hL hS hQ
  obtain ⟨q, rfl, hS9⟩ := sR_r hS
  obtain ⟨q1, -⟩ := hR.2.2.2.1 a (by omega)
  rw [rfv_ref (by omega)]
  refine W.objInit hx hb hown (hts _ hl) (hts _ hi) (hts _ hc) rfl (by rw [hml]; exact hL.1) rfl d hf (by rw [sR_cat hS9]; show 2 * 0 + _ + _ ≤ _; omega) ?_
  exact k H locs lc q hR hL hS9 hQ
end RST
