/-! arrays -/
set_option maxRecDepth 100000
theorem cl_ofInt {j : Int} (h : pin j (-2147483648) 2147483648) (h0 : 0 ≤ j) : (Int32.ofInt j).toNatClampNeg = j.toNat := by
  show (Int32.ofInt j).toInt.toNat = j.toNat
  rw [i32_back h]
theorem in_ofInt {j n : Int} {z : Nat} (h : pin j (-2147483648) 2147483648) (h0 : 0 ≤ j) (h1 : j < n) (hz : n.toNat ≤ z) : ¬ (Int32.ofInt j < 0 ∨ z ≤ (Int32.ofInt j).toNatClampNeg) := by
  rw [cl_ofInt h h0]
  intro q
  rcases q with q | q
  · have : Int32.ofInt j < Int32.ofInt 0 := q
    rw [i32_lt h z32] at this; omega
  · omega
theorem srg_i {x : Int} (h : pin x (-2147483648) 2147483648) : srg 0 x := h
theorem mod_ge {a : Int} (h : 0 < a) (h2 : a % 1000 = a % 1000) : True := trivial
theorem RP.arr {s0 : State} {pre : Int → Nat} {dC : Nat → ClassId} {dI : Nat → Nat → Nat} {m : Mem} {H : Heap} (h : RP s0 pre dC dI m H) {a : Int} (h1 : 100 < tg m a % 1000) (h2 : tg m a % 1000 < 119) : 0 < a ∧ a < nx m ∧ 0 ≤ ln m a ∧ ln m a < 2147483648 ∧ (∀ k : Int, 0 ≤ k → k < ln m a → arg (tg m a % 1000) (vl m a k)) ∧ aR s0 pre a (tg m a % 1000) (ln m a) (vl m a) H := by
  obtain ⟨-, -, -, h4, h5⟩ := h
  obtain ⟨q1, q2, -⟩ := h4 a (fun e => by rw [e] at h1; exact absurd h1 (by decide))
  obtain ⟨q3, q4, q5, q6⟩ := (h5 a q1 q2).2 h1 h2
  exact ⟨q1, q2, q3, q4, q5, q6⟩
theorem aR.read {s0 : State} {pre : Int → Nat} {a t n : Int} {f : Int → Int} {H : Heap} (h : aR s0 pre a t n f H) {j : Int} (h0 : 0 ≤ j) (h1 : j < n) : ∃ cell : Cell, H[adr s0.heap.size pre a]? = some cell ∧ s0.isArrayOf cell (elF t) ∧ cell.vm ≠ .unknown ∧ n.toNat ≤ cell.slots.size ∧ cell.slots[j.toNat]? = some (sv s0.heap.size pre (elT t) (f j)) := by
  obtain ⟨cell, h2, h3, h4, -, h5, h6, -⟩ := h
  refine ⟨cell, h2, h3, h4, h5.1.1, ?_⟩
  have := h6 j.toNat (by omega)
  rwa [Int.toNat_of_nonneg h0] at this
/-- one place of an array is written -/
theorem RP.aput {s0 : State} {pre : Int → Nat} {dC : Nat → ClassId} {dI : Nat → Nat → Nat} {m : Mem} {H H1 : Heap} (hpre : ∀ a, 0 < a → a < 92 → pre a < s0.heap.size) (h : RP s0 pre dC dI m H) {a j v : Int} (ha : 92 ≤ a) (h1 : 100 < tg m a % 1000) (h2 : tg m a % 1000 < 119) (h3 : 0 ≤ j) (h4 : j < ln m a) (hv : arg (tg m a % 1000) v)
    {cell : Cell} (hc : H[adr s0.heap.size pre a]? = some cell) {w : Value} (hw : w = sv s0.heap.size pre (elT (tg m a % 1000)) v) (he : H1[adr s0.heap.size pre a]? = some (cell.setSlot j.toNat w)) (hz : H1.size = H.size) (ho : ∀ q, q ≠ adr s0.heap.size pre a → H1[q]? = H[q]?) : RP s0 pre dC dI (mst m a j v) H1 := by
  obtain ⟨q1, q2, q3, q4, q5, cell9, e1, e2, e3, e4, e5, e6, e7⟩ := h.arr h1 h2
  cases Option.some.inj (hc.symm.trans e1)
  refine RP.put hpre h ha hz ho ⟨fun g1 g2 => ?_, fun _ _ => ⟨q3, q4, fun k g1 g2 => ?_, cell.setSlot j.toNat w, he, e2, e3, e4, ?_, fun i hi => ?_, e7⟩⟩
  · exfalso; rw [Int.emod_eq_of_lt (by omega) (by omega)] at h1; omega
  · show arg _ (if k = j then v else _)
    split
    · exact hv
    · exact q5 k g1 g2
  · show aSz _ _ (Array.setIfInBounds _ _ _).size
    rw [Array.size_setIfInBounds]; exact e5
  · show (cell.setSlot j.toNat w).slots[i]? = some (sv _ _ _ (if (i : Int) = j then v else _))
    by_cases e : (i : Int) = j
    · rw [if_pos e, ← hw, show i = j.toNat by omega]
      exact slot_same (by have := e5.1.1; omega)
    · rw [if_neg e, slot_other (by omega)]
      exact e6 i hi
theorem nar_char (x : Int) : narrow .char (.int (Int32.ofInt x)) = .int (Int32.ofInt (x % 65536)) := by
  have h := vp_nar_char (Int32.ofInt x)
  have h2 : narrow .char (.int (Int32.ofInt x)) = .int ((Int32.ofInt x).toUInt32.toUInt16.toUInt32.toInt32) := rfl
  rw [h2, ← i32_i2c]
  congr 1
section ARR
variable {p : Program} {l : Launch} {e : Env} {R : Room} {s : State} {mid : MethodId} {args : Array Value} {below : List Frame} {meth : Method} {c : Code} {Q : State → Prop}
variable {s0 : State} {pre : Int → Nat} {dC : Nat → ClassId} {dI : Nat → Nat → Nat} {mb : Mem} {cc : ByteArray} {pc : Nat} {ls st : List PV} {m : Mem}
theorem g_iald {j a : Int} {r : List PV} (hx : p.tables.exec = Jvm.exec) (hb : c.code = cc) (hW : s0.WarmedH s.vm) (d : decode cc pc = .ok (.iaload, 1)) (ht : tg m a % 1000 = 101) (h0 : 0 ≤ j) (h1 : j < ln m a) (k : WS s0 pre dC dI p l e R s mid args below meth c mb Q (pc + 1) ls (pI (vl m a j) :: r) m) : WS s0 pre dC dI p l e R s mid args below meth c mb Q pc ls (pI j :: pR a :: r) m := by
  intro H locs lc sc hR hL hS hQ
  obtain ⟨q, rfl, hj, hS⟩ := sR_i hS
  obtain ⟨q, rfl, hS9⟩ := sR_r hS
  obtain ⟨g1, g2, g3, g4, g5, g6⟩ := hR.arr (a := a) (by omega) (by omega)
  have g7 := arg_srg (g5 j h0 h1)
  rw [ht] at g6 g7
  obtain ⟨cell, e1, e2, e3, e4, e5⟩ := g6.read h0 h1
  rw [rfv_ref (by omega)]
  exact W.iald hx hb e1 (State.isArrayOf_alike hW.alike e2) e3 (in_ofInt hj h0 h1 e4) (by rw [cl_ofInt hj h0]; exact e5) rfl rfl d (k H locs lc _ hR hL ⟨⟨rfl, g7⟩, hS9⟩ hQ)
theorem g_lald {j a : Int} {r : List PV} (hx : p.tables.exec = Jvm.exec) (hb : c.code = cc) (hW : s0.WarmedH s.vm) (d : decode cc pc = .ok (.laload, 1)) (ht : tg m a % 1000 = 102) (h0 : 0 ≤ j) (h1 : j < ln m a) (k : WS s0 pre dC dI p l e R s mid args below meth c mb Q (pc + 1) ls (pL (vl m a j) :: r) m) : WS s0 pre dC dI p l e R s mid args below meth c mb Q pc ls (pI j :: pR a :: r) m := by
  intro H locs lc sc hR hL hS hQ
  obtain ⟨q, rfl, hj, hS⟩ := sR_i hS
  obtain ⟨q, rfl, hS9⟩ := sR_r hS
  obtain ⟨g1, g2, g3, g4, g5, g6⟩ := hR.arr (a := a) (by omega) (by omega)
  have g7 := arg_srg (g5 j h0 h1)
  rw [ht] at g6 g7
  obtain ⟨cell, e1, e2, e3, e4, e5⟩ := g6.read h0 h1
  rw [rfv_ref (by omega)]
  exact W.lald hx hb e1 (State.isArrayOf_alike hW.alike e2) e3 (in_ofInt hj h0 h1 e4) (by rw [cl_ofInt hj h0]; exact e5) rfl rfl d (k H locs lc _ hR hL ⟨⟨rfl, g7⟩, hS9⟩ hQ)
theorem g_bald {j a : Int} {r : List PV} (hx : p.tables.exec = Jvm.exec) (hb : c.code = cc) (hW : s0.WarmedH s.vm) (d : decode cc pc = .ok (.baload, 1)) (ht : tg m a % 1000 = 103) (h0 : 0 ≤ j) (h1 : j < ln m a) (k : WS s0 pre dC dI p l e R s mid args below meth c mb Q (pc + 1) ls (pI (vl m a j) :: r) m) : WS s0 pre dC dI p l e R s mid args below meth c mb Q pc ls (pI j :: pR a :: r) m := by
  intro H locs lc sc hR hL hS hQ
  obtain ⟨q, rfl, hj, hS⟩ := sR_i hS
  obtain ⟨q, rfl, hS9⟩ := sR_r hS
  obtain ⟨g1, g2, g3, g4, g5, g6⟩ := hR.arr (a := a) (by omega) (by omega)
  have g7 := arg_srg (g5 j h0 h1)
  rw [ht] at g6 g7
  obtain ⟨cell, e1, e2, e3, e4, e5⟩ := g6.read h0 h1
  rw [rfv_ref (by omega)]
  exact W.bald hx hb e1 (State.isArrayOf_alike hW.alike e2) e3 (in_ofInt hj h0 h1 e4) (by rw [cl_ofInt hj h0]; exact e5) rfl rfl d (k H locs lc _ hR hL ⟨⟨rfl, g7⟩, hS9⟩ hQ)
theorem g_zald {j a : Int} {r : List PV} (hx : p.tables.exec = Jvm.exec) (hb : c.code = cc) (hW : s0.WarmedH s.vm) (d : decode cc pc = .ok (.baload, 1)) (ht : tg m a % 1000 = 105) (h0 : 0 ≤ j) (h1 : j < ln m a) (k : WS s0 pre dC dI p l e R s mid args below meth c mb Q (pc + 1) ls (pI (vl m a j) :: r) m) : WS s0 pre dC dI p l e R s mid args below meth c mb Q pc ls (pI j :: pR a :: r) m := by
  intro H locs lc sc hR hL hS hQ
  obtain ⟨q, rfl, hj, hS⟩ := sR_i hS
  obtain ⟨q, rfl, hS9⟩ := sR_r hS
  obtain ⟨g1, g2, g3, g4, g5, g6⟩ := hR.arr (a := a) (by omega) (by omega)
  have g7 := arg_srg (g5 j h0 h1)
  rw [ht] at g6 g7
  obtain ⟨cell, e1, e2, e3, e4, e5⟩ := g6.read h0 h1
  rw [rfv_ref (by omega)]
  exact W.zald hx hb e1 (State.isArrayOf_alike hW.alike e2) e3 (in_ofInt hj h0 h1 e4) (by rw [cl_ofInt hj h0]; exact e5) rfl rfl d (k H locs lc _ hR hL ⟨⟨rfl, g7⟩, hS9⟩ hQ)
theorem g_cald {j a : Int} {r : List PV} (hx : p.tables.exec = Jvm.exec) (hb : c.code = cc) (hW : s0.WarmedH s.vm) (d : decode cc pc = .ok (.caload, 1)) (ht : tg m a % 1000 = 104) (h0 : 0 ≤ j) (h1 : j < ln m a) (k : WS s0 pre dC dI p l e R s mid args below meth c mb Q (pc + 1) ls (pI (vl m a j) :: r) m) : WS s0 pre dC dI p l e R s mid args below meth c mb Q pc ls (pI j :: pR a :: r) m := by
  intro H locs lc sc hR hL hS hQ
  obtain ⟨q, rfl, hj, hS⟩ := sR_i hS
  obtain ⟨q, rfl, hS9⟩ := sR_r hS
  obtain ⟨g1, g2, g3, g4, g5, g6⟩ := hR.arr (a := a) (by omega) (by omega)
  have g7 := arg_srg (g5 j h0 h1)
  rw [ht] at g6 g7
  obtain ⟨cell, e1, e2, e3, e4, e5⟩ := g6.read h0 h1
  rw [rfv_ref (by omega)]
  exact W.cald hx hb e1 (State.isArrayOf_alike hW.alike e2) e3 (in_ofInt hj h0 h1 e4) (by rw [cl_ofInt hj h0]; exact e5) rfl rfl d (k H locs lc _ hR hL ⟨⟨rfl, g7⟩, hS9⟩ hQ)
theorem elF_ref {t : Int} (h : 110 < t) (h2 : t < 119) : (elF t).isReference = true ∧ elT t = 2 := by
  have : t = 111 ∨ t = 112 ∨ t = 113 ∨ t = 114 ∨ t = 115 ∨ t = 116 ∨ t = 117 ∨ t = 118 := by omega
  rcases this with rfl | rfl | rfl | rfl | rfl | rfl | rfl | rfl <;> exact ⟨rfl, rfl⟩
theorem g_aald {j a : Int} {r : List PV} (hx : p.tables.exec = Jvm.exec) (hb : c.code = cc) (hW : s0.WarmedH s.vm) (d : decode cc pc = .ok (.aaload, 1)) (ht : 110 < tg m a % 1000 ∧ tg m a % 1000 < 119) (h0 : 0 ≤ j) (h1 : j < ln m a) (k : WS s0 pre dC dI p l e R s mid args below meth c mb Q (pc + 1) ls (pR (vl m a j) :: r) m) : WS s0 pre dC dI p l e R s mid args below meth c mb Q pc ls (pI j :: pR a :: r) m := by
  intro H locs lc sc hR hL hS hQ
  obtain ⟨q, rfl, hj, hS⟩ := sR_i hS
  obtain ⟨q, rfl, hS9⟩ := sR_r hS
  obtain ⟨g1, g2, g3, g4, g5, g6⟩ := hR.arr (a := a) (by omega) (by omega)
  obtain ⟨cell, e1, e2, e3, e4, e5⟩ := g6.read h0 h1
  obtain ⟨t1, t2⟩ := elF_ref ht.1 ht.2
  rw [t2] at e5
  rw [rfv_ref (by omega)]
  exact W.aald hx hb e1 (State.isArrayOf_alike hW.alike e2) t1 e3 (in_ofInt hj h0 h1 e4) (by rw [cl_ofInt hj h0]; exact e5) rfl rfl d (k H locs lc _ hR hL ⟨rfl, hS9⟩ hQ)
theorem g_iast {j a x : Int} {r : List PV} (hx : p.tables.exec = Jvm.exec) (hb : c.code = cc) (hW : s0.WarmedH s.vm) (hpre : ∀ a, 0 < a → a < 92 → pre a < s0.heap.size) (d : decode cc pc = .ok (.iastore, 1)) (ha9 : 1000 ≤ tg m a) (ht : tg m a % 1000 = 101) (h0 : 0 ≤ j) (h1 : j < ln m a)  (k : WS s0 pre dC dI p l e R s mid args below meth c mb Q (pc + 1) ls r (mst m a j x)) : WS s0 pre dC dI p l e R s mid args below meth c mb Q pc ls (pI x :: pI j :: pR a :: r) m := by
  intro H locs lc sc hR hL hS hQ
  obtain ⟨q, rfl, hv, hS⟩ := sR_i hS
  obtain ⟨q, rfl, hj, hS⟩ := sR_i hS
  obtain ⟨q, rfl, hS9⟩ := sR_r hS
  obtain ⟨g1, g2, g3, g4, g5, g6⟩ := hR.arr (a := a) (by omega) (by omega)
  have ha := hR.big ha9
  rw [ht] at g6
  obtain ⟨cell, e1, e2, e3, e4, e5⟩ := g6.read h0 h1
  rw [rfv_ref (by omega)]
  refine W.iast hx hb e1 (State.isArrayOf_alike hW.alike e2) e3 (in_ofInt hj h0 h1 e4) rfl rfl d fun H1 f1 f2 f3 => ?_
  rw [cl_ofInt hj h0] at f1
  exact k H1 _ lc q (RP.aput hpre hR ha (by omega) (by omega) h0 h1 (by rw [ht]; exact by unfold arg; rw [if_neg (by decide)]; exact hv) e1 (by rw [ht]; exact rfl) f1 f2 f3) hL hS9 (fun z hz => by
    rcases List.mem_append.mp hz with h | h
    · exact hQ z h
    · rw [List.mem_singleton.mp h]; show s0.heap.size ≤ adr s0.heap.size pre a; rw [adr_ge ha]; omega)
theorem g_last {j a x : Int} {r : List PV} (hx : p.tables.exec = Jvm.exec) (hb : c.code = cc) (hW : s0.WarmedH s.vm) (hpre : ∀ a, 0 < a → a < 92 → pre a < s0.heap.size) (d : decode cc pc = .ok (.lastore, 1)) (ha9 : 1000 ≤ tg m a) (ht : tg m a % 1000 = 102) (h0 : 0 ≤ j) (h1 : j < ln m a)  (k : WS s0 pre dC dI p l e R s mid args below meth c mb Q (pc + 1) ls r (mst m a j x)) : WS s0 pre dC dI p l e R s mid args below meth c mb Q pc ls (pL x :: pI j :: pR a :: r) m := by
  intro H locs lc sc hR hL hS hQ
  obtain ⟨q, rfl, hv, hS⟩ := sR_l hS
  obtain ⟨q, rfl, hj, hS⟩ := sR_i hS
  obtain ⟨q, rfl, hS9⟩ := sR_r hS
  obtain ⟨g1, g2, g3, g4, g5, g6⟩ := hR.arr (a := a) (by omega) (by omega)
  have ha := hR.big ha9
  rw [ht] at g6
  obtain ⟨cell, e1, e2, e3, e4, e5⟩ := g6.read h0 h1
  rw [rfv_ref (by omega)]
  refine W.last hx hb e1 (State.isArrayOf_alike hW.alike e2) e3 (in_ofInt hj h0 h1 e4) rfl rfl d fun H1 f1 f2 f3 => ?_
  rw [cl_ofInt hj h0] at f1
  exact k H1 _ lc q (RP.aput hpre hR ha (by omega) (by omega) h0 h1 (by rw [ht]; exact by unfold arg; rw [if_neg (by decide)]; exact hv) e1 (by rw [ht]; exact rfl) f1 f2 f3) hL hS9 (fun z hz => by
    rcases List.mem_append.mp hz with h | h
    · exact hQ z h
    · rw [List.mem_singleton.mp h]; show s0.heap.size ≤ adr s0.heap.size pre a; rw [adr_ge ha]; omega)
theorem g_bast {j a x : Int} {r : List PV} (hx : p.tables.exec = Jvm.exec) (hb : c.code = cc) (hW : s0.WarmedH s.vm) (hpre : ∀ a, 0 < a → a < 92 → pre a < s0.heap.size) (d : decode cc pc = .ok (.bastore, 1)) (ha9 : 1000 ≤ tg m a) (ht : tg m a % 1000 = 103) (h0 : 0 ≤ j) (h1 : j < ln m a)  (k : WS s0 pre dC dI p l e R s mid args below meth c mb Q (pc + 1) ls r (mst m a j (w8 x))) : WS s0 pre dC dI p l e R s mid args below meth c mb Q pc ls (pI x :: pI j :: pR a :: r) m := by
  intro H locs lc sc hR hL hS hQ
  obtain ⟨q, rfl, hv, hS⟩ := sR_i hS
  obtain ⟨q, rfl, hj, hS⟩ := sR_i hS
  obtain ⟨q, rfl, hS9⟩ := sR_r hS
  obtain ⟨g1, g2, g3, g4, g5, g6⟩ := hR.arr (a := a) (by omega) (by omega)
  have ha := hR.big ha9
  rw [ht] at g6
  obtain ⟨cell, e1, e2, e3, e4, e5⟩ := g6.read h0 h1
  rw [rfv_ref (by omega)]
  refine W.bast hx hb e1 (State.isArrayOf_alike hW.alike e2) e3 (in_ofInt hj h0 h1 e4) rfl rfl d fun H1 f1 f2 f3 => ?_
  rw [cl_ofInt hj h0] at f1
  exact k H1 _ lc q (RP.aput hpre hR ha (by omega) (by omega) h0 h1 (by rw [ht]; exact by unfold arg; rw [if_pos rfl]; exact w8_rng x) e1 (by rw [ht]; exact by show Value.int _ = Value.int _; rw [i32_i2b]) f1 f2 f3) hL hS9 (fun z hz => by
    rcases List.mem_append.mp hz with h | h
    · exact hQ z h
    · rw [List.mem_singleton.mp h]; show s0.heap.size ≤ adr s0.heap.size pre a; rw [adr_ge ha]; omega)
theorem g_cast {j a x : Int} {r : List PV} (hx : p.tables.exec = Jvm.exec) (hb : c.code = cc) (hW : s0.WarmedH s.vm) (hpre : ∀ a, 0 < a → a < 92 → pre a < s0.heap.size) (d : decode cc pc = .ok (.castore, 1)) (ha9 : 1000 ≤ tg m a) (ht : tg m a % 1000 = 104) (h0 : 0 ≤ j) (h1 : j < ln m a)  (k : WS s0 pre dC dI p l e R s mid args below meth c mb Q (pc + 1) ls r (mst m a j (x % 65536))) : WS s0 pre dC dI p l e R s mid args below meth c mb Q pc ls (pI x :: pI j :: pR a :: r) m := by
  intro H locs lc sc hR hL hS hQ
  obtain ⟨q, rfl, hv, hS⟩ := sR_i hS
  obtain ⟨q, rfl, hj, hS⟩ := sR_i hS
  obtain ⟨q, rfl, hS9⟩ := sR_r hS
  obtain ⟨g1, g2, g3, g4, g5, g6⟩ := hR.arr (a := a) (by omega) (by omega)
  have ha := hR.big ha9
  rw [ht] at g6
  obtain ⟨cell, e1, e2, e3, e4, e5⟩ := g6.read h0 h1
  rw [rfv_ref (by omega)]
  refine W.cast hx hb e1 (State.isArrayOf_alike hW.alike e2) e3 (in_ofInt hj h0 h1 e4) rfl rfl d fun H1 f1 f2 f3 => ?_
  rw [cl_ofInt hj h0] at f1
  exact k H1 _ lc q (RP.aput hpre hR ha (by omega) (by omega) h0 h1 (by rw [ht]; exact by unfold arg; rw [if_neg (by decide)]; show pin _ _ _; unfold pin at *; omega) e1 (by rw [ht]; exact nar_char x) f1 f2 f3) hL hS9 (fun z hz => by
    rcases List.mem_append.mp hz with h | h
    · exact hQ z h
    · rw [List.mem_singleton.mp h]; show s0.heap.size ≤ adr s0.heap.size pre a; rw [adr_ge ha]; omega)
theorem g_zast {j a x : Int} {r : List PV} (hx : p.tables.exec = Jvm.exec) (hb : c.code = cc) (hW : s0.WarmedH s.vm) (hpre : ∀ a, 0 < a → a < 92 → pre a < s0.heap.size) (d : decode cc pc = .ok (.bastore, 1)) (ha9 : 1000 ≤ tg m a) (ht : tg m a % 1000 = 105) (h0 : 0 ≤ j) (h1 : j < ln m a) (hz : x = 0 ∨ x = 1) (k : WS s0 pre dC dI p l e R s mid args below meth c mb Q (pc + 1) ls r (mst m a j x)) : WS s0 pre dC dI p l e R s mid args below meth c mb Q pc ls (pI x :: pI j :: pR a :: r) m := by
  intro H locs lc sc hR hL hS hQ
  obtain ⟨q, rfl, hv, hS⟩ := sR_i hS
  obtain ⟨q, rfl, hj, hS⟩ := sR_i hS
  obtain ⟨q, rfl, hS9⟩ := sR_r hS
  obtain ⟨g1, g2, g3, g4, g5, g6⟩ := hR.arr (a := a) (by omega) (by omega)
  have ha := hR.big ha9
  rw [ht] at g6
  obtain ⟨cell, e1, e2, e3, e4, e5⟩ := g6.read h0 h1
  rw [rfv_ref (by omega)]
  refine W.zast hx hb e1 (State.isArrayOf_alike hW.alike e2) e3 (in_ofInt hj h0 h1 e4) rfl rfl d fun H1 f1 f2 f3 => ?_
  rw [cl_ofInt hj h0] at f1
  exact k H1 _ lc q (RP.aput hpre hR ha (by omega) (by omega) h0 h1 (by rw [ht]; exact by unfold arg; rw [if_neg (by decide)]; exact hv) e1 (by rw [ht]; exact by rcases hz with rfl | rfl <;> rfl) f1 f2 f3) hL hS9 (fun z hz => by
    rcases List.mem_append.mp hz with h | h
    · exact hQ z h
    · rw [List.mem_singleton.mp h]; show s0.heap.size ≤ adr s0.heap.size pre a; rw [adr_ge ha]; omega)
theorem g_alen {a : Int} {r : List PV} (hx : p.tables.exec = Jvm.exec) (hb : c.code = cc) (hW : s0.WarmedH s.vm) (d : decode cc pc = .ok (.arraylength, 1)) (ht : 100 < tg m a % 1000 ∧ tg m a % 1000 < 119) (k : WS s0 pre dC dI p l e R s mid args below meth c mb Q (pc + 1) ls (pI (ln m a) :: r) m) : WS s0 pre dC dI p l e R s mid args below meth c mb Q pc ls (pR a :: r) m := by
  intro H locs lc sc hR hL hS hQ
  obtain ⟨q, rfl, hS9⟩ := sR_r hS
  obtain ⟨g1, g2, g3, g4, g5, g6⟩ := hR.arr ht.1 ht.2
  obtain ⟨cell, e1, e2, e3, e4, e5, e6, e7⟩ := g6
  rw [rfv_ref (by omega)]
  exact W.alen (n := Int32.ofInt (ln m a)) hx hb e1 (State.isArrayOf_alike hW.alike e2) (by rw [e5.1.2, ← Int32.ofInt_eq_ofNat, Int.toNat_of_nonneg g3]) rfl rfl d (k H locs lc _ hR hL ⟨⟨rfl, by unfold pin; omega⟩, hS9⟩ hQ)
end ARR
