/-! plain instructions -/
set_option maxRecDepth 100000
section GO
variable {p : Program} {l : Launch} {e : Env} {R : Room} {s : State} {mid : MethodId} {args : Array Value} {below : List Frame} {meth : Method} {c : Code} {Q : State → Prop}
variable {s0 : State} {pre : Int → Nat} {dC : Nat → ClassId} {dI : Nat → Nat → Nat} {mb : Mem} {cc : ByteArray} {pc : Nat} {ls st : List PV} {m : Mem}
def WS (s0 : State) (pre : Int → Nat) (dC : Nat → ClassId) (dI : Nat → Nat → Nat) (p : Program) (l : Launch) (e : Env) (R : Room) (s : State) (mid : MethodId) (args : Array Value) (below : List Frame) (meth : Method) (c : Code) (mb : Mem) (Q : State → Prop) (pc : Nat) (ls st : List PV) (m : Mem) : Prop :=
  ∀ (H : Heap) (locs : List Loc) (lc : Array Slot) (sc : List Value), RP s0 pre dC dI m H → lR s0.heap.size pre ls lc → sR s0.heap.size pre st sc → (∀ q ∈ locs, s0.heap.size ≤ q.base) →
    W p l e R s mid args below meth c H locs (nx m - nx mb).toNat (sl m - sl mb).toNat Q (F0 mid pc lc sc)
/-- the continuation of a step -/
def WN (s0 : State) (pre : Int → Nat) (dC : Nat → ClassId) (dI : Nat → Nat → Nat) (p : Program) (l : Launch) (e : Env) (R : Room) (s : State) (mid : MethodId) (args : Array Value) (below : List Frame) (meth : Method) (c : Code) (mb : Mem) (Q : State → Prop) (n : Option Nxt) : Prop :=
  ∀ pc1 ls1 st1 m1, n = some (.inl (pc1, ls1, st1, m1)) → WS s0 pre dC dI p l e R s mid args below meth c mb Q pc1 ls1 st1 m1
theorem WN.g {pc1 : Nat} {l1 s1 : List PV} {m1 : Mem} (h : WN s0 pre dC dI p l e R s mid args below meth c mb Q (nG pc1 l1 s1 m1)) : WS s0 pre dC dI p l e R s mid args below meth c mb Q pc1 l1 s1 m1 := h _ _ _ _ rfl
theorem WN.j {pc1 : Nat} {off : Int} {l1 s1 : List PV} {m1 : Mem} (h : WN s0 pre dC dI p l e R s mid args below meth c mb Q (nJ pc1 off l1 s1 m1)) (hj : nJ pc1 off l1 s1 m1 ≠ none) : ∃ t : Nat, (pc1 : Int) + off = (t : Int) ∧ WS s0 pre dC dI p l e R s mid args below meth c mb Q t l1 s1 m1 := by
  unfold nJ at h hj
  split at h
  · rename_i h0
    exact ⟨((pc1 : Int) + off).toNat, (Int.toNat_of_nonneg h0).symm, h.g⟩
  · rename_i h0
    rw [if_neg h0] at hj; exact absurd rfl hj
theorem z32 : pin 0 (-2147483648) 2147483648 := by unfold pin; omega
theorem i8_i32 {n : Int} (h : pin n (-128) 128) : (Int8.ofInt n).toInt32 = Int32.ofInt n := by
  rw [← Int32.toInt_inj, Int8.toInt_toInt32, Int8.toInt_ofInt, Int.bmod_def, i32_back (by unfold pin at *; omega)]
  simp only [Int8.size]
  unfold pin at h
  omega
theorem i16_i32 {n : Int} (h : pin n (-32768) 32768) : (Int16.ofInt n).toInt32 = Int32.ofInt n := by
  rw [← Int32.toInt_inj, Int16.toInt_toInt32, Int16.toInt_ofInt, Int.bmod_def, i32_back (by unfold pin at *; omega)]
  simp only [Int16.size]
  unfold pin at h
  omega
theorem g_aload {n : Nat} {a : Int} (hx : p.tables.exec = Jvm.exec) (hb : c.code = cc) (d : decode cc pc = .ok (.aload n, 2)) (hl : ls[n]? = some (pR a)) (k : WS s0 pre dC dI p l e R s mid args below meth c mb Q (pc + 2) ls (pR a :: st) m) : WS s0 pre dC dI p l e R s mid args below meth c mb Q pc ls st m := by
  intro H locs lc sc hR hL hS hQ
  have h1 := lR_r hL hl
  have k1 := k H locs lc (rfv s0.heap.size pre a :: sc) hR hL ⟨rfl, hS⟩ hQ
  by_cases e0 : a = 0
  · have e1 : rfv s0.heap.size pre a = .null := by unfold rfv; rw [if_pos e0]
    rw [e1] at h1 k1
    exact lv_aloadN hx hb d h1 k1
  · rw [rfv_ref e0] at h1 k1
    exact lv_aload hx hb d h1 k1
theorem g_aload_n {n : Fin 4} {a : Int} (hx : p.tables.exec = Jvm.exec) (hb : c.code = cc) (d : decode cc pc = .ok (.aload_n n, 1)) (hl : ls[(n : Nat)]? = some (pR a)) (k : WS s0 pre dC dI p l e R s mid args below meth c mb Q (pc + 1) ls (pR a :: st) m) : WS s0 pre dC dI p l e R s mid args below meth c mb Q pc ls st m := by
  intro H locs lc sc hR hL hS hQ
  have h1 := lR_r hL hl
  have k1 := k H locs lc (rfv s0.heap.size pre a :: sc) hR hL ⟨rfl, hS⟩ hQ
  by_cases e0 : a = 0
  · have e1 : rfv s0.heap.size pre a = .null := by unfold rfv; rw [if_pos e0]
    rw [e1] at h1 k1
    exact lv_aload_nN hx hb d rfl h1 k1
  · rw [rfv_ref e0] at h1 k1
    exact lv_aload_n hx hb d rfl h1 k1
theorem g_iload {n : Nat} {a : Int} (hx : p.tables.exec = Jvm.exec) (hb : c.code = cc) (d : decode cc pc = .ok (.iload n, 2)) (hl : ls[n]? = some (pI a)) (k : WS s0 pre dC dI p l e R s mid args below meth c mb Q (pc + 2) ls (pI a :: st) m) : WS s0 pre dC dI p l e R s mid args below meth c mb Q pc ls st m := by
  intro H locs lc sc hR hL hS hQ
  obtain ⟨h1, h2⟩ := lR_i hL hl
  exact lv_iload hx hb d h1 (k H locs lc _ hR hL ⟨⟨rfl, h2⟩, hS⟩ hQ)
theorem g_iload_n {n : Fin 4} {a : Int} (hx : p.tables.exec = Jvm.exec) (hb : c.code = cc) (d : decode cc pc = .ok (.iload_n n, 1)) (hl : ls[(n : Nat)]? = some (pI a)) (k : WS s0 pre dC dI p l e R s mid args below meth c mb Q (pc + 1) ls (pI a :: st) m) : WS s0 pre dC dI p l e R s mid args below meth c mb Q pc ls st m := by
  intro H locs lc sc hR hL hS hQ
  obtain ⟨h1, h2⟩ := lR_i hL hl
  exact lv_iload_n hx hb d rfl h1 (k H locs lc _ hR hL ⟨⟨rfl, h2⟩, hS⟩ hQ)
theorem g_lload {n : Nat} {a : Int} (hx : p.tables.exec = Jvm.exec) (hb : c.code = cc) (d : decode cc pc = .ok (.lload n, 2)) (hl : ls[n]? = some (pL a)) (k : WS s0 pre dC dI p l e R s mid args below meth c mb Q (pc + 2) ls (pL a :: st) m) : WS s0 pre dC dI p l e R s mid args below meth c mb Q pc ls st m := by
  intro H locs lc sc hR hL hS hQ
  obtain ⟨h1, h2⟩ := lR_l hL hl
  exact lv_lload hx hb d h1 (k H locs lc _ hR hL ⟨⟨rfl, h2⟩, hS⟩ hQ)
theorem g_lload_n {n : Fin 4} {a : Int} (hx : p.tables.exec = Jvm.exec) (hb : c.code = cc) (d : decode cc pc = .ok (.lload_n n, 1)) (hl : ls[(n : Nat)]? = some (pL a)) (k : WS s0 pre dC dI p l e R s mid args below meth c mb Q (pc + 1) ls (pL a :: st) m) : WS s0 pre dC dI p l e R s mid args below meth c mb Q pc ls st m := by
  intro H locs lc sc hR hL hS hQ
  obtain ⟨h1, h2⟩ := lR_l hL hl
  exact lv_lload_n hx hb d rfl h1 (k H locs lc _ hR hL ⟨⟨rfl, h2⟩, hS⟩ hQ)
theorem g_istore {n : Nat} {x : Int} {r : List PV} (hx : p.tables.exec = Jvm.exec) (hb : c.code = cc) (d : decode cc pc = .ok (.istore n, 2)) (hn : n < ls.length) (k : WS s0 pre dC dI p l e R s mid args below meth c mb Q (pc + 2) (ls1 ls n (pI x)) r m) : WS s0 pre dC dI p l e R s mid args below meth c mb Q pc ls (pI x :: r) m := by
  intro H locs lc sc hR hL hS hQ
  obtain ⟨q, rfl, h2, hS⟩ := sR_i hS
  obtain ⟨lv, h3, h4⟩ := lR_has hL
  exact lv_istore hx hb d h3 hn rfl fun lc' h => k H locs lc' q hR (lR_set1 ⟨rfl, h2⟩ rfl h4 rfl h hn) hS hQ
theorem g_istore_n {n : Fin 4} {x : Int} {r : List PV} (hx : p.tables.exec = Jvm.exec) (hb : c.code = cc) (d : decode cc pc = .ok (.istore_n n, 1)) (hn : (n : Nat) < ls.length) (k : WS s0 pre dC dI p l e R s mid args below meth c mb Q (pc + 1) (ls1 ls n (pI x)) r m) : WS s0 pre dC dI p l e R s mid args below meth c mb Q pc ls (pI x :: r) m := by
  intro H locs lc sc hR hL hS hQ
  obtain ⟨q, rfl, h2, hS⟩ := sR_i hS
  obtain ⟨lv, h3, h4⟩ := lR_has hL
  exact lv_istore_n hx hb d rfl h3 hn rfl fun lc' h => k H locs lc' q hR (lR_set1 ⟨rfl, h2⟩ rfl h4 rfl h hn) hS hQ
theorem g_lstore {n : Nat} {x : Int} {r : List PV} (hx : p.tables.exec = Jvm.exec) (hb : c.code = cc) (d : decode cc pc = .ok (.lstore n, 2)) (hn : n + 1 < ls.length) (k : WS s0 pre dC dI p l e R s mid args below meth c mb Q (pc + 2) (ls2 ls n (pL x)) r m) : WS s0 pre dC dI p l e R s mid args below meth c mb Q pc ls (pL x :: r) m := by
  intro H locs lc sc hR hL hS hQ
  obtain ⟨q, rfl, h2, hS⟩ := sR_l hS
  obtain ⟨lv, h3, h4⟩ := lR_has hL
  exact lv_lstore hx hb d h3 hn rfl fun lc' h => k H locs lc' q hR (lR_set2 ⟨rfl, h2⟩ h4 rfl h hn) hS hQ
theorem g_lstore_n {n : Fin 4} {x : Int} {r : List PV} (hx : p.tables.exec = Jvm.exec) (hb : c.code = cc) (d : decode cc pc = .ok (.lstore_n n, 1)) (hn : (n : Nat) + 1 < ls.length) (k : WS s0 pre dC dI p l e R s mid args below meth c mb Q (pc + 1) (ls2 ls n (pL x)) r m) : WS s0 pre dC dI p l e R s mid args below meth c mb Q pc ls (pL x :: r) m := by
  intro H locs lc sc hR hL hS hQ
  obtain ⟨q, rfl, h2, hS⟩ := sR_l hS
  obtain ⟨lv, h3, h4⟩ := lR_has hL
  exact lv_lstore_n hx hb d rfl h3 hn rfl fun lc' h => k H locs lc' q hR (lR_set2 ⟨rfl, h2⟩ h4 rfl h hn) hS hQ
theorem vR_ref {sz : Nat} {v : Int ⊕ Unit} {w : Value} (h : vR sz pre (.inr (.inr v)) w) : w = .null ∨ ∃ a, w = .ref a := by
  rcases v with a | u
  · have h : w = rfv sz pre a := h
    rw [h]; unfold rfv; split
    · exact Or.inl rfl
    · exact Or.inr ⟨_, rfl⟩
  · exact h
theorem g_astore {n : Nat} {v : Int ⊕ Unit} {r : List PV} (hx : p.tables.exec = Jvm.exec) (hb : c.code = cc) (d : decode cc pc = .ok (.astore n, 2)) (hn : n < ls.length) (k : WS s0 pre dC dI p l e R s mid args below meth c mb Q (pc + 2) (ls1 ls n (.inr (.inr v))) r m) : WS s0 pre dC dI p l e R s mid args below meth c mb Q pc ls (.inr (.inr v) :: r) m := by
  intro H locs lc sc hR hL hS hQ
  obtain ⟨w, q, rfl, h2, hS9⟩ := sR_cons hS
  obtain ⟨lv, h3, h4⟩ := lR_has hL
  rcases vR_ref h2 with rfl | ⟨a, rfl⟩
  · exact lv_astoreN hx hb d h3 hn rfl fun lc' h => k H locs lc' q hR (lR_set1 h2 (by rcases v with _ | _ <;> rfl) h4 rfl h hn) hS9 hQ
  · exact lv_astore hx hb d h3 hn rfl fun lc' h => k H locs lc' q hR (lR_set1 h2 (by rcases v with _ | _ <;> rfl) h4 rfl h hn) hS9 hQ
theorem g_astore_n {n : Fin 4} {v : Int ⊕ Unit} {r : List PV} (hx : p.tables.exec = Jvm.exec) (hb : c.code = cc) (d : decode cc pc = .ok (.astore_n n, 1)) (hn : (n : Nat) < ls.length) (k : WS s0 pre dC dI p l e R s mid args below meth c mb Q (pc + 1) (ls1 ls n (.inr (.inr v))) r m) : WS s0 pre dC dI p l e R s mid args below meth c mb Q pc ls (.inr (.inr v) :: r) m := by
  intro H locs lc sc hR hL hS hQ
  obtain ⟨w, q, rfl, h2, hS9⟩ := sR_cons hS
  obtain ⟨lv, h3, h4⟩ := lR_has hL
  rcases vR_ref h2 with rfl | ⟨a, rfl⟩
  · exact lv_astore_nN hx hb d rfl h3 hn rfl fun lc' h => k H locs lc' q hR (lR_set1 h2 (by rcases v with _ | _ <;> rfl) h4 rfl h hn) hS9 hQ
  · exact lv_astore_n hx hb d rfl h3 hn rfl fun lc' h => k H locs lc' q hR (lR_set1 h2 (by rcases v with _ | _ <;> rfl) h4 rfl h hn) hS9 hQ
theorem g_iinc {n : Nat} {x dd : Int} (hx : p.tables.exec = Jvm.exec) (hb : c.code = cc) (d : decode cc pc = .ok (.iinc n dd, 3)) (hl : ls[n]? = some (pI x)) (k : WS s0 pre dC dI p l e R s mid args below meth c mb Q (pc + 3) (ls1 ls n (pI (w32 (x + dd)))) st m) : WS s0 pre dC dI p l e R s mid args below meth c mb Q pc ls st m := by
  intro H locs lc sc hR hL hS hQ
  have hn : n < ls.length := (List.getElem?_eq_some_iff.mp hl).1
  obtain ⟨lv, h3, h4⟩ := lR_has hL
  obtain ⟨w, h5, h6, rfl, h7⟩ := h4 n _ hl (by simp)
  obtain ⟨j, hj⟩ := List.getElem?_of_mem h5
  exact lv_iinc hx hb d h3 hj rfl hn rfl fun lc' h => k H locs lc' sc hR (lR_set1 ⟨by rw [i32_w32, Int32.ofInt_add], w32_rng _⟩ rfl h4 rfl h hn) hS hQ
theorem g_null  (hx : p.tables.exec = Jvm.exec) (hb : c.code = cc) (d : decode cc pc = .ok (.aconst_null, 1))  (k : WS s0 pre dC dI p l e R s mid args below meth c mb Q (pc + 1) ls (pR 0 :: st) m) : WS s0 pre dC dI p l e R s mid args below meth c mb Q pc ls st m := by
  intro H locs lc sc hR hL hS hQ
  exact lv_null hx hb d (k H locs lc (.null :: sc) hR hL ⟨rfl, hS⟩ hQ)
theorem g_iconst {n : Int} (hx : p.tables.exec = Jvm.exec) (hb : c.code = cc) (d : decode cc pc = .ok (.iconst n, 1)) (hn : pin n (-128) 128) (k : WS s0 pre dC dI p l e R s mid args below meth c mb Q (pc + 1) ls (pI n :: st) m) : WS s0 pre dC dI p l e R s mid args below meth c mb Q pc ls st m := by
  intro H locs lc sc hR hL hS hQ
  exact lv_iconst hx hb d rfl (k H locs lc _ hR hL ⟨⟨rfl, by unfold pin at *; omega⟩, hS⟩ hQ)
theorem g_bipush {n : Int} (hx : p.tables.exec = Jvm.exec) (hb : c.code = cc) (d : decode cc pc = .ok (.bipush n, 2)) (hn : pin n (-128) 128) (k : WS s0 pre dC dI p l e R s mid args below meth c mb Q (pc + 2) ls (pI n :: st) m) : WS s0 pre dC dI p l e R s mid args below meth c mb Q pc ls st m := by
  intro H locs lc sc hR hL hS hQ
  exact lv_bipush hx hb d (i8_i32 hn) (k H locs lc _ hR hL ⟨⟨rfl, by unfold pin at *; omega⟩, hS⟩ hQ)
theorem g_sipush {n : Int} (hx : p.tables.exec = Jvm.exec) (hb : c.code = cc) (d : decode cc pc = .ok (.sipush n, 3)) (hn : pin n (-32768) 32768) (k : WS s0 pre dC dI p l e R s mid args below meth c mb Q (pc + 3) ls (pI n :: st) m) : WS s0 pre dC dI p l e R s mid args below meth c mb Q pc ls st m := by
  intro H locs lc sc hR hL hS hQ
  exact lv_sipush hx hb d (i16_i32 hn) (k H locs lc _ hR hL ⟨⟨rfl, by unfold pin at *; omega⟩, hS⟩ hQ)
theorem g_lconst {n : Fin 2} (hx : p.tables.exec = Jvm.exec) (hb : c.code = cc) (d : decode cc pc = .ok (.lconst n, 1))  (k : WS s0 pre dC dI p l e R s mid args below meth c mb Q (pc + 1) ls (pL ((n : Nat) : Int) :: st) m) : WS s0 pre dC dI p l e R s mid args below meth c mb Q pc ls st m := by
  intro H locs lc sc hR hL hS hQ
  exact lv_lconst hx hb d (Int64.ofInt_eq_ofNat).symm (k H locs lc _ hR hL ⟨⟨rfl, by unfold pin; omega⟩, hS⟩ hQ)
theorem g_iadd {x y : Int} {r : List PV} (hx : p.tables.exec = Jvm.exec) (hb : c.code = cc) (d : decode cc pc = .ok (.iadd, 1))  (k : WS s0 pre dC dI p l e R s mid args below meth c mb Q (pc + 1) ls (pI (w32 (x + y)) :: r) m) : WS s0 pre dC dI p l e R s mid args below meth c mb Q pc ls (pI y :: pI x :: r) m := by
  intro H locs lc sc hR hL hS hQ
  obtain ⟨q, rfl, h1, hS⟩ := sR_i hS
  obtain ⟨q, rfl, h2, hS⟩ := sR_i hS
  exact lv_iadd hx hb d (k H locs lc _ hR hL ⟨⟨by rw [i32_add], w32_rng _⟩, hS⟩ hQ)
theorem g_isub {x y : Int} {r : List PV} (hx : p.tables.exec = Jvm.exec) (hb : c.code = cc) (d : decode cc pc = .ok (.isub, 1))  (k : WS s0 pre dC dI p l e R s mid args below meth c mb Q (pc + 1) ls (pI (w32 (x - y)) :: r) m) : WS s0 pre dC dI p l e R s mid args below meth c mb Q pc ls (pI y :: pI x :: r) m := by
  intro H locs lc sc hR hL hS hQ
  obtain ⟨q, rfl, h1, hS⟩ := sR_i hS
  obtain ⟨q, rfl, h2, hS⟩ := sR_i hS
  exact lv_isub hx hb d (k H locs lc _ hR hL ⟨⟨by rw [i32_sub], w32_rng _⟩, hS⟩ hQ)
theorem g_imul {x y : Int} {r : List PV} (hx : p.tables.exec = Jvm.exec) (hb : c.code = cc) (d : decode cc pc = .ok (.imul, 1))  (k : WS s0 pre dC dI p l e R s mid args below meth c mb Q (pc + 1) ls (pI (w32 (x * y)) :: r) m) : WS s0 pre dC dI p l e R s mid args below meth c mb Q pc ls (pI y :: pI x :: r) m := by
  intro H locs lc sc hR hL hS hQ
  obtain ⟨q, rfl, h1, hS⟩ := sR_i hS
  obtain ⟨q, rfl, h2, hS⟩ := sR_i hS
  exact lv_imul hx hb d (k H locs lc _ hR hL ⟨⟨by rw [i32_mul], w32_rng _⟩, hS⟩ hQ)
theorem g_iand {x y : Int} {r : List PV} (hx : p.tables.exec = Jvm.exec) (hb : c.code = cc) (d : decode cc pc = .ok (.iand, 1))  (k : WS s0 pre dC dI p l e R s mid args below meth c mb Q (pc + 1) ls (pI (pAnd x y) :: r) m) : WS s0 pre dC dI p l e R s mid args below meth c mb Q pc ls (pI y :: pI x :: r) m := by
  intro H locs lc sc hR hL hS hQ
  obtain ⟨q, rfl, h1, hS⟩ := sR_i hS
  obtain ⟨q, rfl, h2, hS⟩ := sR_i hS
  exact lv_iand hx hb d (k H locs lc _ hR hL ⟨⟨(congrArg _ (Int32.ofInt_toInt _)).symm, i32_rng _⟩, hS⟩ hQ)
theorem g_ior {x y : Int} {r : List PV} (hx : p.tables.exec = Jvm.exec) (hb : c.code = cc) (d : decode cc pc = .ok (.ior, 1))  (k : WS s0 pre dC dI p l e R s mid args below meth c mb Q (pc + 1) ls (pI (pOr x y) :: r) m) : WS s0 pre dC dI p l e R s mid args below meth c mb Q pc ls (pI y :: pI x :: r) m := by
  intro H locs lc sc hR hL hS hQ
  obtain ⟨q, rfl, h1, hS⟩ := sR_i hS
  obtain ⟨q, rfl, h2, hS⟩ := sR_i hS
  exact lv_ior hx hb d (k H locs lc _ hR hL ⟨⟨(congrArg _ (Int32.ofInt_toInt _)).symm, i32_rng _⟩, hS⟩ hQ)
theorem g_ishl {x y : Int} {r : List PV} (hx : p.tables.exec = Jvm.exec) (hb : c.code = cc) (d : decode cc pc = .ok (.ishl, 1))  (k : WS s0 pre dC dI p l e R s mid args below meth c mb Q (pc + 1) ls (pI (pShl x y) :: r) m) : WS s0 pre dC dI p l e R s mid args below meth c mb Q pc ls (pI y :: pI x :: r) m := by
  intro H locs lc sc hR hL hS hQ
  obtain ⟨q, rfl, h1, hS⟩ := sR_i hS
  obtain ⟨q, rfl, h2, hS⟩ := sR_i hS
  exact lv_ishl hx hb d (k H locs lc _ hR hL ⟨⟨(congrArg _ (Int32.ofInt_toInt _)).symm, i32_rng _⟩, hS⟩ hQ)
theorem g_ishr {x y : Int} {r : List PV} (hx : p.tables.exec = Jvm.exec) (hb : c.code = cc) (d : decode cc pc = .ok (.ishr, 1))  (k : WS s0 pre dC dI p l e R s mid args below meth c mb Q (pc + 1) ls (pI (pShr x y) :: r) m) : WS s0 pre dC dI p l e R s mid args below meth c mb Q pc ls (pI y :: pI x :: r) m := by
  intro H locs lc sc hR hL hS hQ
  obtain ⟨q, rfl, h1, hS⟩ := sR_i hS
  obtain ⟨q, rfl, h2, hS⟩ := sR_i hS
  exact lv_ishr hx hb d (k H locs lc _ hR hL ⟨⟨(congrArg _ (Int32.ofInt_toInt _)).symm, i32_rng _⟩, hS⟩ hQ)
theorem g_iushr {x y : Int} {r : List PV} (hx : p.tables.exec = Jvm.exec) (hb : c.code = cc) (d : decode cc pc = .ok (.iushr, 1))  (k : WS s0 pre dC dI p l e R s mid args below meth c mb Q (pc + 1) ls (pI (pUshr x y) :: r) m) : WS s0 pre dC dI p l e R s mid args below meth c mb Q pc ls (pI y :: pI x :: r) m := by
  intro H locs lc sc hR hL hS hQ
  obtain ⟨q, rfl, h1, hS⟩ := sR_i hS
  obtain ⟨q, rfl, h2, hS⟩ := sR_i hS
  exact lv_iushr hx hb d rfl (k H locs lc _ hR hL ⟨⟨(congrArg _ (Int32.ofInt_toInt _)).symm, i32_rng _⟩, hS⟩ hQ)
theorem g_idiv {x y : Int} {r : List PV} (hx : p.tables.exec = Jvm.exec) (hb : c.code = cc) (d : decode cc pc = .ok (.idiv, 1)) (hy : y ≠ 0) (k : WS s0 pre dC dI p l e R s mid args below meth c mb Q (pc + 1) ls (pI (w32 (x.tdiv y)) :: r) m) : WS s0 pre dC dI p l e R s mid args below meth c mb Q pc ls (pI y :: pI x :: r) m := by
  intro H locs lc sc hR hL hS hQ
  obtain ⟨q, rfl, h1, hS⟩ := sR_i hS
  obtain ⟨q, rfl, h2, hS⟩ := sR_i hS
  exact lv_idiv hx hb d (i32_ne0 h1 hy) (k H locs lc _ hR hL ⟨⟨by rw [i32_div h2 h1], w32_rng _⟩, hS⟩ hQ)
theorem g_ladd {x y : Int} {r : List PV} (hx : p.tables.exec = Jvm.exec) (hb : c.code = cc) (d : decode cc pc = .ok (.ladd, 1))  (k : WS s0 pre dC dI p l e R s mid args below meth c mb Q (pc + 1) ls (pL (w64 (x + y)) :: r) m) : WS s0 pre dC dI p l e R s mid args below meth c mb Q pc ls (pL y :: pL x :: r) m := by
  intro H locs lc sc hR hL hS hQ
  obtain ⟨q, rfl, h1, hS⟩ := sR_l hS
  obtain ⟨q, rfl, h2, hS⟩ := sR_l hS
  exact lv_ladd hx hb d (k H locs lc _ hR hL ⟨⟨by rw [i64_add], w64_rng _⟩, hS⟩ hQ)
theorem g_lsub {x y : Int} {r : List PV} (hx : p.tables.exec = Jvm.exec) (hb : c.code = cc) (d : decode cc pc = .ok (.lsub, 1))  (k : WS s0 pre dC dI p l e R s mid args below meth c mb Q (pc + 1) ls (pL (w64 (x - y)) :: r) m) : WS s0 pre dC dI p l e R s mid args below meth c mb Q pc ls (pL y :: pL x :: r) m := by
  intro H locs lc sc hR hL hS hQ
  obtain ⟨q, rfl, h1, hS⟩ := sR_l hS
  obtain ⟨q, rfl, h2, hS⟩ := sR_l hS
  exact lv_lsub hx hb d (k H locs lc _ hR hL ⟨⟨by rw [i64_sub], w64_rng _⟩, hS⟩ hQ)
theorem g_lmul {x y : Int} {r : List PV} (hx : p.tables.exec = Jvm.exec) (hb : c.code = cc) (d : decode cc pc = .ok (.lmul, 1))  (k : WS s0 pre dC dI p l e R s mid args below meth c mb Q (pc + 1) ls (pL (w64 (x * y)) :: r) m) : WS s0 pre dC dI p l e R s mid args below meth c mb Q pc ls (pL y :: pL x :: r) m := by
  intro H locs lc sc hR hL hS hQ
  obtain ⟨q, rfl, h1, hS⟩ := sR_l hS
  obtain ⟨q, rfl, h2, hS⟩ := sR_l hS
  exact lv_lmul hx hb d (k H locs lc _ hR hL ⟨⟨by rw [i64_mul], w64_rng _⟩, hS⟩ hQ)
theorem g_ldiv {x y : Int} {r : List PV} (hx : p.tables.exec = Jvm.exec) (hb : c.code = cc) (d : decode cc pc = .ok (.ldiv, 1)) (hy : y ≠ 0) (k : WS s0 pre dC dI p l e R s mid args below meth c mb Q (pc + 1) ls (pL (w64 (x.tdiv y)) :: r) m) : WS s0 pre dC dI p l e R s mid args below meth c mb Q pc ls (pL y :: pL x :: r) m := by
  intro H locs lc sc hR hL hS hQ
  obtain ⟨q, rfl, h1, hS⟩ := sR_l hS
  obtain ⟨q, rfl, h2, hS⟩ := sR_l hS
  exact lv_ldiv hx hb d (i64_ne0 h1 hy) (k H locs lc _ hR hL ⟨⟨by rw [i64_div h2 h1], w64_rng _⟩, hS⟩ hQ)
theorem g_lrem {x y : Int} {r : List PV} (hx : p.tables.exec = Jvm.exec) (hb : c.code = cc) (d : decode cc pc = .ok (.lrem, 1)) (hy : y ≠ 0) (k : WS s0 pre dC dI p l e R s mid args below meth c mb Q (pc + 1) ls (pL (w64 (x - w64 (x.tdiv y) * y)) :: r) m) : WS s0 pre dC dI p l e R s mid args below meth c mb Q pc ls (pL y :: pL x :: r) m := by
  intro H locs lc sc hR hL hS hQ
  obtain ⟨q, rfl, h1, hS⟩ := sR_l hS
  obtain ⟨q, rfl, h2, hS⟩ := sR_l hS
  exact lv_lrem hx hb d (i64_ne0 h1 hy) (k H locs lc _ hR hL ⟨⟨by rw [i64_sub, Int64.ofInt_mul, i64_div h2 h1], w64_rng _⟩, hS⟩ hQ)
theorem g_lneg {x : Int} {r : List PV} (hx : p.tables.exec = Jvm.exec) (hb : c.code = cc) (d : decode cc pc = .ok (.lneg, 1))  (k : WS s0 pre dC dI p l e R s mid args below meth c mb Q (pc + 1) ls (pL (w64 (-x)) :: r) m) : WS s0 pre dC dI p l e R s mid args below meth c mb Q pc ls (pL x :: r) m := by
  intro H locs lc sc hR hL hS hQ
  obtain ⟨q, rfl, h1, hS⟩ := sR_l hS
  exact lv_lneg hx hb d (k H locs lc _ hR hL ⟨⟨by rw [i64_neg], w64_rng _⟩, hS⟩ hQ)
theorem g_land {x y : Int} {r : List PV} (hx : p.tables.exec = Jvm.exec) (hb : c.code = cc) (d : decode cc pc = .ok (.land, 1))  (k : WS s0 pre dC dI p l e R s mid args below meth c mb Q (pc + 1) ls (pL (qAnd x y) :: r) m) : WS s0 pre dC dI p l e R s mid args below meth c mb Q pc ls (pL y :: pL x :: r) m := by
  intro H locs lc sc hR hL hS hQ
  obtain ⟨q, rfl, h1, hS⟩ := sR_l hS
  obtain ⟨q, rfl, h2, hS⟩ := sR_l hS
  exact lv_land hx hb d (k H locs lc _ hR hL ⟨⟨(congrArg _ (Int64.ofInt_toInt _)).symm, i64_rng _⟩, hS⟩ hQ)
theorem g_lor {x y : Int} {r : List PV} (hx : p.tables.exec = Jvm.exec) (hb : c.code = cc) (d : decode cc pc = .ok (.lor, 1))  (k : WS s0 pre dC dI p l e R s mid args below meth c mb Q (pc + 1) ls (pL (qOr x y) :: r) m) : WS s0 pre dC dI p l e R s mid args below meth c mb Q pc ls (pL y :: pL x :: r) m := by
  intro H locs lc sc hR hL hS hQ
  obtain ⟨q, rfl, h1, hS⟩ := sR_l hS
  obtain ⟨q, rfl, h2, hS⟩ := sR_l hS
  exact lv_lor hx hb d (k H locs lc _ hR hL ⟨⟨(congrArg _ (Int64.ofInt_toInt _)).symm, i64_rng _⟩, hS⟩ hQ)
theorem g_lxor {x y : Int} {r : List PV} (hx : p.tables.exec = Jvm.exec) (hb : c.code = cc) (d : decode cc pc = .ok (.lxor, 1))  (k : WS s0 pre dC dI p l e R s mid args below meth c mb Q (pc + 1) ls (pL (qXor x y) :: r) m) : WS s0 pre dC dI p l e R s mid args below meth c mb Q pc ls (pL y :: pL x :: r) m := by
  intro H locs lc sc hR hL hS hQ
  obtain ⟨q, rfl, h1, hS⟩ := sR_l hS
  obtain ⟨q, rfl, h2, hS⟩ := sR_l hS
  exact lv_lxor hx hb d (k H locs lc _ hR hL ⟨⟨(congrArg _ (Int64.ofInt_toInt _)).symm, i64_rng _⟩, hS⟩ hQ)
theorem g_lshl {x y : Int} {r : List PV} (hx : p.tables.exec = Jvm.exec) (hb : c.code = cc) (d : decode cc pc = .ok (.lshl, 1))  (k : WS s0 pre dC dI p l e R s mid args below meth c mb Q (pc + 1) ls (pL (qShl x y) :: r) m) : WS s0 pre dC dI p l e R s mid args below meth c mb Q pc ls (pI y :: pL x :: r) m := by
  intro H locs lc sc hR hL hS hQ
  obtain ⟨q, rfl, h1, hS⟩ := sR_i hS
  obtain ⟨q, rfl, h2, hS⟩ := sR_l hS
  exact lv_lshl hx hb d rfl (k H locs lc _ hR hL ⟨⟨(congrArg _ (Int64.ofInt_toInt _)).symm, i64_rng _⟩, hS⟩ hQ)
theorem g_lshr {x y : Int} {r : List PV} (hx : p.tables.exec = Jvm.exec) (hb : c.code = cc) (d : decode cc pc = .ok (.lshr, 1))  (k : WS s0 pre dC dI p l e R s mid args below meth c mb Q (pc + 1) ls (pL (qShr x y) :: r) m) : WS s0 pre dC dI p l e R s mid args below meth c mb Q pc ls (pI y :: pL x :: r) m := by
  intro H locs lc sc hR hL hS hQ
  obtain ⟨q, rfl, h1, hS⟩ := sR_i hS
  obtain ⟨q, rfl, h2, hS⟩ := sR_l hS
  exact lv_lshr hx hb d rfl (k H locs lc _ hR hL ⟨⟨(congrArg _ (Int64.ofInt_toInt _)).symm, i64_rng _⟩, hS⟩ hQ)
theorem g_lushr {x y : Int} {r : List PV} (hx : p.tables.exec = Jvm.exec) (hb : c.code = cc) (d : decode cc pc = .ok (.lushr, 1))  (k : WS s0 pre dC dI p l e R s mid args below meth c mb Q (pc + 1) ls (pL (qUshr x y) :: r) m) : WS s0 pre dC dI p l e R s mid args below meth c mb Q pc ls (pI y :: pL x :: r) m := by
  intro H locs lc sc hR hL hS hQ
  obtain ⟨q, rfl, h1, hS⟩ := sR_i hS
  obtain ⟨q, rfl, h2, hS⟩ := sR_l hS
  exact lv_lushr hx hb d rfl (k H locs lc _ hR hL ⟨⟨(congrArg _ (Int64.ofInt_toInt _)).symm, i64_rng _⟩, hS⟩ hQ)
theorem g_lcmp {x y : Int} {r : List PV} (hx : p.tables.exec = Jvm.exec) (hb : c.code = cc) (d : decode cc pc = .ok (.lcmp, 1))  (k : WS s0 pre dC dI p l e R s mid args below meth c mb Q (pc + 1) ls (pI (lcp x y) :: r) m) : WS s0 pre dC dI p l e R s mid args below meth c mb Q pc ls (pL y :: pL x :: r) m := by
  intro H locs lc sc hR hL hS hQ
  obtain ⟨q, rfl, h1, hS⟩ := sR_l hS
  obtain ⟨q, rfl, h2, hS⟩ := sR_l hS
  exact W.lcmp hx hb d (k H locs lc _ hR hL ⟨⟨by rw [i64_lcp h2 h1], by unfold lcp pin; split <;> (try split) <;> omega⟩, hS⟩ hQ)
theorem g_i2l {x : Int} {r : List PV} (hx : p.tables.exec = Jvm.exec) (hb : c.code = cc) (d : decode cc pc = .ok (.i2l, 1))  (k : WS s0 pre dC dI p l e R s mid args below meth c mb Q (pc + 1) ls (pL x :: r) m) : WS s0 pre dC dI p l e R s mid args below meth c mb Q pc ls (pI x :: r) m := by
  intro H locs lc sc hR hL hS hQ
  obtain ⟨q, rfl, h1, hS⟩ := sR_i hS
  exact lv_i2l hx hb d (i32_i2l h1) (k H locs lc _ hR hL ⟨⟨rfl, by unfold pin at *; omega⟩, hS⟩ hQ)
theorem g_l2i {x : Int} {r : List PV} (hx : p.tables.exec = Jvm.exec) (hb : c.code = cc) (d : decode cc pc = .ok (.l2i, 1))  (k : WS s0 pre dC dI p l e R s mid args below meth c mb Q (pc + 1) ls (pI (w32 x) :: r) m) : WS s0 pre dC dI p l e R s mid args below meth c mb Q pc ls (pL x :: r) m := by
  intro H locs lc sc hR hL hS hQ
  obtain ⟨q, rfl, h1, hS⟩ := sR_l hS
  exact lv_l2i hx hb d (i64_l2i x) (k H locs lc _ hR hL ⟨⟨rfl, w32_rng _⟩, hS⟩ hQ)
theorem g_i2b {x : Int} {r : List PV} (hx : p.tables.exec = Jvm.exec) (hb : c.code = cc) (d : decode cc pc = .ok (.i2b, 1))  (k : WS s0 pre dC dI p l e R s mid args below meth c mb Q (pc + 1) ls (pI (w8 x) :: r) m) : WS s0 pre dC dI p l e R s mid args below meth c mb Q pc ls (pI x :: r) m := by
  intro H locs lc sc hR hL hS hQ
  obtain ⟨q, rfl, h1, hS⟩ := sR_i hS
  exact lv_i2b hx hb d (i32_i2b x) (k H locs lc _ hR hL ⟨⟨rfl, by have := w8_rng x; unfold pin at *; omega⟩, hS⟩ hQ)
theorem g_i2c {x : Int} {r : List PV} (hx : p.tables.exec = Jvm.exec) (hb : c.code = cc) (d : decode cc pc = .ok (.i2c, 1))  (k : WS s0 pre dC dI p l e R s mid args below meth c mb Q (pc + 1) ls (pI (x % 65536) :: r) m) : WS s0 pre dC dI p l e R s mid args below meth c mb Q pc ls (pI x :: r) m := by
  intro H locs lc sc hR hL hS hQ
  obtain ⟨q, rfl, h1, hS⟩ := sR_i hS
  exact lv_i2c hx hb d (i32_i2c x) (k H locs lc _ hR hL ⟨⟨rfl, by unfold pin at *; omega⟩, hS⟩ hQ)
theorem g_dup {v : PV} {r : List PV} (hx : p.tables.exec = Jvm.exec) (hb : c.code = cc) (d : decode cc pc = .ok (.dup, 1)) (hv : cat v = 1) (k : WS s0 pre dC dI p l e R s mid args below meth c mb Q (pc + 1) ls (v :: v :: r) m) : WS s0 pre dC dI p l e R s mid args below meth c mb Q pc ls (v :: r) m := by
  intro H locs lc sc hR hL hS hQ
  obtain ⟨w, q, rfl, h2, hS9⟩ := sR_cons hS
  exact lv_dup hx hb d ((vR_cat h2).trans hv) (k H locs lc _ hR hL ⟨h2, h2, hS9⟩ hQ)
theorem g_pop {v : PV} {r : List PV} (hx : p.tables.exec = Jvm.exec) (hb : c.code = cc) (d : decode cc pc = .ok (.pop, 1)) (hv : cat v = 1) (k : WS s0 pre dC dI p l e R s mid args below meth c mb Q (pc + 1) ls r m) : WS s0 pre dC dI p l e R s mid args below meth c mb Q pc ls (v :: r) m := by
  intro H locs lc sc hR hL hS hQ
  obtain ⟨w, q, rfl, h2, hS9⟩ := sR_cons hS
  exact lv_pop hx hb d ((vR_cat h2).trans hv) (k H locs lc _ hR hL hS9 hQ)
theorem g_dup_x1 {v u : PV} {r : List PV} (hx : p.tables.exec = Jvm.exec) (hb : c.code = cc) (d : decode cc pc = .ok (.dup_x1, 1)) (hv : cat v = 1) (hu : cat u = 1) (k : WS s0 pre dC dI p l e R s mid args below meth c mb Q (pc + 1) ls (v :: u :: v :: r) m) : WS s0 pre dC dI p l e R s mid args below meth c mb Q pc ls (v :: u :: r) m := by
  intro H locs lc sc hR hL hS hQ
  obtain ⟨w, q, rfl, h2, hS9⟩ := sR_cons hS
  obtain ⟨w2, q, rfl, h3, hS8⟩ := sR_cons hS9
  exact lv_dup_x1 hx hb d ((vR_cat h2).trans hv) ((vR_cat h3).trans hu) (k H locs lc _ hR hL ⟨h2, h3, h2, hS8⟩ hQ)
theorem g_dup2 {v u : PV} {r : List PV} (hx : p.tables.exec = Jvm.exec) (hb : c.code = cc) (d : decode cc pc = .ok (.dup2, 1)) (hv : cat v = 1) (hu : cat u = 1) (k : WS s0 pre dC dI p l e R s mid args below meth c mb Q (pc + 1) ls (v :: u :: v :: u :: r) m) : WS s0 pre dC dI p l e R s mid args below meth c mb Q pc ls (v :: u :: r) m := by
  intro H locs lc sc hR hL hS hQ
  obtain ⟨w, q, rfl, h2, hS9⟩ := sR_cons hS
  obtain ⟨w2, q, rfl, h3, hS8⟩ := sR_cons hS9
  exact lv_dup2_11 hx hb d ((vR_cat h2).trans hv) ((vR_cat h3).trans hu) (k H locs lc _ hR hL ⟨h2, h3, h2, h3, hS8⟩ hQ)
theorem g_icmp_eq {x y : Int} {r : List PV} (hx : p.tables.exec = Jvm.exec) (hb : c.code = cc) {off : Int} {tgt : Nat} (d : decode cc pc = .ok (.if_icmp .eq off, 3)) (ht : (pc : Int) + off = (tgt : Int)) (kt : x = y → WS s0 pre dC dI p l e R s mid args below meth c mb Q tgt ls r m) (kf : ¬ (x = y) → WS s0 pre dC dI p l e R s mid args below meth c mb Q (pc + 3) ls r m) : WS s0 pre dC dI p l e R s mid args below meth c mb Q pc ls (pI y :: pI x :: r) m := by
  intro H locs lc sc hR hL hS hQ
  obtain ⟨q, rfl, h1, hS⟩ := sR_i hS
  obtain ⟨q, rfl, h2, hS⟩ := sR_i hS
  exact lv_icmp_eq hx hb d ht (fun h => kt ((i32_eq h2 h1).mp h) H locs lc q hR hL hS hQ) (fun h => kf (fun h9 => h ((i32_eq h2 h1).mpr h9)) H locs lc q hR hL hS hQ)
theorem g_if_eq {x : Int} {r : List PV} (hx : p.tables.exec = Jvm.exec) (hb : c.code = cc) {off : Int} {tgt : Nat} (d : decode cc pc = .ok (.ifCond .eq off, 3)) (ht : (pc : Int) + off = (tgt : Int)) (kt : x = 0 → WS s0 pre dC dI p l e R s mid args below meth c mb Q tgt ls r m) (kf : ¬ (x = 0) → WS s0 pre dC dI p l e R s mid args below meth c mb Q (pc + 3) ls r m) : WS s0 pre dC dI p l e R s mid args below meth c mb Q pc ls (pI x :: r) m := by
  intro H locs lc sc hR hL hS hQ
  obtain ⟨q, rfl, h2, hS⟩ := sR_i hS
  exact lv_if_eq hx hb d ht (fun h => kt ((i32_eq h2 z32).mp h) H locs lc q hR hL hS hQ) (fun h => kf (fun h9 => h ((i32_eq h2 z32).mpr h9)) H locs lc q hR hL hS hQ)
theorem g_icmp_ne {x y : Int} {r : List PV} (hx : p.tables.exec = Jvm.exec) (hb : c.code = cc) {off : Int} {tgt : Nat} (d : decode cc pc = .ok (.if_icmp .ne off, 3)) (ht : (pc : Int) + off = (tgt : Int)) (kt : x ≠ y → WS s0 pre dC dI p l e R s mid args below meth c mb Q tgt ls r m) (kf : ¬ (x ≠ y) → WS s0 pre dC dI p l e R s mid args below meth c mb Q (pc + 3) ls r m) : WS s0 pre dC dI p l e R s mid args below meth c mb Q pc ls (pI y :: pI x :: r) m := by
  intro H locs lc sc hR hL hS hQ
  obtain ⟨q, rfl, h1, hS⟩ := sR_i hS
  obtain ⟨q, rfl, h2, hS⟩ := sR_i hS
  exact lv_icmp_ne hx hb d ht (fun h => kt ((not_congr (i32_eq h2 h1)).mp h) H locs lc q hR hL hS hQ) (fun h => kf (fun h9 => h9 ((i32_eq h2 h1).mp h)) H locs lc q hR hL hS hQ)
theorem g_if_ne {x : Int} {r : List PV} (hx : p.tables.exec = Jvm.exec) (hb : c.code = cc) {off : Int} {tgt : Nat} (d : decode cc pc = .ok (.ifCond .ne off, 3)) (ht : (pc : Int) + off = (tgt : Int)) (kt : x ≠ 0 → WS s0 pre dC dI p l e R s mid args below meth c mb Q tgt ls r m) (kf : ¬ (x ≠ 0) → WS s0 pre dC dI p l e R s mid args below meth c mb Q (pc + 3) ls r m) : WS s0 pre dC dI p l e R s mid args below meth c mb Q pc ls (pI x :: r) m := by
  intro H locs lc sc hR hL hS hQ
  obtain ⟨q, rfl, h2, hS⟩ := sR_i hS
  exact lv_if_ne hx hb d ht (fun h => kt ((not_congr (i32_eq h2 z32)).mp h) H locs lc q hR hL hS hQ) (fun h => kf (fun h9 => h9 ((i32_eq h2 z32).mp h)) H locs lc q hR hL hS hQ)
theorem g_icmp_lt {x y : Int} {r : List PV} (hx : p.tables.exec = Jvm.exec) (hb : c.code = cc) {off : Int} {tgt : Nat} (d : decode cc pc = .ok (.if_icmp .lt off, 3)) (ht : (pc : Int) + off = (tgt : Int)) (kt : x < y → WS s0 pre dC dI p l e R s mid args below meth c mb Q tgt ls r m) (kf : ¬ (x < y) → WS s0 pre dC dI p l e R s mid args below meth c mb Q (pc + 3) ls r m) : WS s0 pre dC dI p l e R s mid args below meth c mb Q pc ls (pI y :: pI x :: r) m := by
  intro H locs lc sc hR hL hS hQ
  obtain ⟨q, rfl, h1, hS⟩ := sR_i hS
  obtain ⟨q, rfl, h2, hS⟩ := sR_i hS
  exact lv_icmp_lt hx hb d ht (fun h => kt ((i32_lt h2 h1).mp h) H locs lc q hR hL hS hQ) (fun h => kf (fun h9 => h ((i32_lt h2 h1).mpr h9)) H locs lc q hR hL hS hQ)
theorem g_if_lt {x : Int} {r : List PV} (hx : p.tables.exec = Jvm.exec) (hb : c.code = cc) {off : Int} {tgt : Nat} (d : decode cc pc = .ok (.ifCond .lt off, 3)) (ht : (pc : Int) + off = (tgt : Int)) (kt : x < 0 → WS s0 pre dC dI p l e R s mid args below meth c mb Q tgt ls r m) (kf : ¬ (x < 0) → WS s0 pre dC dI p l e R s mid args below meth c mb Q (pc + 3) ls r m) : WS s0 pre dC dI p l e R s mid args below meth c mb Q pc ls (pI x :: r) m := by
  intro H locs lc sc hR hL hS hQ
  obtain ⟨q, rfl, h2, hS⟩ := sR_i hS
  exact lv_if_lt hx hb d ht (fun h => kt ((i32_lt h2 z32).mp h) H locs lc q hR hL hS hQ) (fun h => kf (fun h9 => h ((i32_lt h2 z32).mpr h9)) H locs lc q hR hL hS hQ)
theorem g_icmp_ge {x y : Int} {r : List PV} (hx : p.tables.exec = Jvm.exec) (hb : c.code = cc) {off : Int} {tgt : Nat} (d : decode cc pc = .ok (.if_icmp .ge off, 3)) (ht : (pc : Int) + off = (tgt : Int)) (kt : y ≤ x → WS s0 pre dC dI p l e R s mid args below meth c mb Q tgt ls r m) (kf : ¬ (y ≤ x) → WS s0 pre dC dI p l e R s mid args below meth c mb Q (pc + 3) ls r m) : WS s0 pre dC dI p l e R s mid args below meth c mb Q pc ls (pI y :: pI x :: r) m := by
  intro H locs lc sc hR hL hS hQ
  obtain ⟨q, rfl, h1, hS⟩ := sR_i hS
  obtain ⟨q, rfl, h2, hS⟩ := sR_i hS
  exact lv_icmp_ge hx hb d ht (fun h => kt ((i32_le h1 h2).mp h) H locs lc q hR hL hS hQ) (fun h => kf (fun h9 => h ((i32_le h1 h2).mpr h9)) H locs lc q hR hL hS hQ)
theorem g_if_ge {x : Int} {r : List PV} (hx : p.tables.exec = Jvm.exec) (hb : c.code = cc) {off : Int} {tgt : Nat} (d : decode cc pc = .ok (.ifCond .ge off, 3)) (ht : (pc : Int) + off = (tgt : Int)) (kt : 0 ≤ x → WS s0 pre dC dI p l e R s mid args below meth c mb Q tgt ls r m) (kf : ¬ (0 ≤ x) → WS s0 pre dC dI p l e R s mid args below meth c mb Q (pc + 3) ls r m) : WS s0 pre dC dI p l e R s mid args below meth c mb Q pc ls (pI x :: r) m := by
  intro H locs lc sc hR hL hS hQ
  obtain ⟨q, rfl, h2, hS⟩ := sR_i hS
  exact lv_if_ge hx hb d ht (fun h => kt ((i32_le z32 h2).mp h) H locs lc q hR hL hS hQ) (fun h => kf (fun h9 => h ((i32_le z32 h2).mpr h9)) H locs lc q hR hL hS hQ)
theorem g_icmp_gt {x y : Int} {r : List PV} (hx : p.tables.exec = Jvm.exec) (hb : c.code = cc) {off : Int} {tgt : Nat} (d : decode cc pc = .ok (.if_icmp .gt off, 3)) (ht : (pc : Int) + off = (tgt : Int)) (kt : y < x → WS s0 pre dC dI p l e R s mid args below meth c mb Q tgt ls r m) (kf : ¬ (y < x) → WS s0 pre dC dI p l e R s mid args below meth c mb Q (pc + 3) ls r m) : WS s0 pre dC dI p l e R s mid args below meth c mb Q pc ls (pI y :: pI x :: r) m := by
  intro H locs lc sc hR hL hS hQ
  obtain ⟨q, rfl, h1, hS⟩ := sR_i hS
  obtain ⟨q, rfl, h2, hS⟩ := sR_i hS
  exact lv_icmp_gt hx hb d ht (fun h => kt ((i32_lt h1 h2).mp h) H locs lc q hR hL hS hQ) (fun h => kf (fun h9 => h ((i32_lt h1 h2).mpr h9)) H locs lc q hR hL hS hQ)
theorem g_if_gt {x : Int} {r : List PV} (hx : p.tables.exec = Jvm.exec) (hb : c.code = cc) {off : Int} {tgt : Nat} (d : decode cc pc = .ok (.ifCond .gt off, 3)) (ht : (pc : Int) + off = (tgt : Int)) (kt : 0 < x → WS s0 pre dC dI p l e R s mid args below meth c mb Q tgt ls r m) (kf : ¬ (0 < x) → WS s0 pre dC dI p l e R s mid args below meth c mb Q (pc + 3) ls r m) : WS s0 pre dC dI p l e R s mid args below meth c mb Q pc ls (pI x :: r) m := by
  intro H locs lc sc hR hL hS hQ
  obtain ⟨q, rfl, h2, hS⟩ := sR_i hS
  exact lv_if_gt hx hb d ht (fun h => kt ((i32_lt z32 h2).mp h) H locs lc q hR hL hS hQ) (fun h => kf (fun h9 => h ((i32_lt z32 h2).mpr h9)) H locs lc q hR hL hS hQ)
theorem g_icmp_le {x y : Int} {r : List PV} (hx : p.tables.exec = Jvm.exec) (hb : c.code = cc) {off : Int} {tgt : Nat} (d : decode cc pc = .ok (.if_icmp .le off, 3)) (ht : (pc : Int) + off = (tgt : Int)) (kt : x ≤ y → WS s0 pre dC dI p l e R s mid args below meth c mb Q tgt ls r m) (kf : ¬ (x ≤ y) → WS s0 pre dC dI p l e R s mid args below meth c mb Q (pc + 3) ls r m) : WS s0 pre dC dI p l e R s mid args below meth c mb Q pc ls (pI y :: pI x :: r) m := by
  intro H locs lc sc hR hL hS hQ
  obtain ⟨q, rfl, h1, hS⟩ := sR_i hS
  obtain ⟨q, rfl, h2, hS⟩ := sR_i hS
  exact lv_icmp_le hx hb d ht (fun h => kt ((i32_le h2 h1).mp h) H locs lc q hR hL hS hQ) (fun h => kf (fun h9 => h ((i32_le h2 h1).mpr h9)) H locs lc q hR hL hS hQ)
theorem g_if_le {x : Int} {r : List PV} (hx : p.tables.exec = Jvm.exec) (hb : c.code = cc) {off : Int} {tgt : Nat} (d : decode cc pc = .ok (.ifCond .le off, 3)) (ht : (pc : Int) + off = (tgt : Int)) (kt : x ≤ 0 → WS s0 pre dC dI p l e R s mid args below meth c mb Q tgt ls r m) (kf : ¬ (x ≤ 0) → WS s0 pre dC dI p l e R s mid args below meth c mb Q (pc + 3) ls r m) : WS s0 pre dC dI p l e R s mid args below meth c mb Q pc ls (pI x :: r) m := by
  intro H locs lc sc hR hL hS hQ
  obtain ⟨q, rfl, h2, hS⟩ := sR_i hS
  exact lv_if_le hx hb d ht (fun h => kt ((i32_le h2 z32).mp h) H locs lc q hR hL hS hQ) (fun h => kf (fun h9 => h ((i32_le h2 z32).mpr h9)) H locs lc q hR hL hS hQ)
theorem g_goto  (hx : p.tables.exec = Jvm.exec) (hb : c.code = cc) {off : Int} {tgt : Nat} (d : decode cc pc = .ok (.goto off, 3)) (ht : (pc : Int) + off = (tgt : Int)) (kt : WS s0 pre dC dI p l e R s mid args below meth c mb Q tgt ls st m) : WS s0 pre dC dI p l e R s mid args below meth c mb Q pc ls st m := by
  intro H locs lc sc hR hL hS hQ
  exact lv_goto hx hb d ht (kt H locs lc sc hR hL hS hQ)
theorem g_ifnull {a : Int} {r : List PV} (hx : p.tables.exec = Jvm.exec) (hb : c.code = cc) {off : Int} {tgt : Nat} (d : decode cc pc = .ok (.ifnull off, 3)) (ht : (pc : Int) + off = (tgt : Int)) (kt : a = 0 → WS s0 pre dC dI p l e R s mid args below meth c mb Q tgt ls r m) (kf : a ≠ 0 → WS s0 pre dC dI p l e R s mid args below meth c mb Q (pc + 3) ls r m) : WS s0 pre dC dI p l e R s mid args below meth c mb Q pc ls (pR a :: r) m := by
  intro H locs lc sc hR hL hS hQ
  obtain ⟨q, rfl, hS9⟩ := sR_r hS
  by_cases e0 : a = 0
  · rw [show rfv s0.heap.size pre a = .null by unfold rfv; rw [if_pos e0]]
    exact lv_ifnullN hx hb d ht (kt e0 H locs lc q hR hL hS9 hQ)
  · rw [rfv_ref e0]
    exact lv_ifnull hx hb d (kf e0 H locs lc q hR hL hS9 hQ)
theorem g_ifnonnull {a : Int} {r : List PV} (hx : p.tables.exec = Jvm.exec) (hb : c.code = cc) {off : Int} {tgt : Nat} (d : decode cc pc = .ok (.ifnonnull off, 3)) (ht : (pc : Int) + off = (tgt : Int)) (kt : a ≠ 0 → WS s0 pre dC dI p l e R s mid args below meth c mb Q tgt ls r m) (kf : a = 0 → WS s0 pre dC dI p l e R s mid args below meth c mb Q (pc + 3) ls r m) : WS s0 pre dC dI p l e R s mid args below meth c mb Q pc ls (pR a :: r) m := by
  intro H locs lc sc hR hL hS hQ
  obtain ⟨q, rfl, hS9⟩ := sR_r hS
  by_cases e0 : a = 0
  · rw [show rfv s0.heap.size pre a = .null by unfold rfv; rw [if_pos e0]]
    exact lv_ifnonnullN hx hb d (kf e0 H locs lc q hR hL hS9 hQ)
  · rw [rfv_ref e0]
    exact lv_ifnonnull hx hb d ht (kt e0 H locs lc q hR hL hS9 hQ)
theorem g_tableIn {x : Int} {r : List PV} (hx : p.tables.exec = Jvm.exec) (hb : c.code = cc) {dflt lo hi off : Int} {offs : Array Int} {len tgt : Nat} (d : decode cc pc = .ok (.tableswitch dflt lo hi offs, len)) (h1 : ¬ (x < lo ∨ hi < x)) (ho : offs[(x - lo).toNat]? = some off) (ht : (pc : Int) + off = (tgt : Int)) (k : WS s0 pre dC dI p l e R s mid args below meth c mb Q tgt ls r m) : WS s0 pre dC dI p l e R s mid args below meth c mb Q pc ls (pI x :: r) m := by
  intro H locs lc sc hR hL hS hQ
  obtain ⟨q, rfl, h2, hS⟩ := sR_i hS
  exact lv_tableIn hx hb d (by rw [i32_back h2]; omega) (by rw [i32_back h2]; omega) (by rw [i32_back h2]; exact ho) ht (k H locs lc q hR hL hS hQ)
theorem g_tableOut {x : Int} {r : List PV} (hx : p.tables.exec = Jvm.exec) (hb : c.code = cc) {dflt lo hi : Int} {offs : Array Int} {len tgt : Nat} (d : decode cc pc = .ok (.tableswitch dflt lo hi offs, len)) (h1 : x < lo ∨ hi < x) (ht : (pc : Int) + dflt = (tgt : Int)) (k : WS s0 pre dC dI p l e R s mid args below meth c mb Q tgt ls r m) : WS s0 pre dC dI p l e R s mid args below meth c mb Q pc ls (pI x :: r) m := by
  intro H locs lc sc hR hL hS hQ
  obtain ⟨q, rfl, h2, hS⟩ := sR_i hS
  exact lv_tableOut hx hb d (by rw [i32_back h2]; exact h1) ht (k H locs lc q hR hL hS hQ)
theorem g_lookup {x : Int} {r : List PV} (hx : p.tables.exec = Jvm.exec) (hb : c.code = cc) {dflt : Int} {ps : Array (Int × Int)} {len tgt : Nat} (d : decode cc pc = .ok (.lookupswitch dflt ps, len)) (hp : (ps.toList.zip (ps.toList.drop 1)).all (fun (a, next) => a.1 < next.1) = true) (ht : (pc : Int) + Op.lookupswitch.offset ps.toList dflt x = (tgt : Int)) (k : WS s0 pre dC dI p l e R s mid args below meth c mb Q tgt ls r m) : WS s0 pre dC dI p l e R s mid args below meth c mb Q pc ls (pI x :: r) m := by
  intro H locs lc sc hR hL hS hQ
  obtain ⟨q, rfl, h2, hS⟩ := sR_i hS
  exact lv_lookup hx hb d hp (by rw [i32_back h2]) ht (k H locs lc q hR hL hS hQ)
end GO
