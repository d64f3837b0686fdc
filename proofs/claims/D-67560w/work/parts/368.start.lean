/-! the law, from its entry (the first five names are SKELETON.whole's) -/
set_option maxRecDepth 100000
set_option maxHeartbeats 4000000
def R_law : String := "PathStoreLaw"
def lw_P (b : Addr) (xs : List Int32) (args : Array Value) (s : State) : Prop := args = #[.ref b] ∧ s.IntsAt b xs ∧ xs.length ≤ 384 ∧ (Jvm.Cond.and given_1 narrow_1).before args s = true
def lw_Q (_ : Array Value) (s : State) (o : Outcome) (t : State) : Prop := o = .returned (some (.int 1)) ∧ Framed s o t [] 603072 7186538
def lw_Z (below : List Frame) (a : Array Value) (s : State) : State → Prop := fun t => ∃ o, t.status = .running ∧ Ended t below o ∧ lw_Q a s o t
def lw_At (p : Program) (s : State) (m : MethodId) (meth : Method) (c : Code) (b L : Nat) (xs : Nat → Int32) : Prop :=
  p.tables.exec = Jvm.exec ∧ c.code = code ∧ meth.sig.returnType = ret ∧ c.maxLocals = 8 ∧ s.vm.findClass R_law = some m.cls ∧ (∀ w ∈ lw_tbl, w.before #[Value.ref b] s = true) ∧ va_X b L xs s s.heap ∧ b < s.heap.size ∧ meth.locks = false ∧ (Jvm.Cond.and given_1 narrow_1).before #[Value.ref b] s = true
theorem tr_off {l : Launch} (h : l.flags = flags0) : l.stackTraces = false := by
  unfold Launch.stackTraces
  rw [h]; decide
abbrev law_en : mE := (0, ⟨"PathStoreLaw", "law", "([I)Z"⟩, code, 8, ret, 4, 1, 0, [])
theorem start_pure (hPL : PureLaw) {p : Program} {e : Env} {s : State} {m : MethodId} {below : List Frame} {meth : Method} {c : Code} (l : Launch) (hflags : l.flags = flags0) {b L : Nat} {xs : Nat → Int32} (hL : L ≤ 384) (C0 : lw_At p s m meth c b L xs) : W p l e room_1 s m #[Value.ref b] below meth c s.heap [] 0 0 (lw_Z below #[Value.ref b] s) (entryFrame m ([Value.ref b] : List Value).toArray 8) := by
  obtain ⟨hx, hb, hr, hml, hown, hts, hX, hbs, hlk, hpre⟩ := C0
  obtain ⟨pre, dC, dI, hG, hR, hp1⟩ := g0_at hts (flt_at hpre) hX (sx_at hts) hL
  obtain ⟨n, m1, hex, hc1, hc2⟩ := hPL L xs hL
  have hmono := exec_mono _ _ _ _ _ _ _ _ _ hex
  have hS := SND_all (tr_off hflags) hG n
  have hA : sR s.heap.size pre [pR 1] [Value.ref b] := ⟨by show Value.ref b = rfv _ _ 1; rw [rfv_ref (by decide), adr_lt (by decide), hp1], trivial⟩
  obtain ⟨e1, e2⟩ := entry_lR (n := 8) hA (by decide)
  have hk : mI 0 = some law_en := rfl
  have hE : EM s p s m #[Value.ref b] meth c law_en (m00 L xs) := ⟨hx, hb, hml, hr, hlk, fun w hw => hts w (List.mem_filter.mp hw).1, hown, State.WarmedH.refl s, fun h => absurd h (by decide), hR.2.1, hR.2.2.1, hR.1⟩
  have k1 := hS 2500 0 law_en 0 (ini 8 [pR 1]) [] (m00 L xs) _ m1 hk (by decide +kernel) trivial e2 hex p e room_1 s m #[Value.ref b] below meth c (m00 L xs) hE (fun h => absurd rfl h) (Int.le_refl _) (Int.le_refl _) (by decide) (by decide) (by show (nx m1 - 92).toNat ≤ 603072; omega) (by show (sl m1 - 0).toNat ≤ 7186538; omega)
  have k2 := k1 s.heap [] _ [] hR e1 trivial (fun _ h => nomatch h)
  rw [lg_entry_eq]
  rw [show (nx (m00 L xs) - nx (m00 L xs)).toNat = 0 by omega, show (sl (m00 L xs) - sl (m00 L xs)).toNat = 0 by omega] at k2
  intro T hT X
  obtain ⟨t, a1, b1⟩ := k2 T hT X
  exact ⟨t, a1, end_pure (by show (nx m1 - 92).toNat ≤ 603072; omega) (by show (sl m1 - 0).toNat ≤ 7186538; omega) b1⟩
