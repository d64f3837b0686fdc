/-! contracts of the pure machine's runs, and what a call comes back to -/
set_option maxRecDepth 100000
def eNm (e : Int) : String := match e with
  | 201 => "java/lang/IndexOutOfBoundsException"
  | 202 => "java/lang/IllegalArgumentException"
  | 203 => "java/lang/IllegalStateException"
  | 204 => "java/lang/UnsupportedOperationException"
  | 205 => "java/util/NoSuchElementException"
  | _ => "java/lang/ArithmeticException"
def PcR (s0 : State) (pre : Int → Nat) (dC : Nat → ClassId) (dI : Nat → Nat → Nat) (as : List PV) (m : Mem) : Array Value → State → Prop := fun a U => sR s0.heap.size pre as a.toList ∧ RP s0 pre dC dI m U.heap ∧ s0.WarmedH U.vm
def QcR (s0 : State) (pre : Int → Nat) (dC : Nat → ClassId) (dI : Nat → Nat → Nat) (r : Rs) (m1 : Mem) : Array Value → State → Outcome → State → Prop := fun _ _ o t => RP s0 pre dC dI m1 t.heap ∧ match r with
  | .inl none => o = .returned none
  | .inl (some v) => ∃ w, o = .returned (some w) ∧ vR s0.heap.size pre v w
  | .inr _ => False
def XcR (s0 : State) (pre : Int → Nat) (dC : Nat → ClassId) (dI : Nat → Nat → Nat) (r : Rs) (m1 : Mem) : String → State → State → Prop := fun E _ t => RP s0 pre dC dI m1 t.heap ∧ ∃ e, r = .inr e ∧ E = eNm e
theorem PcR.blind (s0 : State) (pre : Int → Nat) (dC : Nat → ClassId) (dI : Nat → Nat → Nat) (as : List PV) (m : Mem) : FrameBlind (PcR s0 pre dC dI as m) := fun _ _ _ _ h => h
def rmO (d mc ms : Nat) : Room := { frames := d + 10, cells := mc, slots := ms, locals := 40 * d + 120 }
/-- the words of a method's contract -/
def mW (en : mE) : List Cond := match en.2.2.2.2.2.2.2.2 with
  | [] => ws_ en.2.1 en.2.2.1 en.2.2.2.1 en.2.2.2.2.1
  | h :: hs => wsW_ en.2.1 en.2.2.1 en.2.2.2.1 en.2.2.2.2.1 (h :: hs)
abbrev frO (s0 : State) : Addr → Prop := fun q => s0.heap.size ≤ q
def CTR (l : Launch) (s0 : State) (pre : Int → Nat) (dC : Nat → ClassId) (dI : Nat → Nat → Nat) (d : Nat) (en : mE) (as : List PV) (m : Mem) (r : Rs) (m1 : Mem) : Prop :=
  vx_Met l en.2.1 (mW en) (rmO d (nx m1 - nx m).toNat (sl m1 - sl m).toNat) (PcR s0 pre dC dI as m) (QcR s0 pre dC dI r m1) (XcR s0 pre dC dI r m1) (nx m1 - nx m).toNat (sl m1 - sl m).toNat (frO s0)
section AFT
variable {p : Program} {l : Launch} {e : Env} {R : Room} {s : State} {mid : MethodId} {args : Array Value} {below : List Frame} {meth : Method} {c : Code} {Q : State → Prop}
variable {s0 : State} {pre : Int → Nat} {dC : Nat → ClassId} {dI : Nat → Nat → Nat} {mb : Mem} {cc : ByteArray} {pc : Nat} {ls st : List PV} {m m1 : Mem}
/-- a call that comes back -/
theorem aft_ret {H : Heap} {locs : List Loc} {cells slots mc ms : Nat} {lc : Array Slot} {st0 rest : List Value} {v : Option PV} {rp : List PV} {a : Array Value} (hr : vx_Run p l e R s mid args below meth c H locs cells slots mc ms (F0 mid pc lc st0) rest (QcR s0 pre dC dI (.inl v) m1 a) (XcR s0 pre dC dI (.inl v) m1) (frO s0))
    (hL : lR s0.heap.size pre ls lc) (hS : sR s0.heap.size pre rp rest) (hQ : ∀ q ∈ locs, s0.heap.size ≤ q.base) (hc : cells + mc = (nx m1 - nx mb).toNat) (hs : slots + ms = (sl m1 - sl mb).toNat)
    (kk : WS s0 pre dC dI p l e R s mid args below meth c mb Q (pc + 3) ls (v.toList ++ rp) m1) : W p l e R s mid args below meth c H locs cells slots Q (F0 mid pc lc st0) := by
  intro T hT X
  rcases hr T hT X with ⟨v9, st₀, t, T', L, h0, X', hL9, e1, e2, ⟨hR1, hv⟩, st⟩ | ⟨q, st₀, t, T', L, E, ce, h0, X', hL9, e1, e2, ⟨hR1, e9, he9, -⟩, hce, hcv, hcl, st⟩
  · rw [hc, hs] at X'
    have hS9 : sR s0.heap.size pre (v.toList ++ rp) (v9.toList ++ rest) := by
      cases v with
      | none =>
        have hv : Outcome.returned v9 = .returned none := hv
        cases hv; exact hS
      | some u =>
        obtain ⟨w, hw, hw2⟩ := hv
        cases hw; exact ⟨hw2, hS⟩
    obtain ⟨t2, a1, b1⟩ := kk T'.heap (locs ++ L) lc (v9.toList ++ rest) (by rw [e1]; exact hR1) hL hS9 (fun z hz => (List.mem_append.mp hz).elim (hQ z) (hL9 z)) T' rfl X'
    exact ⟨t2, st t2 a1, b1⟩
  · cases he9
/-- the same for a call by an interface -/
theorem aft_ret5 {H : Heap} {locs : List Loc} {cells slots mc ms : Nat} {lc : Array Slot} {st0 rest : List Value} {v : Option PV} {rp : List PV} {a : Array Value} (hr : vx_Run5 p l e R s mid args below meth c H locs cells slots mc ms (F0 mid pc lc st0) rest (QcR s0 pre dC dI (.inl v) m1 a) (XcR s0 pre dC dI (.inl v) m1) (frO s0))
    (hL : lR s0.heap.size pre ls lc) (hS : sR s0.heap.size pre rp rest) (hQ : ∀ q ∈ locs, s0.heap.size ≤ q.base) (hc : cells + mc = (nx m1 - nx mb).toNat) (hs : slots + ms = (sl m1 - sl mb).toNat)
    (kk : WS s0 pre dC dI p l e R s mid args below meth c mb Q (pc + 5) ls (v.toList ++ rp) m1) : W p l e R s mid args below meth c H locs cells slots Q (F0 mid pc lc st0) := by
  intro T hT X
  rcases hr T hT X with ⟨v9, st₀, t, T', L, h0, X', hL9, e1, e2, ⟨hR1, hv⟩, st⟩ | ⟨q, st₀, t, T', L, E, ce, h0, X', hL9, e1, e2, ⟨hR1, e9, he9, -⟩, hce, hcv, hcl, st⟩
  · rw [hc, hs] at X'
    have hS9 : sR s0.heap.size pre (v.toList ++ rp) (v9.toList ++ rest) := by
      cases v with
      | none =>
        have hv : Outcome.returned v9 = .returned none := hv
        cases hv; exact hS
      | some u =>
        obtain ⟨w, hw, hw2⟩ := hv
        cases hw; exact ⟨hw2, hS⟩
    obtain ⟨t2, a1, b1⟩ := kk T'.heap (locs ++ L) lc (v9.toList ++ rest) (by rw [e1]; exact hR1) hL hS9 (fun z hz => (List.mem_append.mp hz).elim (hQ z) (hL9 z)) T' rfl X'
    exact ⟨t2, st t2 a1, b1⟩
  · cases he9
/-- the frame with an exception over it -/
def WX (s0 : State) (pre : Int → Nat) (dC : Nat → ClassId) (dI : Nat → Nat → Nat) (p : Program) (l : Launch) (e : Env) (R : Room) (s : State) (mid : MethodId) (args : Array Value) (below : List Frame) (meth : Method) (c : Code) (mb : Mem) (Q : State → Prop) (pc : Nat) (ls : List PV) (x : Int) (m : Mem) : Prop :=
  ∀ (H : Heap) (locs : List Loc) (lc : Array Slot) (sc : List Value) (q : Addr) (ce : Cell), RP s0 pre dC dI m H → lR s0.heap.size pre ls lc → (∀ q ∈ locs, s0.heap.size ≤ q.base) → H[q]? = some ce → ce.vm = .none → s.vm.findClass (eNm x) = some ce.cls →
    vx_W p l e R s mid args below meth c H locs (nx m - nx mb).toNat (sl m - sl mb).toNat Q (F0 mid pc lc sc) q
/-- a call that throws -/
theorem aft_thr {H : Heap} {locs : List Loc} {cells slots mc ms : Nat} {lc : Array Slot} {st0 rest : List Value} {x : Int} {a : Array Value} (hr : vx_Run p l e R s mid args below meth c H locs cells slots mc ms (F0 mid pc lc st0) rest (QcR s0 pre dC dI (.inr x) m1 a) (XcR s0 pre dC dI (.inr x) m1) (frO s0))
    (hL : lR s0.heap.size pre ls lc) (hQ : ∀ q ∈ locs, s0.heap.size ≤ q.base) (hc : cells + mc = (nx m1 - nx mb).toNat) (hs : slots + ms = (sl m1 - sl mb).toNat)
    (kk : WX s0 pre dC dI p l e R s mid args below meth c mb Q pc ls x m1) : W p l e R s mid args below meth c H locs cells slots Q (F0 mid pc lc st0) := by
  intro T hT X
  rcases hr T hT X with ⟨v9, st₀, t, T', L, h0, X', hL9, e1, e2, ⟨hR1, hv⟩, st⟩ | ⟨q, st₀, t, T', L, E, ce, h0, X', hL9, e1, e2, ⟨hR1, e9, he9, hE⟩, hce, hcv, hcl, st⟩
  · exact absurd hv id
  · cases he9
    subst hE
    rw [hc, hs] at X'
    obtain ⟨t2, a1, b1⟩ := kk T'.heap (locs ++ L) lc rest q ce (by rw [e1]; exact hR1) hL (fun z hz => (List.mem_append.mp hz).elim (hQ z) (hL9 z)) (by rw [e1]; exact hce) hcv hcl T' rfl X'
    exact ⟨t2, st.trans a1, b1⟩
theorem aft_thr5 {H : Heap} {locs : List Loc} {cells slots mc ms : Nat} {lc : Array Slot} {st0 rest : List Value} {x : Int} {a : Array Value} (hr : vx_Run5 p l e R s mid args below meth c H locs cells slots mc ms (F0 mid pc lc st0) rest (QcR s0 pre dC dI (.inr x) m1 a) (XcR s0 pre dC dI (.inr x) m1) (frO s0))
    (hL : lR s0.heap.size pre ls lc) (hQ : ∀ q ∈ locs, s0.heap.size ≤ q.base) (hc : cells + mc = (nx m1 - nx mb).toNat) (hs : slots + ms = (sl m1 - sl mb).toNat)
    (kk : WX s0 pre dC dI p l e R s mid args below meth c mb Q pc ls x m1) : W p l e R s mid args below meth c H locs cells slots Q (F0 mid pc lc st0) := by
  intro T hT X
  rcases hr T hT X with ⟨v9, st₀, t, T', L, h0, X', hL9, e1, e2, ⟨hR1, hv⟩, st⟩ | ⟨q, st₀, t, T', L, E, ce, h0, X', hL9, e1, e2, ⟨hR1, e9, he9, hE⟩, hce, hcv, hcl, st⟩
  · exact absurd hv id
  · cases he9
    subst hE
    rw [hc, hs] at X'
    obtain ⟨t2, a1, b1⟩ := kk T'.heap (locs ++ L) lc rest q ce (by rw [e1]; exact hR1) hL (fun z hz => (List.mem_append.mp hz).elim (hQ z) (hL9 z)) (by rw [e1]; exact hce) hcv hcl T' rfl X'
    exact ⟨t2, st.trans a1, b1⟩
/-- caught in the method itself -/
theorem WX.catch {own : String} {x : Int} {hh : List (Nat × Nat × Nat × Nat)} (hown : s.vm.findClass own = some mid.cls) (htb : c.exceptionTable.toList = tableOf hh) {a1 a2 : List (Nat × Nat × Nat × Nat)} {b : Nat × Nat × Nat × Nat} (hsp : hh = a1 ++ b :: a2)
    (hpass : ∀ z ∈ a1, covers ⟨z.1, z.2.1, z.2.2.1, z.2.2.2⟩ pc = false ∨ (z.2.2.2 ≠ 0 ∧ ∃ nm : String, (Cond.classLink own z.2.2.2 nm).before args s = true ∧ va_Nc (eNm x) nm s)) (hcv : covers ⟨b.1, b.2.1, b.2.2.1, b.2.2.2⟩ pc = true) (hb0 : b.2.2.2 ≠ 0) {nm : String} (hlk : (Cond.classLink own b.2.2.2 nm).before args s = true) (hca : (Cond.castable (eNm x) nm).before args s = true)
    (k : WS s0 pre dC dI p l e R s mid args below meth c mb Q b.2.2.1 ls [pU] m) : WX s0 pre dC dI p l e R s mid args below meth c mb Q pc ls x m := by
  intro H locs lc sc q ce hR hL hQ hc hv hcl
  have hsp2 : c.exceptionTable.toList = tableOf a1 ++ (⟨b.1, b.2.1, b.2.2.1, b.2.2.2⟩ : ExceptionTableEntry) :: tableOf a2 := by rw [htb, hsp]; simp [tableOf]
  refine vx_catch hown _ _ _ hsp2 (fun z hz => ?_) hcv hb0 hlk hca hc hv hcl (k H locs lc [.ref q] hR hL ⟨Or.inr ⟨q, rfl⟩, trivial⟩ hQ)
  obtain ⟨y, hy, rfl⟩ := List.mem_map.mp hz
  exact hpass y hy
/-- not caught -/
theorem WX.out {x : Int} {r : Rs} {mc ms : Nat} (hr : r = .inr x) (hout : ∀ z ∈ c.exceptionTable.toList, covers z pc = false) (hlocks : meth.locks = false) (hmc : (nx m - nx mb).toNat ≤ mc) (hms : (sl m - sl mb).toNat ≤ ms) : WX s0 pre dC dI p l e R s mid args below meth c mb (vx_MQ below (QcR s0 pre dC dI r m) (XcR s0 pre dC dI r m) args s mc ms (frO s0)) pc ls x m := by
  intro H locs lc sc q ce hR hL hQ hc hv hcl
  exact vx_out hout hlocks hc hv hcl (fun t ht _ => ⟨by rw [ht]; exact hR, x, hr, rfl⟩) hQ hmc hms
/-- not caught, past handlers that don't take it -/
theorem WX.outP {own : String} {x : Int} {r : Rs} {mc ms : Nat} (hr : r = .inr x) (hown : s.vm.findClass own = some mid.cls) (hpass : ∀ z ∈ c.exceptionTable.toList, covers z pc = false ∨ (z.catchType ≠ 0 ∧ ∃ nm : String, (Cond.classLink own z.catchType nm).before args s = true ∧ va_Nc (eNm x) nm s)) (hlocks : meth.locks = false) (hmc : (nx m - nx mb).toNat ≤ mc) (hms : (sl m - sl mb).toNat ≤ ms) : WX s0 pre dC dI p l e R s mid args below meth c mb (vx_MQ below (QcR s0 pre dC dI r m) (XcR s0 pre dC dI r m) args s mc ms (frO s0)) pc ls x m := by
  intro H locs lc sc q ce hR hL hQ hc hv hcl
  exact vx_outP hown hlocks hpass hc hv hcl (fun t ht _ => ⟨by rw [ht]; exact hR, x, hr, rfl⟩) hQ hmc hms
end AFT
