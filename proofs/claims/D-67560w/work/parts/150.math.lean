/-! Math.max, min -/
set_option maxRecDepth 100000
section MTH
variable {p : Program} {l : Launch} {e : Env} {R : Room} {s : State} {mid : MethodId} {args : Array Value} {below : List Frame} {meth : Method} {c : Code} {Q : State → Prop}
variable {s0 : State} {pre : Int → Nat} {dC : Nat → ClassId} {dI : Nat → Nat → Nat} {mb : Mem} {cc : ByteArray} {pc : Nat} {ls st : List PV} {m : Mem}
theorem mx32 {x y : Int} (hx : pin x (-2147483648) 2147483648) (hy : pin y (-2147483648) 2147483648) : (if Int32.ofInt x < Int32.ofInt y then Int32.ofInt y else Int32.ofInt x) = Int32.ofInt (max x y) ∧ pin (max x y) (-2147483648) 2147483648 := by
  constructor
  · by_cases h : x < y
    · rw [if_pos ((i32_lt hx hy).mpr h), show max x y = y by omega]
    · rw [if_neg (fun q => h ((i32_lt hx hy).mp q)), show max x y = x by omega]
  · unfold pin at *; omega
theorem mn32 {x y : Int} (hx : pin x (-2147483648) 2147483648) (hy : pin y (-2147483648) 2147483648) : (if Int32.ofInt y < Int32.ofInt x then Int32.ofInt y else Int32.ofInt x) = Int32.ofInt (min x y) ∧ pin (min x y) (-2147483648) 2147483648 := by
  constructor
  · by_cases h : y < x
    · rw [if_pos ((i32_lt hy hx).mpr h), show min x y = y by omega]
    · rw [if_neg (fun q => h ((i32_lt hy hx).mp q)), show min x y = x by omega]
  · unfold pin at *; omega
theorem i64_lt {x y : Int} (hx : pin x (-9223372036854775808) 9223372036854775808) (hy : pin y (-9223372036854775808) 9223372036854775808) : Int64.ofInt x < Int64.ofInt y ↔ x < y := by
  rw [Int64.lt_iff_toInt_lt, i64_back hx, i64_back hy]
theorem i64_le {x y : Int} (hx : pin x (-9223372036854775808) 9223372036854775808) (hy : pin y (-9223372036854775808) 9223372036854775808) : Int64.ofInt x ≤ Int64.ofInt y ↔ x ≤ y := by
  rw [Int64.le_iff_toInt_le, i64_back hx, i64_back hy]
theorem g_max {x y : Int} {r : List PV} {idx : Nat} {own : String} (hx : p.tables.exec = Jvm.exec) (hb : c.code = cc) (hml : c.maxLocals = ls.length) (hts : ∀ w ∈ lw_all, w.before args s = true) (hown : s.vm.findClass own = some mid.cls)
    (hl : Cond.methodLink own idx Lib.Math.max.name ∈ lw_all) (hst : Cond.static Lib.Math.max.name ∈ lw_all) (hini : Cond.initialized "java/lang/Math" ∈ lw_all) (hcd : Cond.code Lib.Math.max.name Lib.Math.max.code 2 (some .int) ∈ lw_all)
    (hf : 1 ≤ R.frames) (hl2 : 40 ≤ R.locals) (hr : catS r ≤ 8) (hc1 : (nx m - nx mb).toNat ≤ R.cells) (hc2 : (sl m - sl mb).toNat ≤ R.slots) (d : decode cc pc = .ok (.invokestatic idx, 3))
    (k : WS s0 pre dC dI p l e R s mid args below meth c mb Q (pc + 3) ls (pI (max x y) :: r) m) : WS s0 pre dC dI p l e R s mid args below meth c mb Q pc ls (pI y :: pI x :: r) m := by
  intro H locs lc sc hR hL hS hQ
  obtain ⟨q, rfl, v1, hS1⟩ := sR_i hS
  obtain ⟨q, rfl, v2, hS2⟩ := sR_i hS1
  obtain ⟨e1, e2⟩ := mx32 v2 v1
  exact va_mmax hx hb (by rw [hml]; exact hL.1.symm) hown (hts _ hl) (hts _ hst) (hts _ hini) (hts _ hcd) hf (by rw [sR_cat hS2]; omega) hc1 hc2 d (k H locs lc _ hR hL ⟨⟨by rw [e1], e2⟩, hS2⟩ hQ)
theorem g_min {x y : Int} {r : List PV} {idx : Nat} {own : String} (hx : p.tables.exec = Jvm.exec) (hb : c.code = cc) (hml : c.maxLocals = ls.length) (hts : ∀ w ∈ lw_all, w.before args s = true) (hown : s.vm.findClass own = some mid.cls)
    (hl : Cond.methodLink own idx Lib.Math.min.name ∈ lw_all) (hst : Cond.static Lib.Math.min.name ∈ lw_all) (hini : Cond.initialized "java/lang/Math" ∈ lw_all) (hcd : Cond.code Lib.Math.min.name Lib.Math.min.code 2 (some .int) ∈ lw_all)
    (hf : 1 ≤ R.frames) (hl2 : 40 ≤ R.locals) (hr : catS r ≤ 8) (hc1 : (nx m - nx mb).toNat ≤ R.cells) (hc2 : (sl m - sl mb).toNat ≤ R.slots) (d : decode cc pc = .ok (.invokestatic idx, 3))
    (k : WS s0 pre dC dI p l e R s mid args below meth c mb Q (pc + 3) ls (pI (min x y) :: r) m) : WS s0 pre dC dI p l e R s mid args below meth c mb Q pc ls (pI y :: pI x :: r) m := by
  intro H locs lc sc hR hL hS hQ
  obtain ⟨q, rfl, v1, hS1⟩ := sR_i hS
  obtain ⟨q, rfl, v2, hS2⟩ := sR_i hS1
  obtain ⟨e1, e2⟩ := mn32 v2 v1
  exact va_mmin hx hb (by rw [hml]; exact hL.1.symm) hown (hts _ hl) (hts _ hst) (hts _ hini) (hts _ hcd) hf (by rw [sR_cat hS2]; omega) hc1 hc2 d (k H locs lc _ hR hL ⟨⟨by rw [← e1], e2⟩, hS2⟩ hQ)
theorem g_maxL {x y : Int} {r : List PV} {idx : Nat} {own : String} (hx : p.tables.exec = Jvm.exec) (hb : c.code = cc) (hml : c.maxLocals = ls.length) (hts : ∀ w ∈ lw_all, w.before args s = true) (hown : s.vm.findClass own = some mid.cls)
    (hl : Cond.methodLink own idx Lib.MathLoose.max_long.x ∈ lw_all) (hst : Cond.static Lib.MathLoose.max_long.x ∈ lw_all) (hini : Cond.initialized "java/lang/Math" ∈ lw_all) (hcd : Cond.code Lib.MathLoose.max_long.x Lib.MathLoose.max_long.code 4 (some .long) ∈ lw_all)
    (hf : 1 ≤ R.frames) (hl2 : 40 ≤ R.locals) (hr : catS r ≤ 8) (hc1 : (nx m - nx mb).toNat ≤ R.cells) (hc2 : (sl m - sl mb).toNat ≤ R.slots) (d : decode cc pc = .ok (.invokestatic idx, 3))
    (k : WS s0 pre dC dI p l e R s mid args below meth c mb Q (pc + 3) ls (pL (max x y) :: r) m) : WS s0 pre dC dI p l e R s mid args below meth c mb Q pc ls (pL y :: pL x :: r) m := by
  intro H locs lc sc hR hL hS hQ
  obtain ⟨q, rfl, v1, hS1⟩ := sR_l hS
  obtain ⟨q, rfl, v2, hS2⟩ := sR_l hS1
  have e1 : (if Int64.ofInt y < Int64.ofInt x then Int64.ofInt x else Int64.ofInt y) = Int64.ofInt (max x y) := by
    by_cases h : y < x
    · rw [if_pos ((i64_lt v1 v2).mpr h), show max x y = x by omega]
    · rw [if_neg (fun q => h ((i64_lt v1 v2).mp q)), show max x y = y by omega]
  exact va_mmax_long hx hb (by rw [hml]; exact hL.1.symm) hown (hts _ hl) (hts _ hst) (hts _ hini) (hts _ hcd) hf (by rw [sR_cat hS2]; omega) hc1 hc2 d (k H locs lc _ hR hL ⟨⟨by rw [← e1], by unfold pin at *; omega⟩, hS2⟩ hQ)
theorem g_minL {x y : Int} {r : List PV} {idx : Nat} {own : String} (hx : p.tables.exec = Jvm.exec) (hb : c.code = cc) (hml : c.maxLocals = ls.length) (hts : ∀ w ∈ lw_all, w.before args s = true) (hown : s.vm.findClass own = some mid.cls)
    (hl : Cond.methodLink own idx Lib.MathLoose.min_long.x ∈ lw_all) (hst : Cond.static Lib.MathLoose.min_long.x ∈ lw_all) (hini : Cond.initialized "java/lang/Math" ∈ lw_all) (hcd : Cond.code Lib.MathLoose.min_long.x Lib.MathLoose.min_long.code 4 (some .long) ∈ lw_all)
    (hf : 1 ≤ R.frames) (hl2 : 40 ≤ R.locals) (hr : catS r ≤ 8) (hc1 : (nx m - nx mb).toNat ≤ R.cells) (hc2 : (sl m - sl mb).toNat ≤ R.slots) (d : decode cc pc = .ok (.invokestatic idx, 3))
    (k : WS s0 pre dC dI p l e R s mid args below meth c mb Q (pc + 3) ls (pL (min x y) :: r) m) : WS s0 pre dC dI p l e R s mid args below meth c mb Q pc ls (pL y :: pL x :: r) m := by
  intro H locs lc sc hR hL hS hQ
  obtain ⟨q, rfl, v1, hS1⟩ := sR_l hS
  obtain ⟨q, rfl, v2, hS2⟩ := sR_l hS1
  have k1 := k H locs lc (.long (Int64.ofInt (min x y)) :: q) hR hL ⟨⟨rfl, by unfold pin at *; omega⟩, hS2⟩ hQ
  refine va_mmin_long hx hb (by rw [hml]; exact hL.1.symm) hown (hts _ hl) (hts _ hst) (hts _ hini) (hts _ hcd) hf (by rw [sR_cat hS2]; omega) hc1 hc2 d ?_
  refine W.eq (congrArg (F0 mid (pc + 3) lc) (congrArg (· :: q) (congrArg Value.long ?_))) k1
  split
  · rename_i h; first | (rw [i64_lt v2 v1] at h) | (rw [i64_lt v1 v2] at h)
    congr 1; omega
  · rename_i h; first | (rw [i64_lt v2 v1] at h) | (rw [i64_lt v1 v2] at h)
    congr 1; omega
end MTH
