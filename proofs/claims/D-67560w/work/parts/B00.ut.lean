/-! frames by tags: what has a tag of a list stays as it was -/
set_option maxRecDepth 100000
set_option maxHeartbeats 4000000
/-- how many fields -/
def nF (t : Int) : Nat := fBs.getD (t.toNat + 1) 0 - fBs.getD t.toNat 0
def UT (ts : List Int) (m m' : Mem) : Prop := KP m m' ∧ ∀ a, a < nx m → tg m a ∈ ts → ∀ j : Int, (100 ≤ tg m a ∨ (0 ≤ j ∧ j < nF (tg m a))) → vl m' a j = vl m a j
def utN (e : Nat) (ts : List Int) : Bool := ts.all (fun t => if t < 100 then (List.range (nF t)).all (fun f => !(Nat.testBit e (bix t (f : Int)))) else !(Nat.testBit e (bix t 0)))
theorem bix_100 {t j : Int} (h : 100 ≤ t) : bix t j = bix t 0 := by
  unfold bix; rw [if_neg (by omega), if_neg (by omega)]
theorem ut_fr {e : Nat} {m m' : Mem} {ts : List Int} (hf : FRM e m m') (h : utN e ts = true) : UT ts m m' := by
  refine ⟨hf.1, fun a ha ht j hj => hf.2.1 a j ha ?_⟩
  have h1 := List.all_eq_true.mp h _ ht
  by_cases q : tg m a < 100
  · rw [if_pos q] at h1
    have hj' : 0 ≤ j ∧ j < nF (tg m a) := by rcases hj with z | z
                                             · omega
                                             · exact z
    have h2 := List.all_eq_true.mp h1 j.toNat (List.mem_range.mpr (by omega))
    rw [Int.toNat_of_nonneg hj'.1] at h2
    simpa using h2
  · rw [if_neg q] at h1
    rw [bix_100 (by omega)]
    simpa using h1
/-- of a call -/
theorem ut_cl {d q : Nat} {as : List PV} {m m' : Mem} {r : Rs} {ts : List Int} (e : cl d q as m = some (r, m')) (h : utN (eM q) ts = true) : UT ts m m' := ut_fr (cl_FRM e) h
theorem ut_rn {d q pc : Nat} {ls st : List PV} {m m' : Mem} {r : Rs} {ts : List Int} (e : rn d q pc ls st m = some (r, m')) (h : utN (eM q) ts = true) : UT ts m m' := ut_fr (rn_FRM e) h
section
variable {ts : List Int} {m m1 m2 : Mem}
theorem UT.refl : UT ts m m := ⟨KP.refl, fun _ _ _ _ _ => rfl⟩
theorem UT.trans (h : UT ts m m1) (h' : UT ts m1 m2) : UT ts m m2 := by
  refine ⟨h.1.trans h'.1, fun a ha ht j hj => ?_⟩
  have e := (h.1.2.2 a ha).1
  rw [h'.2 a (Int.lt_of_lt_of_le ha h.1.2.1) (by rw [e]; exact ht) j (by rw [e]; exact hj), h.2 a ha ht j hj]
theorem UT.sub {ts' : List Int} (h : UT ts m m1) (hs : ∀ t ∈ ts', t ∈ ts) : UT ts' m m1 := ⟨h.1, fun a ha ht j hj => h.2 a ha (hs _ ht) j hj⟩
theorem UT.mst {a f v : Int} (h : tg m a ∉ ts) : UT ts m (mst m a f v) := ⟨⟨fun h => h, Int.le_refl _, fun _ _ => ⟨rfl, rfl⟩⟩, fun b hb ht j hj => by rw [vl_mst, if_neg]; rintro ⟨rfl, -⟩; exact h ht⟩
theorem UT.mal {t n : Int} : UT ts m (mal m t n) := ⟨⟨fun h a (ha : nx m + 1 ≤ a) => by rw [tg_mal, if_neg (by omega)]; exact h a (by omega), by show nx m ≤ nx m + 1; omega, fun a ha => ⟨by rw [tg_mal, if_neg (by omega)], by rw [ln_mal, if_neg (by omega)]⟩⟩, fun b hb ht j hj => by rw [vl_mal, if_neg (by omega)]⟩
theorem UT.nc {S : Int → Prop} (h : NC S m m1) (hS : ∀ a, S a → tg m a ∉ ts) : UT ts m m1 := ⟨⟨fun hz x hx => by rw [(h.2.2.1 x).1]; exact hz x (by rw [h.1] at hx; exact hx), by rw [h.1]; exact Int.le_refl _, fun a _ => h.2.2.1 a⟩, fun a _ ht j _ => h.2.2.2 a j fun z => hS a z ht⟩
theorem UT.tz (h : UT ts m m1) (hz : TZ m) : TZ m1 := h.1.1 hz
theorem UT.ok (h : UT ts m m1) (ok : OK m) : OK m1 := ⟨h.1.1 ok.1, by rw [(h.1.2.2 0 (by have := ok.2.2; omega)).1]; exact ok.2.1, by have := h.1.2.1; have := ok.2.2; omega⟩
theorem UT.t {a t : Int} (h : UT ts m m1) (hz : TZ m) (ht : tg m a = t) (h0 : t ≠ 0) : tg m1 a = t := by rw [(h.1.2.2 a (tz_lt hz (by rw [ht]; exact h0))).1, ht]
theorem UT.t' {a : Int} (h : UT ts m m1) (hz : TZ m) (h0 : tg m a ≠ 0) : tg m1 a = tg m a := (h.1.2.2 a (tz_lt hz h0)).1
theorem UT.l {a : Int} (h : UT ts m m1) (hz : TZ m) (h0 : tg m a ≠ 0) : ln m1 a = ln m a := (h.1.2.2 a (tz_lt hz h0)).2
/-- a field of an object -/
theorem UT.f {a t j : Int} (h : UT ts m m1) (hz : TZ m) (ht : tg m a = t) (h0 : t ≠ 0) (hm : t ∈ ts) (hj : 0 ≤ j ∧ j < nF t) : vl m1 a j = vl m a j := h.2 a (tz_lt hz (by rw [ht]; exact h0)) (by rw [ht]; exact hm) j (Or.inr (by rw [ht]; exact hj))
/-- a place of an array -/
theorem UT.a {a t j : Int} (h : UT ts m m1) (hz : TZ m) (ht : tg m a = t) (h0 : 100 ≤ t) (hm : t ∈ ts) : vl m1 a j = vl m a j := h.2 a (tz_lt hz (by omega)) (by rw [ht]; exact hm) j (Or.inl (by omega))
end
/-- strings and the script -/
def STRm (m : Mem) : Prop := ∀ i : Nat, i < 45 → SC m (2 + 2 * (i : Int)) (sTx.getD i [])
theorem SC.ut {m m' : Mem} {a : Int} {cs : List Int} {ts : List Int} (h : SC m a cs) (u : UT ts m m') (hz : TZ m) (h1 : (31 : Int) ∈ ts) (h2 : (103 : Int) ∈ ts) : SC m' a cs := by
  obtain ⟨s1, s2, s3, s4, s5, s6, s7⟩ := h
  have e0 := u.f hz s1 (by decide) h1 (j := 0) (by decide)
  have e1 := u.f hz s1 (by decide) h1 (j := 1) (by decide)
  refine ⟨u.t hz s1 (by decide), u.t hz s2 (by decide), by rw [e0]; exact s3, by rw [e1]; exact s4, by rw [u.l hz (by omega)]; exact s5, s6, fun j j0 j1 => ?_⟩
  rw [u.a hz s2 (by decide) h2]
  exact s7 j j0 j1
theorem STRm.ut {m m' : Mem} {ts : List Int} (h : STRm m) (u : UT ts m m') (hz : TZ m) (h1 : (31 : Int) ∈ ts) (h2 : (103 : Int) ∈ ts) : STRm m' := fun i hi => (h i hi).ut u hz h1 h2
section
variable {m : Mem}
theorem STRm.stx (h : STRm m) : STX m := ⟨h 4 (by decide), h 5 (by decide), h 6 (by decide)⟩
theorem STRm.pre (h : STRm m) (ok : OK m) : PRE m := ⟨ok, h 7 (by decide), h 8 (by decide), h 9 (by decide)⟩
theorem STRm.psc (h : STRm m) : PSC m := ⟨h 10 (by decide), h 11 (by decide), h 12 (by decide), h 13 (by decide), h 14 (by decide), h 15 (by decide)⟩
theorem STRm.csc (h : STRm m) : CSC m := ⟨h 16 (by decide), h 17 (by decide), h 18 (by decide), h 19 (by decide), h 20 (by decide), h 21 (by decide)⟩
theorem STRm.sty (h : STRm m) : STY m := ⟨h 22 (by decide), h 23 (by decide), h 24 (by decide), h 25 (by decide)⟩
theorem STRm.syq (h : STRm m) : SYQ m := ⟨h.sty, h 41 (by decide), h 42 (by decide), h 35 (by decide), h 39 (by decide), h 40 (by decide), h 44 (by decide), h 43 (by decide)⟩
theorem STRm.wps (h : STRm m) : (SC m 46 cNul ∧ SC m 48 cTru ∧ SC m 50 cFls) ∧ (SC m 54 cBtn ∧ SC m 56 cBu ∧ SC m 58 cHex) := ⟨⟨h 22 (by decide), h 23 (by decide), h 24 (by decide)⟩, h 26 (by decide), h 27 (by decide), h 28 (by decide)⟩
end
