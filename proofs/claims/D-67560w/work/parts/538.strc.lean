/-! string constants -/
set_option maxRecDepth 100000
set_option maxHeartbeats 4000000
theorem q361u {d : Nat} {m : Mem} {a0 a1 : Int} (hz : TZ m) : le2 (if a0 < 0 then (none) else if a0 < a1 then (some (.inl (some (pI a0)), m)) else none) (cl d 361 [pI a0, pI a1, pU] m) := by
  refine q_in (n := 3) (L := [pI a0, pI a1, pU]) rfl rfl rfl ?_
  refine r_iln0 (p := 1) f361_0 rfl ?_
  refine r_iflt (t := 9) (p := 4) f361_1 (by decide) rfl rfl ?_ ?_
  · exact le2_none
  · refine r_iln0 (p := 5) f361_4 rfl ?_
    refine r_iln1 (p := 6) f361_5 rfl ?_
    refine r_iclt (t := 16) (p := 9) f361_6 (by decide) rfl rfl ?_ ?_
    · refine r_iln0 (p := 17) f361_16 rfl ?_
      exact r_iret1 f361_17
    · exact le2_none
/-- a string constant at a -/
def SC (m : Mem) (a : Int) (cs : List Int) : Prop := tg m a = 31 ∧ tg m (a + 1) = 103 ∧ vl m a 0 = a + 1 ∧ vl m a 1 = 0 ∧ ln m (a + 1) = cs.length ∧ (cs.length : Int) ≤ 100 ∧ ∀ j : Int, 0 ≤ j → j < cs.length → vl m (a + 1) j = gi cs j ∧ 0 ≤ gi cs j ∧ gi cs j < 128
def scN (e : Nat) : Bool := !(Nat.testBit e (bix 31 0)) && !(Nat.testBit e (bix 31 1)) && !(Nat.testBit e 0)
theorem SC.fr {k : Nat} {m m' : Mem} {a : Int} {cs : List Int} (h : SC m a cs) (hf : FRM (eM k) m m') (hz : TZ m) (hn : scN (eM k) = true) : SC m' a cs := by
  obtain ⟨h1, h2, h3, h4, h5, h6, h7⟩ := h
  unfold scN at hn
  simp only [Bool.and_eq_true, Bool.not_eq_true'] at hn
  refine ⟨?_, ?_, ?_, ?_, ?_, h6, fun j j0 j1 => ?_⟩
  · rw [tg_of hf hz (by omega)]; exact h1
  · rw [tg_of hf hz (by omega)]; exact h2
  · rw [vl_of hf hz h1 (by decide) hn.1.1]; exact h3
  · rw [vl_of hf hz h1 (by decide) hn.1.2]; exact h4
  · rw [ln_of hf hz (by omega)]; exact h5
  · rw [vl_of hf hz h2 (by decide) (by have : bix 103 j = 0 := rfl; rw [this]; exact hn.2)]; exact h7 j j0 j1
theorem SC.mT {m : Mem} {T f v a : Int} {cs : List Int} (hT : tg m T ≠ 31 ∧ tg m T ≠ 103) (h : SC m a cs) : SC (mst m T f v) a cs := by
  obtain ⟨h1, h2, h3, h4, h5, h6, h7⟩ := h
  have n1 : a ≠ T := by intro e; rw [e] at h1; omega
  have n2 : a + 1 ≠ T := by intro e; rw [e] at h2; omega
  exact ⟨h1, h2, by rw [vl_mst, if_neg (by omega)]; exact h3, by rw [vl_mst, if_neg (by omega)]; exact h4, h5, h6, fun j j0 j1 => by rw [vl_mst, if_neg (by omega)]; exact h7 j j0 j1⟩
section
variable {d : Nat} {m : Mem} {a j : Int} {cs : List Int}
theorem c350 (hz : TZ m) (h : SC m a cs) : cl d 350 [pR a] m = some (.inl (some (pI 0)), m) := by
  obtain ⟨h1, h2, h3, h4, h5, h6, h7⟩ := h
  refine q350 hz _ ?_
  simp (disch := first | assumption | omega) only [reduceIte, Int.reduceEq, ↓nm_eq, ↓gd_of, h4, gd_of]
theorem c352 (hz : TZ m) (h : SC m a cs) : cl d 352 [pR a] m = some (.inl (some (pI 1)), m) := by
  obtain ⟨h1, h2, h3, h4, h5, h6, h7⟩ := h
  refine q352 hz _ ?_
  simp (disch := first | assumption | omega) only [reduceIte, Int.reduceEq, ↓nm_eq, ↓gd_of, h4]
theorem c349 (hd : 1 ≤ d) (hz : TZ m) (h : SC m a cs) : cl d 349 [pR a] m = some (.inl (some (pI cs.length)), m) := by
  have h350 := c350 (d := d - 1) hz h
  obtain ⟨h1, h2, h3, h4, h5, h6, h7⟩ := h
  refine q349 (by omega) hz _ ?_
  have e0 : pShr (cs.length : Int) 0 = cs.length := by
    have := pShr_div (x := (cs.length : Int)) 0 (by decide) ⟨by omega, by omega⟩
    simpa using this
  rw [gd_of h1, nm_eq, h3, gd_of (by rw [h2]; decide), bI_eq h350, h5, e0]
theorem c353 {b : Int} (hd : 1 ≤ d) (hz : TZ m) (h0 : 0 ≤ j) (h1 : j < b) : cl d 353 [pI j, pI b] m = some (.inl none, m) := by
  have h361 : cl (d - 1) 361 [pI j, pI b, pU] m = some (.inl (some (pI j)), m) := by
    refine q361u hz _ ?_
    rw [if_neg (by omega), if_pos h1]
  refine q353 (by omega) hz _ ?_
  rw [bI_eq h361]
theorem c351 (hd : 3 ≤ d) (hz : TZ m) (h : SC m a cs) (h0 : 0 ≤ j) (hj : j < cs.length) : cl d 351 [pR a, pI j] m = some (.inl (some (pI (gi cs j))), m) := by
  have h352 := c352 (d := d - 1) hz h
  obtain ⟨h1, h2, h3, h4, h5, h6, h7⟩ := h
  obtain ⟨g1, g2, g3⟩ := h7 j h0 hj
  have h357 : cl (d - 1) 357 [pR (a + 1), pI j] m = some (.inl (some (pI (gi cs j))), m) := by
    refine q357 (by omega) hz _ ?_
    have h353 := c353 (d := d - 1 - 1) (m := m) (b := cs.length) (by omega) hz h0 hj
    have ev : pAnd (gi cs j) 255 % 65536 = gi cs j := by rw [pAnd_255]; omega
    rw [h5, gd_of (by rw [h2]; decide), bV_eq h353, gd_of ⟨h0, by omega⟩, nm_eq, g1, ev, gd_of ⟨g2, by omega⟩]
  refine q351 (by omega) hz _ ?_
  rw [gd_of h1, bI_eq h352, if_neg (by decide), h3, bI_eq h357, gd_of ⟨g2, by omega⟩]
end
