/-! a string's indexOf -/
set_option maxRecDepth 100000
set_option maxHeartbeats 4000000
def ixO : List Int → Int → Int → Int
  | [], _, _ => -1
  | c :: r, x, k => if c = x then k else ixO r x (k + 1)
section
variable {d : Nat} {m : Mem} {a x : Int} {cs : List Int}
theorem c360_7 {z1 z2 : Int} (hz : TZ m) (h : SC m a cs) (hx : 0 ≤ x ∧ x < 256) : ∀ (rest pre : List Int), cs = pre ++ rest → rn d 360 7 [pR (a + 1), pI z1, pI z2, pI cs.length, pI (w8 x), pI pre.length] [] m = some (.inl (some (pI (ixO rest x pre.length))), m) := by
  obtain ⟨h1, h2, h3, h4, h5, h6, h7⟩ := h
  intro rest
  induction rest with
  | nil =>
    intro pre hcs
    rw [List.append_nil] at hcs
    refine q360_7 hz _ ?_
    rw [if_neg (by rw [hcs]; omega)]; rfl
  | cons c rest ih =>
    intro pre hcs
    have hl : (cs.length : Int) = pre.length + 1 + rest.length := by rw [hcs]; simp; omega
    have hc : gi cs pre.length = c := by rw [hcs, gi_app_r (by omega), Int.sub_self]; rfl
    have e7 := h7 pre.length (by omega) (by omega)
    rw [hc] at e7
    have el : (((pre ++ [c]).length : Nat) : Int) = (pre.length : Int) + 1 := by simp
    have ih' := ih (pre ++ [c]) (by rw [hcs]; simp)
    rw [el] at ih'
    refine q360_7 hz _ ?_
    rw [if_pos (by omega), gd_of (by rw [h2]; decide), gd_of ⟨by omega, by omega⟩, e7.1]
    unfold ixO
    by_cases hcx : c = x
    · rw [if_pos (by unfold w8; omega), if_pos hcx]
    · rw [if_neg (by unfold w8; omega), if_neg hcx, w32_of (by omega) (by omega)]; exact ih'
theorem c354 (hd : 4 ≤ d) (hz : TZ m) (h : SC m a cs) (hx : 0 ≤ x ∧ x < 256) (hc : 0 < cs.length) : cl d 354 [pR a, pI x] m = some (.inl (some (pI (ixO cs x 0))), m) := by
  have e352 := c352 (d := d - 1 - 1) hz h
  have e349 := c349 (d := d - 1 - 1) (by omega) hz h
  have e360 : cl (d - 1 - 1 - 1) 360 [pR (a + 1), pI x, pI 0, pI cs.length] m = some (.inl (some (pI (ixO cs x 0))), m) := by
    refine q360 hz _ ?_
    have := c360_7 (d := d - 1 - 1 - 1) (z1 := x) (z2 := 0) hz h hx cs [] rfl
    exact this
  have h5 := h.2.2.2.2.1
  have e358 : cl (d - 1 - 1) 358 [pR (a + 1), pI x, pI 0, pI cs.length] m = some (.inl (some (pI (ixO cs x 0))), m) := by
    have e359 : cl (d - 1 - 1 - 1) 359 [pI x] m = some (.inl (some (pI 1)), m) := by
      refine q359 hz _ ?_
      rw [if_neg (by omega), if_neg (by omega)]
    refine q358 (by omega) hz _ ?_
    rw [bI_eq e359, if_neg (by decide), nm_eq, gd_of (by rw [h.2.1]; decide), nm_eq, h5, show max (0 : Int) 0 = 0 by decide, show min (cs.length : Int) cs.length = cs.length by omega, if_pos (by omega), bI_eq e360]
  have e355 : cl (d - 1) 355 [pR a, pI x, pI 0] m = some (.inl (some (pI (ixO cs x 0))), m) := by
    refine q355 (by omega) hz _ ?_
    rw [gd_of h.1, bI_eq e352, if_neg (by decide), bI_eq e349, h.2.2.1, bI_eq e358]
  refine q354 (by omega) hz _ ?_
  rw [gd_of h.1, bI_eq e355]
end
