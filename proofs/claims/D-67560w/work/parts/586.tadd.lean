/-! the twin's trees: longer arrays -/
set_option maxRecDepth 100000
set_option maxHeartbeats 4000000
section
variable {d : Nat} {m : Mem} {t n C : Int} {us : List Int}
theorem c286 {a : Int} (ok : OK m) (ha : tg m a = 284101 ∨ tg m a = 287101) (hl : 0 ≤ ln m a ∧ ln m a ≤ 1000000) : cl d 286 [pR a] m = some (.inl (some (pR (nx m))), mcp (mal m 287101 (2 * ln m a)) a 0 (nx m) 0 (ln m a)) := by
  have han : a < nx m := tz_lt ok.1 (by omega)
  refine q286 ok.1 _ ?_
  rw [gd_of ha, nm_eq, w32_of (by omega) (by omega), gd_of ⟨by omega, by omega⟩, nw_eq]
  have loop : ∀ (N : Nat) (k : Int), 0 ≤ k → k ≤ ln m a → (ln m a - k).toNat = N → rn d 286 9 [pR a, pR (nx m), pI k] [] (mcp (mal m 287101 (2 * ln m a)) a 0 (nx m) 0 k) = some (.inl (some (pR (nx m))), mcp (mal m 287101 (2 * ln m a)) a 0 (nx m) 0 (ln m a)) := by
    intro N
    induction N with
    | zero =>
      intro k k0 k1 hk
      have hkl : k = ln m a := by omega
      have hz2 : TZ (mcp (mal m 287101 (2 * ln m a)) a 0 (nx m) 0 k) := by
        intro b hb
        have hb2 : nx m + 1 ≤ b := hb
        show (if b = nx m then 287101 else tg m b) = 0
        rw [if_neg (by omega)]; exact ok.1 b (by omega)
      refine q286_9 hz2 _ ?_
      have et : tg (mcp (mal m 287101 (2 * ln m a)) a 0 (nx m) 0 k) a = tg m a := by
        show (if a = nx m then 287101 else tg m a) = tg m a
        rw [if_neg (by omega)]
      have el : ln (mcp (mal m 287101 (2 * ln m a)) a 0 (nx m) 0 k) a = ln m a := by
        show (if a = nx m then 2 * ln m a else ln m a) = ln m a
        rw [if_neg (by omega)]
      rw [et, el, gd_of ha, if_neg (by omega), hkl]
    | succ N ih =>
      intro k k0 k1 hk
      have hz2 : TZ (mcp (mal m 287101 (2 * ln m a)) a 0 (nx m) 0 k) := by
        intro b hb
        have hb2 : nx m + 1 ≤ b := hb
        show (if b = nx m then 287101 else tg m b) = 0
        rw [if_neg (by omega)]; exact ok.1 b (by omega)
      refine q286_9 hz2 _ ?_
      have et : tg (mcp (mal m 287101 (2 * ln m a)) a 0 (nx m) 0 k) a = tg m a := by
        show (if a = nx m then 287101 else tg m a) = tg m a
        rw [if_neg (by omega)]
      have el : ln (mcp (mal m 287101 (2 * ln m a)) a 0 (nx m) 0 k) a = ln m a := by
        show (if a = nx m then 2 * ln m a else ln m a) = ln m a
        rw [if_neg (by omega)]
      have eto : tg (mcp (mal m 287101 (2 * ln m a)) a 0 (nx m) 0 k) (nx m) = 287101 := by
        show (if nx m = nx m then 287101 else tg m (nx m)) = 287101
        rw [if_pos rfl]
      have elo : ln (mcp (mal m 287101 (2 * ln m a)) a 0 (nx m) 0 k) (nx m) = 2 * ln m a := by
        show (if nx m = nx m then 2 * ln m a else ln m (nx m)) = 2 * ln m a
        rw [if_pos rfl]
      have evk : vl (mcp (mal m 287101 (2 * ln m a)) a 0 (nx m) 0 k) a k = vl (mal m 287101 (2 * ln m a)) a k := by
        rw [vl_mcp, if_neg (by omega)]
      rw [et, el, eto, elo, gd_of ha, if_pos (by omega), gd_of ⟨k0, by omega⟩, gd_of rfl, gd_of ⟨k0, by omega⟩, w32_of (by omega) (by omega), evk, mcp_mst k0 (by omega)]
      exact ih (k + 1) (by omega) (by omega) (by omega)
  have := loop _ 0 (by omega) (by omega) rfl
  rw [mcp_0] at this; exact this
/-- the first j fields have longer arrays -/
def GT (m m' : Mem) (t j C : Int) : Prop := OK m' ∧ nx m' = nx m + j ∧ sl m' = sl m + j * (2 * C) ∧ (∀ a, a < nx m → tg m' a = tg m a ∧ ln m' a = ln m a) ∧ (∀ a, a < nx m → ∀ g, ¬ (a = t ∧ 0 ≤ g ∧ g < j) → vl m' a g = vl m a g) ∧ ∀ g, 0 ≤ g → g < j → vl m' t g = nx m + g ∧ tg m' (nx m + g) = (if g = 1 then 286102 else 287101) ∧ ln m' (nx m + g) = 2 * C ∧ ∀ i, 0 ≤ i → i < C → vl m' (nx m + g) i = vl m (vl m t g) i
theorem GT.step {m1 : Mem} {j T : Int} (h : GT m m1 t j C) (hj : 0 ≤ j ∧ j ≤ 9) (ht : t < nx m) (hC : 0 ≤ C) (ha : vl m t j < nx m ∧ vl m t j ≠ t) (hT : T = if j = 1 then 286102 else 287101) : GT m (mst (mcp (mal m1 T (2 * C)) (vl m1 t j) 0 (nx m1) 0 C) t j (nx m1)) t (j + 1) C := by
  obtain ⟨h1, h2, h3, h4, h5, h6⟩ := h
  have hT0 : T ≠ 0 := by rw [hT]; split <;> decide
  have hj1 := h5 t ht j (by omega)
  have hmul : (j + 1) * (2 * C) = j * (2 * C) + 2 * C := by rw [Int.add_mul, Int.one_mul]
  have h9 := h1.2.2
  refine ⟨⟨?_, ?_, ?_⟩, ?_, ?_, ?_, ?_, ?_⟩
  · intro b hb
    have hb2 : nx m1 + 1 ≤ b := hb
    show (if b = nx m1 then T else tg m1 b) = 0
    rw [if_neg (by omega)]; exact h1.1 b (by omega)
  · show (if 0 = nx m1 then T else tg m1 0) = 0
    rw [if_neg (by omega)]; exact h1.2.1
  · show 92 ≤ nx m1 + 1
    omega
  · show nx m1 + 1 = _
    omega
  · show sl m1 + 2 * C = _
    omega
  · intro a ha'
    show (if a = nx m1 then T else tg m1 a) = tg m a ∧ (if a = nx m1 then 2 * C else ln m1 a) = ln m a
    rw [if_neg (by omega), if_neg (by omega)]; exact h4 a ha'
  · intro a ha' g hg
    rw [vl_mst, if_neg (by omega), vl_mcp, if_neg (by omega), vl_mal, if_neg (by omega)]
    exact h5 a ha' g (by omega)
  · intro g g0 g1
    by_cases e : g = j
    · subst e
      refine ⟨by rw [vl_mst, if_pos ⟨rfl, rfl⟩]; exact h2, ?_, ?_, ?_⟩
      · show (if nx m + g = nx m1 then T else tg m1 (nx m + g)) = _
        rw [if_pos h2.symm]; exact hT
      · show (if nx m + g = nx m1 then 2 * C else ln m1 (nx m + g)) = _
        rw [if_pos h2.symm]
      · intro i i0 i1
        rw [vl_mst, if_neg (by omega), vl_mcp, if_pos (by omega), vl_mal, if_neg (by omega), hj1, show (0 : Int) + (i - 0) = i by omega]
        exact h5 _ ha.1 i (by omega)
    · obtain ⟨k1, k2, k3, k4⟩ := h6 g g0 (by omega)
      refine ⟨?_, ?_, ?_, ?_⟩
      · rw [vl_mst, if_neg (by omega), vl_mcp, if_neg (by omega), vl_mal, if_neg (by omega)]; exact k1
      · show (if nx m + g = nx m1 then T else tg m1 (nx m + g)) = _
        rw [if_neg (by omega)]; exact k2
      · show (if nx m + g = nx m1 then 2 * C else ln m1 (nx m + g)) = _
        rw [if_neg (by omega)]; exact k3
      · intro i i0 i1
        rw [vl_mst, if_neg (by omega), vl_mcp, if_neg (by omega), vl_mal, if_neg (by omega)]; exact k4 i i0 i1
end
