/-! rows of bytes -/
set_option maxRecDepth 100000
set_option maxHeartbeats 4000000
/-- a row at r has the bytes xs and room for c -/
def RW (m : Mem) (r : Int) (xs : List Int) (c : Int) : Prop := tg m r = 8 ∧ (tg m (vl m r 0) = 130103 ∨ tg m (vl m r 0) = 132103) ∧ ln m (vl m r 0) = c ∧ vl m r 1 = (xs.length : Int) ∧ (xs.length : Int) ≤ c ∧ (16 ≤ c ∧ c ≤ 200000) ∧ ∀ i : Int, 0 ≤ i → i < xs.length → vl m (vl m r 0) i = gi xs i
/-- rows don't share their bytes -/
def RI (m : Mem) : Prop := (∀ r, tg m r = 8 → vl m r 0 < nx m) ∧ ∀ r r', tg m r = 8 → tg m r' = 8 → r ≠ r' → vl m r 0 ≠ 0 → vl m r 0 ≠ vl m r' 0
/-- but for r all rows are as they were -/
def RO (r : Int) (m m' : Mem) : Prop := RI m' ∧ ∀ r', r' ≠ r → ∀ ys c, RW m r' ys c → RW m' r' ys c
theorem RO.refl {r : Int} {m : Mem} (h : RI m) : RO r m m := ⟨h, fun _ _ _ _ h => h⟩
theorem RO.trans {r : Int} {m m1 m2 : Mem} (h : RO r m m1) (h' : RO r m1 m2) : RO r m m2 := ⟨h'.1, fun r' hr ys c hw => h'.2 r' hr ys c (h.2 r' hr ys c hw)⟩
def tw (xs : List Int) (a : Int) : Int := 256 * (gi xs a % 256) + gi xs (a + 1) % 256
theorem tw_rng (xs : List Int) (a : Int) : 0 ≤ tw xs a ∧ tw xs a < 65536 := by unfold tw; omega
section
variable {d : Nat} {m : Mem} {r r2 a b n c c2 : Int} {xs ys : List Int}
theorem c139 (hz : TZ m) (hR : RW m r xs c) (h0 : 0 ≤ a) (h1 : a < xs.length) : cl d 139 [pR r, pI a] m = some (.inl (some (pI (gi xs a))), m) := by
  obtain ⟨ht, hb, hc, hs, hl, hcc, hv⟩ := hR
  refine q139 hz _ ?_
  simp (disch := first | assumption | omega) only [nm, gd_of, hv]
theorem c134 (hz : TZ m) (hR : RW m r xs c) (h0 : 0 ≤ a) (h1 : a + 1 < xs.length) : cl d 134 [pR r, pI a] m = some (.inl (some (pI (tw xs a))), m) := by
  obtain ⟨ht, hb, hc, hs, hl, hcc, hv⟩ := hR
  refine q134 hz _ ?_
  simp (disch := first | assumption | omega) only [nm, gd_of, hv, w32_of, two_eq]
  rfl
theorem c136 (hd : 1 ≤ d) (hz : TZ m) (hR : RW m r xs c) (h0 : 0 ≤ a) (h1 : a + 1 < xs.length) : cl d 136 [pR r, pI a] m = some (.inl (some (pI (a + 2 + tw xs a))), m) := by
  have hR' := hR
  obtain ⟨ht, hb, hc, hs, hl, hcc, hv⟩ := hR
  have := tw_rng xs a
  refine q136 (by omega) hz _ ?_
  simp (disch := first | assumption | omega) only [gd_of, c134 hz hR', bI_ok, w32_of]
theorem c135_T (hz : TZ m) (hR : RW m r xs c) (hR2 : RW m r2 ys c2) (ha : 0 ≤ a) (hb : 0 ≤ b) (ha1 : a + n ≤ xs.length) (hb1 : b + n ≤ ys.length) : ∀ (N : Nat) (j : Int), 0 ≤ j → j ≤ n → (n - j).toNat = N → (∀ k, j ≤ k → k < n → gi xs (a + k) = gi ys (b + k)) → rn d 135 3 [pR r, pI a, pR r2, pI b, pI n, pI j] [] m = some (.inl (some (pI 1)), m) := by
  have hR' := hR
  have hR2' := hR2
  obtain ⟨ht, htb, hc, hs, hl, hcc, hv⟩ := hR
  obtain ⟨ht2, htb2, hc2, hs2, hl2, hcc2, hv2⟩ := hR2
  intro N
  induction N with
  | zero =>
    intro j h0 h1 h2 hk
    refine q135_3 hz _ ?_
    simp (disch := first | assumption | omega) only [if_neg]
  | succ N ih =>
    intro j h0 h1 h2 hk
    refine q135_3 hz _ ?_
    have e := hk j (by omega) (by omega)
    simp (disch := first | assumption | omega) only [nm, gd_of, if_pos, w32_of, hv, hv2, e]
    exact ih (j + 1) (by omega) (by omega) (by omega) (fun k k0 k1 => hk k (by omega) k1)
theorem c135_F (hz : TZ m) (hR : RW m r xs c) (hR2 : RW m r2 ys c2) (ha : 0 ≤ a) (hb : 0 ≤ b) (ha1 : a + n ≤ xs.length) (hb1 : b + n ≤ ys.length) : ∀ (N : Nat) (j : Int), 0 ≤ j → j ≤ n → (n - j).toNat = N → (∃ k, j ≤ k ∧ k < n ∧ gi xs (a + k) ≠ gi ys (b + k)) → rn d 135 3 [pR r, pI a, pR r2, pI b, pI n, pI j] [] m = some (.inl (some (pI 0)), m) := by
  have hR' := hR
  have hR2' := hR2
  obtain ⟨ht, htb, hc, hs, hl, hcc, hv⟩ := hR
  obtain ⟨ht2, htb2, hc2, hs2, hl2, hcc2, hv2⟩ := hR2
  intro N
  induction N with
  | zero =>
    rintro j h0 h1 h2 ⟨k, k0, k1, hk⟩
    omega
  | succ N ih =>
    rintro j h0 h1 h2 ⟨k, k0, k1, hk⟩
    refine q135_3 hz _ ?_
    by_cases e : gi xs (a + j) = gi ys (b + j)
    · simp (disch := first | assumption | omega) only [nm, gd_of, if_pos, w32_of, hv, hv2, e]
      have : k ≠ j := fun h => hk (h ▸ e)
      exact ih (j + 1) (by omega) (by omega) (by omega) ⟨k, by omega, k1, hk⟩
    · simp (disch := first | assumption | omega) only [nm, gd_of, if_pos, w32_of, hv, hv2, if_neg e]
theorem c135 {u w : List Int} (hz : TZ m) (hR : RW m r xs c) (hR2 : RW m r2 ys c2) (h1 : At xs a u) (h2 : At ys b w) (hl : (u.length : Int) = n) (hl2 : (w.length : Int) = n) : cl d 135 [pR r, pI a, pR r2, pI b, pI n] m = some (.inl (some (pI (if u = w then 1 else 0))), m) := by
  refine q135 hz _ ?_
  obtain ⟨a0, a1, a2⟩ := h1
  obtain ⟨b0, b1, b2⟩ := h2
  by_cases e : u = w
  · rw [if_pos e]
    refine c135_T hz hR hR2 a0 b0 (by omega) (by omega) _ 0 (by omega) (by omega) rfl (fun k k0 k1 => ?_)
    rw [a2 k k0 (by omega), b2 k k0 (by omega), e]
  · rw [if_neg e]
    refine c135_F hz hR hR2 a0 b0 (by omega) (by omega) _ 0 (by omega) (by omega) rfl ?_
    refine Classical.byContradiction (fun hn => e (gi_ext (by omega) (fun i i0 i1 => ?_)))
    refine Classical.byContradiction (fun hne => hn ⟨i, i0, by omega, ?_⟩)
    rw [a2 i i0 i1, b2 i i0 (by omega)]; exact hne
end
