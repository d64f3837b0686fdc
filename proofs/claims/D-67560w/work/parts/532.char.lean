/-! texts: characters, quoted strings -/
set_option maxRecDepth 100000
set_option maxHeartbeats 4000000
theorem RW.mT {m : Mem} {T f v r c : Int} {xs : List Int} (hT : tg m T ≠ 8 ∧ tg m T < 100) (h : RW m r xs c) : RW (mst m T f v) r xs c := by
  obtain ⟨h1, h2, h3, h4, h5, h6, h7⟩ := h
  have a1 : r ≠ T := by intro q; rw [q] at h1; omega
  have a2 : vl m r 0 ≠ T := by intro q; rw [q] at h2; omega
  have e0 : vl (mst m T f v) r 0 = vl m r 0 := by rw [vl_mst, if_neg (by omega)]
  refine ⟨h1, by rw [e0]; exact h2, by rw [e0]; exact h3, by rw [vl_mst, if_neg (by omega)]; exact h4, h5, h6, fun i i0 i1 => ?_⟩
  rw [e0, vl_mst, if_neg (by omega)]; exact h7 i i0 i1
theorem RI.mT {m : Mem} {T f v : Int} (hT : tg m T ≠ 8) (h : RI m) : RI (mst m T f v) := by
  have e0 : ∀ r, tg m r = 8 → vl (mst m T f v) r 0 = vl m r 0 := by
    intro r hr
    have a1 : r ≠ T := by intro q; rw [q] at hr; exact hT hr
    rw [vl_mst, if_neg (by omega)]
  refine ⟨fun r hr => ?_, fun r r' hr hr' hne h0 => ?_⟩
  · rw [e0 r hr]; exact h.1 r hr
  · rw [e0 r hr] at h0 ⊢
    rw [e0 r' hr']; exact h.2 r r' hr hr' hne h0
theorem RW.mal {m : Mem} {t n r c : Int} {xs : List Int} (hz : TZ m) (h : RW m r xs c) : RW (mal m t n) r xs c := by
  obtain ⟨n1, n2⟩ := h.nn hz
  obtain ⟨h1, h2, h3, h4, h5, h6, h7⟩ := h
  have e0 : vl (Jvm.Pilot.CPathStoreLaw_law_r3608_0f1887.mal m t n) r 0 = vl m r 0 := by rw [vl_mal, if_neg (by omega)]
  refine ⟨by rw [tg_mal, if_neg (by omega)]; exact h1, by rw [e0, tg_mal, if_neg (by omega)]; exact h2, by rw [e0, ln_mal, if_neg (by omega)]; exact h3, by rw [vl_mal, if_neg (by omega)]; exact h4, h5, h6, fun i i0 i1 => ?_⟩
  rw [e0, vl_mal, if_neg (by omega)]; exact h7 i i0 i1
theorem RI_mal {m : Mem} {t n : Int} (ht : t ≠ 8) (h : RI m) : RI (mal m t n) := by
  have e0 : ∀ r, tg (mal m t n) r = 8 → r ≠ nx m ∧ tg m r = 8 := by
    intro r hr
    rw [tg_mal] at hr
    split at hr
    · exact absurd hr ht
    · rename_i hn; exact ⟨hn, hr⟩
  refine ⟨fun r hr => ?_, fun r r' hr hr' hne h0 => ?_⟩
  · obtain ⟨a, b⟩ := e0 r hr
    rw [vl_mal, if_neg a]
    have := h.1 r b
    show vl m r 0 < nx m + 1
    omega
  · obtain ⟨a, b⟩ := e0 r hr
    obtain ⟨a', b'⟩ := e0 r' hr'
    rw [vl_mal, if_neg a] at h0 ⊢
    rw [vl_mal, if_neg a']; exact h.2 r r' b b' hne h0
theorem RO.mT {m : Mem} {T f v r : Int} (hT : tg m T ≠ 8 ∧ tg m T < 100) (hI : RI m) : RO r m (mst m T f v) := ⟨hI.mT hT.1, fun _ _ _ _ h => h.mT hT⟩
/-- broken at p -/
def BR (T r : Int) (m : Mem) (c p : Int) (m' : Mem) : Prop := ∃ zs c1, RW m' r zs c1 ∧ RO r m m' ∧ (c ≤ c1 ∧ nx m' - nx m ≤ (c1 - c) / 16 + 1 ∧ sl m' - sl m ≤ 2 * (c1 - c) + 6) ∧ c1 ≤ max c 12000 ∧ vl m' T 3 = p
theorem tx_t {m : Mem} {T : Int} (h : tg m T = 4 ∨ tg m T = 5) : tg m T ≠ 8 ∧ tg m T < 100 := by omega
theorem BR.pre {m m1 m' : Mem} {T r c c1 p : Int} {ys : List Int} (h : BR T r m1 c1 p m') (g : RG r m c ys m1 c1) (hl : ys.length ≤ 6000) : BR T r m c p m' := by
  obtain ⟨zs, c2, h1, h2, h3, h4, h5⟩ := h
  obtain ⟨g1, g2, g3, g4⟩ := g
  unfold GR at g3
  exact ⟨zs, c2, h1, g2.trans h2, by omega, by omega, h5⟩
theorem BR.at {m m' : Mem} {T r c p j : Int} (h : BR T r (mst m T 2 j) c p m') (hT : tg m T = 4 ∨ tg m T = 5) (hI : RI m) : BR T r m c p m' := by
  obtain ⟨zs, c2, h1, h2, h3, h4, h5⟩ := h
  exact ⟨zs, c2, h1, (RO.mT (tx_t hT) hI).trans h2, h3, h4, h5⟩
theorem BR.mk {m : Mem} {T r c p : Int} {xs : List Int} (hz : TZ m) (hT : tg m T = 4 ∨ tg m T = 5) (hI : RI m) (hR : RW m r xs c) : BR T r m c p (mal (mst m T 3 p) 204 6) := by
  have hz' : TZ (mst m T 3 p) := hz
  have hTn : T < nx m := tz_lt hz (by omega)
  refine ⟨xs, c, (hR.mT (tx_t hT)).mal hz', ⟨RI_mal (by decide) (hI.mT (tx_t hT).1), fun r' _ ys c' h => (h.mT (tx_t hT)).mal hz'⟩, ⟨by omega, ?_, ?_⟩, by omega, ?_⟩
  · show nx m + 1 - nx m ≤ _; omega
  · show sl m + 6 - sl m ≤ _; omega
  · rw [vl_mal, if_neg (by show T ≠ nx m; omega), vl_mst, if_pos ⟨rfl, rfl⟩]
theorem RG.at {m m' : Mem} {T r c c' j : Int} {ys : List Int} (g : RG r (mst m T 2 j) c ys m' c') (hT : tg m T = 4 ∨ tg m T = 5) (hI : RI m) : RG r m c ys m' c' := by
  obtain ⟨g1, g2, g3, g4⟩ := g
  exact ⟨g1, (RO.mT (tx_t hT) hI).trans g2, g3, g4⟩
theorem RG.atR {m : Mem} {T r c j : Int} {xs : List Int} (hR : RW m r xs c) (hT : tg m T = 4 ∨ tg m T = 5) (hI : RI m) : RG r m c xs (mst m T 2 j) c := ⟨hR.mT (tx_t hT), RO.mT (tx_t hT) hI, ⟨by omega, by show nx m - nx m ≤ _; omega, by show sl m - sl m ≤ _; omega⟩, by omega⟩
theorem OK.mT {m : Mem} {T f v : Int} (ok : OK m) : OK (mst m T f v) := ok
/-- four digits -/
def f4 (t : Int → Int) (e fi : Int) : Nat → Int → Int → Int ⊕ Int
  | 0, _, u => .inr u
  | k + 1, i, u => if i < e then (if hexV (pk t e i) < 0 then .inl fi else f4 t e fi k (i + 1) (16 * u + hexV (pk t e i))) else .inl i
theorem hexV_lt (x : Int) : hexV x < 16 := by unfold hexV; split <;> (try split) <;> (try split) <;> omega
section
variable {d : Nat} {T tp e fi r c : Int} {t : Int → Int}
theorem c71_l (hd : 4 ≤ d) : ∀ (k : Nat) (i u : Int) (m : Mem) (z : PV), k ≤ 4 → cat z = 1 → TZ m → TX m T tp e i t → 0 ≤ u → u < ((16 ^ (4 - k) : Nat) : Int) →
    (∀ v, f4 t e fi k i u = .inr v → 0 ≤ v ∧ v < 65536 ∧ i + k ≤ e ∧ rn d 71 4 [pR T, pI fi, pI u, pI (4 - k), z] [] m = some (.inl (some (pI v)), mst m T 2 (i + k))) ∧
    (∀ p, f4 t e fi k i u = .inl p → ∃ j, 0 ≤ j ∧ j ≤ e ∧ rn d 71 4 [pR T, pI fi, pI u, pI (4 - k), z] [] m = some (.inr 204, mal (mst (mst m T 2 j) T 3 p) 204 6)) := by
  intro k
  induction k with
  | zero =>
    intro i u m z hk hcz hz h h0 hu
    obtain ⟨a1, a2, a3, a4, a5, a6, a7⟩ := h
    refine ⟨fun v hv => ?_, fun p hp => (by cases hp)⟩
    cases hv
    refine ⟨h0, by omega, by omega, ?_⟩
    refine q71_4 hz hcz _ ?_
    rw [show i + ((0 : Nat) : Int) = i by omega, mst_self a4]
    simp (disch := omega) only [if_neg]
  | succ k ih =>
    intro i u m z hk hcz hz h h0 hu
    have h' := h
    have h63 := c63 (d := d - 1) hz h
    have h66 := c66_1 (d := d - 1) (T := T) (m := m) (by omega) hz
    have h660 := c66_0 (d := d - 1) (by omega) hz h
    have h72 := c72 (d := d - 1) (x := pk t e i) (by omega) hz (pkf_rng t e i)
    obtain ⟨a1, a2, a3, a4, a5, a6, a7⟩ := h
    have h67 := c67 (d := d - 1) (p := fi) hz a1
    have hxl := hexV_lt (pk t e i)
    unfold f4
    by_cases hi : i < e
    · rw [if_pos hi]
      by_cases hx : hexV (pk t e i) < 0
      · rw [if_pos hx]
        refine ⟨fun v hv => (by cases hv), fun p hp => ?_⟩
        cases hp
        refine ⟨i, a6.1, a6.2.1, ?_⟩
        rw [mst_self a4]
        refine q71_4 hz hcz _ ?_
        simp (disch := first | assumption | omega) only [gd_of, if_pos, a4, a3]
        refine q71_26 (by omega) hz hcz _ ?_
        simp (disch := first | assumption | omega) only [gd_of, h66, h63, h72, bV_ok, bI_ok, if_pos hx, h67, bV_ex]
      · rw [if_neg hx]
        have hu2 : 16 * u + hexV (pk t e i) < ((16 ^ (4 - k) : Nat) : Int) := by
          rw [show 4 - k = (4 - (k + 1)) + 1 by omega, Nat.pow_succ]; omega
        have hu3 : (16 : Nat) ^ (4 - (k + 1)) ≤ 16 ^ 3 := Nat.pow_le_pow_right (by decide) (by omega)
        have hI := ih (i + 1) (16 * u + hexV (pk t e i)) (mst m T 2 (i + 1)) (pI (hexV (pk t e i))) (by omega) rfl hz (h'.at (by omega) (by omega)) (by omega) hu2
        have hstep : ∀ q, rn d 71 4 [pR T, pI fi, pI (16 * u + hexV (pk t e i)), pI (4 - (k : Int)), pI (hexV (pk t e i))] [] (mst m T 2 (i + 1)) = some q → rn d 71 4 [pR T, pI fi, pI u, pI (4 - ((k + 1 : Nat) : Int)), z] [] m = some q := by
          intro q hq
          refine q71_4 hz hcz _ ?_
          simp (disch := first | assumption | omega) only [gd_of, if_pos, a4, a3]
          refine q71_26 (by omega) hz hcz _ ?_
          simp (disch := first | assumption | omega) only [gd_of, h66, h63, h72, bV_ok, bI_ok, if_neg hx]
          refine q71_48 hz _ ?_
          have e1 : w32 (w32 (16 * u) + hexV (pk t e i)) = 16 * u + hexV (pk t e i) := by
            rw [w32_of (z := 16 * u) (by omega) (by omega), w32_of (by omega) (by omega)]
          have e2 : w32 (4 - ((k + 1 : Nat) : Int) + 1) = 4 - (k : Int) := by rw [w32_of (by omega) (by omega)]; omega
          simp (disch := first | assumption | omega) only [gd_of, e1, e2, a4, w32_of]
          exact hq
        refine ⟨fun v hv => ?_, fun p hp => ?_⟩
        · obtain ⟨b1, b2, b3, b4⟩ := hI.1 v hv
          refine ⟨b1, b2, by omega, hstep _ ?_⟩
          rw [b4, mst_mst, show i + 1 + (k : Int) = i + ((k + 1 : Nat) : Int) by omega]
        · obtain ⟨j, j0, j1, hj⟩ := hI.2 p hp
          refine ⟨j, j0, j1, hstep _ ?_⟩
          rw [hj, mst_mst]
    · rw [if_neg hi]
      refine ⟨fun v hv => (by cases hv), fun p hp => ?_⟩
      cases hp
      refine ⟨i, a6.1, a6.2.1, ?_⟩
      rw [mst_self a4]
      refine q71_4 hz hcz _ ?_
      simp (disch := first | assumption | omega) only [gd_of, if_pos, if_neg, a4, a3]
      refine q71_26 (by omega) hz hcz _ ?_
      simp (disch := first | assumption | omega) only [gd_of, h660, bV_ex]
end
