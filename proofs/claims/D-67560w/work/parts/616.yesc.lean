/-! the twin's texts: what stands behind a backslash -/
set_option maxRecDepth 100000
set_option maxHeartbeats 4000000
def eU (t : Int → Int) (e q i : Int) : Int ⊕ (Int × Int) :=
  if ¬ i + 1 < e then .inl (i + 1) else
  if pk t e (i + 1) = 47 ∨ pk t e (i + 1) = 92 then .inr (pk t e (i + 1), i + 2) else if pk t e (i + 1) = 98 then .inr (8, i + 2) else if pk t e (i + 1) = 102 then .inr (12, i + 2) else if pk t e (i + 1) = 110 then .inr (10, i + 2) else if pk t e (i + 1) = 114 then .inr (13, i + 2) else if pk t e (i + 1) = 116 then .inr (9, i + 2) else if pk t e (i + 1) = 117 then (match f4 t e i 4 (i + 2) 0 with
    | .inl p => .inl p
    | .inr u => .inr (u, i + 6)) else if pk t e (i + 1) = q then .inr (q, i + 2) else .inl i
def cEsc : List Int := [98, 102, 110, 114, 116]
section
variable {d : Nat} {M tp e q : Int} {t : Int → Int}
theorem c204_128 {fi x4 z3 : Int} (hd : 2 ≤ d) : ∀ (k : Nat) (i u : Int) (m : Mem) (z : PV), k ≤ 4 → cat z = 1 → TZ m → YX m M tp e i t → 0 ≤ u → u * 16 ^ k + 16 ^ k ≤ 65536 →
    (∀ v, f4 t e fi k i u = .inr v → 0 ≤ v ∧ v < 65536 ∧ i + k ≤ e ∧ rn d 204 128 [pR M, pI q, pI fi, pI z3, pI x4, pI u, pI (4 - k), z] [] m = some (.inl (some (pI v)), mst m M 12 (i + k))) ∧
    (∀ p, f4 t e fi k i u = .inl p → ∃ j, 0 ≤ j ∧ j ≤ e ∧ rn d 204 128 [pR M, pI q, pI fi, pI z3, pI x4, pI u, pI (4 - k), z] [] m = some (.inl (some (pI (-1))), mst (mst m M 12 j) M 14 p)) := by
  intro k
  induction k with
  | zero =>
    intro i u m z hk hcz hz h h0 hu
    have b4 := h.2.2.2.1
    have b6 := h.2.2.2.2.2.2.1
    refine ⟨fun v hv => ?_, fun p hp => (by cases hp)⟩
    cases hv
    refine ⟨h0, by omega, by omega, ?_⟩
    rw [show i + ((0 : Nat) : Int) = i by omega, mst_self b4]
    refine q204_128 (by omega) hz hcz _ ?_
    rw [if_neg (by omega)]
  | succ k ih =>
    intro i u m z hk hcz hz h h0 hu
    have b1 := h.1
    have b3 := h.2.2.1
    have b4 := h.2.2.2.1
    have b8 := h.2.2.2.2.1
    have b6 := h.2.2.2.2.2.2.1
    have h199 := c199 (d := d - 1) hz h
    have hr := pkf_rng t e i
    have h205 := c205 (d := d - 1) (by omega) hz hr
    have hh : hexV (pk t e i) < 16 := by unfold hexV; split <;> (try split) <;> (try split) <;> omega
    unfold f4
    by_cases hi : i < e
    · rw [if_pos hi]
      by_cases hx : hexV (pk t e i) < 0
      · rw [if_pos hx]
        refine ⟨fun v hv => (by cases hv), fun p hp => ?_⟩
        cases hp
        refine ⟨i, by omega, by omega, ?_⟩
        rw [mst_self b4]
        refine q204_128 (by omega) hz hcz _ ?_
        rw [if_pos (by omega), gd_of b1, bI_eq h199, bI_eq h205, if_pos hx, nm_eq, b3, b4, if_pos hi, bI_eq (c202 hz b1 b8)]
      · rw [if_neg hx]
        have e16 : (16 : Int) ^ (k + 1) = 16 * 16 ^ k := by rw [Int.pow_succ, Int.mul_comm]
        have hpow : (0 : Int) < 16 ^ k := Int.pow_pos (by decide)
        have hb : (16 * u + hexV (pk t e i)) * 16 ^ k + 16 ^ k ≤ 65536 := by
          rw [e16] at hu
          have h1 : (16 * u + hexV (pk t e i)) * 16 ^ k + 16 ^ k = (16 * u + (hexV (pk t e i) + 1)) * 16 ^ k := by rw [← Int.add_assoc, Int.add_mul (16 * u + _), Int.one_mul]
          have h2 : (16 * u + (hexV (pk t e i) + 1)) * 16 ^ k ≤ (16 * u + 16) * 16 ^ k := Int.mul_le_mul_of_nonneg_right (by omega) (by omega)
          have h3 : (16 * u + 16) * 16 ^ k = u * (16 * 16 ^ k) + 16 * 16 ^ k := by rw [Int.add_mul, Int.mul_comm 16 u, Int.mul_assoc]
          omega
        have hu2 : u < 4096 := by
          rw [e16] at hu
          have h4 : u * (16 * 1) ≤ u * (16 * 16 ^ k) := Int.mul_le_mul_of_nonneg_left (by omega) h0
          omega
        have ih' := ih (i + 1) (16 * u + hexV (pk t e i)) (mst m M 12 (i + 1)) (pI (hexV (pk t e i))) (by omega) rfl hz (h.at (by omega) (by omega)) (by omega) hb
        have ek : (4 : Int) - ((k + 1 : Nat) : Int) + 1 = 4 - (k : Int) := by omega
        have step : ∀ R, rn d 204 128 [pR M, pI q, pI fi, pI z3, pI x4, pI (16 * u + hexV (pk t e i)), pI (4 - k), pI (hexV (pk t e i))] [] (mst m M 12 (i + 1)) = some R → rn d 204 128 [pR M, pI q, pI fi, pI z3, pI x4, pI u, pI (4 - ((k + 1 : Nat) : Int)), z] [] m = some R := by
          intro R hR
          refine q204_128 (by omega) hz hcz _ ?_
          rw [if_pos (by omega), gd_of b1, bI_eq h199, bI_eq h205, if_neg hx, b4, (w32_of (by omega) (by omega) : w32 (16 * u) = 16 * u), (w32_of (by omega) (by omega) : w32 (16 * u + hexV (pk t e i)) = 16 * u + hexV (pk t e i)), (w32_of (by omega) (by omega) : w32 (4 - ((k + 1 : Nat) : Int) + 1) = 4 - ((k + 1 : Nat) : Int) + 1), (w32_of (by omega) (by omega) : w32 (i + 1) = i + 1), ek]
          exact hR
        refine ⟨fun v hv => ?_, fun p hp => ?_⟩
        · obtain ⟨c1, c2, c3, c4⟩ := ih'.1 v hv
          rw [mst_mst] at c4
          refine ⟨c1, c2, by omega, ?_⟩
          rw [show i + ((k + 1 : Nat) : Int) = i + 1 + k by omega]
          exact step _ c4
        · obtain ⟨j, c1, c2, c3⟩ := ih'.2 p hp
          rw [mst_mst] at c3
          exact ⟨j, c1, c2, step _ c3⟩
    · rw [if_neg hi]
      refine ⟨fun v hv => (by cases hv), fun p hp => ?_⟩
      cases hp
      refine ⟨i, by omega, by omega, ?_⟩
      have hp1 : pk t e i = -1 := by unfold pk; rw [if_neg hi]
      have hx : hexV (pk t e i) < 0 := by rw [hp1]; decide
      rw [mst_self b4]
      refine q204_128 (by omega) hz hcz _ ?_
      rw [if_pos (by omega), gd_of b1, bI_eq h199, bI_eq h205, if_pos hx, nm_eq, b3, b4, if_neg hi, bI_eq (c202 hz b1 b8), show e = i by omega]
end
