/-! the twin's texts: words -/
set_option maxRecDepth 100000
set_option maxHeartbeats 4000000
section
variable {d : Nat} {M tp e : Int} {t : Int → Int}
theorem c200_l {a : Int} {cs : List Int} (hd : 4 ≤ d) : ∀ (rest pre : List Int) (i : Int) (m : Mem), cs = pre ++ rest → TZ m → YX m M tp e i t → SC m a cs →
    (∀ j, sW t e rest i = .inr j → i ≤ j ∧ j ≤ e ∧ j = i + rest.length ∧ rn d 200 2 [pR M, pR a, pI pre.length] [] m = some (.inl (some (pI 1)), mst m M 12 j)) ∧
    (∀ p, sW t e rest i = .inl p → ∃ j, 0 ≤ j ∧ j ≤ e ∧ rn d 200 2 [pR M, pR a, pI pre.length] [] m = some (.inl (some (pI 0)), mst (mst m M 12 j) M 14 p)) := by
  intro rest
  induction rest with
  | nil =>
    intro pre i m hcs hz h hS
    have h349 := c349 (d := d - 1) (by omega) hz hS
    have hS1 := hS.1
    have b4 := h.2.2.2.1
    have b6 := h.2.2.2.2.2.2.1
    rw [List.append_nil] at hcs
    refine ⟨fun j hj => ?_, fun p hp => (by cases hp)⟩
    cases hj
    refine ⟨by omega, by omega, by simp, ?_⟩
    rw [mst_self b4]
    refine q200_2 (by omega) hz _ ?_
    rw [hcs] at h349
    rw [gd_of hS1, bI_eq h349, if_neg (by omega)]
  | cons x rest ih =>
    intro pre i m hcs hz h hS
    have h349 := c349 (d := d - 1) (by omega) hz hS
    have hl : (cs.length : Int) = pre.length + 1 + rest.length := by rw [hcs]; simp; omega
    have hS6 := hS.2.2.2.2.2.1
    have h351 := c351 (d := d - 1) (j := pre.length) (by omega) hz hS (by omega) (by omega)
    have hx : gi cs pre.length = x := by rw [hcs, gi_app_r (by omega), Int.sub_self]; rfl
    have hx2 := hS.2.2.2.2.2.2 pre.length (by omega) (by omega)
    have hS1 := hS.1
    have hT := h.1
    have b4 := h.2.2.2.1
    have b6 := h.2.2.2.2.2.2.1
    rw [hx] at h351 hx2
    by_cases hp : pk t e i = x
    · have hi : i < e := pkf_lt (t := t) (by omega)
      have h201 := c201_1 (d := d - 1) (by omega) hz h hp (by omega)
      have ih' := ih (pre ++ [x]) (i + 1) (mst m M 12 (i + 1)) (by rw [hcs]; simp) hz (h.at (by omega) (by omega)) (hS.mT (by omega))
      have el : (((pre ++ [x]).length : Nat) : Int) = (pre.length : Int) + 1 := by simp
      rw [el] at ih'
      have es : sW t e (x :: rest) i = sW t e rest (i + 1) := by show (if pk t e i = x then _ else _) = _; rw [if_pos hp]
      rw [es]
      refine ⟨fun j hj => ?_, fun p hp' => ?_⟩
      · obtain ⟨c1, c2, c3, c4⟩ := ih'.1 j hj
        rw [mst_mst] at c4
        refine ⟨by omega, c2, by rw [c3]; simp; omega, ?_⟩
        refine q200_2 (by omega) hz _ ?_
        rw [gd_of hS1, bI_eq h349, if_pos (by omega), bI_eq h351, gd_of hT, bI_eq h201, if_neg (by decide), w32_of (by omega) (by omega)]
        exact c4
      · obtain ⟨j, c1, c2, c3⟩ := ih'.2 p hp'
        rw [mst_mst] at c3
        refine ⟨j, c1, c2, ?_⟩
        refine q200_2 (by omega) hz _ ?_
        rw [gd_of hS1, bI_eq h349, if_pos (by omega), bI_eq h351, gd_of hT, bI_eq h201, if_neg (by decide), w32_of (by omega) (by omega)]
        exact c3
    · have h201 := c201_0 (d := d - 1) (by omega) hz h hp
      have es : sW t e (x :: rest) i = .inl i := by show (if pk t e i = x then _ else _) = _; rw [if_neg hp]
      rw [es]
      refine ⟨fun j hj => (by cases hj), fun p hp' => ?_⟩
      cases hp'
      refine ⟨i, by omega, by omega, ?_⟩
      rw [mst_self b4]
      refine q200_2 (by omega) hz _ ?_
      rw [gd_of hS1, bI_eq h349, if_pos (by omega), bI_eq h351, gd_of hT, bI_eq h201, if_pos rfl]
theorem c200 {a i : Int} {m : Mem} {cs : List Int} (hd : 4 ≤ d) (hz : TZ m) (h : YX m M tp e i t) (hS : SC m a cs) :
    (∀ j, sW t e cs i = .inr j → i ≤ j ∧ j ≤ e ∧ j = i + cs.length ∧ cl d 200 [pR M, pR a] m = some (.inl (some (pI 1)), mst m M 12 j)) ∧
    (∀ p, sW t e cs i = .inl p → ∃ j, 0 ≤ j ∧ j ≤ e ∧ cl d 200 [pR M, pR a] m = some (.inl (some (pI 0)), mst (mst m M 12 j) M 14 p)) := by
  have hl := c200_l (cs := cs) hd cs [] i m rfl hz h hS
  refine ⟨fun j hj => ?_, fun p hp => ?_⟩
  · obtain ⟨a1, a2, a3, a4⟩ := hl.1 j hj
    exact ⟨a1, a2, a3, q200 hz _ a4⟩
  · obtain ⟨j, j0, j1, a4⟩ := hl.2 p hp
    exact ⟨j, j0, j1, q200 hz _ a4⟩
end
