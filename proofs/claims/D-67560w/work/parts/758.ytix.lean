/-! the twin's patches: a token's index -/
set_option maxRecDepth 100000
set_option maxHeartbeats 4000000
section
variable {d : Nat} {m : Mem} {M NT : Int} {tks : List (List Int)}
theorem c233 {k : Nat} (hd : 1 ≤ d) (ok : OK m) (h : TKS m M NT tks) (hk : k < tks.length) : cl d 233 [pR M, pI k] m = some (.inl (some (pL (ix9 tks[k]))), m) := by
  obtain ⟨hM, hNT, ⟨h22, l22⟩, ⟨h23, l23⟩, h24, hlen, n, us, C, hw, htk⟩ := h
  obtain ⟨t1, t2, t3⟩ := htk k hk
  generalize htt : tks[k] = tk at *
  obtain ⟨u0, u1, u2, u3, u4⟩ := hw.uni t2
  generalize hst : vl m (vl m M 22) k = s at *
  have loop : ∀ (rest pre : List Int) (v : Nat), tk = pre ++ rest → v < 10 ^ pre.length → pre.length ≤ 9 → tk.length ≤ 9 → rn d 233 53 [pR M, pI k, pI tk.length, pI s, pL v, pU, pI pre.length] [] m = some (.inl (some (pL (match digs rest v with
      | none => -1
      | some i => i))), m) := by
    intro rest
    induction rest with
    | nil =>
      intro pre v hp hv hl hl2
      rw [List.append_nil] at hp
      refine q233_53 (by omega) ok.1 _ ?_
      rw [if_neg (by rw [hp]; omega)]
      rfl
    | cons c rest ih =>
      intro pre v hp hv hl hl2
      have hL : (tk.length : Int) = pre.length + 1 + rest.length := by rw [hp]; simp; omega
      have hg : gi tk pre.length = c := by rw [hp, gi_app_r (by omega), Int.sub_self]; rfl
      have hx := u4 pre.length (by omega) (by omega)
      rw [hg] at hx
      have hc := t3 c (by rw [hp]; simp)
      have h206 := c206 (d := d - 1) (m := m) (x := c) ok.1
      have hv9 : 10 ^ pre.length ≤ 10 ^ 9 := Nat.pow_le_pow_right (by decide) hl
      refine q233_53 (by omega) ok.1 _ ?_
      rw [if_pos (by omega), gd_of hM, nm_eq, hNT, gd_of hw.1, nm_eq, nm_eq, w32_of (by omega) (by omega), gd_of hw.2.2.2.1, gd_of ⟨by omega, by omega⟩, hx, bI_eq h206]
      unfold digs
      by_cases hdg : 48 ≤ c ∧ c ≤ 57
      · rw [if_pos hdg, if_neg (by decide), nm_eq, hNT, gd_of hw.1, nm_eq, nm_eq, gd_of hw.2.2.2.1, gd_of ⟨by omega, by omega⟩, hx, if_pos hdg]
        have hI := ih (pre ++ [c]) (10 * v + (c - 48).toNat) (by simp [hp]) (by
          rw [List.length_append]
          show _ < 10 ^ (pre.length + 1)
          rw [Nat.pow_succ]; omega) (by simp; omega) hl2
        have e1 : ((pre ++ [c]).length : Int) = pre.length + 1 := by simp
        rw [e1] at hI
        rw [(w64_of (by omega) (by omega) : w64 (10 * (v : Int)) = 10 * (v : Int)), (w64_of (by omega) (by omega) : w64 (10 * (v : Int) + c) = 10 * (v : Int) + c), w64_of (by omega) (by omega), (w32_of (by omega) (by omega) : w32 ((pre.length : Int) + 1) = (pre.length : Int) + 1), show 10 * (v : Int) + c - 48 = ((10 * v + (c - 48).toNat : Nat) : Int) by omega]
        exact hI
      · rw [if_neg hdg, if_pos rfl, if_neg hdg]
  unfold ix9
  refine q233 ok.1 _ ?_
  rw [gd_of hM, nm_eq, gd_of h23, gd_of ⟨by omega, by omega⟩, nm_eq, t1, nm_eq, gd_of h22, gd_of ⟨by omega, by omega⟩, nm_eq, hst]
  cases htk0 : tk with
  | nil => rw [if_pos (by simp), if_neg (by simp)]; rfl
  | cons c rest =>
    rw [← htk0]
    have hl0 : tk.length = rest.length + 1 := by rw [htk0]; simp
    rw [if_neg (by omega)]
    by_cases h9 : 9 < tk.length
    · rw [if_pos (by omega), if_pos h9]
    · rw [if_neg (by omega), if_neg h9]
      have start := loop tk [] 0 rfl (by simp) (by simp) (by omega)
      have hx := u4 0 (by omega) (by omega)
      have hg : gi tk 0 = c := by rw [htk0]; rfl
      rw [Int.add_zero, hg] at hx
      unfold ixT
      by_cases h1 : 1 < tk.length
      · rw [if_pos (by omega), nm_eq, hNT, gd_of hw.1, nm_eq, gd_of hw.2.2.2.1, gd_of ⟨by omega, by omega⟩, hx]
        by_cases h48 : c = 48
        · rw [if_pos h48, if_pos (Or.inr ⟨h1, by rw [htk0, h48]; rfl⟩)]
        · rw [if_neg h48, if_neg (by
            rintro (q | ⟨-, q⟩)
            · rw [htk0] at q; cases q
            · rw [htk0] at q; simp at q; exact h48 q)]
          exact start
      · rw [if_neg (by omega), if_neg (by
          rintro (q | ⟨q, -⟩)
          · rw [htk0] at q; cases q
          · exact h1 q)]
        exact start
end
