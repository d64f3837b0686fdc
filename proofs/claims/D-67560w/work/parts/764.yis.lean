/-! the twin's patches: what a string says -/
set_option maxRecDepth 100000
set_option maxHeartbeats 4000000
section
variable {d : Nat} {m : Mem} {M T n C : Int} {us : List Int}
theorem c231 {x : Nat} {dd : ND} {l : Fo} {a : Int} {cs : List Int} (hd : 4 ≤ d) (hM : tg m M = 11) (hT : vl m M 19 = T) (ok : OK m) (h : TW m T n us C) (hN : TN (nv m T) us n x dd l) (hS : SC m a cs) : cl d 231 [pR M, pI x, pR a] m = some (.inl (some (pI (if dd.2.2.1 = cs then 1 else 0))), m) := by
  have hc := h.2.2.2.2.2.2.1
  have l3 := h.ld (f := 3) ⟨by decide, by decide⟩ (by decide)
  have l2' := h.ld (f := 2) ⟨by decide, by decide⟩ (by decide)
  have h349 := c349 (d := d - 1) (by omega) ok.1 hS
  have hcs := hS.2.2.2.2.2.1
  obtain ⟨f1, f2, f3, ⟨f4, f4'⟩, f5, f6⟩ := hN
  have e3 : vl m (vl m T 3) x = dd.2.2.1.length := f4
  obtain ⟨u0, u1, u2, u3, u4⟩ := h.uni f4'
  have e2 : vl m (vl m T 2) x = nv m T 2 x := rfl
  generalize nv m T 2 x = s at *
  generalize dd.2.2.1 = ks at *
  have z0 : ∀ j : Int, rn d 231 25 [pR M, pI x, pR a, pI 0, pI j] [] m = some (.inl (some (pI 0)), m) := by
    intro j
    refine q231_25 (by omega) ok.1 _ ?_
    rw [gd_of hS.1, bI_eq h349]
    by_cases hj : j < (cs.length : Int)
    · rw [if_pos hj, if_pos rfl, gd_of (Or.inl rfl)]
    · rw [if_neg hj, gd_of (Or.inl rfl)]
  refine q231 (by omega) ok.1 _ ?_
  rw [gd_of hM, nm_eq, hT, gd_of h.1, nm_eq, gd_of l3.1, gd_of ⟨by omega, by omega⟩, gd_of hS.1, bI_eq h349, e3]
  by_cases hl : ks.length = cs.length
  · rw [if_pos (by omega)]
    have loop : ∀ (N : Nat) (j : Int), 0 ≤ j → j ≤ cs.length → ((cs.length : Int) - j).toNat = N → (∀ i : Int, 0 ≤ i → i < j → gi ks i = gi cs i) → rn d 231 25 [pR M, pI x, pR a, pI 1, pI j] [] m = some (.inl (some (pI (if ks = cs then 1 else 0))), m) := by
      intro N
      induction N with
      | zero =>
        intro j j0 j1 hj he
        refine q231_25 (by omega) ok.1 _ ?_
        rw [gd_of hS.1, bI_eq h349, if_neg (by omega), gd_of (Or.inr rfl), if_pos (gi_ext hl (fun i i0 i1 => he i i0 (by omega)))]
      | succ N ih =>
        intro j j0 j1 hj he
        have h351 := c351 (d := d - 1) (j := j) (by omega) ok.1 hS j0 (by omega)
        have hv := u4 j j0 (by omega)
        refine q231_25 (by omega) ok.1 _ ?_
        rw [gd_of hS.1, bI_eq h349, if_pos (by omega), if_neg (by decide), gd_of hM, nm_eq, hT, gd_of h.1, nm_eq, nm_eq, gd_of l2'.1, gd_of ⟨by omega, by omega⟩, nm_eq, e2, w32_of (by omega) (by omega), gd_of h.2.2.2.1, gd_of ⟨by omega, by omega⟩, bI_eq h351, hv]
        by_cases hg : gi ks j = gi cs j
        · rw [if_pos hg, w32_of (by omega) (by omega)]
          exact ih (j + 1) (by omega) (by omega) (by omega) (fun i i0 i1 => by
            by_cases e : i = j
            · rw [e]; exact hg
            · exact he i i0 (by omega))
        · rw [if_neg hg, if_neg (fun e => hg (by rw [e]))]
          exact z0 _
    exact loop _ 0 (by omega) (by omega) rfl (fun i i0 i1 => by omega)
  · rw [if_neg (by omega), if_neg (fun e => hl (by rw [e]))]
    exact z0 0
theorem c241 {x y : Nat} {dd dd' : ND} {l l' : Fo} (hM : tg m M = 11) (hT : vl m M 19 = T) (ok : OK m) (h : TW m T n us C) (hN : TN (nv m T) us n x dd l) (hN' : TN (nv m T) us n y dd' l') : cl d 241 [pR M, pI x, pI y] m = some (.inl (some (pI (if dd.2.2.1 = dd'.2.2.1 then 1 else 0))), m) := by
  have hc := h.2.2.2.2.2.2.1
  have l3 := h.ld (f := 3) ⟨by decide, by decide⟩ (by decide)
  have l2' := h.ld (f := 2) ⟨by decide, by decide⟩ (by decide)
  obtain ⟨f1, f2, f3, ⟨f4, f4'⟩, f5, f6⟩ := hN
  obtain ⟨g1, g2, g3, ⟨g4, g4'⟩, g5, g6⟩ := hN'
  have e3 : vl m (vl m T 3) x = dd.2.2.1.length := f4
  have e3' : vl m (vl m T 3) y = dd'.2.2.1.length := g4
  obtain ⟨u0, u1, u2, u3, u4⟩ := h.uni f4'
  obtain ⟨v0, v1, v2, v3, v4⟩ := h.uni g4'
  have e2 : vl m (vl m T 2) x = nv m T 2 x := rfl
  have e2' : vl m (vl m T 2) y = nv m T 2 y := rfl
  generalize nv m T 2 x = s at *
  generalize nv m T 2 y = s' at *
  generalize dd.2.2.1 = ks at *
  generalize dd'.2.2.1 = ks' at *
  refine q241 ok.1 _ ?_
  rw [gd_of hM, nm_eq, hT, gd_of h.1, nm_eq, gd_of l3.1, gd_of ⟨by omega, by omega⟩, gd_of ⟨by omega, by omega⟩, e3, e3']
  by_cases hl : ks.length = ks'.length
  · rw [if_pos (by omega)]
    have loop : ∀ (N : Nat) (j : Int), 0 ≤ j → j ≤ ks.length → ((ks.length : Int) - j).toNat = N → (∀ i : Int, 0 ≤ i → i < j → gi ks i = gi ks' i) → rn d 241 25 [pR M, pI x, pI y, pI j] [] m = some (.inl (some (pI (if ks = ks' then 1 else 0))), m) := by
      intro N
      induction N with
      | zero =>
        intro j j0 j1 hj he
        refine q241_25 ok.1 _ ?_
        rw [gd_of hM, nm_eq, hT, gd_of h.1, nm_eq, gd_of l3.1, gd_of ⟨by omega, by omega⟩, e3, if_neg (by omega), if_pos (gi_ext hl (fun i i0 i1 => he i i0 (by omega)))]
      | succ N ih =>
        intro j j0 j1 hj he
        have hv := u4 j j0 (by omega)
        have hv' := v4 j j0 (by omega)
        refine q241_25 ok.1 _ ?_
        rw [gd_of hM, nm_eq, hT, gd_of h.1, nm_eq, gd_of l3.1, gd_of ⟨by omega, by omega⟩, e3, if_pos (by omega), nm_eq, nm_eq, gd_of l2'.1, gd_of ⟨by omega, by omega⟩, nm_eq, e2, (w32_of (by omega) (by omega) : w32 (s + j) = s + j), gd_of h.2.2.2.1, gd_of ⟨by omega, by omega⟩, gd_of ⟨by omega, by omega⟩, nm_eq, e2', (w32_of (by omega) (by omega) : w32 (s' + j) = s' + j), gd_of ⟨by omega, by omega⟩, hv, hv']
        by_cases hg : gi ks j = gi ks' j
        · rw [if_pos hg, w32_of (by omega) (by omega)]
          exact ih (j + 1) (by omega) (by omega) (by omega) (fun i i0 i1 => by
            by_cases e : i = j
            · rw [e]; exact hg
            · exact he i i0 (by omega))
        · rw [if_neg hg, if_neg (fun e => hg (by rw [e]))]
    exact loop _ 0 (by omega) (by omega) rfl (fun i i0 i1 => by omega)
  · rw [if_neg (by omega), if_neg (fun e => hl (by rw [e]))]
end
