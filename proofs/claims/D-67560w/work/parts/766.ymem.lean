/-! the twin's patches: a member by a constant name -/
set_option maxRecDepth 100000
set_option maxHeartbeats 4000000
section
variable {d : Nat} {m : Mem} {M T n C : Int} {us : List Int}
theorem c229_40 {x i s a : Int} {ks cs : List Int} (hd : 4 ≤ d) (hM : tg m M = 11) (hT : vl m M 19 = T) (ok : OK m) (h : TW m T n us C) (hi : 0 ≤ i ∧ i < n) (h6 : nv m T 6 i = s) (hA : At us s ks) (hS : SC m a cs) (hl : ks.length = cs.length) (Q : Rs × Mem) (hQ : ∀ z : Int, rn d 229 96 [pR M, pI x, pR a, pI i, pI (if ks = cs then 1 else 0), pI z] [] m = some Q) : rn d 229 40 [pR M, pI x, pR a, pI i, pI 1, pI 0] [] m = some Q := by
  have hc := h.2.2.2.2.2.2.1
  have l6 := h.ld (f := 6) ⟨by decide, by decide⟩ (by decide)
  have h349 := c349 (d := d - 1) (by omega) ok.1 hS
  have hcs := hS.2.2.2.2.2.1
  obtain ⟨u0, u1, u2, u3, u4⟩ := h.uni hA
  have e6 : vl m (vl m T 6) i = s := h6
  have loop : ∀ (N : Nat) (j : Int), 0 ≤ j → j ≤ cs.length → ((cs.length : Int) - j).toNat = N → (∀ i : Int, 0 ≤ i → i < j → gi ks i = gi cs i) → rn d 229 40 [pR M, pI x, pR a, pI i, pI 1, pI j] [] m = some Q := by
    intro N
    induction N with
    | zero =>
      intro j j0 j1 hj he
      have hq := hQ j
      rw [if_pos (gi_ext hl (fun i i0 i1 => he i i0 (by omega)))] at hq
      refine q229_40 (by omega) ok.1 _ ?_
      rw [gd_of hS.1, bI_eq h349, if_neg (by omega)]; exact hq
    | succ N ih =>
      intro j j0 j1 hj he
      have h351 := c351 (d := d - 1) (j := j) (by omega) ok.1 hS j0 (by omega)
      have hv := u4 j j0 (by omega)
      refine q229_40 (by omega) ok.1 _ ?_
      rw [gd_of hS.1, bI_eq h349, if_pos (by omega), if_neg (by decide), gd_of hM, nm_eq, hT, gd_of h.1, nm_eq, nm_eq, gd_of l6.1, gd_of ⟨by omega, by omega⟩, nm_eq, e6, (w32_of (by omega) (by omega) : w32 (s + j) = s + j), gd_of h.2.2.2.1, gd_of ⟨by omega, by omega⟩, bI_eq h351, hv, (w32_of (by omega) (by omega) : w32 (j + 1) = j + 1)]
      by_cases hg : gi ks j = gi cs j
      · rw [if_pos hg]
        exact ih (j + 1) (by omega) (by omega) (by omega) (fun i i0 i1 => by
          by_cases e : i = j
          · rw [e]; exact hg
          · exact he i i0 (by omega))
      · rw [if_neg hg]
        have hq := hQ (j + 1)
        rw [if_neg (fun e => hg (by rw [e]))] at hq
        refine q229_40 (by omega) ok.1 _ ?_
        rw [gd_of hS.1, bI_eq h349]
        by_cases hj2 : j + 1 < (cs.length : Int)
        · rw [if_pos hj2, if_pos rfl]; exact hq
        · rw [if_neg hj2]; exact hq
  exact loop _ 0 (by omega) (by omega) rfl (fun i i0 i1 => by omega)
theorem c229_10 {x a : Int} {cs : List Int} (hd : 4 ≤ d) (hM : tg m M = 11) (hT : vl m M 19 = T) (ok : OK m) (h : TW m T n us C) (hS : SC m a cs) : ∀ (F : Fo) (p : Int) (z4 z5 : PV), cat z4 = 1 → cat z5 = 1 → TF (nv m T) us n p true F → rn d 229 10 [pR M, pI x, pR a, pI (hdI F), z4, z5] [] m = some (.inl (some (pI (fnI cs F))), m) := by
  have hc := h.2.2.2.2.2.2.1
  have l5 := h.ld (f := 5) ⟨by decide, by decide⟩ (by decide)
  have l7 := h.ld (f := 7) ⟨by decide, by decide⟩ (by decide)
  have h349 := c349 (d := d - 1) (by omega) ok.1 hS
  have hcs := hS.2.2.2.2.2.1
  intro F
  induction F with
  | leaf =>
    intro p z4 z5 c4 c5 hF
    refine q229_10 (by omega) ok.1 c4 c5 _ ?_
    rw [if_pos (show hdI .leaf < 0 by decide)]; rfl
  | inner j dd u l r _ ih =>
    intro p z4 z5 c4 c5 hF
    obtain ⟨f1, f2, f3, f4, f5, f6, f7, f8, f9, f10⟩ := hF
    obtain ⟨g7, g6⟩ := f5 rfl
    have e7 : vl m (vl m T 7) j = dd.2.2.2.length := g7
    have e5 : vl m (vl m T 5) j = hdI r := f8
    have s96 : ∀ z : Int, rn d 229 96 [pR M, pI x, pR a, pI j, pI (if dd.2.2.2 = cs then 1 else 0), pI z] [] m = some (.inl (some (pI (fnI cs (.inner j dd u l r)))), m) := by
      intro z
      refine q229_96 ok.1 _ ?_
      simp only [fnI]
      by_cases hk : dd.2.2.2 = cs
      · rw [if_pos hk, if_neg (by decide), if_pos hk]
      · rw [if_neg hk, if_pos rfl, if_neg hk, gd_of hM, nm_eq, hT, gd_of h.1, nm_eq, gd_of l5.1, gd_of ⟨by omega, by omega⟩, e5]
        exact ih p (pI 0) (pI z) rfl rfl f10
    refine q229_10 (by omega) ok.1 c4 c5 _ ?_
    rw [show hdI (.inner j dd u l r) = (j : Int) from rfl, if_neg (by omega), gd_of hM, nm_eq, hT, gd_of h.1, nm_eq, gd_of l7.1, gd_of ⟨by omega, by omega⟩, gd_of hS.1, bI_eq h349, e7]
    by_cases hl : dd.2.2.2.length = cs.length
    · rw [if_pos (by omega)]
      exact c229_40 hd hM hT ok h ⟨by omega, f1⟩ rfl g6 hS hl _ s96
    · rw [if_neg (by omega)]
      have h0 := s96 0
      rw [if_neg (fun e => hl (by rw [e]))] at h0
      refine q229_40 (by omega) ok.1 _ ?_
      rw [gd_of hS.1, bI_eq h349]
      by_cases hj2 : (0 : Int) < (cs.length : Int)
      · rw [if_pos hj2, if_pos rfl]; exact h0
      · rw [if_neg hj2]; exact h0
theorem c229 {x : Nat} {dd : ND} {l : Fo} {a : Int} {cs : List Int} (hd : 4 ≤ d) (hM : tg m M = 11) (hT : vl m M 19 = T) (ok : OK m) (h : TW m T n us C) (hN : TN (nv m T) us n x dd l) (h6 : dd.1 = 6) (hS : SC m a cs) : cl d 229 [pR M, pI x, pR a] m = some (.inl (some (pI (fnI cs l))), m) := by
  have hc := h.2.2.2.2.2.2.1
  have l4 := h.ld (f := 4) ⟨by decide, by decide⟩ (by decide)
  obtain ⟨f1, f2, f3, f4, f5, f6⟩ := hN
  have e4 : vl m (vl m T 4) x = hdI l := f5
  rw [show (dd.1 == 6) = true by rw [h6]; rfl] at f6
  refine q229 ok.1 _ ?_
  rw [gd_of hM, nm_eq, hT, gd_of h.1, nm_eq, gd_of l4.1, gd_of ⟨by omega, by omega⟩, e4]
  exact c229_10 hd hM hT ok h hS l x pU pU rfl rfl f6
end
