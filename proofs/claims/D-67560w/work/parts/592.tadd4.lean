/-! the twin's trees: add, whole -/
set_option maxRecDepth 100000
set_option maxHeartbeats 4000000
section
variable {d : Nat} {m : Mem} {t n C : Int} {us : List Int}
theorem GT.old {m1 : Mem} {j : Int} (h : GT m m1 t j C) (hw : TW m t n us C) (ok : OK m) {f : Int} (hf : 0 ≤ f ∧ f ≤ 9) (hj : j ≤ f) : tg m1 t = 13 ∧ vl m1 t f = vl m t f ∧ ln m1 (vl m t f) = C ∧ tg m1 (vl m t f) = tg m (vl m t f) ∧ vl m t f < nx m ∧ t < nx m ∧ vl m t f ≠ t := by
  have h1 := hw.arr (Or.inl hf)
  have h2 := hw.1
  have ht : t < nx m := tz_lt ok.1 (by omega)
  have hv : vl m t f < nx m := tz_lt ok.1 (by omega)
  refine ⟨by rw [(h.2.2.2.1 t ht).1]; exact h2, h.2.2.2.2.1 t ht f (by omega), by rw [(h.2.2.2.1 _ hv).2]; exact h1.2.2 hf.2, (h.2.2.2.1 _ hv).1, hv, ht, ?_⟩
  intro e; rw [e] at h1; omega
/-- one field more -/
theorem GT.more {m1 : Mem} {j : Int} (j' : Int) (hj' : j' = j + 1) (h : GT m m1 t j C) (hw : TW m t n us C) (ok : OK m) (hj : 0 ≤ j ∧ j ≤ 9) (hj1 : j ≠ 1) : ∃ m2, cl d 286 [pR (vl m1 t j)] m1 = some (.inl (some (pR (nx m1))), m2) ∧ GT m (mst m2 t j (nx m1)) t j' C := by
  subst hj'
  obtain ⟨o1, o2, o3, o4, o5, o6, o7⟩ := h.old hw ok hj (by omega)
  have hc := hw.2.2.2.2.2.2.1
  have hl := hw.ld hj hj1
  have e := c286 (d := d) (a := vl m1 t j) h.1 (by rw [o2, o4]; exact hl.1) (by rw [o2, o3]; omega)
  refine ⟨_, e, ?_⟩
  have := h.step (T := 287101) hj o6 (by omega) ⟨o5, o7⟩ (by rw [if_neg hj1])
  rw [o2] at this ⊢
  rw [o3]; exact this
theorem c285 {k : Int} (hd : 0 < d) (h : TW m t n us C) (hT : TI m) (ok : OK m) (hn : n < 20000) : ∃ m' C', cl d 285 [pR t, pI k] m = some (.inl (some (pI n)), m') ∧ TW m' t (n + 1) us C' ∧ TV t n m m' ∧ (nv m' t 0 n = k ∧ nv m' t 4 n = -1 ∧ nv m' t 5 n = -1 ∧ nv m' t 8 n = -1 ∧ nv m' t 6 n = -1 ∧ nv m' t 3 n = 0 ∧ nv m' t 2 n = us.length) ∧ uC m' t = uC m t ∧ GR m m' (tC m t C) (tC m' t C') ∧ C' ≤ max C (2 * n) := by
  have h7 := h.2.2.2.2.2.2.1
  have l0 := h.ld (f := 0) ⟨by decide, by decide⟩ (by decide)
  by_cases hg : n = C
  · have g0 : GT m m t 0 C := ⟨ok, by omega, by omega, fun _ _ => ⟨rfl, rfl⟩, fun _ _ _ _ => rfl, fun g g0 g1 => by omega⟩
    obtain ⟨a1, e1, g1⟩ := g0.more (d := d - 1) 1 (by decide) h ok (by omega) (by omega)
    -- the numbers
    have o := g1.old h ok (f := 1) (by omega) (by omega)
    obtain ⟨o1, o2, o3, o4, o5, o6, o7⟩ := o
    have hl1 := h.2.2.1
    have g2 : GT m (mst (mcp (mal (mst a1 t 0 (nx m)) 286102 (2 * C)) (vl (mst a1 t 0 (nx m)) t 1) 0 (nx (mst a1 t 0 (nx m))) 0 C) t 1 (nx (mst a1 t 0 (nx m)))) t 2 C := g1.step (T := 286102) (by omega) o6 (by omega) ⟨o5, o7⟩ (by rw [if_pos rfl])
    generalize hb1 : mst a1 t 0 (nx m) = b1 at *
    have hb1v : ∀ a, vl a1 a 1 = vl b1 a 1 := fun a => by rw [← hb1, vl_mst, if_neg (by omega)]
    have hb1t : ∀ a, tg a1 a = tg b1 a := fun a => by rw [← hb1]; rfl
    have hb1l : ∀ a, ln a1 a = ln b1 a := fun a => by rw [← hb1]; rfl
    generalize hb2 : mst (mcp (mal b1 286102 (2 * C)) (vl b1 t 1) 0 (nx b1) 0 C) t 1 (nx b1) = b2 at *
    obtain ⟨a3, e3, g3⟩ := g2.more (d := d - 1) 3 (by decide) h ok (by omega) (by omega)
    obtain ⟨a4, e4, g4⟩ := g3.more (d := d - 1) 4 (by decide) h ok (by omega) (by omega)
    obtain ⟨a5, e5, g5⟩ := g4.more (d := d - 1) 5 (by decide) h ok (by omega) (by omega)
    obtain ⟨a6, e6, g6⟩ := g5.more (d := d - 1) 6 (by decide) h ok (by omega) (by omega)
    obtain ⟨a7, e7, g7⟩ := g6.more (d := d - 1) 7 (by decide) h ok (by omega) (by omega)
    obtain ⟨a8, e8, g8⟩ := g7.more (d := d - 1) 8 (by decide) h ok (by omega) (by omega)
    obtain ⟨a9, e9, g9⟩ := g8.more (d := d - 1) 9 (by decide) h ok (by omega) (by omega)
    obtain ⟨a10, e10, g10⟩ := g9.more (d := d - 1) 10 (by decide) h ok (by omega) (by omega)
    obtain ⟨w1, w2, w3⟩ := g10.fin h hT ok (by omega)
    obtain ⟨m', em, k1, k2, k3, k4, k5, k6⟩ := c285_152 (d := d) (k := k) (z2 := pR (nx b1)) (z3 := pI C) rfl rfl w1 w2.1 g10.1 (by omega)
    refine ⟨m', 2 * C, ?_, k1, w2.trans k2 (by omega), k3, by rw [k4, w3], ?_, by omega⟩
    · refine q285 hd ok.1 _ ?_
      rw [gd_of h.1, nm_eq, gd_of l0.1, if_pos (by rw [h.2.2.2.2.1, l0.2]; exact hg), bR_eq e1, nm_eq, hb1v, hb1t, hb1l, hb1, o2, o4, gd_of hl1.1, nm_eq, o3, w32_of (by omega) (by omega), gd_of ⟨by omega, by omega⟩, nw_eq]
      have hnb : nx b1 = nx m + 1 := g1.2.1
      rw [o2] at hb2
      have hv2 : vl b2 t 2 = vl (mcp (mal b1 286102 (2 * C)) (vl m t 1) 0 (nx b1) 0 C) t 2 := by rw [← hb2, vl_mst, if_neg (by omega)]
      rw [vl_mst, if_neg (by omega)] at e4
      rw [vl_mst, if_neg (by omega)] at e5
      rw [vl_mst, if_neg (by omega)] at e6
      rw [vl_mst, if_neg (by omega)] at e7
      rw [vl_mst, if_neg (by omega)] at e8
      rw [vl_mst, if_neg (by omega)] at e9
      rw [vl_mst, if_neg (by omega)] at e10
      have loop : ∀ (N : Nat) (i : Int), 0 ≤ i → i ≤ C → (C - i).toNat = N → rn d 285 35 [pR t, pI k, pR (nx b1), pI i] [] (mcp (mal b1 286102 (2 * C)) (vl m t 1) 0 (nx b1) 0 i) = some (.inl (some (pI n)), m') := by
        intro N
        induction N with
        | zero =>
          intro i i0 i1 hi
          have hz2 : TZ (mcp (mal b1 286102 (2 * C)) (vl m t 1) 0 (nx b1) 0 i) := by
            intro b hb
            have hb2 : nx b1 + 1 ≤ b := hb
            show (if b = nx b1 then 286102 else tg b1 b) = 0
            rw [if_neg (by omega)]; exact g1.1.1 b (by omega)
          have et : tg (mcp (mal b1 286102 (2 * C)) (vl m t 1) 0 (nx b1) 0 i) t = 13 := by
            show (if t = nx b1 then 286102 else tg b1 t) = 13
            rw [if_neg (by omega)]; exact o1
          have e11 : vl (mcp (mal b1 286102 (2 * C)) (vl m t 1) 0 (nx b1) 0 i) t 1 = vl m t 1 := by
            rw [vl_mcp, if_neg (by omega), vl_mal, if_neg (by omega)]; exact o2
          have etu : tg (mcp (mal b1 286102 (2 * C)) (vl m t 1) 0 (nx b1) 0 i) (vl m t 1) = tg m (vl m t 1) := by
            show (if vl m t 1 = nx b1 then 286102 else tg b1 (vl m t 1)) = _
            rw [if_neg (by omega)]; exact o4
          have elu : ln (mcp (mal b1 286102 (2 * C)) (vl m t 1) 0 (nx b1) 0 i) (vl m t 1) = C := by
            show (if vl m t 1 = nx b1 then 2 * C else ln b1 (vl m t 1)) = _
            rw [if_neg (by omega)]; exact o3
          have hiC : i = C := by omega
          refine q285_35 hd hz2 _ ?_
          rw [gd_of et, nm_eq, e11, etu, elu, gd_of hl1.1, if_neg (by omega), hiC, hb2, ← hv2, bR_eq e3, bR_eq e4, bR_eq e5, bR_eq e6, bR_eq e7, bR_eq e8, bR_eq e9, bR_eq e10]
          exact em
        | succ N ih =>
          intro i i0 i1 hi
          have hz2 : TZ (mcp (mal b1 286102 (2 * C)) (vl m t 1) 0 (nx b1) 0 i) := by
            intro b hb
            have hb2 : nx b1 + 1 ≤ b := hb
            show (if b = nx b1 then 286102 else tg b1 b) = 0
            rw [if_neg (by omega)]; exact g1.1.1 b (by omega)
          have et : tg (mcp (mal b1 286102 (2 * C)) (vl m t 1) 0 (nx b1) 0 i) t = 13 := by
            show (if t = nx b1 then 286102 else tg b1 t) = 13
            rw [if_neg (by omega)]; exact o1
          have e11 : vl (mcp (mal b1 286102 (2 * C)) (vl m t 1) 0 (nx b1) 0 i) t 1 = vl m t 1 := by
            rw [vl_mcp, if_neg (by omega), vl_mal, if_neg (by omega)]; exact o2
          have etu : tg (mcp (mal b1 286102 (2 * C)) (vl m t 1) 0 (nx b1) 0 i) (vl m t 1) = tg m (vl m t 1) := by
            show (if vl m t 1 = nx b1 then 286102 else tg b1 (vl m t 1)) = _
            rw [if_neg (by omega)]; exact o4
          have elu : ln (mcp (mal b1 286102 (2 * C)) (vl m t 1) 0 (nx b1) 0 i) (vl m t 1) = C := by
            show (if vl m t 1 = nx b1 then 2 * C else ln b1 (vl m t 1)) = _
            rw [if_neg (by omega)]; exact o3
          have eto : tg (mcp (mal b1 286102 (2 * C)) (vl m t 1) 0 (nx b1) 0 i) (nx b1) = 286102 := by
            show (if nx b1 = nx b1 then 286102 else tg b1 (nx b1)) = 286102
            rw [if_pos rfl]
          have elo : ln (mcp (mal b1 286102 (2 * C)) (vl m t 1) 0 (nx b1) 0 i) (nx b1) = 2 * C := by
            show (if nx b1 = nx b1 then 2 * C else ln b1 (nx b1)) = 2 * C
            rw [if_pos rfl]
          have evk : vl (mcp (mal b1 286102 (2 * C)) (vl m t 1) 0 (nx b1) 0 i) (vl m t 1) i = vl (mal b1 286102 (2 * C)) (vl m t 1) i := by
            rw [vl_mcp, if_neg (by omega)]
          refine q285_35 hd hz2 _ ?_
          rw [gd_of et, nm_eq, e11, etu, elu, eto, elo, gd_of hl1.1, if_pos (by omega), gd_of ⟨i0, by omega⟩, gd_of rfl, gd_of ⟨i0, by omega⟩, w32_of (by omega) (by omega), evk, mcp_mst i0 (by omega)]
          exact ih (i + 1) (by omega) (by omega) (by omega)
      have := loop _ 0 (by omega) (by omega) rfl
      rw [mcp_0] at this; exact this
    · have hx := g10.2.1
      have hs := g10.2.2.1
      unfold GR tC
      rw [k4, w3, k5, k6, hx, hs]
      omega
  · obtain ⟨m', em, k1, k2, k3, k4, k5, k6⟩ := c285_152 (d := d) (k := k) (z2 := pU) (z3 := pU) rfl rfl h hT ok (by omega)
    refine ⟨m', C, ?_, k1, k2, k3, k4, by unfold GR tC; omega, by omega⟩
    refine q285 hd ok.1 _ ?_
    rw [gd_of h.1, nm_eq, gd_of l0.1, if_neg (by rw [h.2.2.2.2.1, l0.2]; exact hg)]; exact em
end
