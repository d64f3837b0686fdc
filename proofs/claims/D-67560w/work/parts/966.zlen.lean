/-! evaluation by the twin: how long; which is below -/
set_option maxRecDepth 100000
set_option maxHeartbeats 4000000
theorem kT_is4 {k : Nat} : kT k = 4 ↔ k = 4 := by unfold kT; split <;> (try split) <;> omega
theorem kT_is3 {k : Nat} : kT k = 3 ↔ k = 3 := by unfold kT; split <;> (try split) <;> omega
theorem kT_lt4 {k : Nat} : kT k < 4 ↔ k < 4 := by unfold kT; split <;> (try split) <;> omega
theorem kT_inj2 {k k' : Nat} (h : kT k = kT k') : k = k' := by unfold kT at h; split at h <;> split at h <;> (try split at h) <;> (try split at h) <;> omega
section
variable {E : ZE} {m m1 : Mem} {n n0 : Nat} {uv stk : List Int} {C b : Int} {s : Option Int} {d : Nat} {x y : Int} {v u : VR}
/-- a place of a value -/
theorem ZB.nV {i : Nat} {f : Int} (h : ZB E m n uv C) (hf : 0 ≤ f ∧ f ≤ 9 ∧ f ≠ 1) (hi : (i : Int) < n) : (tg m (vl m E.V f) = 284101 ∨ tg m (vl m E.V f) = 287101) ∧ ((0 : Int) ≤ (i : Int) ∧ (i : Int) < ln m (vl m E.V f)) := by
  have l5 := h.hV.ld (f := f) ⟨hf.1, hf.2.1⟩ hf.2.2
  have hc := h.hV.2.2.2.2.2.2.1
  exact ⟨l5.1, ⟨by omega, by rw [l5.2]; omega⟩⟩
theorem c271_122 {z : Int} {z4 z5 : PV} {i : Int} (h4 : cat z4 = 1) (h5 : cat z5 = 1) (ho : ZO E) (hd : 2 ≤ d) (h : ZC E s m stk n uv C) (hn : (n : Int) + 1 ≤ 15500) (hu : (uv.length : Int) ≤ 40000) (hn0 : n0 ≤ n) (hz : 0 ≤ z ∧ z < 100000) : ∃ m' C', rn d 271 122 [pR E.M, pI i, pL z, pU, z4, z5] [] m = some (.inl (some (pI n)), m') ∧ ZC E s m' stk (n + 1) uv C' ∧ ZQ E n m C m' C' ∧ VN E m' n0 (n + 1) uv n (vNum z) := by
  obtain ⟨m1, m2, C2, e1, g1, g2, g3, g4, g5, c1, c2, q2, v2⟩ := zNum (n0 := n0) (d := d - 1) (z := z) ho (by omega) h hn hu hn0 (by omega)
  refine ⟨m2, C2, q271_122 (by omega) h.bB.tz h4 h5 _ ?_, c2, q2, v2⟩
  rw [gd_of h.bB.hM, nm_eq, h.bB.vV, gd_of h.bB.hV.1, bI_eq e1, nm_eq, g1, gd_of g2, nm_eq, gd_of g3, gd_of g4, g5]
theorem c271_66 {i en : Int} (ho : ZO E) (hd : 3 ≤ d) (h : ZC E s m stk n uv C) (hn : (n : Int) + 1 ≤ 15500) (hu : (uv.length : Int) ≤ 40000) (hn0 : n0 ≤ n) : ∀ (N : Nat) (us : List Int) (k z : Int), us.length ≤ N → At uv k us → wfU us → sur us → k + us.length = en → 0 ≤ z → z + us.length ≤ 50000 → ∃ m' C', rn d 271 66 [pR E.M, pI i, pL z, pU, pI en, pI k] [] m = some (.inl (some (pI n)), m') ∧ ZC E s m' stk (n + 1) uv C' ∧ ZQ E n m C m' C' ∧ VN E m' n0 (n + 1) uv n (vNum (z + (chU us).length)) := by
  intro N
  induction N with
  | zero =>
    intro us k z hN hA hw hs he hz0 hz1
    have : us = [] := List.length_eq_zero_iff.mp (by omega)
    subst this
    obtain ⟨m', C', e1, c1, q1, v1⟩ := c271_122 (n0 := n0) (z := z) (z4 := pI en) (z5 := pI k) (i := i) (d := d) rfl rfl ho (by omega) h hn hu hn0 (by omega)
    refine ⟨m', C', q271_66 (by omega) h.bB.tz _ ?_, c1, q1, by simpa [chU] using v1⟩
    rw [if_neg (by simp at he; omega)]
    exact e1
  | succ N ih =>
    intro us k z hN hA hw hs he hz0 hz1
    cases us with
    | nil => exact ih [] k z (by simp) hA hw hs he hz0 hz1
    | cons w us =>
      obtain ⟨ch, rest, e1, e2, e3, e4⟩ := chU_cons hw hs
      simp only [List.length_cons] at hN hz1 he
      push_cast at hz1 he
      have e237 := c237 (d := d - 1) (e := en) h.bB.tz h.bB.hV hA (by omega) e4
      have hk0 := hA.1
      have hk1 := hA.2.1
      have hcl : ((chU rest).length : Int) + 1 = (chU (w :: us)).length := by rw [e1, List.length_cons]; push_cast; rfl
      have hw0 := hw w (by simp)
      have st : ∀ (q : Int), (q = 1 ∨ q = 2) → (if 65535 < ch then q = 2 else q = 1) → ∀ Z, rn d 271 66 [pR E.M, pI i, pL (z + 1), pU, pI en, pI (k + q)] [] m = some Z → rn d 271 66 [pR E.M, pI i, pL z, pU, pI en, pI k] [] m = some Z := fun q hq hq2 Z hZ => by
        refine q271_66 (by omega) h.bB.tz _ ?_
        rw [if_pos (by omega), nm_eq, gd_of h.bB.hM, nm_eq, h.bB.vV, gd_of h.bB.hV.1, bI_eq e237, (w64_of (by omega) (by omega) : w64 (z + 1) = z + 1)]
        by_cases y : 65535 < ch
        · rw [if_pos y] at hq2 ⊢; subst hq2; rw [(w32_of (by omega) (by omega) : w32 (k + 2) = k + 2)]; exact hZ
        · rw [if_neg y] at hq2 ⊢; subst hq2; rw [(w32_of (by omega) (by omega) : w32 (k + 1) = k + 1)]; exact hZ
      rcases e4 with ⟨y1, y2, y3⟩ | ⟨w', y1, y2, y3, y4, y5, y6⟩
      · subst y2
        obtain ⟨m', C', g0, c1, q1, v1⟩ := ih rest (k + 1) (z + 1) (by omega) hA.cons.2 e3 e2 (by omega) (by omega) (by omega)
        exact ⟨m', C', st 1 (Or.inl rfl) (by rw [if_neg (by omega)]) _ g0, c1, q1, by rw [show z + ((chU (w :: rest)).length : Int) = z + 1 + (chU rest).length by omega]; exact v1⟩
      · subst y1
        simp only [List.length_cons] at hN hz1 he
        push_cast at hz1 he
        have hA2 := hA.cons.2.cons.2
        rw [show k + 1 + 1 = k + 2 by omega] at hA2
        obtain ⟨m', C', g0, c1, q1, v1⟩ := ih rest (k + 2) (z + 1) (by omega) hA2 e3 e2 (by omega) (by omega) (by omega)
        exact ⟨m', C', st 2 (Or.inr rfl) (by rw [if_pos (by omega)]) _ g0, c1, q1, by rw [show z + ((chU (w :: w' :: rest)).length : Int) = z + 1 + (chU rest).length by omega]; exact v1⟩
/-- how long a value is -/
theorem c271 (ho : ZO E) (hd : 4 ≤ d) (h : ZC E s m stk n uv C) (hv : VN E m n0 n uv x v) (hn : (n : Int) + 1 ≤ 15500) (hu : (uv.length : Int) ≤ 40000) (hn0 : n0 ≤ n) : ∃ m' C' n' x', cl d 271 [pR E.M, pI x] m = some (.inl (some (pI x')), m') ∧ ZC E s m' stk n' uv C' ∧ ZQ E n m C m' C' ∧ VN E m' n0 n' uv x' (vLen v) ∧ n ≤ n' ∧ n' ≤ n + 1 := by
  cases v with
  | none =>
    have hx : x = -1 := hv
    refine ⟨m, C, n, -1, q271 (by omega) h.bB.tz _ ?_, h, ZQ.refl h.bB.ti, rfl, Nat.le_refl _, by omega⟩
    rw [if_pos (by omega)]
  | some dl =>
    obtain ⟨dd, l⟩ := dl
    obtain ⟨i, lD, rfl, h2, hN, h4, hw, hs, hh⟩ := hv
    obtain ⟨t1, t2, t3, t4, t5, t6⟩ := hN
    obtain ⟨k1, k2⟩ := h.bB.nV (f := 0) (by decide) t1
    obtain ⟨k3, k4⟩ := h.bB.nV (f := 2) (by decide) t1
    obtain ⟨k5, k6⟩ := h.bB.nV (f := 3) (by decide) t1
    have st : ∀ Z, (if (kT dd.1 : Int) < 4 then (some (.inl (some (pI (-1))), m)) else if kT dd.1 = 4 then (rn d 271 66 [pR E.M, pI i, pL 0, pU, pI (w32 (nv m E.V 2 i + nv m E.V 3 i)), pI (nv m E.V 2 i)] [] m) else bI (cl (d - 1) 291 [pR E.V, pI i] m) fun v1 m1 => rn d 271 122 [pR E.M, pI i, pL v1, pU, pU, pU] [] m1) = some Z → cl d 271 [pR E.M, pI i] m = some Z := fun Z hZ => by
      refine q271 (by omega) h.bB.tz _ ?_
      have e0 : vl m (vl m E.V 0) i = kT dd.1 := t2
      rw [if_neg (by omega), gd_of h.bB.hM, nm_eq, h.bB.vV, gd_of h.bB.hV.1, nm_eq, gd_of k1, gd_of k2, nm_eq, e0]
      by_cases z : kT dd.1 < 4
      · rw [if_pos z] at hZ ⊢; exact hZ
      · rw [if_neg z] at hZ ⊢
        by_cases z4 : kT dd.1 = 4
        · rw [if_pos z4] at hZ ⊢
          rw [nm_eq, gd_of k3, gd_of k4, nm_eq, nm_eq, gd_of k5, gd_of k6]
          exact hZ
        · rw [if_neg z4] at hZ ⊢; exact hZ
    by_cases z : dd.1 < 4
    · refine ⟨m, C, n, -1, st _ ?_, h, ZQ.refl h.bB.ti, by rw [show vLen (some (dd, l)) = none from if_pos z]; rfl, Nat.le_refl _, by omega⟩
      rw [if_pos (kT_lt4.mpr z)]
    · by_cases z4 : dd.1 = 4
      · obtain ⟨a1, a2⟩ := t4
        have hl0 := a2.1
        have hl1 := a2.2.1
        obtain ⟨m', C', g0, c1, q1, v1⟩ := c271_66 (n0 := n0) (i := (i : Int)) (en := nv m E.V 2 i + dd.2.2.1.length) (d := d) ho (by omega) h hn hu hn0 dd.2.2.1.length dd.2.2.1 (nv m E.V 2 i) 0 (Nat.le_refl _) a2 hw.1.2.2.2.1 hw.2.1 rfl (by omega) (by omega)
        have ev : vLen (some (dd, l)) = vNum (chU dd.2.2.1).length := by unfold vLen; dsimp only; rw [if_neg z, if_pos z4]
        refine ⟨m', C', n + 1, n, st _ ?_, c1, q1, by rw [ev]; rw [Int.zero_add] at v1; exact v1, by omega, Nat.le_refl _⟩
        rw [if_neg (fun q => z (kT_lt4.mp q)), if_pos (kT_is4.mpr z4), a1, w32_of (by omega) (by omega)]
        exact g0
      · have hN' : TN (nv m E.V) uv n i dd lD := ⟨t1, t2, t3, t4, t5, t6⟩
        have hcs : (cntF lD : Int) ≤ 480 := by
          have : ∀ F : Fo, cntF F ≤ szF F := by
            intro F
            induction F with
            | leaf => exact Nat.le_refl 0
            | inner i d u l r _ ih => show cntF r + 1 ≤ 1 + szF l + szF r; omega
          have := this lD
          omega
        have e291 := c291 (d := d - 1) h.bB.hV h.bB.ok hN' (by rw [ctI_cnt3]; omega)
        rw [ctI_cnt3] at e291
        have ec : cntF lD = cntF l := by rw [← cntF_er lD, h4, cntF_er]
        obtain ⟨m', C', g0, c1, q1, v1⟩ := c271_122 (n0 := n0) (z := (cntF lD : Int)) (z4 := pU) (z5 := pU) (i := (i : Int)) (d := d) rfl rfl ho (by omega) h hn hu hn0 (by omega)
        have ev : vLen (some (dd, l)) = vNum (cntF lD) := by unfold vLen; dsimp only; rw [if_neg z, if_neg z4, ec]
        refine ⟨m', C', n + 1, n, st _ ?_, c1, q1, by rw [ev]; exact v1, by omega, Nat.le_refl _⟩
        rw [if_neg (fun q => z (kT_lt4.mp q)), if_neg (fun q => z4 (kT_is4.mp q)), bI_eq e291]
        exact g0
/-- whether one is below the other -/
theorem c272 (hd : 2 ≤ d) (h : ZC E s m stk n uv C) (hv : VN E m n0 n uv x v) (hu : VN E m n0 n uv y u) : cl d 272 [pR E.M, pI x, pI y] m = some (.inl (some (pI (b2i (vLt v u)))), m) := by
  refine q272 (by omega) h.bB.tz _ ?_
  cases v with
  | none =>
    have hx : x = -1 := hv
    rw [if_pos (by omega)]; rfl
  | some dl =>
    obtain ⟨dd, l⟩ := dl
    obtain ⟨i, lD, rfl, h2, hN, h4, hw, hs, hh⟩ := hv
    rw [if_neg (by omega)]
    cases u with
    | none =>
      have hy : y = -1 := hu
      rw [if_pos (by omega)]; rfl
    | some dl' =>
      obtain ⟨dd', l'⟩ := dl'
      obtain ⟨j, lD', rfl, h2', hN', h4', hw', hs', hh'⟩ := hu
      rw [if_neg (by omega)]
      have e0 : vl m (vl m E.V 0) i = kT dd.1 := hN.2.1
      have e0' : vl m (vl m E.V 0) j = kT dd'.1 := hN'.2.1
      obtain ⟨k1, k2⟩ := h.bB.nV (f := 0) (by decide) hN.1
      obtain ⟨-, k2'⟩ := h.bB.nV (f := 0) (by decide) hN'.1
      have ev : vLt (some (dd, l)) (some (dd', l')) = if dd.1 = 3 ∧ dd'.1 = 3 then decide (dd.2.1 < dd'.2.1) else if dd.1 = 4 ∧ dd'.1 = 4 then decide (orC (chU dd.2.2.1) (chU dd'.2.2.1) < 0) else false := rfl
      rw [ev, gd_of h.bB.hM, nm_eq, h.bB.vV, gd_of h.bB.hV.1, nm_eq, gd_of k1, gd_of k2, nm_eq, gd_of k2', e0, e0']
      by_cases ek : dd.1 = dd'.1
      · rw [if_pos (by rw [ek])]
        by_cases z3 : dd.1 = 3
        · have hc := h.bB.hV.2.2.2.2.2.2.1
          have h1 := h.bB.hV.2.2.1
          have g1 : vl m (vl m E.V 1) i = dd.2.1 := hN.2.2.1 z3
          have g2 : vl m (vl m E.V 1) j = dd'.2.1 := hN'.2.2.1 (by omega)
          have i1 := hN.1
          have j1 := hN'.1
          rw [if_pos (kT_is3.mpr z3), nm_eq, gd_of h1.1, gd_of ⟨by omega, by rw [h1.2]; omega⟩, gd_of ⟨by omega, by rw [h1.2]; omega⟩, g1, g2, if_pos (show dd.1 = 3 ∧ dd'.1 = 3 from ⟨z3, by omega⟩)]
          by_cases q : dd.2.1 < dd'.2.1
          · rw [if_pos q, decide_eq_true q]; rfl
          · rw [if_neg q, decide_eq_false q]; rfl
        · rw [if_neg (fun q => z3 (kT_is3.mp q)), if_neg (show ¬ (dd.1 = 3 ∧ dd'.1 = 3) from fun q => z3 q.1)]
          by_cases z4 : dd.1 = 4
          · have e236 := c236 (d := d - 1) (by omega) h.bB.tz h.bB.hV h.bB.hV hN hN' hw.1.2.2.2.1 hw'.1.2.2.2.1 hw.2.1 hw'.2.1
            rw [if_pos (kT_is4.mpr z4), bI_eq e236, if_pos (show dd.1 = 4 ∧ dd'.1 = 4 from ⟨z4, by omega⟩)]
            by_cases q : orC (chU dd.2.2.1) (chU dd'.2.2.1) < 0
            · rw [if_pos q, decide_eq_true q]; rfl
            · rw [if_neg q, decide_eq_false q]; rfl
          · rw [if_neg (fun q => z4 (kT_is4.mp q)), if_neg (show ¬ (dd.1 = 4 ∧ dd'.1 = 4) from fun q => z4 q.1)]; rfl
      · rw [if_neg (fun q => ek (kT_inj2 q)), if_neg (by omega), if_neg (by omega)]; rfl
/-- whether two values are the same -/
theorem c235_v (hd : 50 ≤ d) (h : ZC E s m stk n uv C) (hv : VN E m n0 n uv x v) (hu : VN E m n0 n uv y u) (hx : ¬ x < 0) (hy : ¬ y < 0) : cl d 235 [pR E.V, pI x, pR E.V, pI y] m = some (.inl (some (pI (b2i (vSm v u)))), m) := by
  cases v with
  | none => exact absurd (show x < 0 by have : x = -1 := hv; omega) hx
  | some dl =>
    cases u with
    | none => exact absurd (show y < 0 by have : y = -1 := hu; omega) hy
    | some dl' =>
      obtain ⟨dd, l⟩ := dl
      obtain ⟨dd', l'⟩ := dl'
      obtain ⟨i, lD, rfl, h2, hN, h4, hw, hs, hh⟩ := hv
      obtain ⟨j, lD', rfl, h2', hN', h4', hw', hs', hh'⟩ := hu
      have e235 := c235 (d := d) (by omega) h.bB.ok h.bB.hV h.bB.hV hN hN' hw hw' (by omega) (by omega)
      rw [e235]
      have : smV dd lD dd' lD' = smV dd l dd' l' := by rw [← smV_er dd dd' lD lD', h4, h4', smV_er]
      rw [this]; rfl
end
