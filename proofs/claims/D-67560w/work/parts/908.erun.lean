/-! evaluation by the component: the runner -/
set_option maxRecDepth 100000
set_option maxHeartbeats 4000000
/-- what evaluation leaves as it was: all but the runner, its nodes, and results at places of P -/
def EK (P : Int → Prop) (m m' : Mem) : Prop := (∀ a, tg m a ≠ 0 → tg m' a = tg m a ∧ ln m' a = ln m a) ∧ ∀ a j, tg m a ≠ 0 → tg m a ≠ 6 → tg m a ≠ 104101 → tg m a ≠ 107101 → (tg m a = 27 → ¬ P a) → vl m' a j = vl m a j
theorem EK.refl {P : Int → Prop} {m : Mem} : EK P m m := ⟨fun _ _ => ⟨rfl, rfl⟩, fun _ _ _ _ _ _ _ => rfl⟩
theorem EK.trans {P : Int → Prop} {m m1 m2 : Mem} (h : EK P m m1) (h' : EK P m1 m2) : EK P m m2 := by
  refine ⟨fun a ha => ?_, fun a j h0 h1 h2 h3 h4 => ?_⟩
  · have b := h.1 a ha
    have c := h'.1 a (by rw [b.1]; exact ha)
    exact ⟨by rw [c.1, b.1], by rw [c.2, b.2]⟩
  · have b := (h.1 a h0).1
    rw [h'.2 a j (by rw [b]; exact h0) (by rw [b]; exact h1) (by rw [b]; exact h2) (by rw [b]; exact h3) (by rw [b]; exact h4), h.2 a j h0 h1 h2 h3 h4]
theorem EK.imp {P Q : Int → Prop} {m m1 : Mem} (h : EK P m m1) (hp : ∀ a, P a → Q a) : EK Q m m1 := ⟨h.1, fun a j h0 h1 h2 h3 h4 => h.2 a j h0 h1 h2 h3 (fun z w => h4 z (hp a w))⟩
theorem EK.set {P : Int → Prop} {m : Mem} {a f v : Int} (h : tg m a = 6 ∨ tg m a = 104101 ∨ tg m a = 107101 ∨ (tg m a = 27 ∧ P a)) : EK P m (mst m a f v) := by
  refine ⟨fun _ _ => ⟨rfl, rfl⟩, fun b j h0 h1 h2 h3 h4 => ?_⟩
  rw [vl_mst, if_neg]
  rintro ⟨rfl, -⟩
  rcases h with z | z | z | z
  · exact h1 z
  · exact h2 z
  · exact h3 z
  · exact h4 z.1 z.2
theorem EK.mal {P : Int → Prop} {m : Mem} {t n : Int} (hz : TZ m) : EK P m (mal m t n) := by
  refine ⟨fun a ha => ?_, fun b j h0 _ _ _ _ => ?_⟩
  · have := tz_lt hz ha
    exact ⟨by rw [tg_mal, if_neg (by omega)], by rw [ln_mal, if_neg (by omega)]⟩
  · have := tz_lt hz h0
    rw [vl_mal, if_neg (by omega)]
theorem EK.row {P : Int → Prop} {m m1 : Mem} {r c : Int} {xs : List Int} (h : EK P m m1) (hR : RW m r xs c) : RW m1 r xs c := by
  obtain ⟨a1, a2, a3, a4, a5, a6, a7⟩ := hR
  have g : ∀ j, vl m1 r j = vl m r j := fun j => h.2 r j (by omega) (by omega) (by omega) (by omega) (fun z => by omega)
  have q := h.1 (vl m r 0) (by omega)
  refine ⟨by rw [(h.1 r (by omega)).1]; exact a1, by rw [g, q.1]; exact a2, by rw [g, q.2]; exact a3, by rw [g]; exact a4, a5, a6, fun i i0 i1 => ?_⟩
  rw [g, h.2 _ i (by omega) (by omega) (by omega) (by omega) (fun z => by omega)]
  exact a7 i i0 i1
/-- the runner: over row rw and the value at rt; nodes so far; work done; room -/
def EC (m : Mem) (R rw : Int) (xs : List Int) (c rt : Int) (stk : List Int) (w cap : Int) : Prop := OK m ∧ tg m R = 6 ∧ vl m R 0 = rw ∧ vl m R 1 = rt ∧ RW m rw xs c ∧ ((tg m (vl m R 2) = 104101 ∨ tg m (vl m R 2) = 107101) ∧ ln m (vl m R 2) = cap) ∧ vl m R 3 = stk.length ∧ ((stk.length : Int) ≤ cap ∧ 256 ≤ cap ∧ cap ≤ 20000) ∧ (vl m R 4 = w ∧ (stk.length : Int) ≤ w ∧ w ≤ 10001) ∧ ∀ j : Int, 0 ≤ j → j < stk.length → vl m (vl m R 2) j = gi stk j
section
variable {d : Nat} {m : Mem} {R rw c rt w cap : Int} {xs stk : List Int}
theorem EC.arr (h : EC m R rw xs c rt stk w cap) : vl m R 2 ≠ R := by
  intro z
  have a := h.2.1
  have b := h.2.2.2.2.2.1.1
  rw [z] at b; omega
/-- what was done counts as more -/
theorem EC.wk {w' : Int} (h : EC m R rw xs c rt stk w cap) (h0 : (stk.length : Int) ≤ w' ∧ w' ≤ 10001) : EC (mst m R 4 w') R rw xs c rt stk w' cap := by
  have hA := h.arr
  obtain ⟨a1, a2, a3, a4, a5, ⟨a6, a7⟩, a8, a9, b1, b2⟩ := h
  have g : ∀ f, f ≠ 4 → vl (mst m R 4 w') R f = vl m R f := fun f hf => by rw [vl_mst, if_neg (fun z => hf z.2)]
  exact ⟨a1, a2, by rw [g 0 (by omega)]; exact a3, by rw [g 1 (by omega)]; exact a4, a5.mT (by omega), by rw [g 2 (by omega)]; exact ⟨a6, a7⟩, by rw [g 3 (by omega)]; exact a8, a9, ⟨by rw [vl_mst, if_pos ⟨rfl, rfl⟩], h0⟩, fun j j0 j1 => by rw [g 2 (by omega), vl_mst, if_neg (fun z => hA z.1)]; exact b2 j j0 j1⟩
theorem c107_1 {P : Int → Prop} (h : EC m R rw xs c rt stk w cap) (hw : ¬ 10000 < w + 1) : cl d 107 [pR R] m = some (.inl none, mst m R 4 (w + 1)) ∧ EC (mst m R 4 (w + 1)) R rw xs c rt stk (w + 1) cap ∧ EK P m (mst m R 4 (w + 1)) := by
  have v4 := h.2.2.2.2.2.2.2.2.1
  have hst : (0 : Int) ≤ stk.length := Int.natCast_nonneg _
  refine ⟨q107 h.1.1 _ ?_, h.wk (by omega), EK.set (Or.inl h.2.1)⟩
  rw [gd_of h.2.1, nm_eq, v4.1, (w32_of (by omega) (by omega) : w32 (w + 1) = w + 1), if_neg hw]
theorem c107_0 {P : Int → Prop} (h : EC m R rw xs c rt stk w cap) (hw : 10000 < w + 1) (hw' : w ≤ 10000) : ∃ m', cl d 107 [pR R] m = some (.inr 201, m') ∧ EC m' R rw xs c rt stk (w + 1) cap ∧ EK P m m' ∧ (nx m' = nx m + 1 ∧ sl m' = sl m + 6) := by
  have v4 := h.2.2.2.2.2.2.2.2.1
  have hst : (0 : Int) ≤ stk.length := Int.natCast_nonneg _
  have h1 := h.wk (w' := w + 1) (by omega)
  have k1 : EK P m (mst m R 4 (w + 1)) := EK.set (Or.inl h.2.1)
  have hR := tz_lt h.1.1 (x := R) (by rw [h.2.1]; decide)
  have hA := tz_lt h.1.1 (x := vl m R 2) (by have := h.2.2.2.2.2.1.1; omega)
  refine ⟨mal (mst m R 4 (w + 1)) 201 6, q107 h.1.1 _ ?_, ?_, k1.trans (EK.mal h1.1.1), rfl, rfl⟩
  · rw [gd_of h.2.1, nm_eq, v4.1, (w32_of (by omega) (by omega) : w32 (w + 1) = w + 1), if_pos hw]
  · have ek : EK (fun _ => False) (mst m R 4 (w + 1)) (mal (mst m R 4 (w + 1)) 201 6) := EK.mal h1.1.1
    have hn : nx (mst m R 4 (w + 1)) = nx m := rfl
    have e2 : vl (mst m R 4 (w + 1)) R 2 = vl m R 2 := by rw [vl_mst, if_neg (by omega)]
    generalize hm1 : mst m R 4 (w + 1) = m1 at *
    obtain ⟨a1, a2, a3, a4, a5, ⟨a6, a7⟩, a8, a9, b1, b2⟩ := h1
    have g : ∀ f, vl (mal m1 201 6) R f = vl m1 R f := fun f => by rw [vl_mal, if_neg (by omega)]
    have t : ∀ a, a < nx m → tg (mal m1 201 6) a = tg m1 a ∧ ln (mal m1 201 6) a = ln m1 a := fun a ha => ⟨by rw [tg_mal, if_neg (by omega)], by rw [ln_mal, if_neg (by omega)]⟩
    exact ⟨a1.fr (fr_mal (e := eM 107) (by rfl)), by rw [(t R hR).1]; exact a2, by rw [g]; exact a3, by rw [g]; exact a4, ek.row a5, by rw [g, e2, (t _ hA).1, (t _ hA).2, ← e2]; exact ⟨a6, a7⟩, by rw [g]; exact a8, a9, by rw [g]; exact b1, fun j j0 j1 => by rw [g, e2, vl_mal, if_neg (by omega), ← e2]; exact b2 j j0 j1⟩
/-- a node behind the others, where there is room -/
theorem c106_44 {P : Int → Prop} {a : Int} {z2 : PV} (hz2 : cat z2 = 1) (h : EC m R rw xs c rt stk w cap) (hl : (stk.length : Int) < cap) (hl2 : (stk.length : Int) < w) : ∃ m', rn d 106 44 [pR R, pI a, z2] [] m = some (.inl none, m') ∧ EC m' R rw xs c rt (stk ++ [a]) w cap ∧ EK P m m' ∧ (nx m' = nx m ∧ sl m' = sl m) := by
  have hA := h.arr
  obtain ⟨a1, a2, a3, a4, a5, ⟨a6, a7⟩, a8, a9, b1, b2⟩ := h
  have g : ∀ f, f ≠ 3 → vl (mst (mst m R 3 (stk.length + 1)) (vl m R 2) stk.length a) R f = vl m R f := fun f hf => by
    rw [vl_mst, if_neg (fun z => hA z.1.symm), vl_mst, if_neg (fun z => hf z.2)]
  have k1 : EK P m (mst m R 3 (stk.length + 1)) := EK.set (Or.inl a2)
  have k2 : EK P (mst m R 3 (stk.length + 1)) (mst (mst m R 3 (stk.length + 1)) (vl m R 2) stk.length a) := EK.set (by show tg m (vl m R 2) = 6 ∨ tg m (vl m R 2) = 104101 ∨ tg m (vl m R 2) = 107101 ∨ _; omega)
  have k := k1.trans k2
  refine ⟨mst (mst m R 3 (stk.length + 1)) (vl m R 2) stk.length a, q106_44 a1.1 hz2 _ ?_, ⟨a1, a2, by rw [g 0 (by omega)]; exact a3, by rw [g 1 (by omega)]; exact a4, k.row a5, by rw [g 2 (by omega)]; exact ⟨a6, a7⟩, ?_, ⟨?_, a9.2⟩, ⟨by rw [g 4 (by omega)]; exact b1.1, by rw [List.length_append, List.length_singleton]; push_cast; omega, b1.2.2⟩, fun j j0 j1 => ?_⟩, k, rfl, rfl⟩
  · rw [gd_of a2, nm_eq, nm_eq, a8, gd_of a6, gd_of ⟨by omega, by omega⟩, (w32_of (by omega) (by omega) : w32 ((stk.length : Int) + 1) = (stk.length : Int) + 1)]
  · rw [vl_mst, if_neg (fun z => hA z.1.symm), vl_mst, if_pos ⟨rfl, rfl⟩, List.length_append, List.length_singleton]; push_cast; rfl
  · rw [List.length_append, List.length_singleton]; push_cast; omega
  · rw [List.length_append, List.length_singleton] at j1
    rw [g 2 (by omega), vl_mst]
    by_cases e : j = stk.length
    · rw [if_pos ⟨rfl, e⟩, e, gi_app_r (by omega), Int.sub_self, gi_zero]
    · rw [if_neg (fun z => e z.2), vl_mst, if_neg (fun z => hA z.1), gi_app_l j0 (by omega)]; exact b2 j j0 (by omega)
/-- a node behind the others -/
theorem c106_1 {P : Int → Prop} {a : Int} (h : EC m R rw xs c rt stk w cap) (hw : ¬ 10000 < w + 1) : ∃ m' cap', cl (d + 1) 106 [pR R, pI a] m = some (.inl none, m') ∧ EC m' R rw xs c rt (stk ++ [a]) (w + 1) cap' ∧ EK P m m' ∧ GR m m' cap cap' := by
  have v4 := h.2.2.2.2.2.2.2.2.1
  obtain ⟨e1, h1, k1⟩ := c107_1 (d := d) (P := P) h hw
  have g1 : nx (mst m R 4 (w + 1)) = nx m ∧ sl (mst m R 4 (w + 1)) = sl m := ⟨rfl, rfl⟩
  generalize hm1 : mst m R 4 (w + 1) = m1 at *
  have h1' := h1
  obtain ⟨a1, a2, a3, a4, a5, ⟨a6, a7⟩, a8, a9, b1, b2⟩ := h1
  by_cases hg : (stk.length : Int) = cap
  · have hA := h1'.arr
    have hRn := tz_lt a1.1 (x := R) (by rw [a2]; decide)
    have hAn := tz_lt a1.1 (x := vl m1 R 2) (by omega)
    have hx92 := a1.2.2
    have ok1 : OK (mal m1 107101 (2 * stk.length)) := a1.fr (fr_mal (e := eM 106) (by rfl))
    have ok2 : OK (mst (mcp (mal m1 107101 (2 * stk.length)) (vl m1 R 2) 0 (nx m1) 0 stk.length) R 2 (nx m1)) := ok1
    have vo : ∀ b j, b < nx m1 → (b = R → j ≠ 2) → vl (mst (mcp (mal m1 107101 (2 * stk.length)) (vl m1 R 2) 0 (nx m1) 0 stk.length) R 2 (nx m1)) b j = vl m1 b j := fun b j hb hj => by
      rw [vl_mst, if_neg (fun z => hj z.1 z.2), vl_mcp, if_neg (by omega), vl_mal, if_neg (by omega)]
    have to : ∀ b, b < nx m1 → tg (mst (mcp (mal m1 107101 (2 * stk.length)) (vl m1 R 2) 0 (nx m1) 0 stk.length) R 2 (nx m1)) b = tg m1 b ∧ ln (mst (mcp (mal m1 107101 (2 * stk.length)) (vl m1 R 2) 0 (nx m1) 0 stk.length) R 2 (nx m1)) b = ln m1 b := fun b hb =>
      ⟨by show (if b = nx m1 then 107101 else tg m1 b) = _; rw [if_neg (by omega)], by show (if b = nx m1 then 2 * (stk.length : Int) else ln m1 b) = _; rw [if_neg (by omega)]⟩
    have tn : tg (mst (mcp (mal m1 107101 (2 * stk.length)) (vl m1 R 2) 0 (nx m1) 0 stk.length) R 2 (nx m1)) (nx m1) = 107101 ∧ ln (mst (mcp (mal m1 107101 (2 * stk.length)) (vl m1 R 2) 0 (nx m1) 0 stk.length) R 2 (nx m1)) (nx m1) = 2 * stk.length :=
      ⟨by show (if nx m1 = nx m1 then 107101 else tg m1 (nx m1)) = _; rw [if_pos rfl], by show (if nx m1 = nx m1 then 2 * (stk.length : Int) else ln m1 (nx m1)) = _; rw [if_pos rfl]⟩
    have v2 : vl (mst (mcp (mal m1 107101 (2 * stk.length)) (vl m1 R 2) 0 (nx m1) 0 stk.length) R 2 (nx m1)) R 2 = nx m1 := by rw [vl_mst, if_pos ⟨rfl, rfl⟩]
    have vn : ∀ j : Int, 0 ≤ j → j < stk.length → vl (mst (mcp (mal m1 107101 (2 * stk.length)) (vl m1 R 2) 0 (nx m1) 0 stk.length) R 2 (nx m1)) (nx m1) j = gi stk j := fun j j0 j1 => by
      rw [vl_mst, if_neg (by omega), vl_mcp, if_pos ⟨rfl, j0, by omega⟩, vl_mal, if_neg (by omega), show (0 : Int) + (j - 0) = j by omega]
      exact b2 j j0 j1
    have ek : EK P m1 (mst (mcp (mal m1 107101 (2 * stk.length)) (vl m1 R 2) 0 (nx m1) 0 stk.length) R 2 (nx m1)) := ⟨fun b hb => to b (tz_lt a1.1 hb), fun b j h0 h1 h2 h3 h4 => vo b j (tz_lt a1.1 h0) (fun z => by rw [z] at h1; omega)⟩
    have gr : nx (mst (mcp (mal m1 107101 (2 * stk.length)) (vl m1 R 2) 0 (nx m1) 0 stk.length) R 2 (nx m1)) = nx m1 + 1 ∧ sl (mst (mcp (mal m1 107101 (2 * stk.length)) (vl m1 R 2) 0 (nx m1) 0 stk.length) R 2 (nx m1)) = sl m1 + 2 * stk.length := ⟨rfl, rfl⟩
    have st : ∀ Z, rn (d + 1) 106 44 [pR R, pI a, pR (nx m1)] [] (mst (mcp (mal m1 107101 (2 * stk.length)) (vl m1 R 2) 0 (nx m1) 0 stk.length) R 2 (nx m1)) = some Z → cl (d + 1) 106 [pR R, pI a] m = some Z := by
      intro Z hZ
      refine q106 (by omega) h.1.1 _ ?_
      have tm : tg (mal m1 107101 (2 * stk.length)) (vl m1 R 2) = tg m1 (vl m1 R 2) := by rw [tg_mal, if_neg (by omega)]
      have lm : ln (mal m1 107101 (2 * stk.length)) (vl m1 R 2) = cap := by rw [ln_mal, if_neg (by omega)]; exact a7
      have ln' : ln (mal m1 107101 (2 * stk.length)) (nx m1) = 2 * stk.length := by rw [ln_mal, if_pos rfl]
      have vm : ∀ f, vl (mal m1 107101 (2 * stk.length)) R f = vl m1 R f := fun f => by rw [vl_mal, if_neg (by omega)]
      rw [gd_of h.2.1, show d + 1 - 1 = d from rfl, bV_eq e1, nm_eq, nm_eq, gd_of a6, a8, a7, if_pos hg, nm_eq, (w32_of (by omega) (by omega) : w32 (2 * (stk.length : Int)) = 2 * stk.length), gd_of ⟨by omega, by omega⟩, nw_eq, nm_eq, nm_eq, vm, vm, gd_of (by rw [tm]; exact a6), a8, gd_of ⟨by omega, by omega, by omega, by rw [lm]; omega, by rw [ln']; omega⟩]
      exact hZ
    generalize hm2 : mst (mcp (mal m1 107101 (2 * stk.length)) (vl m1 R 2) 0 (nx m1) 0 stk.length) R 2 (nx m1) = m2 at *
    have h2 : EC m2 R rw xs c rt stk (w + 1) (2 * stk.length) := by
      have vR : ∀ f, f ≠ 2 → vl m2 R f = vl m1 R f := fun f hf => vo R f hRn (fun _ => hf)
      exact ⟨ok2, by rw [(to R hRn).1]; exact a2, by rw [vR 0 (by omega)]; exact a3, by rw [vR 1 (by omega)]; exact a4, ek.row a5, by rw [v2, tn.1, tn.2]; exact ⟨Or.inr rfl, rfl⟩, by rw [vR 3 (by omega)]; exact a8, by omega, by rw [vR 4 (by omega)]; exact b1, fun j j0 j1 => by rw [v2]; exact vn j j0 j1⟩
    obtain ⟨m3, e3, h3, k3, n3⟩ := c106_44 (d := d + 1) (P := P) (a := a) (z2 := pR (nx m1)) (by rfl) h2 (by omega) (by have := h.2.2.2.2.2.2.2.2.1; omega)
    exact ⟨m3, 2 * stk.length, st _ e3, h3, (k1.trans ek).trans k3, ⟨by omega, by omega, by omega⟩⟩
  · obtain ⟨m3, e3, h3, k3, n3⟩ := c106_44 (d := d + 1) (P := P) (a := a) (z2 := pU) (by rfl) h1' (by omega) (by have := h.2.2.2.2.2.2.2.2.1; omega)
    refine ⟨m3, cap, q106 (by omega) h.1.1 _ ?_, h3, k1.trans k3, ⟨by omega, by omega, by omega⟩⟩
    rw [gd_of h.2.1, show d + 1 - 1 = d from rfl, bV_eq e1, nm_eq, nm_eq, gd_of a6, a8, a7, if_neg hg]
    exact e3
theorem c106_0 {P : Int → Prop} {a : Int} (h : EC m R rw xs c rt stk w cap) (hw : 10000 < w + 1) (hw' : w ≤ 10000) : ∃ m', cl (d + 1) 106 [pR R, pI a] m = some (.inr 201, m') ∧ EC m' R rw xs c rt stk (w + 1) cap ∧ EK P m m' ∧ (nx m' = nx m + 1 ∧ sl m' = sl m + 6) := by
  obtain ⟨m', e1, h1, k1, n1⟩ := c107_0 (d := d) (P := P) h hw hw'
  refine ⟨m', q106 (by omega) h.1.1 _ ?_, h1, k1, n1⟩
  rw [gd_of h.2.1, show d + 1 - 1 = d from rfl, bV_xq e1]
end
