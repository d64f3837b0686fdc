/-! evaluation by the component: what is shown of each method -/
set_option maxRecDepth 100000
set_option maxHeartbeats 4000000
def ofN : Nd → Int
  | [] => 0
  | c :: _ => c.1
/-- too much work -/
def EZ (P : Int → Prop) (m : Mem) (R rw : Int) (xs : List Int) (c rt cap : Int) (m' : Mem) : Prop := ∃ stk w cap', EC m' R rw xs c rt stk w cap' ∧ EK P m m' ∧ cap ≤ cap' ∧ nx m' - nx m ≤ (cap' - cap) / 16 + 1 ∧ sl m' - sl m ≤ 2 * (cap' - cap) + 6
/-- nodes are put behind the others -/
def EVs (P : Int → Prop) (m : Mem) (R rw : Int) (xs : List Int) (c rt : Int) (stk : List Int) (cap : Int) (Q : RM) (y : Option (List Nd × Int)) : Prop :=
  (∀ ys w', y = some (ys, w') → w' ≤ 10000 ∧ ∃ m' cap', Q = some (.inl none, m') ∧ EC m' R rw xs c rt (stk ++ ys.map ofN) w' cap' ∧ EK P m m' ∧ GR m m' cap cap') ∧
  (y = none → ∃ m', Q = some (.inr 201, m') ∧ EZ P m R rw xs c rt cap m')
section
variable {P : Int → Prop} {m m1 : Mem} {R rw c rt w w1 cap cap1 : Int} {xs stk stk1 : List Int}
theorem EZ.pre {m' : Mem} (h : EZ P m1 R rw xs c rt cap1 m') (k : EK P m m1) (g : GR m m1 cap cap1) : EZ P m R rw xs c rt cap m' := by
  obtain ⟨s, w', c', h1, h2, h3, h4, h5⟩ := h
  obtain ⟨g1, g2, g3⟩ := g
  exact ⟨s, w', c', h1, k.trans h2, by omega, by omega, by omega⟩
theorem EVs.nil {Q : RM} (h : EC m R rw xs c rt stk w cap) (hw : w ≤ 10000) (hQ : Q = some (.inl none, m)) : EVs P m R rw xs c rt stk cap Q (eR [] w) := by
  refine ⟨fun ys w' z => ?_, fun z => (by cases z)⟩
  cases z
  exact ⟨hw, m, cap, hQ, by rw [List.map_nil, List.append_nil]; exact h, EK.refl, GR.refl⟩
theorem EVs.eq {Q Q' : RM} {y y' : Option (List Nd × Int)} (h : EVs P m R rw xs c rt stk cap Q y) (hQ : Q' = Q) (hy : y' = y) : EVs P m R rw xs c rt stk cap Q' y' := by rw [hQ, hy]; exact h
theorem EVs.of {Q Q' : RM} {y : Option (List Nd × Int)} (h : EVs P m R rw xs c rt stk cap Q y) (hQ : ∀ Z, Q = some Z → Q' = some Z) : EVs P m R rw xs c rt stk cap Q' y := by
  refine ⟨fun ys w' z => ?_, fun z => ?_⟩
  · obtain ⟨b0, m', c', b1, b2⟩ := h.1 ys w' z
    exact ⟨b0, m', c', hQ _ b1, b2⟩
  · obtain ⟨m', b1, b2⟩ := h.2 z
    exact ⟨m', hQ _ b1, b2⟩
/-- behind what has put nothing -/
theorem EVs.pre {Q : RM} {y : Option (List Nd × Int)} (h : EVs P m1 R rw xs c rt stk cap1 Q y) (k : EK P m m1) (g : GR m m1 cap cap1) : EVs P m R rw xs c rt stk cap Q y := by
  refine ⟨fun ys w' z => ?_, fun z => ?_⟩
  · obtain ⟨b0, m', c', b1, b2, b3, b4⟩ := h.1 ys w' z
    exact ⟨b0, m', c', b1, b2, k.trans b3, g.trans b4⟩
  · obtain ⟨m', b1, b2⟩ := h.2 z
    exact ⟨m', b1, b2.pre k g⟩
theorem EVs.seq {x g : EV (List Nd)} {Q Q1 : RM} {Q2 : Mem → RM} (h1 : EVs P m R rw xs c rt stk cap Q1 (x w)) (hn : ∀ m', Q1 = some (.inl none, m') → ∀ Z, Q2 m' = some Z → Q = some Z) (hx : ∀ m', Q1 = some (.inr 201, m') → Q = some (.inr 201, m')) (h2 : ∀ (m' : Mem) (ys : List Nd) (w' cap' : Int), w' ≤ 10000 → EC m' R rw xs c rt (stk ++ ys.map ofN) w' cap' → EK P m m' → EVs P m' R rw xs c rt (stk ++ ys.map ofN) cap' (Q2 m') (g w')) : EVs P m R rw xs c rt stk cap Q (eB x (fun a => eB g fun b => eR (a ++ b)) w) := by
  cases hE : x w with
  | none =>
    rw [eB_none hE]
    obtain ⟨m', b1, b2⟩ := h1.2 hE
    exact ⟨fun ys w' z => (by cases z), fun _ => ⟨m', hx m' b1, b2⟩⟩
  | some yy =>
    obtain ⟨ys, w'⟩ := yy
    rw [eB_some hE]
    obtain ⟨b0, m', c', b1, b2, b3, b4⟩ := h1.1 ys w' hE
    have key := h2 m' ys w' c' b0 b2 b3
    cases hE2 : g w' with
    | none =>
      rw [eB_none hE2]
      obtain ⟨m2, d1, d2⟩ := key.2 hE2
      exact ⟨fun ys w' z => (by cases z), fun _ => ⟨m2, hn m' b1 _ d1, d2.pre b3 b4⟩⟩
    | some zz =>
      obtain ⟨zs, w2⟩ := zz
      rw [eB_some hE2]
      obtain ⟨d0, m2, c2, d1, d2, d3, d4⟩ := key.1 zs w2 hE2
      refine ⟨fun ys' w'' z => ?_, fun z => (by cases z)⟩
      cases z
      exact ⟨d0, m2, c2, hn m' b1 _ d1, by rw [List.map_append, ← List.append_assoc]; exact d2, b3.trans d3, b4.trans d4⟩
/-- work, then more -/
theorem EVs.tick {d : Nat} {f : Unit → EV (List Nd)} {Q : RM} {Q2 : Mem → RM} (h : EC m R rw xs c rt stk w cap) (hw : w ≤ 10000) (hn : cl d 107 [pR R] m = some (.inl none, mst m R 4 (w + 1)) → ∀ Z, Q2 (mst m R 4 (w + 1)) = some Z → Q = some Z) (hx : ∀ m', cl d 107 [pR R] m = some (.inr 201, m') → Q = some (.inr 201, m')) (h2 : w + 1 ≤ 10000 → EC (mst m R 4 (w + 1)) R rw xs c rt stk (w + 1) cap → EK P m (mst m R 4 (w + 1)) → EVs P (mst m R 4 (w + 1)) R rw xs c rt stk cap (Q2 (mst m R 4 (w + 1))) (f () (w + 1))) : EVs P m R rw xs c rt stk cap Q (eB eT f w) := by
  by_cases z : 10000 < w + 1
  · rw [eB_none (eT_0 z)]
    obtain ⟨m', e1, h1, k1, n1⟩ := c107_0 (d := d) (P := P) h z hw
    exact ⟨fun ys w' z => (by cases z), fun _ => ⟨m', hx m' e1, stk, w + 1, cap, h1, k1, by omega, by omega, by omega⟩⟩
  · rw [eB_some (eT_1 z)]
    obtain ⟨e1, h1, k1⟩ := c107_1 (d := d) (P := P) h z
    exact ((h2 (by omega) h1 k1).of (hn e1)).pre k1 ⟨Int.le_refl _, by show nx m - nx m ≤ _; omega, by show sl m - sl m ≤ _; omega⟩
/-- one node more -/
theorem c106 {d : Nat} {x : Nd} {a : Int} (hd : 1 ≤ d) (h : EC m R rw xs c rt stk w cap) (hw : w ≤ 10000) (ha : ofN x = a) : EVs P m R rw xs c rt stk cap (cl d 106 [pR R, pI a] m) (eA x w) := by
  obtain ⟨d, rfl⟩ : ∃ d', d = d' + 1 := ⟨d - 1, by omega⟩
  unfold eA
  by_cases z : 10000 < w + 1
  · rw [eB_none (eT_0 z)]
    obtain ⟨m', e1, h1, k1, n1⟩ := c106_0 (d := d) (P := P) (a := a) h z hw
    exact ⟨fun ys w' z => (by cases z), fun _ => ⟨m', e1, stk, w + 1, cap, h1, k1, by omega, by omega, by omega⟩⟩
  · rw [eB_some (eT_1 z)]
    obtain ⟨m', cap', e1, h1, k1, g1⟩ := c106_1 (d := d) (P := P) (a := a) h z
    refine ⟨fun ys w' zz => ?_, fun z => (by cases z)⟩
    cases zz
    exact ⟨by omega, m', cap', e1, by rw [List.map_singleton, ha]; exact h1, k1, g1⟩
end
