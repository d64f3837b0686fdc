/-! evaluation by the twin: what is shown of each method; work, one node more -/
set_option maxRecDepth 100000
set_option maxHeartbeats 4000000
section
variable {α β : Type}
/-- from a state of work (none: too much) -/
def eZ (s : Option Int) (x : EV α) : Option (α × Int) := match s with
  | none => none
  | some w => x w
theorem eZ_B {s : Option Int} {x : EV α} {k : α → EV β} : eZ s (eB x k) = match eZ s x with
    | none => none
    | some (a, w') => k a w' := by
  cases s with
  | none => rfl
  | some w =>
    show eB x k w = _
    unfold eB eZ
    dsimp only
    cases x w with
    | none => rfl
    | some z => rfl
end
section
variable {α : Type}
/-- what is answered, in a state that holds -/
def ZVa (E : ZE) (m : Mem) (stk : List Int) (n : Nat) (uv : List Int) (C : Int) (Q : RM) (y : Option (α × Int)) (f : Option α → Option PV → List Int → Mem → Nat → List Int → Prop) : Prop :=
  ∃ m' C' r zs n' uv', Q = some (.inl r, m') ∧ ZC E (y.map (·.2)) m' (stk ++ zs) n' uv' C' ∧ ZQ E n m C m' C' ∧ f (y.map (·.1)) r zs m' n' uv'
end
/-- nodes -/
def fNd (E : ZE) (o : Option (List Nd)) (zs : List Int) : Prop := ∀ ys, o = some ys → zs = ys.map idN ∧ ∀ x ∈ ys, DNn E x
abbrev ZVs (E : ZE) (m : Mem) (stk : List Int) (n : Nat) (uv : List Int) (C : Int) (Q : RM) (y : Option (List Nd × Int)) : Prop := ZVa E m stk n uv C Q y (fun o r zs _ n' uv' => r = none ∧ n' = n ∧ uv' = uv ∧ fNd E o zs)
abbrev ZVq (E : ZE) (m : Mem) (stk : List Int) (n : Nat) (uv : List Int) (C : Int) (Q : RM) (y : Option (List Nd × Int)) : Prop := ZVa E m stk n uv C Q y (fun o r zs _ n' uv' => r = some (pI stk.length) ∧ n' = n ∧ uv' = uv ∧ fNd E o zs)
abbrev ZVb (E : ZE) (m : Mem) (stk : List Int) (n : Nat) (uv : List Int) (C : Int) (Q : RM) (y : Option (Bool × Int)) : Prop := ZVa E m stk n uv C Q y (fun o r zs _ n' uv' => zs = [] ∧ n' = n ∧ uv' = uv ∧ ∃ b : Bool, r = some (pI (b2i b)) ∧ ∀ b', o = some b' → b' = b)
section
variable {α β : Type} {E : ZE} {m m1 : Mem} {n n1 : Nat} {uv uv1 stk : List Int} {C C1 b : Int} {s : Option Int} {d : Nat}
theorem ZVa.of {Q Q' : RM} {y : Option (α × Int)} {f : Option α → Option PV → List Int → Mem → Nat → List Int → Prop} (h : ZVa E m stk n uv C Q y f) (hQ : ∀ Z, Q = some Z → Q' = some Z) : ZVa E m stk n uv C Q' y f := by
  obtain ⟨m', C', r, zs, n', uv', h1, h2⟩ := h
  exact ⟨m', C', r, zs, n', uv', hQ _ h1, h2⟩
theorem ZVa.pre {Q : RM} {y : Option (α × Int)} {f : Option α → Option PV → List Int → Mem → Nat → List Int → Prop} (h : ZVa E m1 stk n uv C1 Q y f) (k : ZQ E n m C m1 C1) : ZVa E m stk n uv C Q y f := by
  obtain ⟨m', C', r, zs, n', uv', h1, h2, h3, h4⟩ := h
  exact ⟨m', C', r, zs, n', uv', h1, h2, k.trans h3 (Int.le_refl _), h4⟩
theorem ZC.bB (h : ZC E s m stk n uv C) : ZB E m n uv C := h.1
theorem ZC.top (h : ZC E s m stk n uv C) : vl m E.M 33 = stk.length := h.2.1.1
theorem ZC.len (h : ZC E s m stk n uv C) : (stk.length : Int) ≤ 10000 := h.2.1.2.1
theorem ZC.at (h : ZC E s m stk n uv C) : ∀ j : Int, 0 ≤ j → j < stk.length → vl m (vl m E.M 32) j = gi stk j := h.2.1.2.2.1
theorem ZC.v (h : ZC E s m stk n uv C) : ∀ x ∈ stk, vD E x := h.2.1.2.2.2
/-- too much: 35 isn't 0 -/
theorem ZC.dead (h : ZC E none m stk n uv C) : vl m E.M 35 = 1 := h.2.2
theorem ZC.live {w : Int} (h : ZC E (some w) m stk n uv C) : vl m E.M 35 = 0 ∧ vl m E.M 34 = w ∧ (stk.length : Int) ≤ w ∧ w ≤ 10000 := h.2.2
theorem ZVs.nil {Q : RM} (h : ZC E s m stk n uv C) (hQ : Q = some (.inl none, m)) : ZVs E m stk n uv C Q (eZ s (eR [])) := by
  refine ⟨m, C, none, [], n, uv, hQ, ?_, ZQ.refl h.bB.ti, rfl, rfl, rfl, fun ys z => ?_⟩
  · rw [List.append_nil]
    cases s with
    | none => exact h
    | some w => exact h
  · cases s with
    | none => cases z
    | some w => cases z; exact ⟨rfl, fun _ h => (by cases h)⟩
/-- dead already: nothing is done -/
theorem ZVs.dead {x : EV (List Nd)} {Q : RM} (h : ZC E none m stk n uv C) (hQ : Q = some (.inl none, m)) : ZVs E m stk n uv C Q (eZ none x) :=
  ⟨m, C, none, [], n, uv, hQ, by rw [List.append_nil]; exact h, ZQ.refl h.bB.ti, rfl, rfl, rfl, fun ys z => (by cases z)⟩
theorem ZL.mM {f v : Int} (hB : ZB E m n uv C) (h : ZL E m stk) (hf : f ≠ 33 ∧ f ≠ 32) : ZL E (mst m E.M f v) stk := by
  have hM := hB.hM
  have hl := hB.lt
  have g : ∀ f', f' ≠ f → vl (mst m E.M f v) E.M f' = vl m E.M f' := fun f' hf' => by rw [vl_mst, if_neg (fun z => hf' z.2)]
  exact ⟨by rw [g 33 (by omega)]; exact h.1, h.2.1, fun j j0 j1 => by rw [g 32 (by omega), vl_mst, if_neg (fun z => by rw [z.1] at hl; omega)]; exact h.2.2.1 j j0 j1, h.2.2.2⟩
/-- work -/
theorem c264 (h : ZC E s m stk n uv C) : ∃ m', cl d 264 [pR E.M] m = some (.inl (some (pI (if (eZ s eT).isSome then 1 else 0))), m') ∧ ZC E ((eZ s eT).map (·.2)) m' stk n uv C ∧ ZQ E b m C m' C ∧ ∀ w', (eZ s eT).map (·.2) = some w' → (stk.length : Int) < w' := by
  have hB := h.bB
  have h11 := hB.hM
  obtain ⟨k1, k2⟩ := hB.mM (b := b) (f := 34) (v := w32 (vl m E.M 34 + 1)) (by omega)
  have hL1 := ZL.mM (f := 34) (v := w32 (vl m E.M 34 + 1)) hB h.2.1 (by omega)
  obtain ⟨k3, k4⟩ := k1.mM (b := b) (f := 35) (v := 1) (by omega)
  have hL2 := ZL.mM (f := 35) (v := 1) k1 hL1 (by omega)
  have v35 : vl (mst (mst m E.M 34 (w32 (vl m E.M 34 + 1))) E.M 35 1) E.M 35 = 1 := by rw [vl_mst, if_pos ⟨rfl, rfl⟩]
  have v35' : vl (mst m E.M 34 (w32 (vl m E.M 34 + 1))) E.M 35 = vl m E.M 35 := by rw [vl_mst, if_neg (by omega)]
  have v34 : vl (mst m E.M 34 (w32 (vl m E.M 34 + 1))) E.M 34 = w32 (vl m E.M 34 + 1) := by rw [vl_mst, if_pos ⟨rfl, rfl⟩]
  cases s with
  | none =>
    have hd := h.dead
    have e0 : eZ none eT = none := rfl
    rw [e0]
    by_cases z : 10000 < w32 (vl m E.M 34 + 1)
    · refine ⟨_, q264 hB.tz _ ?_, ⟨k3, hL2, v35⟩, k2.trans k4 (Int.le_refl _), fun w' z => (by cases z)⟩
      rw [gd_of h11, nm_eq, if_pos z, if_neg (by decide)]
      rfl
    · refine ⟨_, q264 hB.tz _ ?_, ⟨k1, hL1, by show vl _ _ _ = 1; rw [v35']; exact hd⟩, k2, fun w' z => (by cases z)⟩
      rw [gd_of h11, nm_eq, if_neg z, if_neg (by omega)]
      rfl
  | some w =>
    obtain ⟨a1, a2, a3, a4⟩ := h.live
    have e0 : eZ (some w) eT = eT w := rfl
    have hw : w32 (vl m E.M 34 + 1) = w + 1 := by rw [a2]; exact w32_of (by omega) (by omega)
    rw [e0]
    by_cases z : 10000 < w + 1
    · rw [eT_0 z]
      refine ⟨_, q264 hB.tz _ ?_, ⟨k3, hL2, v35⟩, k2.trans k4 (Int.le_refl _), fun w' z => (by cases z)⟩
      rw [gd_of h11, nm_eq, if_pos (by rw [hw]; exact z), if_neg (by decide)]
      rfl
    · rw [eT_1 z]
      refine ⟨_, q264 hB.tz _ ?_, ⟨k1, hL1, by rw [v35']; exact a1, by rw [v34, hw], by show (stk.length : Int) ≤ w + 1; omega, by show w + 1 ≤ 10000; omega⟩, k2, fun w' z => (by have z : w + 1 = w' := Option.some.inj z; omega)⟩
      rw [gd_of h11, nm_eq, if_neg (by rw [hw]; exact z), if_pos a1]
      rfl
/-- work, then more -/
theorem ZVs.tick {f : Unit → EV (List Nd)} {Q : RM} {Q2 : Mem → RM} (h : ZC E s m stk n uv C) (h0 : ∀ m', cl d 264 [pR E.M] m = some (.inl (some (pI 0)), m') → Q = some (.inl none, m')) (h1 : ∀ m', cl d 264 [pR E.M] m = some (.inl (some (pI 1)), m') → ∀ Z, Q2 m' = some Z → Q = some Z) (h2 : ∀ (m' : Mem) (w' : Int), (stk.length : Int) < w' → ZC E (some w') m' stk n uv C → ZQ E n m C m' C → ZVs E m' stk n uv C (Q2 m') (f () w')) : ZVs E m stk n uv C Q (eZ s (eB eT f)) := by
  obtain ⟨m', e1, c1, q1, l1⟩ := c264 (d := d) (b := n) h
  rw [eZ_B]
  cases hE : eZ s eT with
  | none =>
    rw [hE] at e1 c1
    exact (ZVs.dead (x := eR []) c1 (h0 m' e1)).pre q1
  | some z =>
    obtain ⟨a, w'⟩ := z
    rw [hE] at e1 c1 l1
    exact ((h2 m' w' (l1 w' rfl) c1 q1).of (h1 m' e1)).pre q1
/-- one node more -/
theorem c263 {x : Nd} {a : Int} (hd : 1 ≤ d) (h : ZC E s m stk n uv C) (hx : DNn E x) (ha : idN x = a) : ZVs E m stk n uv C (cl d 263 [pR E.M, pI a] m) (eZ s (eA x)) := by
  have hB := h.bB
  refine ZVs.tick (d := d - 1) (Q2 := fun m1 => nm (vl m1 E.M 32) fun v2 => nm (vl m1 E.M 33) fun v3 => gd (tg m1 v2 = 186101) <| gd ((0 : Int) ≤ v3 ∧ v3 < ln m1 v2) <| some (.inl none, (mst (mst m1 v2 v3 a) E.M 33 (w32 (v3 + 1))))) h (fun m' e1 => q263 (by omega) hB.tz _ ?_) (fun m' e1 Z hZ => q263 (by omega) hB.tz _ ?_) (fun m' w' hlt c1 q1 => ?_)
  · rw [gd_of hB.hM, bI_eq e1, if_pos rfl]
  · rw [gd_of hB.hM, bI_eq e1, if_neg (by decide)]; exact hZ
  · have hB1 := c1.bB
    obtain ⟨a1, a2, a3, a4⟩ := c1.live
    have hl := hB1.lt
    have htop := c1.top
    obtain ⟨k1, k2, k3⟩ := hB1.mL (b := n) (j := stk.length) (v := a)
    obtain ⟨k4, k5⟩ := k1.mM (b := n) (f := 33) (v := stk.length + 1) (by omega)
    have hM := hB1.hM
    have nl : vl m' E.M 32 ≠ E.M := by intro z; rw [z] at hl; omega
    have g : ∀ f, f ≠ 33 → vl (mst (mst m' (vl m' E.M 32) stk.length a) E.M 33 (stk.length + 1)) E.M f = vl m' E.M f := fun f hf => by rw [vl_mst, if_neg (fun z => hf z.2), k3]
    have ey : eR [x] w' = some ([x], w') := rfl
    show ZVs E m' stk n uv C _ (eR [x] w')
    rw [ey]
    refine ⟨mst (mst m' (vl m' E.M 32) stk.length a) E.M 33 (stk.length + 1), C, none, [a], n, uv, ?_, ⟨k4, ⟨?_, ?_, fun j j0 j1 => ?_, fun y hy => ?_⟩, by rw [g 35 (by omega)]; exact a1, by rw [g 34 (by omega)]; exact a2, ?_, a4⟩, k2.trans k5 (Int.le_refl _), rfl, rfl, rfl, fun ys z => ?_⟩
    · rw [nm_eq, nm_eq, htop, gd_of hl.1, gd_of ⟨by omega, by omega⟩, (w32_of (by omega) (by omega) : w32 ((stk.length : Int) + 1) = stk.length + 1)]
    · rw [vl_mst, if_pos ⟨rfl, rfl⟩, List.length_append, List.length_singleton]; push_cast; rfl
    · rw [List.length_append, List.length_singleton]; push_cast; omega
    · rw [List.length_append, List.length_singleton] at j1
      rw [g 32 (by omega), vl_mst, if_neg (fun z => nl z.1), vl_mst]
      by_cases e : j = stk.length
      · rw [if_pos ⟨rfl, e⟩, e, gi_app_r (by omega), Int.sub_self, gi_zero]
      · rw [if_neg (fun z => e z.2), gi_app_l j0 (by push_cast at j1; omega)]; exact c1.at j j0 (by push_cast at j1; omega)
    · rcases List.mem_append.mp hy with q | q
      · exact c1.v y q
      · rw [List.mem_singleton.mp q, ← ha]; exact hx.v
    · rw [List.length_append, List.length_singleton]; push_cast; omega
    · cases z
      exact ⟨by rw [List.map_singleton, ha], fun y hy => by rw [List.mem_singleton.mp hy]; exact hx⟩
/-- nodes are put, then it goes on as K says -/
def ZVc (E : ZE) (m : Mem) (stk : List Int) (n : Nat) (uv : List Int) (C : Int) (R : Rs × Mem → Prop) (K : Mem → Rs × Mem → Prop) (y : Option (List Nd × Int)) : Prop :=
  ∃ m' C' zs, (∀ Z, K m' Z → R Z) ∧ ZC E (y.map (·.2)) m' (stk ++ zs) n uv C' ∧ ZQ E n m C m' C' ∧ fNd E (y.map (·.1)) zs
section
variable {R R' : Rs × Mem → Prop} {K K1 : Mem → Rs × Mem → Prop} {Q : RM} {y : Option (List Nd × Int)} {x g : EV (List Nd)}
theorem ZVs.c (h : ZVs E m stk n uv C Q y) (hk : ∀ m' zs s' C', Q = some (.inl none, m') → ZC E s' m' (stk ++ zs) n uv C' → ∀ Z, K m' Z → R Z) : ZVc E m stk n uv C R K y := by
  obtain ⟨m', C', r, zs, n', uv', e1, c1, q1, rfl, rfl, rfl, f1⟩ := h
  exact ⟨m', C', zs, hk m' zs _ C' e1 c1, c1, q1, f1⟩
theorem ZVc.sS (h : ZVc E m stk n uv C (fun Z => Q = some Z) (fun m' Z => Z = (.inl none, m')) y) : ZVs E m stk n uv C Q y := by
  obtain ⟨m', C', zs, e1, c1, q1, f1⟩ := h
  exact ⟨m', C', none, zs, n, uv, e1 _ rfl, c1, q1, rfl, rfl, rfl, f1⟩
theorem ZVc.of (h : ZVc E m stk n uv C R K y) (hR : ∀ Z, R Z → R' Z) : ZVc E m stk n uv C R' K y := by
  obtain ⟨m', C', zs, e1, c1⟩ := h
  exact ⟨m', C', zs, fun Z hZ => hR Z (e1 Z hZ), c1⟩
theorem ZVc.pre (h : ZVc E m1 stk n uv C1 R K y) (k : ZQ E n m C m1 C1) : ZVc E m stk n uv C R K y := by
  obtain ⟨m', C', zs, e1, c1, q1, f1⟩ := h
  exact ⟨m', C', zs, e1, c1, k.trans q1 (Int.le_refl _), f1⟩
theorem ZVc.nil (h : ZC E s m stk n uv C) (hR : ∀ Z, K m Z → R Z) : ZVc E m stk n uv C R K (eZ s (eR [])) := by
  refine ⟨m, C, [], hR, ?_, ZQ.refl h.bB.ti, fun ys z => ?_⟩
  · rw [List.append_nil]
    cases s with
    | none => exact h
    | some w => exact h
  · cases s with
    | none => cases z
    | some w => cases z; exact ⟨rfl, fun _ h => (by cases h)⟩
theorem ZVc.dead (h : ZC E none m stk n uv C) (hR : ∀ Z, K m Z → R Z) (hy : y = none) : ZVc E m stk n uv C R K y := by
  subst hy
  exact ⟨m, C, [], hR, by rw [List.append_nil]; exact h, ZQ.refl h.bB.ti, fun ys z => (by cases z)⟩
theorem ZVc.seq (h1 : ZVc E m stk n uv C R K1 (eZ s x)) (h2 : ∀ (m' : Mem) (zs : List Int) (s' : Option Int) (C' : Int), ZC E s' m' (stk ++ zs) n uv C' → ZQ E n m C m' C' → ZVc E m' (stk ++ zs) n uv C' (K1 m') K (eZ s' g)) : ZVc E m stk n uv C R K (eZ s (eB x (fun a => eB g fun b => eR (a ++ b)))) := by
  obtain ⟨m', C', zs, e1, c1, q1, f1⟩ := h1
  obtain ⟨m2, C2, zs2, e2, c2, q2, f2⟩ := h2 m' zs _ C' c1 q1
  have hy : eZ s (eB x (fun a => eB g fun b => eR (a ++ b))) = match eZ s x with
      | none => none
      | some (a, w') => match g w' with
        | none => none
        | some (b, w2) => some (a ++ b, w2) := by
    rw [eZ_B]
    cases eZ s x with
    | none => rfl
    | some z =>
      obtain ⟨a, w'⟩ := z
      dsimp only
      unfold eB
      cases g w' with
      | none => rfl
      | some z2 => rfl
  rw [hy]
  have ek : ∀ Z, K m2 Z → R Z := fun Z hZ => e1 Z (e2 Z hZ)
  have eq := q1.trans q2 (Int.le_refl _)
  rw [List.append_assoc] at c2
  cases hE : eZ s x with
  | none =>
    rw [hE] at c2 f2
    exact ⟨m2, C2, zs ++ zs2, ek, c2, eq, fun ys z => (by cases z)⟩
  | some z =>
    obtain ⟨a, w'⟩ := z
    rw [hE] at c2 f2 f1
    obtain ⟨g1, g2⟩ := f1 a rfl
    have eg : eZ ((some (a, w')).map (·.2)) g = g w' := rfl
    rw [eg] at c2 f2
    dsimp only
    cases hG : g w' with
    | none =>
      rw [hG] at c2
      exact ⟨m2, C2, zs ++ zs2, ek, c2, eq, fun ys z => (by cases z)⟩
    | some z2 =>
      obtain ⟨b2, w2⟩ := z2
      rw [hG] at c2 f2
      obtain ⟨g3, g4⟩ := f2 b2 rfl
      refine ⟨m2, C2, zs ++ zs2, ek, c2, eq, fun ys z => ?_⟩
      cases z
      refine ⟨by rw [g1, g3, List.map_append], fun y hy => ?_⟩
      rcases List.mem_append.mp hy with q | q
      · exact g2 y q
      · exact g4 y q
end
end
