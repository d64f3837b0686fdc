/-! evaluation by the component: tests and comparables, out of what is below them -/
set_option maxRecDepth 100000
set_option maxHeartbeats 4000000
section
variable {α : Type}
/-- what is answered: f says what and where -/
def EVa (P : Int → Prop) (m : Mem) (R rw : Int) (xs : List Int) (c rt : Int) (stk : List Int) (cap : Int) (Q : RM) (y : Option (α × Int)) (f : α → Mem → Option PV → List Int → Prop) : Prop :=
  (∀ b w', y = some (b, w') → w' ≤ 10000 ∧ ∃ m' cap' r zs, Q = some (.inl r, m') ∧ EC m' R rw xs c rt (stk ++ zs) w' cap' ∧ EK P m m' ∧ GR m m' cap cap' ∧ f b m' r zs) ∧
  (y = none → ∃ m', Q = some (.inr 201, m') ∧ EZ P m R rw xs c rt cap m')
end
/-- a test is answered -/
abbrev EVb (P : Int → Prop) (m : Mem) (R rw : Int) (xs : List Int) (c rt : Int) (stk : List Int) (cap : Int) (Q : RM) (y : Option (Bool × Int)) : Prop := EVa P m R rw xs c rt stk cap Q y (fun b _ r zs => r = some (pI (b2i b)) ∧ zs = [])
/-- a comparable is told to the result a -/
abbrev EVo (a : Int) (P : Int → Prop) (m : Mem) (R rw : Int) (xs : List Int) (c rt : Int) (stk : List Int) (cap : Int) (Q : RM) (y : Option (VR × Int)) : Prop := EVa P m R rw xs c rt stk cap Q y (fun v m' r zs => r = none ∧ zs = [] ∧ RS m' a v ∧ vDp v ≤ 40)
/-- the nodes of a query: the last ones -/
abbrev EVq (P : Int → Prop) (m : Mem) (R rw : Int) (xs : List Int) (c rt : Int) (stk : List Int) (cap : Int) (Q : RM) (y : Option (List Nd × Int)) : Prop := EVa P m R rw xs c rt stk cap Q y (fun ys _ r zs => r = some (pI ys.length) ∧ (∃ z, zs = z ++ ys.map ofN) ∧ ∀ n ∈ ys, ∃ q t, n = q :: t ∧ NV xs q ∧ dpF q.2.2.2.1 ≤ 40)
section
variable {P : Int → Prop} {d : Nat} {m m1 : Mem} {R rw c rt w cap cap1 : Int} {xs stk : List Int} {α β : Type}
theorem EVa.map {x : EV α} {g : α → β} {Q Q1 : RM} {f1 : α → Mem → Option PV → List Int → Prop} {f2 : β → Mem → Option PV → List Int → Prop} (h1 : EVa P m R rw xs c rt stk cap Q1 (x w) f1) (hx : ∀ m', Q1 = some (.inr 201, m') → Q = some (.inr 201, m')) (h2 : ∀ b m' w' cap' r zs, w' ≤ 10000 → EC m' R rw xs c rt (stk ++ zs) w' cap' → EK P m m' → f1 b m' r zs → (Q1 = some (.inl r, m')) → ∃ m2 r2 zs2, Q = some (.inl r2, m2) ∧ EC m2 R rw xs c rt (stk ++ zs2) w' cap' ∧ EK P m' m2 ∧ (nx m2 = nx m' ∧ sl m2 = sl m') ∧ f2 (g b) m2 r2 zs2) : EVa P m R rw xs c rt stk cap Q (eB x (fun b => eR (g b)) w) f2 := by
  cases hE : x w with
  | none =>
    rw [eB_none hE]
    obtain ⟨m', b1, b2⟩ := h1.2 hE
    exact ⟨fun ys w' z => (by cases z), fun _ => ⟨m', hx m' b1, b2⟩⟩
  | some yy =>
    obtain ⟨b, w'⟩ := yy
    rw [eB_some hE]
    obtain ⟨b0, m', c', r, zs, b1, b2, b3, b4, b5⟩ := h1.1 b w' hE
    obtain ⟨m2, r2, zs2, e1, e2, e3, e4, e5⟩ := h2 b m' w' c' r zs b0 b2 b3 b5 b1
    refine ⟨fun y' w'' z => ?_, fun z => (by cases z)⟩
    cases z
    refine ⟨b0, m2, c', r2, zs2, e1, e2, b3.trans e3, ?_, e5⟩
    unfold GR at b4 ⊢
    omega
/-- not -/
theorem c315 {a0 at' : Int} {x : EV Bool} (hd : 1 ≤ d) (hz : TZ m) (h0 : tg m a0 = 21) (hp : 0 < tg m (vl m a0 0)) (ht : EVb P m R rw xs c rt stk cap (ci (d - 1) 302 (tg m (vl m a0 0)) [pR (vl m a0 0), pR R, pI at'] m) (x w)) : EVb P m R rw xs c rt stk cap (cl d 315 [pR a0, pR R, pI at'] m) (eB x (fun b => eR (!b)) w) := by
  refine EVa.map ht (fun m' e1 => q315 (by omega) hz _ ?_) (fun b m' w' cap' r zs hw' h' k' hf e1 => ?_)
  · rw [gd_of h0, nm_eq, gd_of hp, bI_xq e1]
  · obtain ⟨rfl, rfl⟩ := hf
    refine ⟨m', some (pI (b2i (!b))), [], q315 (by omega) hz _ ?_, h', EK.refl, ⟨rfl, rfl⟩, rfl, rfl⟩
    rw [gd_of h0, nm_eq, gd_of hp, bI_eq e1]
    cases b
    · rw [if_pos (by rfl)]; rfl
    · rw [if_neg (by decide)]; rfl
/-- the nodes are forgotten -/
theorem EC.cut {zs : List Int} {w' cap' : Int} (h : EC m R rw xs c rt (stk ++ zs) w' cap') : EC (mst m R 3 stk.length) R rw xs c rt stk w' cap' ∧ EK P m (mst m R 3 stk.length) := by
  have hA := h.arr
  obtain ⟨a1, a2, a3, a4, a5, ⟨a6, a7⟩, a8, a9, b1, b2⟩ := h
  have g : ∀ f, f ≠ 3 → vl (mst m R 3 stk.length) R f = vl m R f := fun f hf => by rw [vl_mst, if_neg (fun z => hf z.2)]
  rw [List.length_append] at a9 b1 b2
  have k : EK P m (mst m R 3 stk.length) := EK.set (Or.inl a2)
  refine ⟨⟨a1, a2, by rw [g 0 (by omega)]; exact a3, by rw [g 1 (by omega)]; exact a4, k.row a5, by rw [g 2 (by omega)]; exact ⟨a6, a7⟩, by rw [vl_mst, if_pos ⟨rfl, rfl⟩], by push_cast at a9; omega, by rw [g 4 (by omega)]; push_cast at b1; exact ⟨b1.1, by omega, b1.2.2⟩, fun j j0 j1 => ?_⟩, k⟩
  rw [g 2 (by omega), vl_mst, if_neg (fun z => hA z.1), b2 j j0 (by push_cast; omega), gi_app_l j0 (by omega)]
/-- there is a node -/
theorem c317 {a0 at' : Int} {x : EV (List Nd)} (hd : 1 ≤ d) (h : EC m R rw xs c rt stk w cap) (h0 : tg m a0 = 22) (ht : EVq P m R rw xs c rt stk cap (cl (d - 1) 105 [pR R, pR (vl m a0 0), pI at'] m) (x w)) : EVb P m R rw xs c rt stk cap (cl d 317 [pR a0, pR R, pI at'] m) (eB x (fun ys => eR (!ys.isEmpty)) w) := by
  have v3 : vl m R 3 = stk.length := h.2.2.2.2.2.2.1
  refine EVa.map ht (fun m' e1 => q317 (by omega) h.tz _ ?_) (fun ys m' w' cap' r zs hw' h' k' hf e1 => ?_)
  · rw [gd_of h.hR, gd_of h0, bI_xq e1]
  · obtain ⟨rfl, -, -⟩ := hf
    obtain ⟨h2, k2⟩ := h'.cut (P := P)
    refine ⟨_, some (pI (b2i (!ys.isEmpty))), [], q317 (by omega) h.tz _ ?_, by rw [List.append_nil]; exact h2, k2, ⟨rfl, rfl⟩, rfl, rfl⟩
    rw [gd_of h.hR, gd_of h0, bI_eq e1, v3]
    cases ys with
    | nil => rw [if_neg (by decide)]; rfl
    | cons y ys => rw [if_pos (by simp only [List.length_cons]; omega)]; rfl
end
