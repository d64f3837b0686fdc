/-! the twin's stores: documents as they are printed -/
set_option maxRecDepth 100000
set_option maxHeartbeats 4000000
/-- a store's arrays; the rows of bytes stand behind the array of rows -/
def SA (m : Mem) (s : Int) : Prop := tg m s = 12 ∧ (tg m (vl m s 0) = 278101 ∧ ln m (vl m s 0) = 100) ∧ (tg m (vl m s 1) = 278101 ∧ ln m (vl m s 1) = 100) ∧ vl m s 0 ≠ vl m s 1 ∧ (tg m (vl m s 2) = 278118 ∧ ln m (vl m s 2) = 100) ∧ ∀ i : Int, 0 ≤ i → i < 100 → vl m (vl m s 2) i = vl m s 2 + 1 + i ∧ tg m (vl m s 2 + 1 + i) = 278103 ∧ ln m (vl m s 2 + 1 + i) = 480
/-- an entry -/
def EnS (m : Mem) (s i : Int) (x : Int × List Int) : Prop := vl m (vl m s 0) i = x.1 ∧ vl m (vl m s 1) i = x.2.length ∧ ((x.2.length : Int) ≤ 480 ∧ ∀ b ∈ x.2, -128 ≤ b ∧ b < 128) ∧ ∀ j : Int, 0 ≤ j → j < x.2.length → vl m (vl m s 2 + 1 + i) j = gi x.2 j
/-- entries from a place on -/
def EnL (m : Mem) (s : Int) : Int → List (Int × List Int) → Prop
  | _, [] => True
  | i, x :: r => EnS m s i x ∧ EnL m s (i + 1) r
def SVs (m : Mem) (s : Int) (L : List (Int × List Int)) : Prop := SA m s ∧ vl m s 3 = L.length ∧ (L.length : Int) ≤ 100 ∧ EnL m s 0 L
/-- a store's places -/
abbrev stS (m : Mem) (s a : Int) : Prop := a = s ∨ a = vl m s 0 ∨ a = vl m s 1 ∨ (vl m s 2 < a ∧ a ≤ vl m s 2 + 100)
theorem EnL.app {m : Mem} {s : Int} : ∀ {A B : List (Int × List Int)} {i : Int}, EnL m s i (A ++ B) ↔ EnL m s i A ∧ EnL m s (i + A.length) B := by
  intro A
  induction A with
  | nil => intro B i; rw [List.nil_append, List.length_nil, Int.natCast_zero, Int.add_zero]; exact ⟨fun h => ⟨trivial, h⟩, fun h => h.2⟩
  | cons x A ih =>
    intro B i
    have e : i + 1 + (A.length : Int) = i + ((x :: A).length : Int) := by rw [List.length_cons]; push_cast; omega
    have := ih (B := B) (i := i + 1)
    rw [e] at this
    exact ⟨fun h => ⟨⟨h.1, (this.mp h.2).1⟩, (this.mp h.2).2⟩, fun h => ⟨h.1.1, this.mpr ⟨h.1.2, h.2⟩⟩⟩
theorem EnL.imp {m m' : Mem} {s s' : Int} : ∀ {L : List (Int × List Int)} {i : Int}, EnL m s i L → (∀ j x, i ≤ j → j < i + L.length → EnS m s j x → EnS m' s' j x) → EnL m' s' i L := by
  intro L
  induction L with
  | nil => intro i _ _; trivial
  | cons x L ih =>
    intro i h hj
    rw [List.length_cons] at hj
    push_cast at hj
    exact ⟨hj i x (by omega) (by omega) h.1, ih h.2 fun j y j0 j1 => hj j y (by omega) (by omega)⟩
theorem SA.ne {m : Mem} {s : Int} (h : SA m s) : s ≠ vl m s 0 ∧ s ≠ vl m s 1 ∧ ∀ i : Int, 0 ≤ i → i < 100 → vl m s 2 + 1 + i ≠ s ∧ vl m s 2 + 1 + i ≠ vl m s 0 ∧ vl m s 2 + 1 + i ≠ vl m s 1 ∧ vl m s 2 + 1 + i ≠ vl m s 2 := by
  obtain ⟨h1, h2, h3, h4, h5, h6⟩ := h
  refine ⟨fun z => by rw [← z, h1] at h2; omega, fun z => by rw [← z, h1] at h3; omega, fun i i0 i1 => ?_⟩
  have := (h6 i i0 i1).2.1
  exact ⟨fun z => by rw [z] at this; omega, fun z => by rw [z] at this; omega, fun z => by rw [z] at this; omega, by omega⟩
theorem SA.n2 {m : Mem} {s : Int} (h : SA m s) : ¬ stS m s (vl m s 2) := by
  obtain ⟨h1, h2, h3, h4, h5, h6⟩ := h
  rintro (z | z | z | z)
  · rw [z, h1] at h5; omega
  · rw [z] at h5; omega
  · rw [z] at h5; omega
  · omega
theorem SA.nc {m m' : Mem} {s : Int} (h : SA m s) (k : NC (stS m s) m m') (hf : vl m' s 0 = vl m s 0 ∧ vl m' s 1 = vl m s 1 ∧ vl m' s 2 = vl m s 2) : SA m' s := by
  have h22 := h.n2
  obtain ⟨h1, h2, h3, h4, h5, h6⟩ := h
  obtain ⟨f0, f1, f2⟩ := hf
  have t : ∀ b, tg m' b = tg m b := fun b => (k.2.2.1 b).1
  have l : ∀ b, ln m' b = ln m b := fun b => (k.2.2.1 b).2
  refine ⟨by rw [t]; exact h1, by rw [f0, t, l]; exact h2, by rw [f1, t, l]; exact h3, by rw [f0, f1]; exact h4, by rw [f2, t, l]; exact h5, fun i i0 i1 => ?_⟩
  rw [f2, t, l, k.2.2.2 _ _ h22]
  exact h6 i i0 i1
/-- a store whose places aren't touched -/
theorem SVs.nc {m m' : Mem} {s : Int} {L : List (Int × List Int)} {S : Int → Prop} (h : SVs m s L) (k : NC S m m') (hS : ∀ a, stS m s a → ¬ S a) (h2 : ¬ S (vl m s 2)) : SVs m' s L := by
  obtain ⟨⟨h1, h2', h3, h4, h5, h6⟩, a1, a2, a3⟩ := h
  have t : ∀ b, tg m' b = tg m b := fun b => (k.2.2.1 b).1
  have l : ∀ b, ln m' b = ln m b := fun b => (k.2.2.1 b).2
  have f : ∀ f, vl m' s f = vl m s f := fun f => k.2.2.2 s f (hS s (Or.inl rfl))
  refine ⟨⟨by rw [t]; exact h1, by rw [f, t, l]; exact h2', by rw [f, t, l]; exact h3, by rw [f, f]; exact h4, by rw [f, t, l]; exact h5, fun i i0 i1 => ?_⟩, by rw [f]; exact a1, a2, a3.imp fun j x j0 j1 he => ?_⟩
  · rw [f, t, l, k.2.2.2 _ _ h2]; exact h6 i i0 i1
  · obtain ⟨b1, b2, b3, b4⟩ := he
    refine ⟨by rw [f, k.2.2.2 _ _ (hS _ (Or.inr (Or.inl rfl)))]; exact b1, by rw [f, k.2.2.2 _ _ (hS _ (Or.inr (Or.inr (Or.inl rfl))))]; exact b2, b3, fun q q0 q1 => ?_⟩
    rw [f, k.2.2.2 _ _ (hS _ (Or.inr (Or.inr (Or.inr ⟨by omega, by omega⟩))))]; exact b4 q q0 q1
/-- stores apart -/
def DJ (m : Mem) (s s' : Int) : Prop := s ≠ s' ∧ (vl m s 0 ≠ vl m s' 0 ∧ vl m s 0 ≠ vl m s' 1 ∧ vl m s 1 ≠ vl m s' 0 ∧ vl m s 1 ≠ vl m s' 1) ∧ (vl m s 2 + 100 < vl m s' 2 ∨ vl m s' 2 + 100 < vl m s 2)
theorem DJ.out {m : Mem} {s s' : Int} (h : DJ m s s') (ha : SA m s) (hb : SA m s') : (∀ a, stS m s' a → ¬ stS m s a) ∧ ¬ stS m s (vl m s' 2) := by
  obtain ⟨d1, ⟨d2, d3, d4, d5⟩, d6⟩ := h
  obtain ⟨h1, h2, h3, h4, h5, h6⟩ := ha
  obtain ⟨k1, k2, k3, k4, k5, k6⟩ := hb
  have r1 : ∀ a, vl m s 2 < a → a ≤ vl m s 2 + 100 → tg m a = 278103 := fun a a0 a1 => by
    have := (h6 (a - (vl m s 2 + 1)) (by omega) (by omega)).2.1
    rwa [show vl m s 2 + 1 + (a - (vl m s 2 + 1)) = a by omega] at this
  have r2 : ∀ a, vl m s' 2 < a → a ≤ vl m s' 2 + 100 → tg m a = 278103 := fun a a0 a1 => by
    have := (k6 (a - (vl m s' 2 + 1)) (by omega) (by omega)).2.1
    rwa [show vl m s' 2 + 1 + (a - (vl m s' 2 + 1)) = a by omega] at this
  refine ⟨fun a ha hb => ?_, fun hb => ?_⟩
  · rcases ha with z | z | z | z <;> rcases hb with y | y | y | y
    · exact d1 (y.symm.trans z)
    · rw [z] at y; rw [← y, k1] at h2; omega
    · rw [z] at y; rw [← y, k1] at h3; omega
    · have := r1 a y.1 y.2; rw [z, k1] at this; omega
    · rw [z] at y; rw [y, h1] at k2; omega
    · exact d2 (y.symm.trans z)
    · exact d4 (y.symm.trans z)
    · have := r1 a y.1 y.2; rw [z] at this; omega
    · rw [z] at y; rw [y, h1] at k3; omega
    · exact d3 (y.symm.trans z)
    · exact d5 (y.symm.trans z)
    · have := r1 a y.1 y.2; rw [z] at this; omega
    · have := r2 a z.1 z.2; rw [y, h1] at this; omega
    · have := r2 a z.1 z.2; rw [y] at this; omega
    · have := r2 a z.1 z.2; rw [y] at this; omega
    · omega
  · rcases hb with y | y | y | y
    · rw [y, h1] at k5; omega
    · rw [y] at k5; omega
    · rw [y] at k5; omega
    · have := r1 _ y.1 y.2; omega
section
variable {d : Nat} {m : Mem} {s : Int}
theorem SA.ids (h : SA m s) {i : Int} (i0 : 0 ≤ i) (i1 : i < 100) : tg m (vl m s 0) = 278101 ∧ (0 ≤ i ∧ i < ln m (vl m s 0)) := ⟨h.2.1.1, i0, by rw [h.2.1.2]; exact i1⟩
theorem SA.lens (h : SA m s) {i : Int} (i0 : 0 ≤ i) (i1 : i < 100) : tg m (vl m s 1) = 278101 ∧ (0 ≤ i ∧ i < ln m (vl m s 1)) := ⟨h.2.2.1.1, i0, by rw [h.2.2.1.2]; exact i1⟩
theorem SA.rws (h : SA m s) {i : Int} (i0 : 0 ≤ i) (i1 : i < 100) : tg m (vl m s 2) = 278118 ∧ (0 ≤ i ∧ i < ln m (vl m s 2)) := ⟨h.2.2.2.2.1.1, i0, by rw [h.2.2.2.2.1.2]; exact i1⟩
/-- an id that isn't there -/
theorem c278_2 {id : Int} (hz : TZ m) (hA : SA m s) (hn : vl m s 3 ≤ 100) : ∀ (L : List (Int × List Int)) (i : Int), 0 ≤ i → EnL m s i L → i + L.length = vl m s 3 → (∀ x ∈ L, x.1 ≠ id) → rn d 278 2 [pR s, pI id, pI i] [] m = some (.inl (some (pI (-1))), m) := by
  intro L
  induction L with
  | nil =>
    intro i i0 _ hi _
    refine q278_2 hz _ ?_
    rw [gd_of hA.1, if_neg (by simp at hi; omega)]
  | cons x L ih =>
    intro i i0 he hi hx
    rw [List.length_cons] at hi
    push_cast at hi
    have h0 := hA.ids i0 (by omega)
    have hne := hx x List.mem_cons_self
    refine q278_2 hz _ ?_
    rw [gd_of hA.1, if_pos (by omega), nm_eq, gd_of h0.1, gd_of h0.2, he.1.1, if_neg hne, (w32_of (by omega) (by omega) : w32 (i + 1) = i + 1)]
    exact ih (i + 1) (by omega) he.2 (by omega) fun y hy => hx y (List.mem_cons_of_mem _ hy)
theorem c278_n {id : Int} {L : List (Int × List Int)} (hz : TZ m) (h : SVs m s L) (hx : ∀ x ∈ L, x.1 ≠ id) : cl d 278 [pR s, pI id] m = some (.inl (some (pI (-1))), m) :=
  q278 hz _ (c278_2 hz h.1 (by rw [h.2.1]; exact h.2.2.1) L 0 (by omega) h.2.2.2 (by rw [h.2.1]; omega) hx)
/-- an id that is there -/
theorem c278_2s {id : Int} {x : Int × List Int} {B : List (Int × List Int)} (hz : TZ m) (hA : SA m s) (hn : vl m s 3 ≤ 100) (hid : x.1 = id) : ∀ (A : List (Int × List Int)) (i : Int), 0 ≤ i → EnL m s i (A ++ x :: B) → i + ((A ++ x :: B).length : Nat) = vl m s 3 → (∀ x ∈ A, x.1 ≠ id) → rn d 278 2 [pR s, pI id, pI i] [] m = some (.inl (some (pI (i + A.length))), m) := by
  intro A
  induction A with
  | nil =>
    intro i i0 he hi _
    rw [List.nil_append, List.length_cons] at hi
    push_cast at hi
    have h0 := hA.ids i0 (by omega)
    have he1 : EnS m s i x := he.1
    refine q278_2 hz _ ?_
    rw [gd_of hA.1, if_pos (by omega), nm_eq, gd_of h0.1, gd_of h0.2, he1.1, if_pos hid]
    simp
  | cons y A ih =>
    intro i i0 he hi hx
    rw [List.cons_append, List.length_cons] at hi
    push_cast at hi
    have h0 := hA.ids i0 (by omega)
    have hne := hx y List.mem_cons_self
    have he1 : EnS m s i y := he.1
    refine q278_2 hz _ ?_
    rw [gd_of hA.1, if_pos (by omega), nm_eq, gd_of h0.1, gd_of h0.2, he1.1, if_neg hne, (w32_of (by omega) (by omega) : w32 (i + 1) = i + 1), ih (i + 1) (by omega) he.2 (by omega) fun y hy => hx y (List.mem_cons_of_mem _ hy), show i + 1 + (A.length : Int) = i + ((y :: A).length : Nat) by rw [List.length_cons]; push_cast; omega]
theorem c278_s {id : Int} {x : Int × List Int} {A B : List (Int × List Int)} (hz : TZ m) (h : SVs m s (A ++ x :: B)) (hid : x.1 = id) (hx : ∀ x ∈ A, x.1 ≠ id) : cl d 278 [pR s, pI id] m = some (.inl (some (pI A.length)), m) := by
  have := c278_2s (d := d) hz h.1 (by rw [h.2.1]; exact h.2.2.1) hid A 0 (by omega) h.2.2.2 (by rw [h.2.1]; omega) hx
  rw [Int.zero_add] at this
  exact q278 hz _ this
theorem lkL_spl {α : Type} {id : Int} {b : α} : ∀ {L : List (Int × α)}, lkL id L = some b → ∃ A B, L = A ++ (id, b) :: B ∧ ∀ x ∈ A, x.1 ≠ id := by
  intro L
  induction L with
  | nil => intro h; cases h
  | cons z L ih =>
    intro h
    obtain ⟨j, y⟩ := z
    have h : (if j = id then some y else lkL id L) = some b := h
    by_cases hj : j = id
    · rw [if_pos hj] at h
      cases h
      exact ⟨[], L, by rw [hj]; rfl, fun x hx => (by cases hx)⟩
    · rw [if_neg hj] at h
      obtain ⟨A, B, e, hA⟩ := ih h
      refine ⟨(j, y) :: A, B, by rw [e]; rfl, fun x hx => ?_⟩
      rcases List.mem_cons.mp hx with q | q
      · rw [q]; exact hj
      · exact hA x q
/-- bytes come into a row -/
theorem c280_18 {i id arr n : Int} {ys : List Int} (hi : 0 ≤ i ∧ i < 100) (hn : n = ys.length ∧ n ≤ 480) (hb : ∀ b ∈ ys, -128 ≤ b ∧ b < 128) : ∀ (N : Nat) (m : Mem) (k : Int), TZ m → SA m s → ((tg m arr = 186103 ∨ tg m arr = 278103) ∧ n ≤ ln m arr) → (n - k).toNat = N → 0 ≤ k → k ≤ n → (∀ j, k ≤ j → j < n → vl m arr j = gi ys j) → ∃ m', rn d 280 18 [pR s, pI i, pI id, pR arr, pI n, pI k] [] m = some (.inl none, m') ∧ NC (· = vl m s 2 + 1 + i) m m' ∧ (∀ j, k ≤ j → j < n → vl m' (vl m s 2 + 1 + i) j = gi ys j) ∧ ∀ j, j < k → vl m' (vl m s 2 + 1 + i) j = vl m (vl m s 2 + 1 + i) j := by
  intro N
  induction N with
  | zero =>
    intro m k hz hA ha hN h0 h1 hv
    refine ⟨m, q280_18 hz _ ?_, NC.refl, fun j j0 j1 => absurd j1 (by omega), fun _ _ => rfl⟩
    rw [if_neg (by omega)]
  | succ N ih =>
    intro m k hz hA ha hN h0 h1 hv
    obtain ⟨n1, n2, n3⟩ := hA.ne
    obtain ⟨r1, r2, r3, r4⟩ := n3 i hi.1 hi.2
    obtain ⟨b1, b2, b3⟩ := hA.2.2.2.2.2 i hi.1 hi.2
    have hr := hA.rws hi.1 hi.2
    have hvk := hv k (by omega) (by omega)
    have hbk : -128 ≤ gi ys k ∧ gi ys k < 128 := by
      unfold gi
      rw [List.getD_eq_getElem?_getD, List.getElem?_eq_getElem (by omega)]
      exact hb _ (List.getElem_mem _)
    have k1 : NC (· = vl m s 2 + 1 + i) m (mst m (vl m s 2 + 1 + i) k (gi ys k)) := NC.set rfl
    have g : ∀ f, vl (mst m (vl m s 2 + 1 + i) k (gi ys k)) s f = vl m s f := fun f => by rw [vl_mst, if_neg (fun z => r1 z.1.symm)]
    have hA' : SA (mst m (vl m s 2 + 1 + i) k (gi ys k)) s := hA.nc (k1.imp fun a ha => Or.inr (Or.inr (Or.inr ⟨by omega, by omega⟩))) ⟨g 0, g 1, g 2⟩
    obtain ⟨m', e1, e2, e3, e4⟩ := ih _ (k + 1) (k1.tz hz) hA' ha (by omega) (by omega) (by omega) (fun j j0 j1 => by
      rw [vl_mst]
      by_cases z : arr = vl m s 2 + 1 + i ∧ j = k
      · omega
      · rw [if_neg z]; exact hv j (by omega) j1)
    rw [g] at e2 e3 e4
    refine ⟨m', q280_18 hz _ ?_, k1.trans e2, fun j j0 j1 => ?_, fun j hj => by rw [e4 j (by omega), vl_mst, if_neg (by omega)]⟩
    · rw [if_pos (by omega), gd_of hA.1, nm_eq, gd_of hr.1, gd_of hr.2, nm_eq, b1, gd_of ha.1, gd_of ⟨by omega, by omega⟩, gd_of b2, gd_of ⟨by omega, by omega⟩, hvk, (w8_of hbk.1 hbk.2), (w32_of (by omega) (by omega) : w32 (k + 1) = k + 1)]
      exact e1
    · by_cases z : j = k
      · rw [z, e4 k (by omega), vl_mst, if_pos ⟨rfl, rfl⟩]
      · exact e3 j (by omega) j1
/-- an entry is written -/
theorem c280 {i id arr : Int} {ys : List Int} (hz : TZ m) (hA : SA m s) (hi : 0 ≤ i ∧ i < 100) (hl : (ys.length : Int) ≤ 480) (hb : ∀ b ∈ ys, -128 ≤ b ∧ b < 128) (ha : (tg m arr = 186103 ∨ tg m arr = 278103) ∧ (ys.length : Int) ≤ ln m arr) (hv : ∀ j : Int, 0 ≤ j → j < ys.length → vl m arr j = gi ys j) : ∃ m', cl d 280 [pR s, pI i, pI id, pR arr, pI ys.length] m = some (.inl none, m') ∧ NC (stS m s) m m' ∧ (∀ f, vl m' s f = vl m s f) ∧ SA m' s ∧ EnS m' s i (id, ys) ∧ ∀ k x, 0 ≤ k → k < 100 → k ≠ i → EnS m s k x → EnS m' s k x := by
  obtain ⟨n1, n2, n3⟩ := hA.ne
  obtain ⟨r1, r2, r3, r4⟩ := n3 i hi.1 hi.2
  have h0 := hA.ids hi.1 hi.2
  have h1 := hA.lens hi.1 hi.2
  have n01 := hA.2.2.2.1
  have k1 : NC (stS m s) m (mst (mst m (vl m s 0) i id) (vl m s 1) i ys.length) := (NC.set (Or.inr (Or.inl rfl))).trans (NC.set (Or.inr (Or.inr (Or.inl rfl))))
  have g : ∀ f, vl (mst (mst m (vl m s 0) i id) (vl m s 1) i ys.length) s f = vl m s f := fun f => by rw [vl_mst, if_neg (fun z => n2 z.1), vl_mst, if_neg (fun z => n1 z.1)]
  have hA1 := hA.nc k1 ⟨g 0, g 1, g 2⟩
  have arn : arr ≠ vl m s 0 ∧ arr ≠ vl m s 1 := ⟨fun z => by rw [z] at ha; omega, fun z => by rw [z] at ha; omega⟩
  obtain ⟨m', e1, e2, e3, e4⟩ := c280_18 (d := d) (i := i) (id := id) (arr := arr) (n := ys.length) (ys := ys) hi ⟨rfl, hl⟩ hb _ _ 0 (k1.tz hz) hA1 ha rfl (by omega) (by omega) (fun j j0 j1 => by
    rw [vl_mst, if_neg (fun z => arn.2 z.1), vl_mst, if_neg (fun z => arn.1 z.1)]; exact hv j j0 j1)
  rw [g] at e2 e3 e4
  have k2 : NC (stS m s) (mst (mst m (vl m s 0) i id) (vl m s 1) i ys.length) m' := e2.imp fun a q => Or.inr (Or.inr (Or.inr ⟨by omega, by omega⟩))
  have kk := k1.trans k2
  have g' : ∀ f, vl m' s f = vl m s f := fun f => by rw [e2.2.2.2 s f (fun z => r1 z.symm), g]
  refine ⟨m', q280 hz _ ?_, kk, g', hA.nc kk ⟨g' 0, g' 1, g' 2⟩, ⟨?_, ?_, ⟨hl, hb⟩, fun j j0 j1 => by rw [g']; exact e3 j j0 j1⟩, fun k x k0 k1' hk he => ?_⟩
  · rw [gd_of hA.1, nm_eq, gd_of h0.1, gd_of h0.2, nm_eq, gd_of h1.1, gd_of h1.2]; exact e1
  · rw [g', e2.2.2.2 _ _ (fun z => r2 z.symm), vl_mst, if_neg (fun z => n01 z.1), vl_mst, if_pos ⟨rfl, rfl⟩]
  · rw [g', e2.2.2.2 _ _ (fun z => r3 z.symm), vl_mst, if_pos ⟨rfl, rfl⟩]
  · obtain ⟨b1, b2, b3, b4⟩ := he
    obtain ⟨s1, s2, s3, s4⟩ := n3 k k0 k1'
    refine ⟨?_, ?_, b3, fun j j0 j1 => ?_⟩
    · rw [g', e2.2.2.2 _ _ (fun z => r2 z.symm), vl_mst, if_neg (fun z => n01 z.1), vl_mst, if_neg (fun z => hk z.2)]; exact b1
    · rw [g', e2.2.2.2 _ _ (fun z => r3 z.symm), vl_mst, if_neg (fun z => hk z.2), vl_mst, if_neg (fun z => n01 z.1.symm)]; exact b2
    · rw [g', e2.2.2.2 _ _ (by omega), vl_mst, if_neg (fun z => s3 z.1), vl_mst, if_neg (fun z => s2 z.1)]; exact b4 j j0 j1
theorem stS.eq {m m' : Mem} (g : ∀ f, vl m' s f = vl m s f) : ∀ a, stS m' s a → stS m s a := fun a h => by
  rcases h with q | q | q | q
  · exact Or.inl q
  · rw [g] at q; exact Or.inr (Or.inl q)
  · rw [g] at q; exact Or.inr (Or.inr (Or.inl q))
  · rw [g] at q; exact Or.inr (Or.inr (Or.inr q))
/-- an entry's bytes in its row -/
theorem EnS.src {i : Int} {x : Int × List Int} (hA : SA m s) (hi : 0 ≤ i ∧ i < 100) (he : EnS m s i x) : ((tg m (vl m s 2 + 1 + i) = 186103 ∨ tg m (vl m s 2 + 1 + i) = 278103) ∧ (x.2.length : Int) ≤ ln m (vl m s 2 + 1 + i)) ∧ ∀ j : Int, 0 ≤ j → j < x.2.length → vl m (vl m s 2 + 1 + i) j = gi x.2 j := by
  obtain ⟨b1, b2, b3⟩ := hA.2.2.2.2.2 i hi.1 hi.2
  exact ⟨⟨Or.inr b2, by rw [b3]; exact he.2.2.1.1⟩, he.2.2.2⟩
/-- a document's place is made -/
theorem c279_28 {id arr : Int} {ys : List Int} {A : List (Int × List Int)} (hl : (ys.length : Int) ≤ 480) (hb : ∀ b ∈ ys, -128 ≤ b ∧ b < 128) (hA' : ∀ x ∈ A, x.1 < id) : ∀ (N : Nat) (B1 B2 : List (Int × List Int)) (m : Mem), B1.length = N → 1 ≤ d → TZ m → SA m s → ((tg m arr = 186103 ∨ tg m arr = 278103) ∧ (ys.length : Int) ≤ ln m arr) → (∀ j : Int, 0 ≤ j → j < ys.length → vl m arr j = gi ys j) → ¬ stS m s arr → (∀ x ∈ B1, id < x.1) → EnL m s 0 (A ++ B1) → EnL m s ((A.length : Int) + B1.length + 1) B2 → (A.length : Int) + B1.length + 1 + B2.length ≤ 100 → ∃ m', rn d 279 28 [pR s, pI id, pR arr, pI ys.length, pI ((A.length : Int) + B1.length)] [] m = some (.inl none, m') ∧ NC (stS m s) m m' ∧ (∀ f, vl m' s f = vl m s f) ∧ SA m' s ∧ EnL m' s 0 (A ++ (id, ys) :: (B1 ++ B2)) := by
  intro N
  induction N with
  | zero =>
    intro B1 B2 m hN hd hz hA ha hv hns hB1 he1 he2 hlen
    have : B1 = [] := List.length_eq_zero_iff.mp hN
    subst this
    rw [List.append_nil] at he1
    rw [List.nil_append]
    simp only [List.length_nil, Int.natCast_zero, Int.add_zero] at he2 hlen ⊢
    obtain ⟨m', e1, e2, e3, e4, e5, e6⟩ := c280 (d := d - 1) (i := A.length) (id := id) hz hA ⟨by omega, by omega⟩ hl hb ha hv
    refine ⟨m', q279_28 (by omega) hz _ ?_, e2, e3, e4, EnL.app.mpr ⟨he1.imp fun j x j0 j1 h => e6 j x j0 (by omega) (by omega) h, ?_⟩⟩
    · by_cases z : 0 < (A.length : Int)
      · obtain ⟨A0, y, rfl⟩ : ∃ A0 y, A = A0 ++ [y] := by
          rcases List.eq_nil_or_concat A with q | ⟨l, a, q⟩
          · rw [q] at z; simp at z
          · exact ⟨l, a, by rw [q, List.concat_eq_append]⟩
        have hy := hA' y (by simp)
        have el : (((A0 ++ [y]).length : Nat) : Int) = A0.length + 1 := by simp
        rw [el] at e1 z hlen ⊢
        have h0 := hA.ids (i := (A0.length : Int)) (by omega) (by omega)
        have hyE := (EnL.app.mp he1).2.1
        rw [Int.zero_add] at hyE
        rw [if_pos z, gd_of hA.1, nm_eq, nm_eq, (w32_of (by omega) (by omega) : w32 ((A0.length : Int) + 1 - 1) = (A0.length : Int) + 1 - 1), show (A0.length : Int) + 1 - 1 = A0.length by omega, gd_of h0.1, gd_of h0.2, hyE.1, if_neg (by omega), bV_eq e1]
      · rw [if_neg z, gd_of hA.1, bV_eq e1]
    · rw [Int.zero_add]
      exact ⟨e5, he2.imp fun j x j0 j1 h => e6 j x (by omega) (by omega) (by omega) h⟩
  | succ N ih =>
    intro B1 B2 m hN hd hz hA ha hv hns hB1 he1 he2 hlen
    obtain ⟨B0, y, rfl⟩ : ∃ B0 y, B1 = B0 ++ [y] := by
      rcases List.eq_nil_or_concat B1 with q | ⟨l, a, q⟩
      · rw [q] at hN; cases hN
      · exact ⟨l, a, by rw [q, List.concat_eq_append]⟩
    have hyid := hB1 y (by simp)
    have el : (((B0 ++ [y]).length : Nat) : Int) = B0.length + 1 := by simp
    rw [List.length_append, List.length_singleton] at hN
    rw [el] at he2 hlen ⊢
    rw [← List.append_assoc] at he1
    obtain ⟨he0, hyE⟩ := EnL.app.mp he1
    have hyE := hyE.1
    rw [Int.zero_add, List.length_append] at hyE
    push_cast at hyE
    have h0 := hA.ids (i := (A.length : Int) + B0.length) (by omega) (by omega)
    have h1 := hA.lens (i := (A.length : Int) + B0.length) (by omega) (by omega)
    have h2 := hA.rws (i := (A.length : Int) + B0.length) (by omega) (by omega)
    have hrw := (hA.2.2.2.2.2 ((A.length : Int) + B0.length) (by omega) (by omega)).1
    obtain ⟨sr1, sr2⟩ := hyE.src hA ⟨by omega, by omega⟩
    obtain ⟨m1, e1, e2, e3, e4, e5, e6⟩ := c280 (d := d - 1) (i := (A.length : Int) + B0.length + 1) (id := y.1) hz hA ⟨by omega, by omega⟩ hyE.2.2.1.1 hyE.2.2.1.2 sr1 sr2
    have hns1 : ¬ stS m1 s arr := fun q => hns (stS.eq e3 _ q)
    obtain ⟨m2, f1, f2, f3, f4, f5⟩ := ih B0 (y :: B2) m1 (by omega) hd (e2.tz hz) e4 (by rw [(e2.2.2.1 arr).1, (e2.2.2.1 arr).2]; exact ha) (fun j j0 j1 => by rw [e2.2.2.2 arr j hns]; exact hv j j0 j1) hns1 (fun x hx => hB1 x (by simp [hx])) (he0.imp fun j x j0 j1 h => e6 j x j0 (by rw [List.length_append] at j1; push_cast at j1; omega) (by rw [List.length_append] at j1; push_cast at j1; omega) h) ⟨e5, he2.imp fun j x j0 j1 h => e6 j x (by omega) (by omega) (by omega) h⟩ (by rw [List.length_cons]; push_cast; omega)
    refine ⟨m2, q279_28 (by omega) hz _ ?_, e2.trans (f2.imp (stS.eq e3)), fun f => by rw [f3, e3], f4, by rw [List.append_assoc]; exact f5⟩
    rw [if_pos (by omega), gd_of hA.1, nm_eq, nm_eq, (w32_of (by omega) (by omega) : w32 ((A.length : Int) + (B0.length + 1) - 1) = (A.length : Int) + (B0.length + 1) - 1), show (A.length : Int) + (B0.length + 1) - 1 = (A.length : Int) + B0.length by omega, gd_of h0.1, gd_of h0.2, hyE.1, if_pos hyid, nm_eq, gd_of h0.2, nm_eq, nm_eq, gd_of h2.1, gd_of h2.2, nm_eq, nm_eq, gd_of h1.1, gd_of h1.2, hyE.1, hrw, hyE.2.1, show (A.length : Int) + (B0.length + 1) = (A.length : Int) + B0.length + 1 by omega, bV_eq e1, (w32_of (by omega) (by omega) : w32 ((A.length : Int) + B0.length + 1 + -1) = (A.length : Int) + B0.length + 1 + -1), show (A.length : Int) + B0.length + 1 + -1 = (A.length : Int) + B0.length by omega]
    exact f1
/-- a document is put -/
theorem c279 {id arr : Int} {ys : List Int} {L : List (Int × List Int)} (hd : 2 ≤ d) (hz : TZ m) (h : SVs m s L) (hs : srt L) (hl : (ys.length : Int) ≤ 480) (hb : ∀ b ∈ ys, -128 ≤ b ∧ b < 128) (ha : (tg m arr = 186103 ∨ tg m arr = 278103) ∧ (ys.length : Int) ≤ ln m arr) (hv : ∀ j : Int, 0 ≤ j → j < ys.length → vl m arr j = gi ys j) (hns : ¬ stS m s arr) (hc : lkL id L = none → (L.length : Int) < 100) : ∃ m', cl d 279 [pR s, pI id, pR arr, pI ys.length] m = some (.inl none, m') ∧ NC (stS m s) m m' ∧ (∀ f, f ≠ 3 → vl m' s f = vl m s f) ∧ SVs m' s (insL id ys L) := by
  cases hk : lkL id L with
  | none =>
    have hx := lkL_none.mp hk
    replace hc := hc hk
    have e278 := c278_n (d := d - 1) hz h hx
    obtain ⟨hA, h3, h4, hE⟩ := h
    obtain ⟨n1, n2, n3⟩ := hA.ne
    -- the split
    obtain ⟨A, B, rfl, hA1, hB1⟩ : ∃ A B, L = A ++ B ∧ (∀ x ∈ A, x.1 < id) ∧ ∀ x ∈ B, id < x.1 := by
      clear e278 hE h3 h4 hc hk
      induction L with
      | nil => exact ⟨[], [], rfl, fun x hx => (by cases hx), fun x hx => (by cases hx)⟩
      | cons z L ih =>
        obtain ⟨s1, s2⟩ := hs
        by_cases hz' : z.1 < id
        · obtain ⟨A, B, e, a1, a2⟩ := ih s2 fun x hx' => hx x (List.mem_cons_of_mem _ hx')
          refine ⟨z :: A, B, by rw [e]; rfl, fun x hx' => ?_, a2⟩
          rcases List.mem_cons.mp hx' with q | q
          · rw [q]; exact hz'
          · exact a1 x q
        · refine ⟨[], z :: L, rfl, fun x hx' => (by cases hx'), fun x hx' => ?_⟩
          have hne := hx z List.mem_cons_self
          rcases List.mem_cons.mp hx' with q | q
          · rw [q]; omega
          · have := s1 x q; omega
    have hins : insL id ys (A ++ B) = A ++ (id, ys) :: B := by
      rw [insL_mid hA1]
      cases B with
      | nil => rfl
      | cons z B =>
        obtain ⟨j, b⟩ := z
        have hz' : id < j := hB1 (j, b) List.mem_cons_self
        show A ++ (if j < id then _ else if j = id then _ else (id, ys) :: (j, b) :: B) = _
        rw [if_neg (by omega), if_neg (by omega)]
    rw [hins]
    rw [List.length_append] at h3 h4 hc
    push_cast at h3 h4 hc
    have k1 : NC (stS m s) m (mst m s 3 ((A.length : Int) + B.length + 1)) := NC.set (Or.inl rfl)
    have g : ∀ f, f ≠ 3 → vl (mst m s 3 ((A.length : Int) + B.length + 1)) s f = vl m s f := fun f hf => by rw [vl_mst, if_neg (fun z => hf z.2)]
    have hA2 := hA.nc k1 ⟨g 0 (by decide), g 1 (by decide), g 2 (by decide)⟩
    have hsS : ∀ a, stS (mst m s 3 ((A.length : Int) + B.length + 1)) s a → stS m s a := fun a q => by
      rcases q with q | q | q | q
      · exact Or.inl q
      · rw [g 0 (by decide)] at q; exact Or.inr (Or.inl q)
      · rw [g 1 (by decide)] at q; exact Or.inr (Or.inr (Or.inl q))
      · rw [g 2 (by decide)] at q; exact Or.inr (Or.inr (Or.inr q))
    have hars : arr ≠ s := fun z => hns (Or.inl z)
    have hE2 : EnL (mst m s 3 ((A.length : Int) + B.length + 1)) s 0 (A ++ B) := hE.imp fun j x j0 j1 he => by
      rw [List.length_append] at j1
      push_cast at j1
      obtain ⟨b1, b2, b3, b4⟩ := he
      have := n3 j j0 (by omega)
      exact ⟨by rw [g 0 (by decide), vl_mst, if_neg (fun z => n1 z.1.symm)]; exact b1, by rw [g 1 (by decide), vl_mst, if_neg (fun z => n2 z.1.symm)]; exact b2, b3, fun q q0 q1 => by rw [g 2 (by decide), vl_mst, if_neg (fun z => this.1 z.1)]; exact b4 q q0 q1⟩
    obtain ⟨m', e1, e2, e3, e4, e5⟩ := c279_28 (d := d) (s := s) (id := id) (arr := arr) (A := A) hl hb hA1 _ B [] _ rfl (by omega) (k1.tz hz) hA2 ha (fun j j0 j1 => by rw [vl_mst, if_neg (fun z => hars z.1)]; exact hv j j0 j1) (fun q => hns (hsS _ q)) hB1 hE2 trivial (by simp; omega)
    rw [List.append_nil] at e5
    refine ⟨m', q279 (by omega) hz _ ?_, k1.trans (e2.imp hsS), fun f hf => by rw [e3, g f hf], ⟨e4, ?_, ?_, e5⟩⟩
    · rw [gd_of hA.1, bI_eq e278, if_pos (by decide), nm_eq, h3, (w32_of (by omega) (by omega) : w32 ((A.length : Int) + B.length + 1) = (A.length : Int) + B.length + 1)]
      exact e1
    · rw [e3, vl_mst, if_pos ⟨rfl, rfl⟩, List.length_append, List.length_cons]; push_cast; omega
    · rw [List.length_append, List.length_cons]; push_cast; omega
  | some b =>
    obtain ⟨A, B, rfl, hA1⟩ := lkL_spl hk
    have e278 := c278_s (d := d - 1) (id := id) hz h rfl hA1
    obtain ⟨hA, h3, h4, hE⟩ := h
    rw [List.length_append, List.length_cons] at h3 h4
    push_cast at h3 h4
    obtain ⟨E1, E2⟩ := EnL.app.mp hE
    rw [Int.zero_add] at E2
    obtain ⟨s1, s2, s3⟩ := srt_app.mp hs
    have hAlt : ∀ x ∈ A, x.1 < id := fun x hx => s3 x hx (id, b) List.mem_cons_self
    have hins : insL id ys (A ++ (id, b) :: B) = A ++ (id, ys) :: B := by
      rw [insL_mid hAlt]
      show A ++ (if id < id then _ else if id = id then (id, ys) :: B else _) = _
      rw [if_neg (by omega), if_pos rfl]
    rw [hins]
    obtain ⟨m', e1, e2, e3, e4, e5, e6⟩ := c280 (d := d - 1) (i := A.length) (id := id) hz hA ⟨by omega, by omega⟩ hl hb ha hv
    refine ⟨m', q279 (by omega) hz _ ?_, e2, fun f _ => e3 f, ⟨e4, by rw [e3, h3, List.length_append, List.length_cons]; push_cast; omega, by rw [List.length_append, List.length_cons]; push_cast; omega, EnL.app.mpr ⟨E1.imp fun j x j0 j1 h => e6 j x j0 (by omega) (by omega) h, ?_⟩⟩⟩
    · rw [gd_of hA.1, bI_eq e278, if_neg (by omega), bV_eq e1]
    · rw [Int.zero_add]
      exact ⟨e5, E2.2.imp fun j x j0 j1 h => e6 j x (by omega) (by omega) (by omega) h⟩
/-- what stands behind moves up -/
theorem c281_12 {a1 n : Int} {A : List (Int × List Int)} : ∀ (B2 B1 : List (Int × List Int)) (m : Mem), 1 ≤ d → TZ m → SA m s → vl m s 3 = n → EnL m s 0 (A ++ B1) → EnL m s ((A.length : Int) + B1.length + 1) B2 → (A.length : Int) + B1.length + B2.length = n → n < 100 → ∃ m', rn d 281 12 [pR s, pI a1, pI ((A.length : Int) + B1.length)] [] m = some (.inl none, m') ∧ NC (stS m s) m m' ∧ (∀ f, vl m' s f = vl m s f) ∧ SA m' s ∧ EnL m' s 0 (A ++ (B1 ++ B2)) := by
  intro B2
  induction B2 with
  | nil =>
    intro B1 m hd hz hA h3 he1 he2 hlen hn
    rw [List.length_nil, Int.natCast_zero, Int.add_zero] at hlen
    refine ⟨m, q281_12 (by omega) hz _ ?_, NC.refl, fun _ => rfl, hA, by rw [List.append_nil]; exact he1⟩
    rw [gd_of hA.1, h3, if_neg (by omega)]
  | cons y B2 ih =>
    intro B1 m hd hz hA h3 he1 he2 hlen hn
    rw [List.length_cons] at hlen
    push_cast at hlen
    have hyE := he2.1
    have h0 := hA.ids (i := (A.length : Int) + B1.length + 1) (by omega) (by omega)
    have h1 := hA.lens (i := (A.length : Int) + B1.length + 1) (by omega) (by omega)
    have h2 := hA.rws (i := (A.length : Int) + B1.length + 1) (by omega) (by omega)
    have hrw := (hA.2.2.2.2.2 ((A.length : Int) + B1.length + 1) (by omega) (by omega)).1
    obtain ⟨sr1, sr2⟩ := hyE.src hA ⟨by omega, by omega⟩
    obtain ⟨m1, e1, e2, e3, e4, e5, e6⟩ := c280 (d := d - 1) (i := (A.length : Int) + B1.length) (id := y.1) hz hA ⟨by omega, by omega⟩ hyE.2.2.1.1 hyE.2.2.1.2 sr1 sr2
    have el : (((B1 ++ [y]).length : Nat) : Int) = B1.length + 1 := by simp
    obtain ⟨m2, f1, f2, f3, f4, f5⟩ := ih (B1 ++ [y]) m1 hd (e2.tz hz) e4 (by rw [e3]; exact h3) (by
      rw [← List.append_assoc]
      refine EnL.app.mpr ⟨he1.imp fun j x j0 j1 h => e6 j x j0 (by rw [List.length_append] at j1; push_cast at j1; omega) (by rw [List.length_append] at j1; push_cast at j1; omega) h, ?_, trivial⟩
      rw [Int.zero_add, List.length_append]
      push_cast
      exact e5) (by
      rw [el, show (A.length : Int) + (B1.length + 1) + 1 = (A.length : Int) + B1.length + 1 + 1 by omega]
      exact he2.2.imp fun j x j0 j1 h => e6 j x (by omega) (by omega) (by omega) h) (by rw [el]; omega) hn
    rw [el] at f1
    refine ⟨m2, q281_12 (by omega) hz _ ?_, e2.trans (f2.imp (stS.eq e3)), fun f => by rw [f3, e3], f4, by rw [List.append_assoc] at f5; exact f5⟩
    rw [gd_of hA.1, h3, if_pos (by omega), nm_eq, nm_eq, (w32_of (by omega) (by omega) : w32 ((A.length : Int) + B1.length + 1) = (A.length : Int) + B1.length + 1), gd_of h0.1, gd_of h0.2, nm_eq, nm_eq, gd_of h2.1, gd_of h2.2, nm_eq, nm_eq, gd_of h1.1, gd_of h1.2, hyE.1, hrw, hyE.2.1, bV_eq e1, show (A.length : Int) + B1.length + 1 = (A.length : Int) + (B1.length + 1) by omega]
    exact f1
/-- a document goes -/
theorem c281 {x : Int × List Int} {A B : List (Int × List Int)} (hd : 1 ≤ d) (hz : TZ m) (h : SVs m s (A ++ x :: B)) : ∃ m', cl d 281 [pR s, pI A.length] m = some (.inl none, m') ∧ NC (stS m s) m m' ∧ (∀ f, f ≠ 3 → vl m' s f = vl m s f) ∧ SVs m' s (A ++ B) := by
  obtain ⟨hA, h3, h4, hE⟩ := h
  obtain ⟨n1, n2, n3⟩ := hA.ne
  rw [List.length_append, List.length_cons] at h3 h4
  push_cast at h3 h4
  have k1 : NC (stS m s) m (mst m s 3 ((A.length : Int) + B.length)) := NC.set (Or.inl rfl)
  have g : ∀ f, f ≠ 3 → vl (mst m s 3 ((A.length : Int) + B.length)) s f = vl m s f := fun f hf => by rw [vl_mst, if_neg (fun z => hf z.2)]
  have hA2 := hA.nc k1 ⟨g 0 (by decide), g 1 (by decide), g 2 (by decide)⟩
  have hsS : ∀ a, stS (mst m s 3 ((A.length : Int) + B.length)) s a → stS m s a := fun a q => by
    rcases q with q | q | q | q
    · exact Or.inl q
    · rw [g 0 (by decide)] at q; exact Or.inr (Or.inl q)
    · rw [g 1 (by decide)] at q; exact Or.inr (Or.inr (Or.inl q))
    · rw [g 2 (by decide)] at q; exact Or.inr (Or.inr (Or.inr q))
  have hE2 : EnL (mst m s 3 ((A.length : Int) + B.length)) s 0 (A ++ x :: B) := hE.imp fun j x j0 j1 he => by
    rw [List.length_append, List.length_cons] at j1
    push_cast at j1
    obtain ⟨b1, b2, b3, b4⟩ := he
    have := n3 j j0 (by omega)
    exact ⟨by rw [g 0 (by decide), vl_mst, if_neg (fun z => n1 z.1.symm)]; exact b1, by rw [g 1 (by decide), vl_mst, if_neg (fun z => n2 z.1.symm)]; exact b2, b3, fun q q0 q1 => by rw [g 2 (by decide), vl_mst, if_neg (fun z => this.1 z.1)]; exact b4 q q0 q1⟩
  obtain ⟨E1, E2⟩ := EnL.app.mp hE2
  rw [Int.zero_add] at E2
  obtain ⟨m', e1, e2, e3, e4, e5⟩ := c281_12 (d := d) (s := s) (a1 := A.length) (n := (A.length : Int) + B.length) (A := A) B [] _ hd (k1.tz hz) hA2 (by rw [vl_mst, if_pos ⟨rfl, rfl⟩]) (by rw [List.append_nil]; exact E1) (by simpa using E2.2) (by simp) (by omega)
  rw [List.length_nil, Int.natCast_zero, Int.add_zero] at e1
  refine ⟨m', q281 hz _ ?_, k1.trans (e2.imp hsS), fun f hf => by rw [e3, g f hf], ⟨e4, by rw [e3, vl_mst, if_pos ⟨rfl, rfl⟩, List.length_append]; push_cast; omega, by rw [List.length_append]; push_cast; omega, e5⟩⟩
  rw [gd_of hA.1, h3, (w32_of (by omega) (by omega) : w32 ((A.length : Int) + (B.length + 1) - 1) = (A.length : Int) + (B.length + 1) - 1), show (A.length : Int) + (B.length + 1) - 1 = (A.length : Int) + B.length by omega]
  exact e1
/-- all documents are copied -/
theorem c282_10 {s' : Int} {n : Int} : ∀ (B A : List (Int × List Int)) (m : Mem), 1 ≤ d → TZ m → SA m s → SA m s' → DJ m s s' → vl m s 3 = n → EnL m s 0 A → EnL m s' A.length B → (A.length : Int) + B.length = n → n ≤ 100 → ∃ m', rn d 282 10 [pR s, pR s', pI A.length] [] m = some (.inl none, m') ∧ NC (stS m s) m m' ∧ (∀ f, vl m' s f = vl m s f) ∧ SA m' s ∧ EnL m' s 0 (A ++ B) := by
  intro B
  induction B with
  | nil =>
    intro A m hd hz hA hA' hD h3 he1 he2 hlen hn
    rw [List.length_nil, Int.natCast_zero, Int.add_zero] at hlen
    refine ⟨m, q282_10 (by omega) hz _ ?_, NC.refl, fun _ => rfl, hA, by rw [List.append_nil]; exact he1⟩
    rw [gd_of hA.1, h3, if_neg (by omega)]
  | cons y B ih =>
    intro A m hd hz hA hA' hD h3 he1 he2 hlen hn
    rw [List.length_cons] at hlen
    push_cast at hlen
    have hyE := he2.1
    have h0 := hA'.ids (i := (A.length : Int)) (by omega) (by omega)
    have h1 := hA'.lens (i := (A.length : Int)) (by omega) (by omega)
    have h2 := hA'.rws (i := (A.length : Int)) (by omega) (by omega)
    have hrw := (hA'.2.2.2.2.2 (A.length : Int) (by omega) (by omega)).1
    obtain ⟨sr1, sr2⟩ := hyE.src hA' ⟨by omega, by omega⟩
    obtain ⟨o1, o2⟩ := hD.out hA hA'
    obtain ⟨m1, e1, e2, e3, e4, e5, e6⟩ := c280 (d := d - 1) (i := (A.length : Int)) (id := y.1) hz hA ⟨by omega, by omega⟩ hyE.2.2.1.1 hyE.2.2.1.2 sr1 sr2
    have g' : ∀ f, vl m1 s' f = vl m s' f := fun f => e2.2.2.2 s' f (o1 s' (Or.inl rfl))
    have tr : ∀ b, tg m1 b = tg m b := fun b => (e2.2.2.1 b).1
    have hA1' : SA m1 s' := by
      obtain ⟨k1, k2, k3, k4, k5, k6⟩ := hA'
      have l : ∀ b, ln m1 b = ln m b := fun b => (e2.2.2.1 b).2
      exact ⟨by rw [tr]; exact k1, by rw [g', tr, l]; exact k2, by rw [g', tr, l]; exact k3, by rw [g', g']; exact k4, by rw [g', tr, l]; exact k5, fun i i0 i1 => by rw [g', tr, l, e2.2.2.2 _ _ o2]; exact k6 i i0 i1⟩
    have hD1 : DJ m1 s s' := by unfold DJ; rw [e3, e3, e3, g', g', g']; exact hD
    have he2' : EnL m1 s' ((A.length : Int) + 1) B := he2.2.imp fun j x j0 j1 he => by
      obtain ⟨b1, b2, b3, b4⟩ := he
      exact ⟨by rw [g', e2.2.2.2 _ _ (o1 _ (Or.inr (Or.inl rfl)))]; exact b1, by rw [g', e2.2.2.2 _ _ (o1 _ (Or.inr (Or.inr (Or.inl rfl))))]; exact b2, b3, fun q q0 q1 => by rw [g', e2.2.2.2 _ _ (o1 _ (Or.inr (Or.inr (Or.inr ⟨by omega, by omega⟩))))]; exact b4 q q0 q1⟩
    have el : (((A ++ [y]).length : Nat) : Int) = A.length + 1 := by simp
    obtain ⟨m2, f1, f2, f3, f4, f5⟩ := ih (A ++ [y]) m1 hd (e2.tz hz) e4 hA1' hD1 (by rw [e3]; exact h3) (EnL.app.mpr ⟨he1.imp fun j x j0 j1 h => e6 j x j0 (by omega) (by omega) h, by rw [Int.zero_add]; exact e5, trivial⟩) (by rw [el]; exact he2') (by rw [el]; omega) hn
    rw [el] at f1
    refine ⟨m2, q282_10 (by omega) hz _ ?_, e2.trans (f2.imp (stS.eq e3)), fun f => by rw [f3, e3], f4, by rw [List.append_assoc] at f5; exact f5⟩
    rw [gd_of hA.1, h3, if_pos (by omega), gd_of hA'.1, nm_eq, gd_of h0.1, gd_of h0.2, nm_eq, gd_of h2.1, gd_of h2.2, nm_eq, gd_of h1.1, gd_of h1.2, hyE.1, hrw, hyE.2.1, bV_eq e1, (w32_of (by omega) (by omega) : w32 ((A.length : Int) + 1) = (A.length : Int) + 1)]
    exact f1
theorem c282 {s' : Int} {L L0 : List (Int × List Int)} (hd : 1 ≤ d) (hz : TZ m) (h : SVs m s L0) (h' : SVs m s' L) (hD : DJ m s s') : ∃ m', cl d 282 [pR s, pR s'] m = some (.inl none, m') ∧ NC (stS m s) m m' ∧ (∀ f, f ≠ 3 → vl m' s f = vl m s f) ∧ SVs m' s L := by
  have hA := h.1
  obtain ⟨hA', h3', h4', hE'⟩ := h'
  obtain ⟨n1, n2, n3⟩ := hA.ne
  obtain ⟨o1, o2⟩ := hD.out hA hA'
  have k1 : NC (stS m s) m (mst m s 3 (L.length : Int)) := NC.set (Or.inl rfl)
  have g : ∀ f, f ≠ 3 → vl (mst m s 3 (L.length : Int)) s f = vl m s f := fun f hf => by rw [vl_mst, if_neg (fun z => hf z.2)]
  have hA2 := hA.nc k1 ⟨g 0 (by decide), g 1 (by decide), g 2 (by decide)⟩
  have g' : ∀ f, vl (mst m s 3 (L.length : Int)) s' f = vl m s' f := fun f => k1.2.2.2 s' f (o1 s' (Or.inl rfl))
  have hsS : ∀ a, stS (mst m s 3 (L.length : Int)) s a → stS m s a := fun a q => by
    rcases q with q | q | q | q
    · exact Or.inl q
    · rw [g 0 (by decide)] at q; exact Or.inr (Or.inl q)
    · rw [g 1 (by decide)] at q; exact Or.inr (Or.inr (Or.inl q))
    · rw [g 2 (by decide)] at q; exact Or.inr (Or.inr (Or.inr q))
  have hV' := (SVs.nc (L := L) ⟨hA', h3', h4', hE'⟩ k1 o1 o2)
  have hD1 : DJ (mst m s 3 (L.length : Int)) s s' := by unfold DJ; rw [g 0 (by decide), g 1 (by decide), g 2 (by decide), g', g', g']; exact hD
  obtain ⟨m', e1, e2, e3, e4, e5⟩ := c282_10 (d := d) (s := s) (s' := s') (n := L.length) L [] _ hd (k1.tz hz) hA2 hV'.1 hD1 (by rw [vl_mst, if_pos ⟨rfl, rfl⟩]) trivial hV'.2.2.2 (by simp) h4'
  rw [List.nil_append] at e5
  refine ⟨m', q282 hz _ ?_, k1.trans (e2.imp hsS), fun f hf => by rw [e3, g f hf], ⟨e4, by rw [e3, vl_mst, if_pos ⟨rfl, rfl⟩], h4', e5⟩⟩
  rw [gd_of hA'.1, gd_of hA.1, h3']
  exact e1
end
