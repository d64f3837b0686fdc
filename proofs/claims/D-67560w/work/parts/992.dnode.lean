/-! the disk: nodes in memory -/
set_option maxRecDepth 100000
set_option maxHeartbeats 4000000
/-- a node's arrays -/
def NO (m : Mem) (p : Int) : Prop := tg m p = 14 ∧ (tg m (vl m p 1) = 298101 ∧ ln m (vl m p 1) = 18) ∧ (tg m (vl m p 2) = 298101 ∧ ln m (vl m p 2) = 18) ∧ vl m p 1 ≠ vl m p 2
/-- what a node holds -/
def ND1 (m : Mem) (p : Int) (lf : Bool) (es : List (Int × Int)) : Prop := NO m p ∧ vl m p 0 = b2i lf ∧ vl m p 3 = es.length ∧ (es.length : Int) ≤ 18 ∧ (∀ i : Int, 0 ≤ i → i < es.length → vl m (vl m p 1) i = gi (es.map (·.1)) i) ∧ ∀ i : Int, 0 ≤ i → i < es.length → vl m (vl m p 2) i = gi (es.map (·.2)) i
/-- nothing has changed but at places of S -/
def NC (S : Int → Prop) (m m' : Mem) : Prop := nx m' = nx m ∧ sl m' = sl m ∧ (∀ a, tg m' a = tg m a ∧ ln m' a = ln m a) ∧ ∀ a j, ¬ S a → vl m' a j = vl m a j
theorem NC.refl {S : Int → Prop} {m : Mem} : NC S m m := ⟨rfl, rfl, fun _ => ⟨rfl, rfl⟩, fun _ _ _ => rfl⟩
theorem NC.trans {S : Int → Prop} {m m1 m2 : Mem} (h : NC S m m1) (h' : NC S m1 m2) : NC S m m2 := ⟨by rw [h'.1, h.1], by rw [h'.2.1, h.2.1], fun b => ⟨by rw [(h'.2.2.1 b).1, (h.2.2.1 b).1], by rw [(h'.2.2.1 b).2, (h.2.2.1 b).2]⟩, fun b j hb => by rw [h'.2.2.2 b j hb, h.2.2.2 b j hb]⟩
theorem NC.imp {S S' : Int → Prop} {m m1 : Mem} (h : NC S m m1) (hs : ∀ a, S a → S' a) : NC S' m m1 := ⟨h.1, h.2.1, h.2.2.1, fun a j ha => h.2.2.2 a j fun z => ha (hs a z)⟩
theorem NC.set {S : Int → Prop} {m : Mem} {a j v : Int} (ha : S a) : NC S m (mst m a j v) := ⟨rfl, rfl, fun _ => ⟨rfl, rfl⟩, fun b i hb => by rw [vl_mst, if_neg (fun z => hb (by rw [z.1]; exact ha))]⟩
theorem NC.tz {S : Int → Prop} {m m' : Mem} (h : NC S m m') (hz : TZ m) : TZ m' := fun x hx => by rw [(h.2.2.1 x).1]; exact hz x (by rw [h.1] at hx; exact hx)
theorem NC.ok {S : Int → Prop} {m m' : Mem} (h : NC S m m') (ok : OK m) : OK m' := ⟨h.tz ok.1, by rw [(h.2.2.1 0).1]; exact ok.2.1, by rw [h.1]; exact ok.2.2⟩
theorem AO.nc {a : Int} {m m' : Mem} {S : Int → Prop} (h : AO a m m') (ha : S a) : NC S m m' := ⟨h.1, h.2.1, h.2.2.1, fun b j hb => h.2.2.2 b j fun z => hb (by rw [z]; exact ha)⟩
/-- a node and its arrays -/
abbrev nS (m : Mem) (p : Int) (a : Int) : Prop := a = p ∨ a = vl m p 1 ∨ a = vl m p 2
theorem NO.ne {m : Mem} {p : Int} (h : NO m p) : p ≠ vl m p 1 ∧ p ≠ vl m p 2 := ⟨fun z => by have := h.2.1.1; rw [← z, h.1] at this; omega, fun z => by have := h.2.2.1.1; rw [← z, h.1] at this; omega⟩
/-- nodes elsewhere stay -/
theorem ND1.nc {m m' : Mem} {p : Int} {lf : Bool} {es : List (Int × Int)} {S : Int → Prop} (h : ND1 m p lf es) (k : NC S m m') (h0 : ¬ S p) (h1 : ¬ S (vl m p 1)) (h2 : ¬ S (vl m p 2)) : ND1 m' p lf es := by
  obtain ⟨⟨a1, a2, a3, a4⟩, a5, a6, a7, a8, a9⟩ := h
  have g : ∀ f, vl m' p f = vl m p f := fun f => k.2.2.2 p f h0
  have t : ∀ b, tg m' b = tg m b := fun b => (k.2.2.1 b).1
  have l : ∀ b, ln m' b = ln m b := fun b => (k.2.2.1 b).2
  exact ⟨⟨by rw [t]; exact a1, by rw [g, t, l]; exact a2, by rw [g, t, l]; exact a3, by rw [g, g]; exact a4⟩, by rw [g]; exact a5, by rw [g]; exact a6, a7, fun i i0 i1 => by rw [g, k.2.2.2 _ _ h1]; exact a8 i i0 i1, fun i i0 i1 => by rw [g, k.2.2.2 _ _ h2]; exact a9 i i0 i1⟩
section
variable {d : Nat} {m : Mem} {p : Int} {lf : Bool}
theorem c299_7 {id : Int} {A : List (Int × Int)} {x : Int × Int} (hz : TZ m) (hA : A ≠ [] → x.1 ≤ id) : ∀ (N : Nat) (B : List (Int × Int)), B.length = N → ND1 m p lf (A ++ x :: B) → (∀ y ∈ B, id < y.1) → rn d 299 7 [pR p, pI id, pI ((A.length : Int) + B.length)] [] m = some (.inl (some (pI A.length)), m) := by
  intro N
  have key : ∀ (N : Nat) (B C : List (Int × Int)), B.length = N → ND1 m p lf (A ++ x :: (B ++ C)) → (∀ y ∈ B, id < y.1) → rn d 299 7 [pR p, pI id, pI ((A.length : Int) + B.length)] [] m = some (.inl (some (pI A.length)), m) := by
    intro N
    induction N with
    | zero =>
      intro B C hN hn hB
      have : B = [] := List.length_eq_zero_iff.mp hN
      subst this
      obtain ⟨⟨a1, a2, a3, a4⟩, a5, a6, a7, a8, a9⟩ := hn
      rw [show (A.length : Int) + ([] : List (Int × Int)).length = A.length by simp]
      refine q299_7 hz _ ?_
      by_cases z : 0 < (A.length : Int)
      · have hl : A.length < (A ++ x :: ([] ++ C)).length := by simp
        have h8 := a8 A.length (by omega) (by omega)
        rw [List.map_append, List.map_cons, gi_app_r (by rw [List.length_map]; omega), List.length_map, Int.sub_self, gi_zero] at h8
        have hne : A ≠ [] := by intro q; rw [q] at z; simp at z
        have := hA hne
        rw [if_pos z, gd_of a1, nm_eq, gd_of a2.1, gd_of ⟨by omega, by rw [a2.2]; omega⟩, h8, if_neg (by omega)]
      · rw [if_neg z]
    | succ N ih =>
      intro B C hN hn hB
      obtain ⟨B', z, rfl⟩ : ∃ B' z, B = B' ++ [z] := by
        rcases List.eq_nil_or_concat B with q | ⟨l, a, q⟩
        · rw [q] at hN; cases hN
        · exact ⟨l, a, by rw [q, List.concat_eq_append]⟩
      rw [List.length_append, List.length_singleton] at hN
      have hzk := hB z (by simp)
      have rcc := ih B' (z :: C) (by omega) (by rw [show B' ++ z :: C = (B' ++ [z]) ++ C by simp]; exact hn) (fun y hy => hB y (by simp [hy]))
      obtain ⟨⟨a1, a2, a3, a4⟩, a5, a6, a7, a8, a9⟩ := hn
      have el : (((A ++ x :: (B' ++ [z] ++ C)).length : Nat) : Int) = A.length + B'.length + 2 + C.length := by simp; omega
      have h8 := a8 ((A.length : Int) + B'.length + 1) (by omega) (by omega)
      rw [show A ++ x :: (B' ++ [z] ++ C) = (A ++ x :: B') ++ z :: C by simp, List.map_append, List.map_cons, gi_app_r (by rw [List.length_map]; simp; omega), List.length_map, show (A.length : Int) + B'.length + 1 - (A ++ x :: B').length = 0 by simp; omega, gi_zero] at h8
      refine q299_7 hz _ ?_
      rw [show (A.length : Int) + ((B' ++ [z]).length : Nat) = (A.length : Int) + B'.length + 1 by rw [List.length_append, List.length_singleton]; push_cast; omega, if_pos (by omega), gd_of a1, nm_eq, gd_of a2.1, gd_of ⟨by omega, by rw [a2.2]; omega⟩, h8, if_pos hzk, (w32_of (by omega) (by omega) : w32 ((A.length : Int) + B'.length + 1 + -1) = (A.length : Int) + B'.length + 1 + -1), show (A.length : Int) + B'.length + 1 + -1 = A.length + B'.length by omega]
      exact rcc
  intro B hN hn hB
  exact key N B [] hN (by rw [List.append_nil]; exact hn) hB
theorem c299 {id : Int} {A B : List (Int × Int)} {x : Int × Int} (hz : TZ m) (hn : ND1 m p lf (A ++ x :: B)) (hA : A ≠ [] → x.1 ≤ id) (hB : ∀ y ∈ B, id < y.1) : cl d 299 [pR p, pI id] m = some (.inl (some (pI A.length)), m) := by
  have h1 := hn.1.1
  have h3 := hn.2.2.1
  have h4 := hn.2.2.2.1
  rw [List.length_append, List.length_cons] at h3 h4
  push_cast at h3 h4
  refine q299 hz _ ?_
  rw [gd_of h1, h3, (w32_of (by omega) (by omega) : w32 ((A.length : Int) + (B.length + 1) - 1) = (A.length : Int) + (B.length + 1) - 1), show (A.length : Int) + (B.length + 1) - 1 = A.length + B.length by omega]
  exact c299_7 hz hA _ B rfl hn hB
theorem c300_6 {id bk at' n : Int} (hn : n < 18) (hat : 0 ≤ at') : ∀ (N : Nat) (m : Mem) (k : Int), TZ m → NO m p → (k - at').toNat = N → at' ≤ k → k ≤ n → vl m p 3 = n → ∃ m', rn d 300 6 [pR p, pI at', pI id, pI bk, pI k] [] m = some (.inl none, m') ∧ NC (nS m p) m m' ∧ (∀ f, f ≠ 3 → vl m' p f = vl m p f) ∧ vl m' p 3 = n + 1 ∧ (∀ i, vl m' (vl m p 1) i = if i = at' then id else if at' < i ∧ i ≤ k then vl m (vl m p 1) (i - 1) else vl m (vl m p 1) i) ∧ ∀ i, vl m' (vl m p 2) i = if i = at' then bk else if at' < i ∧ i ≤ k then vl m (vl m p 2) (i - 1) else vl m (vl m p 2) i := by
  intro N
  induction N with
  | zero =>
    intro m k hz hN0 hN h0 h1 h3
    obtain ⟨n1, n2⟩ := hN0.ne
    obtain ⟨a1, a2, a3, a4⟩ := hN0
    have hk : k = at' := by omega
    subst hk
    refine ⟨mst (mst (mst m (vl m p 1) k id) (vl m p 2) k bk) p 3 (n + 1), q300_6 hz _ ?_, ((NC.set (Or.inr (Or.inl rfl))).trans (NC.set (Or.inr (Or.inr rfl)))).trans (NC.set (Or.inl rfl)), fun f hf => ?_, by rw [vl_mst, if_pos ⟨rfl, rfl⟩], fun i => ?_, fun i => ?_⟩
    · rw [if_neg (by omega), gd_of a1, nm_eq, gd_of a2.1, gd_of ⟨hat, by rw [a2.2]; omega⟩, nm_eq, gd_of a3.1, gd_of ⟨hat, by rw [a3.2]; omega⟩, h3, (w32_of (by omega) (by omega) : w32 (n + 1) = n + 1)]
    · rw [vl_mst, if_neg (fun z => hf z.2), vl_mst, if_neg (fun z => n2 z.1), vl_mst, if_neg (fun z => n1 z.1)]
    · rw [vl_mst, if_neg (fun z => n1 z.1.symm), vl_mst, if_neg (fun z => a4 z.1), vl_mst]
      by_cases z : i = k
      · rw [if_pos ⟨rfl, z⟩, if_pos z]
      · rw [if_neg (fun y => z y.2), if_neg z, if_neg (by omega)]
    · rw [vl_mst, if_neg (fun z => n2 z.1.symm), vl_mst]
      by_cases z : i = k
      · rw [if_pos ⟨rfl, z⟩, if_pos z]
      · rw [if_neg (fun y => z y.2), if_neg z, if_neg (by omega), vl_mst, if_neg (fun y => a4 y.1.symm)]
  | succ N ih =>
    intro m k hz hN0 hN h0 h1 h3
    obtain ⟨n1, n2⟩ := hN0.ne
    have hNO := hN0
    obtain ⟨a1, a2, a3, a4⟩ := hN0
    have o : ∀ f, vl (mst (mst m (vl m p 1) k (vl m (vl m p 1) (k - 1))) (vl m p 2) k (vl m (vl m p 2) (k - 1))) p f = vl m p f := fun f => by
      rw [vl_mst, if_neg (fun z => n2 z.1), vl_mst, if_neg (fun z => n1 z.1)]
    have kc : NC (nS m p) m (mst (mst m (vl m p 1) k (vl m (vl m p 1) (k - 1))) (vl m p 2) k (vl m (vl m p 2) (k - 1))) := (NC.set (Or.inr (Or.inl rfl))).trans (NC.set (Or.inr (Or.inr rfl)))
    have e2 : vl (mst m (vl m p 1) k (vl m (vl m p 1) (k - 1))) (vl m p 2) (k - 1) = vl m (vl m p 2) (k - 1) := by rw [vl_mst, if_neg (fun z => a4 z.1.symm)]
    have hNO' : NO (mst (mst m (vl m p 1) k (vl m (vl m p 1) (k - 1))) (vl m p 2) k (vl m (vl m p 2) (k - 1))) p := ⟨a1, by rw [o]; exact a2, by rw [o]; exact a3, by rw [o, o]; exact a4⟩
    obtain ⟨m', g1, g2, g3, g4, g5, g6⟩ := ih _ (k - 1) (kc.tz hz) hNO' (by omega) (by omega) (by omega) (by rw [o]; exact h3)
    have g2' : NC (nS m p) _ m' := g2.imp fun a ha => by
      rcases ha with q | q | q
      · exact Or.inl q
      · rw [o] at q; exact Or.inr (Or.inl q)
      · rw [o] at q; exact Or.inr (Or.inr q)
    rw [o] at g5 g6
    refine ⟨m', q300_6 hz _ ?_, kc.trans g2', fun f hf => by rw [g3 f hf, o], g4, fun i => ?_, fun i => ?_⟩
    · rw [if_pos (by omega), gd_of a1, nm_eq, nm_eq, (w32_of (by omega) (by omega) : w32 (k - 1) = k - 1), gd_of a2.1, gd_of ⟨by omega, by rw [a2.2]; omega⟩, gd_of ⟨by omega, by rw [a2.2]; omega⟩, nm_eq, nm_eq, gd_of a3.1, gd_of ⟨by omega, by rw [a3.2]; omega⟩, gd_of ⟨by omega, by rw [a3.2]; omega⟩, e2, (w32_of (by omega) (by omega) : w32 (k + -1) = k - 1)]
      exact g1
    · rw [g5]
      by_cases z : i = at'
      · rw [if_pos z, if_pos z]
      · rw [if_neg z, if_neg z]
        by_cases y : i = k
        · rw [if_neg (by omega), if_pos (by omega), vl_mst, if_neg (fun w => a4 w.1), vl_mst, if_pos ⟨rfl, y⟩, y]
        · by_cases w : at' < i ∧ i ≤ k - 1
          · rw [if_pos w, if_pos (by omega), vl_mst, if_neg (fun v => a4 v.1), vl_mst, if_neg (by omega)]
          · rw [if_neg w, if_neg (by omega), vl_mst, if_neg (fun v => a4 v.1), vl_mst, if_neg (fun v => y v.2)]
    · rw [g6]
      by_cases z : i = at'
      · rw [if_pos z, if_pos z]
      · rw [if_neg z, if_neg z]
        by_cases y : i = k
        · rw [if_neg (by omega), if_pos (by omega), vl_mst, if_pos ⟨rfl, y⟩, y]
        · by_cases w : at' < i ∧ i ≤ k - 1
          · rw [if_pos w, if_pos (by omega), vl_mst, if_neg (by omega), vl_mst, if_neg (fun v => a4 v.1.symm)]
          · rw [if_neg w, if_neg (by omega), vl_mst, if_neg (fun v => y v.2), vl_mst, if_neg (fun v => a4 v.1.symm)]
theorem gi_ins {A B : List Int} {x i : Int} (h0 : 0 ≤ i) (h1 : i < A.length + B.length + 1) : gi (A ++ x :: B) i = if i = A.length then x else if (A.length : Int) < i ∧ i ≤ A.length + B.length then gi (A ++ B) (i - 1) else gi (A ++ B) i := by
  by_cases z : i = A.length
  · rw [if_pos z, z, gi_app_r (by omega), Int.sub_self, gi_zero]
  · rw [if_neg z]
    by_cases y : (A.length : Int) < i
    · rw [if_pos (by omega), gi_app_r (by omega), gi_succ (by omega), gi_app_r (by omega)]; congr 1; omega
    · rw [if_neg (by omega), gi_app_l h0 (by omega), gi_app_l h0 (by omega)]
/-- an entry comes in -/
theorem c300 {id bk : Int} {A B : List (Int × Int)} (hz : TZ m) (hn : ND1 m p lf (A ++ B)) (hl : (A.length : Int) + B.length < 18) : ∃ m', cl d 300 [pR p, pI A.length, pI id, pI bk] m = some (.inl none, m') ∧ NC (nS m p) m m' ∧ ND1 m' p lf (A ++ (id, bk) :: B) ∧ ∀ f, f ≠ 3 → vl m' p f = vl m p f := by
  obtain ⟨hNO, a5, a6, a7, a8, a9⟩ := hn
  rw [List.length_append] at a6 a8 a9
  push_cast at a6 a8 a9
  obtain ⟨m', g1, g2, g3, g4, g5, g6⟩ := c300_6 (d := d) (id := id) (bk := bk) (at' := A.length) (n := (A.length : Int) + B.length) hl (by omega) _ m ((A.length : Int) + B.length) hz hNO rfl (by omega) (by omega) a6
  refine ⟨m', q300 hz _ ?_, g2, ⟨⟨?_, ?_, ?_, ?_⟩, by rw [g3 0 (by decide)]; exact a5, ?_, ?_, fun i i0 i1 => ?_, fun i i0 i1 => ?_⟩, g3⟩
  · rw [gd_of hNO.1, a6]; exact g1
  · rw [(g2.2.2.1 p).1]; exact hNO.1
  · rw [g3 1 (by decide), (g2.2.2.1 _).1, (g2.2.2.1 _).2]; exact hNO.2.1
  · rw [g3 2 (by decide), (g2.2.2.1 _).1, (g2.2.2.1 _).2]; exact hNO.2.2.1
  · rw [g3 1 (by decide), g3 2 (by decide)]; exact hNO.2.2.2
  · rw [g4, List.length_append, List.length_cons]; push_cast; omega
  · rw [List.length_append, List.length_cons]; push_cast; omega
  · rw [List.length_append, List.length_cons] at i1
    push_cast at i1
    rw [g3 1 (by decide), g5, List.map_append, List.map_cons, gi_ins i0 (by rw [List.length_map, List.length_map]; omega), List.length_map, List.length_map, ← List.map_append]
    by_cases z : i = A.length
    · rw [if_pos z, if_pos z]
    · rw [if_neg z, if_neg z]
      by_cases y : (A.length : Int) < i ∧ i ≤ A.length + B.length
      · rw [if_pos y, if_pos y]; exact a8 _ (by omega) (by omega)
      · rw [if_neg y, if_neg y]; exact a8 _ i0 (by omega)
  · rw [List.length_append, List.length_cons] at i1
    push_cast at i1
    rw [g3 2 (by decide), g6, List.map_append, List.map_cons, gi_ins i0 (by rw [List.length_map, List.length_map]; omega), List.length_map, List.length_map, ← List.map_append]
    by_cases z : i = A.length
    · rw [if_pos z, if_pos z]
    · rw [if_neg z, if_neg z]
      by_cases y : (A.length : Int) < i ∧ i ≤ A.length + B.length
      · rw [if_pos y, if_pos y]; exact a9 _ (by omega) (by omega)
      · rw [if_neg y, if_neg y]; exact a9 _ i0 (by omega)
theorem c301_12 {at' n : Int} (hn : n < 18) (hat : 0 ≤ at') : ∀ (N : Nat) (m : Mem) (k : Int), TZ m → NO m p → (n - k).toNat = N → at' ≤ k → k ≤ n → vl m p 3 = n → ∃ m', rn d 301 12 [pR p, pI at', pI k] [] m = some (.inl none, m') ∧ NC (nS m p) m m' ∧ (∀ f, vl m' p f = vl m p f) ∧ (∀ i, vl m' (vl m p 1) i = if k ≤ i ∧ i < n then vl m (vl m p 1) (i + 1) else vl m (vl m p 1) i) ∧ ∀ i, vl m' (vl m p 2) i = if k ≤ i ∧ i < n then vl m (vl m p 2) (i + 1) else vl m (vl m p 2) i := by
  intro N
  induction N with
  | zero =>
    intro m k hz hN0 hN h0 h1 h3
    refine ⟨m, q301_12 hz _ ?_, NC.refl, fun _ => rfl, fun i => by rw [if_neg (by omega)], fun i => by rw [if_neg (by omega)]⟩
    rw [gd_of hN0.1, h3, if_neg (by omega)]
  | succ N ih =>
    intro m k hz hN0 hN h0 h1 h3
    obtain ⟨n1, n2⟩ := hN0.ne
    obtain ⟨a1, a2, a3, a4⟩ := hN0
    have o : ∀ f, vl (mst (mst m (vl m p 1) k (vl m (vl m p 1) (k + 1))) (vl m p 2) k (vl m (vl m p 2) (k + 1))) p f = vl m p f := fun f => by
      rw [vl_mst, if_neg (fun z => n2 z.1), vl_mst, if_neg (fun z => n1 z.1)]
    have kc : NC (nS m p) m (mst (mst m (vl m p 1) k (vl m (vl m p 1) (k + 1))) (vl m p 2) k (vl m (vl m p 2) (k + 1))) := (NC.set (Or.inr (Or.inl rfl))).trans (NC.set (Or.inr (Or.inr rfl)))
    have e2 : vl (mst m (vl m p 1) k (vl m (vl m p 1) (k + 1))) (vl m p 2) (k + 1) = vl m (vl m p 2) (k + 1) := by rw [vl_mst, if_neg (fun z => a4 z.1.symm)]
    have hNO' : NO (mst (mst m (vl m p 1) k (vl m (vl m p 1) (k + 1))) (vl m p 2) k (vl m (vl m p 2) (k + 1))) p := ⟨a1, by rw [o]; exact a2, by rw [o]; exact a3, by rw [o, o]; exact a4⟩
    obtain ⟨m', g1, g2, g3, g5, g6⟩ := ih _ (k + 1) (kc.tz hz) hNO' (by omega) (by omega) (by omega) (by rw [o]; exact h3)
    have g2' : NC (nS m p) _ m' := g2.imp fun a ha => by
      rcases ha with q | q | q
      · exact Or.inl q
      · rw [o] at q; exact Or.inr (Or.inl q)
      · rw [o] at q; exact Or.inr (Or.inr q)
    rw [o] at g5 g6
    refine ⟨m', q301_12 hz _ ?_, kc.trans g2', fun f => by rw [g3 f, o], fun i => ?_, fun i => ?_⟩
    · rw [gd_of a1, h3, if_pos (by omega), nm_eq, nm_eq, (w32_of (by omega) (by omega) : w32 (k + 1) = k + 1), gd_of a2.1, gd_of ⟨by omega, by rw [a2.2]; omega⟩, gd_of ⟨by omega, by rw [a2.2]; omega⟩, nm_eq, nm_eq, gd_of a3.1, gd_of ⟨by omega, by rw [a3.2]; omega⟩, gd_of ⟨by omega, by rw [a3.2]; omega⟩, e2]
      exact g1
    · rw [g5]
      by_cases y : i = k
      · rw [if_neg (by omega), if_pos (by omega), vl_mst, if_neg (fun w => a4 w.1), vl_mst, if_pos ⟨rfl, y⟩, y]
      · by_cases w : k + 1 ≤ i ∧ i < n
        · rw [if_pos w, if_pos (by omega), vl_mst, if_neg (fun v => a4 v.1), vl_mst, if_neg (by omega)]
        · rw [if_neg w, if_neg (by omega), vl_mst, if_neg (fun v => a4 v.1), vl_mst, if_neg (fun v => y v.2)]
    · rw [g6]
      by_cases y : i = k
      · rw [if_neg (by omega), if_pos (by omega), vl_mst, if_pos ⟨rfl, y⟩, y]
      · by_cases w : k + 1 ≤ i ∧ i < n
        · rw [if_pos w, if_pos (by omega), vl_mst, if_neg (by omega), vl_mst, if_neg (fun v => a4 v.1.symm)]
        · rw [if_neg w, if_neg (by omega), vl_mst, if_neg (fun v => y v.2), vl_mst, if_neg (fun v => a4 v.1.symm)]
theorem gi_rm {A B : List Int} {x i : Int} (h0 : 0 ≤ i) (h1 : i < A.length + B.length) : gi (A ++ B) i = if (A.length : Int) ≤ i ∧ i < A.length + B.length then gi (A ++ x :: B) (i + 1) else gi (A ++ x :: B) i := by
  by_cases y : (A.length : Int) ≤ i
  · rw [if_pos (by omega), gi_app_r y, gi_app_r (by omega), gi_succ (by omega)]; congr 1; omega
  · rw [if_neg (by omega), gi_app_l h0 (by omega), gi_app_l h0 (by omega)]
/-- an entry goes -/
theorem c301 {A B : List (Int × Int)} {x : Int × Int} (hz : TZ m) (hn : ND1 m p lf (A ++ x :: B)) : ∃ m', cl d 301 [pR p, pI A.length] m = some (.inl none, m') ∧ NC (nS m p) m m' ∧ ND1 m' p lf (A ++ B) ∧ ∀ f, f ≠ 3 → vl m' p f = vl m p f := by
  obtain ⟨hNO, a5, a6, a7, a8, a9⟩ := hn
  obtain ⟨n1, n2⟩ := hNO.ne
  rw [List.length_append, List.length_cons] at a6 a7 a8 a9
  push_cast at a6 a7 a8 a9
  have o : ∀ f, f ≠ 3 → vl (mst m p 3 ((A.length : Int) + B.length)) p f = vl m p f := fun f hf => by rw [vl_mst, if_neg (fun z => hf z.2)]
  have kc : NC (nS m p) m (mst m p 3 ((A.length : Int) + B.length)) := NC.set (Or.inl rfl)
  have hNO' : NO (mst m p 3 ((A.length : Int) + B.length)) p := ⟨hNO.1, by rw [o 1 (by decide)]; exact hNO.2.1, by rw [o 2 (by decide)]; exact hNO.2.2.1, by rw [o 1 (by decide), o 2 (by decide)]; exact hNO.2.2.2⟩
  obtain ⟨m', g1, g2, g3, g5, g6⟩ := c301_12 (d := d) (at' := A.length) (n := (A.length : Int) + B.length) (by omega) (by omega) _ _ (A.length : Int) (kc.tz hz) hNO' rfl (by omega) (by omega) (by rw [vl_mst, if_pos ⟨rfl, rfl⟩])
  have g2' : NC (nS m p) _ m' := g2.imp fun a ha => by
    rcases ha with q | q | q
    · exact Or.inl q
    · rw [o 1 (by decide)] at q; exact Or.inr (Or.inl q)
    · rw [o 2 (by decide)] at q; exact Or.inr (Or.inr q)
  rw [o 1 (by decide)] at g5
  rw [o 2 (by decide)] at g6
  have o1 : ∀ i, vl (mst m p 3 ((A.length : Int) + B.length)) (vl m p 1) i = vl m (vl m p 1) i := fun i => by rw [vl_mst, if_neg (fun z => n1 z.1.symm)]
  have o2 : ∀ i, vl (mst m p 3 ((A.length : Int) + B.length)) (vl m p 2) i = vl m (vl m p 2) i := fun i => by rw [vl_mst, if_neg (fun z => n2 z.1.symm)]
  have g3' : ∀ f, f ≠ 3 → vl m' p f = vl m p f := fun f hf => by rw [g3, o f hf]
  refine ⟨m', q301 hz _ ?_, kc.trans g2', ⟨⟨?_, ?_, ?_, ?_⟩, by rw [g3' 0 (by decide)]; exact a5, ?_, ?_, fun i i0 i1 => ?_, fun i i0 i1 => ?_⟩, g3'⟩
  · rw [gd_of hNO.1, a6, (w32_of (by omega) (by omega) : w32 ((A.length : Int) + (B.length + 1) - 1) = (A.length : Int) + (B.length + 1) - 1), show (A.length : Int) + (B.length + 1) - 1 = A.length + B.length by omega]; exact g1
  · rw [(g2.2.2.1 p).1]; exact hNO.1
  · rw [g3' 1 (by decide), (g2.2.2.1 _).1, (g2.2.2.1 _).2]; exact hNO.2.1
  · rw [g3' 2 (by decide), (g2.2.2.1 _).1, (g2.2.2.1 _).2]; exact hNO.2.2.1
  · rw [g3' 1 (by decide), g3' 2 (by decide)]; exact hNO.2.2.2
  · rw [g3, vl_mst, if_pos ⟨rfl, rfl⟩, List.length_append]; push_cast; rfl
  · rw [List.length_append]; push_cast; omega
  · rw [List.length_append] at i1
    push_cast at i1
    rw [g3' 1 (by decide), g5, o1, o1, List.map_append, gi_rm (x := x.1) i0 (by rw [List.length_map, List.length_map]; omega), List.length_map, List.length_map]
    by_cases y : (A.length : Int) ≤ i ∧ i < A.length + B.length
    · rw [if_pos y, if_pos y]
      have := a8 (i + 1) (by omega) (by omega)
      rw [List.map_append, List.map_cons] at this; exact this
    · rw [if_neg y, if_neg y]
      have := a8 i i0 (by omega)
      rw [List.map_append, List.map_cons] at this; exact this
  · rw [List.length_append] at i1
    push_cast at i1
    rw [g3' 2 (by decide), g6, o2, o2, List.map_append, gi_rm (x := x.2) i0 (by rw [List.length_map, List.length_map]; omega), List.length_map, List.length_map]
    by_cases y : (A.length : Int) ≤ i ∧ i < A.length + B.length
    · rw [if_pos y, if_pos y]
      have := a9 (i + 1) (by omega) (by omega)
      rw [List.map_append, List.map_cons] at this; exact this
    · rw [if_neg y, if_neg y]
      have := a9 i i0 (by omega)
      rw [List.map_append, List.map_cons] at this; exact this
end
