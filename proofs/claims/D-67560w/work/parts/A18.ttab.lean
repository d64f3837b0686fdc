/-! tables: a key comes in, the first place of a key -/
set_option maxRecDepth 100000
set_option maxHeartbeats 4000000
/-- a table's arrays -/
def TbO (m : Mem) (t : Int) : Prop := tg m t = 30 ∧ (tg m (vl m t 2) = 344102 ∧ ln m (vl m t 2) = 128) ∧ (tg m (vl m t 3) = 344101 ∧ ln m (vl m t 3) = 128)
/-- what a table holds -/
def TBl (m : Mem) (t : Int) (L : List (Int × Int)) : Prop := TbO m t ∧ vl m t 4 = L.length ∧ (L.length : Int) ≤ 128 ∧ (∀ i : Int, 0 ≤ i → i < L.length → vl m (vl m t 2) i = gi (L.map (·.1)) i) ∧ ∀ i : Int, 0 ≤ i → i < L.length → vl m (vl m t 3) i = gi (L.map (·.2)) i
abbrev tS (m : Mem) (t : Int) (a : Int) : Prop := a = t ∨ a = vl m t 2 ∨ a = vl m t 3
theorem TbO.ne {m : Mem} {t : Int} (h : TbO m t) : t ≠ vl m t 2 ∧ t ≠ vl m t 3 ∧ vl m t 2 ≠ vl m t 3 := ⟨fun z => by have := h.2.1.1; rw [← z, h.1] at this; omega, fun z => by have := h.2.2.1; rw [← z, h.1] at this; omega, fun z => by have := h.2.1.1; rw [z, h.2.2.1] at this; omega⟩
/-- keys grow -/
def srK : List (Int × Int) → Prop
  | [] => True
  | x :: r => (∀ y ∈ r, x.1 ≤ y.1) ∧ srK r
/-- behind all keys that aren't greater -/
def inK (k id : Int) : List (Int × Int) → List (Int × Int)
  | [] => [(k, id)]
  | x :: r => if x.1 ≤ k then x :: inK k id r else (k, id) :: x :: r
theorem inK_mem {k id : Int} : ∀ {L : List (Int × Int)} {x : Int × Int}, x ∈ inK k id L → x = (k, id) ∨ x ∈ L := by
  intro L
  induction L with
  | nil => intro x h; exact Or.inl (List.mem_singleton.mp h)
  | cons z L ih =>
    intro x h
    unfold inK at h
    split at h
    · rcases List.mem_cons.mp h with q | q
      · exact Or.inr (by rw [q]; exact List.mem_cons_self)
      · rcases ih q with w | w
        · exact Or.inl w
        · exact Or.inr (List.mem_cons_of_mem _ w)
    · rcases List.mem_cons.mp h with q | q
      · exact Or.inl q
      · exact Or.inr q
theorem srK_in {k id : Int} : ∀ {L : List (Int × Int)}, srK L → srK (inK k id L) := by
  intro L
  induction L with
  | nil => intro _; exact ⟨fun y hy => (by cases hy), trivial⟩
  | cons z L ih =>
    rintro ⟨h1, h2⟩
    unfold inK
    split
    · rename_i hz
      refine ⟨fun y hy => ?_, ih h2⟩
      rcases inK_mem hy with q | q
      · rw [q]; exact hz
      · exact h1 y q
    · rename_i hz
      refine ⟨fun y hy => ?_, h1, h2⟩
      rcases List.mem_cons.mp hy with q | q
      · rw [q]; show k ≤ z.1; omega
      · have := h1 y q
        show k ≤ y.1
        omega
/-- where it comes in -/
theorem inK_spl {k id : Int} : ∀ {L : List (Int × Int)}, srK L → ∃ A B, L = A ++ B ∧ inK k id L = A ++ (k, id) :: B ∧ (∀ x ∈ A, x.1 ≤ k) ∧ ∀ x ∈ B, k < x.1 := by
  intro L
  induction L with
  | nil => intro _; exact ⟨[], [], rfl, rfl, fun x hx => (by cases hx), fun x hx => (by cases hx)⟩
  | cons z L ih =>
    rintro ⟨h1, h2⟩
    by_cases hz : z.1 ≤ k
    · obtain ⟨A, B, e1, e2, e3, e4⟩ := ih h2
      refine ⟨z :: A, B, by rw [e1]; rfl, ?_, fun x hx => ?_, e4⟩
      · unfold inK; rw [if_pos hz, e2]; rfl
      · rcases List.mem_cons.mp hx with q | q
        · rw [q]; exact hz
        · exact e3 x q
    · refine ⟨[], z :: L, rfl, by unfold inK; rw [if_neg hz]; rfl, fun x hx => (by cases hx), fun x hx => ?_⟩
      rcases List.mem_cons.mp hx with q | q
      · rw [q]; omega
      · have := h1 x q; omega
theorem inK_len {k id : Int} : ∀ {L : List (Int × Int)}, (inK k id L).length = L.length + 1 := by
  intro L
  induction L with
  | nil => rfl
  | cons z L ih =>
    unfold inK
    split
    · rw [List.length_cons, ih, List.length_cons]
    · rfl
/-- entries of one key -/
theorem inK_flt {k id k0 : Int} : ∀ {L : List (Int × Int)}, srK L → (inK k id L).filter (·.1 == k0) = L.filter (·.1 == k0) ++ if k = k0 then [(k, id)] else [] := by
  intro L
  induction L with
  | nil => intro _; by_cases h : k = k0 <;> simp [inK, h]
  | cons z L ih =>
    rintro ⟨h1, h2⟩
    unfold inK
    by_cases hz : z.1 ≤ k
    · rw [if_pos hz, List.filter_cons, List.filter_cons, ih h2]
      split <;> rfl
    · rw [if_neg hz, List.filter_cons]
      by_cases h : k = k0
      · have hn : (z :: L).filter (·.1 == k0) = [] := by
          rw [List.filter_eq_nil_iff]
          intro x hx
          have : k < x.1 := by
            rcases List.mem_cons.mp hx with q | q
            · rw [q]; omega
            · have := h1 x q; omega
          simp; omega
        rw [hn, if_pos h, if_pos (by simp [h])]; rfl
      · rw [if_neg h, if_neg (by simp [h]), List.append_nil]
section
variable {d : Nat} {m : Mem} {t : Int}
theorem c347_6 {k id at' n : Int} (hn : n < 128) (hat : 0 ≤ at') : ∀ (N : Nat) (m : Mem) (j : Int), TZ m → TbO m t → (j - at').toNat = N → at' ≤ j → j ≤ n → vl m t 4 = n → (∀ i, 0 ≤ i → i < at' → vl m (vl m t 2) i ≤ k) → (∀ i, at' ≤ i → i < j → k < vl m (vl m t 2) i) → ∃ m', rn d 347 6 [pR t, pL k, pU, pI id, pI j] [] m = some (.inl none, m') ∧ NC (tS m t) m m' ∧ (∀ f, f ≠ 4 → vl m' t f = vl m t f) ∧ vl m' t 4 = n + 1 ∧ (∀ i, vl m' (vl m t 2) i = if i = at' then k else if at' < i ∧ i ≤ j then vl m (vl m t 2) (i - 1) else vl m (vl m t 2) i) ∧ ∀ i, vl m' (vl m t 3) i = if i = at' then id else if at' < i ∧ i ≤ j then vl m (vl m t 3) (i - 1) else vl m (vl m t 3) i := by
  intro N
  induction N with
  | zero =>
    intro m j hz hN0 hN h0 h1 h3 hA hB
    obtain ⟨n1, n2, a4⟩ := hN0.ne
    obtain ⟨a1, a2, a3⟩ := hN0
    have hk : j = at' := by omega
    subst hk
    have e63 : rn d 347 63 [pR t, pL k, pU, pI id, pI j] [] m = some (.inl none, mst (mst (mst m (vl m t 2) j k) (vl m t 3) j id) t 4 (n + 1)) := by
      refine q347_63 hz _ ?_
      have e4 : vl (mst (mst m (vl m t 2) j k) (vl m t 3) j id) t 4 = n := by rw [vl_mst, if_neg (fun z => n2 z.1), vl_mst, if_neg (fun z => n1 z.1)]; exact h3
      rw [gd_of a1, nm_eq, gd_of a2.1, gd_of ⟨hat, by rw [a2.2]; omega⟩, nm_eq, gd_of a3.1, gd_of ⟨hat, by rw [a3.2]; omega⟩, h3, (w32_of (by omega) (by omega) : w32 (n + 1) = n + 1)]
    refine ⟨mst (mst (mst m (vl m t 2) j k) (vl m t 3) j id) t 4 (n + 1), q347_6 hz _ ?_, ((NC.set (Or.inr (Or.inl rfl))).trans (NC.set (Or.inr (Or.inr rfl)))).trans (NC.set (Or.inl rfl)), fun f hf => ?_, by rw [vl_mst, if_pos ⟨rfl, rfl⟩], fun i => ?_, fun i => ?_⟩
    · by_cases z : 0 < j
      · have := hA (j - 1) (by omega) (by omega)
        rw [if_pos z, gd_of a1, nm_eq, nm_eq, (w32_of (by omega) (by omega) : w32 (j - 1) = j - 1), gd_of a2.1, gd_of ⟨by omega, by rw [a2.2]; omega⟩, if_neg (by omega)]
        exact e63
      · rw [if_neg z]; exact e63
    · rw [vl_mst, if_neg (fun z => hf z.2), vl_mst, if_neg (fun z => n2 z.1), vl_mst, if_neg (fun z => n1 z.1)]
    · rw [vl_mst, if_neg (fun z => n1 z.1.symm), vl_mst, if_neg (fun z => a4 z.1), vl_mst]
      by_cases z : i = j
      · rw [if_pos ⟨rfl, z⟩, if_pos z]
      · rw [if_neg (fun y => z y.2), if_neg z, if_neg (by omega)]
    · rw [vl_mst, if_neg (fun z => n2 z.1.symm), vl_mst]
      by_cases z : i = j
      · rw [if_pos ⟨rfl, z⟩, if_pos z]
      · rw [if_neg (fun y => z y.2), if_neg z, if_neg (by omega), vl_mst, if_neg (fun y => a4 y.1.symm)]
  | succ N ih =>
    intro m j hz hN0 hN h0 h1 h3 hA hB
    obtain ⟨n1, n2, a4⟩ := hN0.ne
    obtain ⟨a1, a2, a3⟩ := hN0
    have o : ∀ f, vl (mst (mst m (vl m t 2) j (vl m (vl m t 2) (j - 1))) (vl m t 3) j (vl m (vl m t 3) (j - 1))) t f = vl m t f := fun f => by
      rw [vl_mst, if_neg (fun z => n2 z.1), vl_mst, if_neg (fun z => n1 z.1)]
    have kc : NC (tS m t) m (mst (mst m (vl m t 2) j (vl m (vl m t 2) (j - 1))) (vl m t 3) j (vl m (vl m t 3) (j - 1))) := (NC.set (Or.inr (Or.inl rfl))).trans (NC.set (Or.inr (Or.inr rfl)))
    have hNO' : TbO (mst (mst m (vl m t 2) j (vl m (vl m t 2) (j - 1))) (vl m t 3) j (vl m (vl m t 3) (j - 1))) t := ⟨a1, by rw [o]; exact a2, by rw [o]; exact a3⟩
    have ek : ∀ i, i < j → vl (mst (mst m (vl m t 2) j (vl m (vl m t 2) (j - 1))) (vl m t 3) j (vl m (vl m t 3) (j - 1))) (vl m t 2) i = vl m (vl m t 2) i := fun i hi => by
      rw [vl_mst, if_neg (fun z => a4 z.1), vl_mst, if_neg (fun z => by omega)]
    obtain ⟨m', g1, g2, g3, g4, g5, g6⟩ := ih _ (j - 1) (kc.tz hz) hNO' (by omega) (by omega) (by omega) (by rw [o]; exact h3) (fun i i0 i1 => by rw [o, ek i (by omega)]; exact hA i i0 i1) (fun i i0 i1 => by rw [o, ek i (by omega)]; exact hB i i0 (by omega))
    have g2' : NC (tS m t) _ m' := g2.imp fun a ha => by
      rcases ha with q | q | q
      · exact Or.inl q
      · rw [o] at q; exact Or.inr (Or.inl q)
      · rw [o] at q; exact Or.inr (Or.inr q)
    rw [o] at g5 g6
    have hb := hB (j - 1) (by omega) (by omega)
    refine ⟨m', q347_6 hz _ ?_, kc.trans g2', fun f hf => by rw [g3 f hf, o], g4, fun i => ?_, fun i => ?_⟩
    · rw [if_pos (by omega), gd_of a1, nm_eq, nm_eq, (w32_of (by omega) (by omega) : w32 (j - 1) = j - 1), gd_of a2.1, gd_of ⟨by omega, by rw [a2.2]; omega⟩, if_pos hb, nm_eq, gd_of ⟨by omega, by rw [a2.2]; omega⟩, gd_of ⟨by omega, by rw [a2.2]; omega⟩, nm_eq, nm_eq, gd_of a3.1, gd_of ⟨by omega, by rw [a3.2]; omega⟩, gd_of ⟨by omega, by rw [a3.2]; omega⟩, (w32_of (by omega) (by omega) : w32 (j + -1) = j - 1)]
      exact g1
    · rw [g5]
      by_cases z : i = at'
      · rw [if_pos z, if_pos z]
      · rw [if_neg z, if_neg z]
        by_cases y : i = j
        · rw [if_neg (by omega), if_pos (by omega), vl_mst, if_neg (fun w => a4 w.1), vl_mst, if_pos ⟨rfl, y⟩, y]
        · by_cases w : at' < i ∧ i ≤ j - 1
          · rw [if_pos w, if_pos (by omega), vl_mst, if_neg (fun v => a4 v.1), vl_mst, if_neg (by omega)]
          · rw [if_neg w, if_neg (by omega), vl_mst, if_neg (fun v => a4 v.1), vl_mst, if_neg (fun v => y v.2)]
    · rw [g6]
      by_cases z : i = at'
      · rw [if_pos z, if_pos z]
      · rw [if_neg z, if_neg z]
        by_cases y : i = j
        · rw [if_neg (by omega), if_pos (by omega), vl_mst, if_pos ⟨rfl, y⟩, y]
        · by_cases w : at' < i ∧ i ≤ j - 1
          · rw [if_pos w, if_pos (by omega), vl_mst, if_neg (by omega), vl_mst, if_neg (fun v => a4 v.1.symm)]
          · rw [if_neg w, if_neg (by omega), vl_mst, if_neg (fun v => y v.2), vl_mst, if_neg (fun v => a4 v.1.symm)]
/-- a key comes in -/
theorem c347 {k id : Int} {L : List (Int × Int)} (hz : TZ m) (hn : TBl m t L) (hs : srK L) (hl : (L.length : Int) < 128) : ∃ m', cl d 347 [pR t, pL k, pI id] m = some (.inl none, m') ∧ NC (tS m t) m m' ∧ TBl m' t (inK k id L) ∧ ∀ f, f ≠ 4 → vl m' t f = vl m t f := by
  obtain ⟨A, B, rfl, e2, hA, hB⟩ := inK_spl (k := k) (id := id) hs
  rw [e2]
  obtain ⟨hNO, a6, a7, a8, a9⟩ := hn
  rw [List.length_append] at a6 a8 a9 hl
  push_cast at a6 a8 a9 hl
  have hAi : ∀ i : Int, 0 ≤ i → i < A.length → vl m (vl m t 2) i ≤ k := fun i i0 i1 => by
    rw [a8 i i0 (by omega), List.map_append, gi_app_l i0 (by rw [List.length_map]; exact i1)]
    have hi : i.toNat < A.length := by omega
    unfold gi
    rw [List.getD_eq_getElem?_getD, List.getElem?_map, List.getElem?_eq_getElem hi]
    exact hA _ (List.getElem_mem _)
  have hBi : ∀ i : Int, A.length ≤ i → i < (A.length : Int) + B.length → k < vl m (vl m t 2) i := fun i i0 i1 => by
    rw [a8 i (by omega) i1, List.map_append, gi_app_r (by rw [List.length_map]; exact i0), List.length_map]
    have hi : (i - A.length).toNat < B.length := by omega
    unfold gi
    rw [List.getD_eq_getElem?_getD, List.getElem?_map, List.getElem?_eq_getElem hi]
    exact hB _ (List.getElem_mem _)
  obtain ⟨m', g1, g2, g3, g4, g5, g6⟩ := c347_6 (d := d) (k := k) (id := id) (at' := A.length) (n := (A.length : Int) + B.length) hl (by omega) _ m ((A.length : Int) + B.length) hz hNO rfl (by omega) (by omega) a6 hAi hBi
  refine ⟨m', q347 hz _ ?_, g2, ⟨⟨?_, ?_, ?_⟩, ?_, ?_, fun i i0 i1 => ?_, fun i i0 i1 => ?_⟩, g3⟩
  · rw [gd_of hNO.1, a6]; exact g1
  · rw [(g2.2.2.1 t).1]; exact hNO.1
  · rw [g3 2 (by decide), (g2.2.2.1 _).1, (g2.2.2.1 _).2]; exact hNO.2.1
  · rw [g3 3 (by decide), (g2.2.2.1 _).1, (g2.2.2.1 _).2]; exact hNO.2.2
  · rw [g4, List.length_append, List.length_cons]; push_cast; omega
  · rw [List.length_append, List.length_cons]; push_cast; omega
  · rw [List.length_append, List.length_cons] at i1
    push_cast at i1
    rw [g3 2 (by decide), g5, List.map_append, List.map_cons, gi_ins i0 (by rw [List.length_map, List.length_map]; omega), List.length_map, List.length_map, ← List.map_append]
    by_cases z : i = A.length
    · rw [if_pos z, if_pos z]
    · rw [if_neg z, if_neg z]
      by_cases y : (A.length : Int) < i ∧ i ≤ A.length + B.length
      · rw [if_pos y, if_pos y]; exact a8 _ (by omega) (by omega)
      · rw [if_neg y, if_neg y]; exact a8 _ i0 (by omega)
  · rw [List.length_append, List.length_cons] at i1
    push_cast at i1
    rw [g3 3 (by decide), g6, List.map_append, List.map_cons, gi_ins i0 (by rw [List.length_map, List.length_map]; omega), List.length_map, List.length_map, ← List.map_append]
    by_cases z : i = A.length
    · rw [if_pos z, if_pos z]
    · rw [if_neg z, if_neg z]
      by_cases y : (A.length : Int) < i ∧ i ≤ A.length + B.length
      · rw [if_pos y, if_pos y]; exact a9 _ (by omega) (by omega)
      · rw [if_neg y, if_neg y]; exact a9 _ i0 (by omega)
theorem pUshr_1 {x : Int} (h0 : 0 ≤ x) (h1 : x < 2147483648) : pUshr x 1 = x / 2 := by
  obtain ⟨a, rfl⟩ := Int.eq_ofNat_of_zero_le h0
  have e := pUshr_nat (x := (a : Int)) 1 (by decide)
  rw [Int.emod_eq_of_lt (by omega) (by omega), Int.toNat_natCast] at e
  have hle : a / 2 ^ 1 ≤ a := Nat.div_le_self _ _
  have e' : ((Int32.ofInt (a : Int)).toUInt32 >>> ((Int32.ofInt (1 : Int)).toUInt32 &&& Int32.toUInt32 31)).toInt32.toBitVec.toNat = a / 2 ^ 1 := e
  unfold pUshr
  rw [b32_small (by rw [e']; omega), e']
  simp
theorem srK_app : ∀ {A B : List (Int × Int)}, srK (A ++ B) → ∀ x ∈ A, ∀ y ∈ B, x.1 ≤ y.1 := by
  intro A
  induction A with
  | nil => intro B _ x hx; cases hx
  | cons z A ih =>
    rintro B ⟨h1, h2⟩ x hx y hy
    rcases List.mem_cons.mp hx with q | q
    · rw [q]; exact h1 y (List.mem_append_right _ hy)
    · exact ih h2 x q y hy
/-- the first place of a key -/
theorem c348 {k : Int} {A B : List (Int × Int)} (hz : TZ m) (hn : TBl m t (A ++ B)) (hA : ∀ x ∈ A, x.1 < k) (hB : ∀ x ∈ B, k ≤ x.1) : cl d 348 [pR t, pL k] m = some (.inl (some (pI A.length)), m) := by
  obtain ⟨hNO, a6, a7, a8, a9⟩ := hn
  rw [List.length_append] at a6 a7 a8 a9
  push_cast at a6 a7 a8 a9
  have hAi : ∀ i : Int, 0 ≤ i → i < A.length → vl m (vl m t 2) i < k := fun i i0 i1 => by
    rw [a8 i i0 (by omega), List.map_append, gi_app_l i0 (by rw [List.length_map]; exact i1)]
    have hi : i.toNat < A.length := by omega
    unfold gi
    rw [List.getD_eq_getElem?_getD, List.getElem?_map, List.getElem?_eq_getElem hi]
    exact hA _ (List.getElem_mem _)
  have hBi : ∀ i : Int, A.length ≤ i → i < (A.length : Int) + B.length → k ≤ vl m (vl m t 2) i := fun i i0 i1 => by
    rw [a8 i (by omega) i1, List.map_append, gi_app_r (by rw [List.length_map]; exact i0), List.length_map]
    have hi : (i - A.length).toNat < B.length := by omega
    unfold gi
    rw [List.getD_eq_getElem?_getD, List.getElem?_map, List.getElem?_eq_getElem hi]
    exact hB _ (List.getElem_mem _)
  obtain ⟨a1, a2, a3⟩ := hNO
  have key : ∀ (N : Nat) (lo hi : Int) (z5 : PV), cat z5 = 1 → (hi - lo).toNat = N → 0 ≤ lo → lo ≤ A.length → A.length ≤ hi → hi ≤ (A.length : Int) + B.length → rn d 348 8 [pR t, pL k, pU, pI lo, pI hi, z5] [] m = some (.inl (some (pI A.length)), m) := by
    intro N
    induction N using Nat.strongRecOn with
    | _ N ih =>
      intro lo hi z5 hc hN h0 h1 h2 h3
      refine q348_8 hz hc _ ?_
      by_cases q : lo < hi
      · rw [if_pos q, nm_eq, (w32_of (by omega) (by omega) : w32 (lo + hi) = lo + hi), pUshr_1 (by omega) (by omega), gd_of a1, nm_eq, gd_of a2.1, gd_of ⟨by omega, by rw [a2.2]; omega⟩]
        by_cases p : vl m (vl m t 2) ((lo + hi) / 2) < k
        · have hp : (lo + hi) / 2 < A.length := by
            rcases Int.lt_or_le ((lo + hi) / 2) A.length with w | w
            · exact w
            · have := hBi _ w (by omega); omega
          rw [if_pos p, (w32_of (by omega) (by omega) : w32 ((lo + hi) / 2 + 1) = (lo + hi) / 2 + 1)]
          exact ih (hi - ((lo + hi) / 2 + 1)).toNat (by omega) _ _ _ rfl rfl (by omega) (by omega) h2 h3
        · have hp : (A.length : Int) ≤ (lo + hi) / 2 := by
            rcases Int.lt_or_le ((lo + hi) / 2) A.length with w | w
            · have := hAi _ (by omega) w; omega
            · exact w
          rw [if_neg p]
          exact ih ((lo + hi) / 2 - lo).toNat (by omega) _ _ _ rfl rfl h0 h1 hp (by omega)
      · rw [if_neg q, show lo = A.length by omega]
  refine q348 hz _ ?_
  rw [gd_of a1, a6]
  exact key _ 0 _ pU rfl rfl (by omega) (by omega) (by omega) (by omega)
/-- a list by a key: what is less, what is not -/
theorem srK_spl {k : Int} : ∀ {L : List (Int × Int)}, srK L → ∃ A B, L = A ++ B ∧ (∀ x ∈ A, x.1 < k) ∧ ∀ x ∈ B, k ≤ x.1 := by
  intro L
  induction L with
  | nil => intro _; exact ⟨[], [], rfl, fun x hx => (by cases hx), fun x hx => (by cases hx)⟩
  | cons z L ih =>
    rintro ⟨h1, h2⟩
    by_cases hz : z.1 < k
    · obtain ⟨A, B, e1, e3, e4⟩ := ih h2
      refine ⟨z :: A, B, by rw [e1]; rfl, fun x hx => ?_, e4⟩
      rcases List.mem_cons.mp hx with q | q
      · rw [q]; exact hz
      · exact e3 x q
    · refine ⟨[], z :: L, rfl, fun x hx => (by cases hx), fun x hx => ?_⟩
      rcases List.mem_cons.mp hx with q | q
      · rw [q]; omega
      · have := h1 x q; omega
/-- a new table -/
theorem c343 {q : Int} (hz : TZ m) (ht : tg m t = 30) : ∃ m', cl d 343 [pR t, pR q] m = some (.inl none, m') ∧ nx m' = nx m + 2 ∧ sl m' = sl m + 256 ∧ (∀ a, a < nx m → tg m' a = tg m a ∧ ln m' a = ln m a ∧ ∀ j, (a = t → 4 ≤ j) → vl m' a j = vl m a j) ∧ (vl m' t 0 = q ∧ vl m' t 1 = -1 ∧ vl m' t 2 = nx m ∧ vl m' t 3 = nx m + 1) ∧ TbO m' t := by
  have htn : t < nx m := tz_lt hz (by rw [ht]; decide)
  refine ⟨mst (mst (mal (mst (mal (mst m t 1 (-1)) 344102 128) t 2 (nx m)) 344101 128) t 3 (nx m + 1)) t 0 q, q343 hz _ ?_, ?_⟩
  · rw [gd_of ht, nw_eq, nw_eq]; rfl
  · have hv : ∀ a j, a < nx m → vl (mst (mst (mal (mst (mal (mst m t 1 (-1)) 344102 128) t 2 (nx m)) 344101 128) t 3 (nx m + 1)) t 0 q) a j = if a = t ∧ j = 0 then q else if a = t ∧ j = 3 then nx m + 1 else if a = t ∧ j = 2 then nx m else if a = t ∧ j = 1 then -1 else vl m a j := fun a j ha => by
      rw [vl_mst]
      split
      · rfl
      · rw [vl_mst]
        split
        · rfl
        · rw [vl_mal, if_neg (by show a ≠ nx m + 1; omega), vl_mst]
          split
          · rfl
          · rw [vl_mal, if_neg (by show a ≠ nx m; omega), vl_mst]
    have ht' : ∀ a, tg (mst (mst (mal (mst (mal (mst m t 1 (-1)) 344102 128) t 2 (nx m)) 344101 128) t 3 (nx m + 1)) t 0 q) a = if a = nx m + 1 then 344101 else if a = nx m then 344102 else tg m a := fun a => rfl
    have hl' : ∀ a, ln (mst (mst (mal (mst (mal (mst m t 1 (-1)) 344102 128) t 2 (nx m)) 344101 128) t 3 (nx m + 1)) t 0 q) a = if a = nx m + 1 then 128 else if a = nx m then 128 else ln m a := fun a => rfl
    have v0 := hv t 0 htn
    have v1 := hv t 1 htn
    have v2 := hv t 2 htn
    have v3 := hv t 3 htn
    rw [if_pos ⟨rfl, rfl⟩] at v0
    rw [if_neg (by omega), if_neg (by omega), if_neg (by omega), if_pos ⟨rfl, rfl⟩] at v1
    rw [if_neg (by omega), if_neg (by omega), if_pos ⟨rfl, rfl⟩] at v2
    rw [if_neg (by omega), if_pos ⟨rfl, rfl⟩] at v3
    refine ⟨by show nx m + 1 + 1 = _; omega, by show sl m + 128 + 128 = _; omega, fun a ha => ⟨by rw [ht', if_neg (by omega), if_neg (by omega)], by rw [hl', if_neg (by omega), if_neg (by omega)], fun j hj => ?_⟩, ⟨v0, v1, v2, v3⟩, ?_, ?_, ?_⟩
    · rw [hv a j ha, if_neg (fun z => by have := hj z.1; omega), if_neg (fun z => by have := hj z.1; omega), if_neg (fun z => by have := hj z.1; omega), if_neg (fun z => by have := hj z.1; omega)]
    · rw [ht', if_neg (by omega), if_neg (by omega)]; exact ht
    · rw [v2, ht', hl', if_neg (by omega), if_pos rfl, if_neg (by omega), if_pos rfl]; exact ⟨rfl, rfl⟩
    · rw [v3, ht', hl', if_pos rfl, if_pos rfl]; exact ⟨rfl, rfl⟩
end
