/-! how the pure machine's states stand for the machine's -/
set_option maxRecDepth 100000
def adr (sz : Nat) (pre : Int → Nat) (a : Int) : Nat := if a < 92 then pre a else sz + (a - 92).toNat
def rfv (sz : Nat) (pre : Int → Nat) (a : Int) : Value := if a = 0 then .null else .ref (adr sz pre a)
def vR (sz : Nat) (pre : Int → Nat) (v : PV) (w : Value) : Prop := match v with
  | .inl x => w = .int (Int32.ofInt x) ∧ pin x (-2147483648) 2147483648
  | .inr (.inl x) => w = .long (Int64.ofInt x) ∧ pin x (-9223372036854775808) 9223372036854775808
  | .inr (.inr (.inl a)) => w = rfv sz pre a
  | .inr (.inr (.inr _)) => w = .null ∨ ∃ a, w = .ref a
def sR (sz : Nat) (pre : Int → Nat) (st : List PV) (sc : List Value) : Prop := match st, sc with
  | [], [] => True
  | v :: r, w :: q => vR sz pre v w ∧ sR sz pre r q
  | _, _ => False
def lR (sz : Nat) (pre : Int → Nat) (ls : List PV) (lc : Array Slot) : Prop := lc.size = ls.length ∧ lv_wf lc ∧ ∀ (i : Nat) (v : PV), ls[i]? = some v → v ≠ pU → ∃ w, lc[i]? = some (.val w) ∧ vR sz pre v w
theorem sR_cons {sz : Nat} {pre : Int → Nat} {v : PV} {r : List PV} {sc : List Value} (h : sR sz pre (v :: r) sc) : ∃ w q, sc = w :: q ∧ vR sz pre v w ∧ sR sz pre r q := by
  cases sc with
  | nil => exact absurd h (by simp [sR])
  | cons w q => exact ⟨w, q, rfl, h.1, h.2⟩
theorem sR_nil {sz : Nat} {pre : Int → Nat} {sc : List Value} (h : sR sz pre [] sc) : sc = [] := by
  cases sc with
  | nil => rfl
  | cons w q => exact absurd h (by simp [sR])
theorem sR_i {sz : Nat} {pre : Int → Nat} {x : Int} {r : List PV} {sc : List Value} (h : sR sz pre (.inl x :: r) sc) : ∃ q, sc = .int (Int32.ofInt x) :: q ∧ pin x (-2147483648) 2147483648 ∧ sR sz pre r q := by
  obtain ⟨w, q, rfl, ⟨rfl, h2⟩, h3⟩ := sR_cons h
  exact ⟨q, rfl, h2, h3⟩
theorem sR_l {sz : Nat} {pre : Int → Nat} {x : Int} {r : List PV} {sc : List Value} (h : sR sz pre (.inr (.inl x) :: r) sc) : ∃ q, sc = .long (Int64.ofInt x) :: q ∧ pin x (-9223372036854775808) 9223372036854775808 ∧ sR sz pre r q := by
  obtain ⟨w, q, rfl, ⟨rfl, h2⟩, h3⟩ := sR_cons h
  exact ⟨q, rfl, h2, h3⟩
theorem sR_r {sz : Nat} {pre : Int → Nat} {x : Int} {r : List PV} {sc : List Value} (h : sR sz pre (.inr (.inr (.inl x)) :: r) sc) : ∃ q, sc = rfv sz pre x :: q ∧ sR sz pre r q := by
  obtain ⟨w, q, rfl, rfl, h3⟩ := sR_cons h
  exact ⟨q, rfl, h3⟩
theorem vR_cat {sz : Nat} {pre : Int → Nat} {v : PV} {w : Value} (h : vR sz pre v w) : w.category = cat v := by
  rcases v with x | x | x | x
  · rw [h.1]; rfl
  · rw [h.1]; rfl
  · have h : w = rfv sz pre x := h
    rw [h]; unfold rfv; split <;> rfl
  · rcases h with rfl | ⟨a, rfl⟩ <;> rfl
theorem sR_cat {sz : Nat} {pre : Int → Nat} {st : List PV} {sc : List Value} (h : sR sz pre st sc) : (sc.map fun v => v.category).sum = catS st := by
  induction st generalizing sc with
  | nil => rw [sR_nil h]; rfl
  | cons v r ih =>
    obtain ⟨w, q, rfl, h1, h2⟩ := sR_cons h
    simp only [List.map_cons, List.sum_cons, catS, vR_cat h1]
    rw [ih h2]; rfl
theorem sR_app {sz : Nat} {pre : Int → Nat} {a b : List PV} {sc : List Value} (h : sR sz pre (a ++ b) sc) : ∃ p q, sc = p ++ q ∧ sR sz pre a p ∧ sR sz pre b q := by
  induction a generalizing sc with
  | nil => exact ⟨[], sc, rfl, trivial, h⟩
  | cons v r ih =>
    obtain ⟨w, q, rfl, h1, h2⟩ := sR_cons h
    obtain ⟨p2, q2, rfl, h3, h4⟩ := ih h2
    exact ⟨w :: p2, q2, rfl, ⟨h1, h3⟩, h4⟩
theorem sR_mk {sz : Nat} {pre : Int → Nat} {a b : List PV} {p q : List Value} (h1 : sR sz pre a p) (h2 : sR sz pre b q) : sR sz pre (a ++ b) (p ++ q) := by
  induction a generalizing p with
  | nil => rw [sR_nil h1]; exact h2
  | cons v r ih =>
    obtain ⟨w, q3, rfl, h3, h4⟩ := sR_cons h1
    exact ⟨h3, ih h4⟩
theorem sR_rev {sz : Nat} {pre : Int → Nat} {a : List PV} {p : List Value} (h : sR sz pre a p) : sR sz pre a.reverse p.reverse := by
  induction a generalizing p with
  | nil => rw [sR_nil h]; trivial
  | cons v r ih =>
    obtain ⟨w, q3, rfl, h3, h4⟩ := sR_cons h
    simp only [List.reverse_cons]
    exact sR_mk (ih h4) ⟨h3, trivial⟩
theorem sR_len {sz : Nat} {pre : Int → Nat} {a : List PV} {p : List Value} (h : sR sz pre a p) : p.length = a.length := by
  induction a generalizing p with
  | nil => rw [sR_nil h]; rfl
  | cons v r ih =>
    obtain ⟨w, q3, rfl, h3, h4⟩ := sR_cons h
    simp [ih h4]
theorem lR_i {sz : Nat} {pre : Int → Nat} {ls : List PV} {lc : Array Slot} (h : lR sz pre ls lc) {n : Nat} {x : Int} (hn : ls[n]? = some (.inl x)) : lc[n]? = some (.val (.int (Int32.ofInt x))) ∧ pin x (-2147483648) 2147483648 := by
  obtain ⟨w, h1, rfl, h3⟩ := h.2.2 n _ hn (by simp)
  exact ⟨h1, h3⟩
theorem lR_l {sz : Nat} {pre : Int → Nat} {ls : List PV} {lc : Array Slot} (h : lR sz pre ls lc) {n : Nat} {x : Int} (hn : ls[n]? = some (.inr (.inl x))) : lc[n]? = some (.val (.long (Int64.ofInt x))) ∧ pin x (-9223372036854775808) 9223372036854775808 := by
  obtain ⟨w, h1, rfl, h3⟩ := h.2.2 n _ hn (by simp)
  exact ⟨h1, h3⟩
theorem lR_r {sz : Nat} {pre : Int → Nat} {ls : List PV} {lc : Array Slot} (h : lR sz pre ls lc) {n : Nat} {x : Int} (hn : ls[n]? = some (.inr (.inr (.inl x)))) : lc[n]? = some (.val (rfv sz pre x)) := by
  obtain ⟨w, h1, h3⟩ := h.2.2 n _ hn (by simp)
  rw [h1]; exact congrArg _ (congrArg _ h3)
/-- what the locals list says, for the kit's rows -/
theorem lR_has {sz : Nat} {pre : Int → Nat} {ls : List PV} {lc : Array Slot} (h : lR sz pre ls lc) : ∃ l : List (Nat × Value), lv_has lc ls.length l ∧ ∀ (i : Nat) (v : PV), ls[i]? = some v → v ≠ pU → ∃ w, (i, w) ∈ l ∧ lc[i]? = some (.val w) ∧ vR sz pre v w := by
  refine ⟨(List.range lc.size).filterMap (fun (i : Nat) => match (lc[i]? : Option Slot) with | some (Slot.val w) => some (i, w) | _ => none), ⟨h.1, h.2.1, ?_⟩, ?_⟩
  · intro q hq
    obtain ⟨i, h1, h2⟩ := List.mem_filterMap.mp hq
    split at h2
    · cases h2; assumption
    · cases h2
  · intro i v hi hv
    obtain ⟨w, h1, h2⟩ := h.2.2 i v hi hv
    refine ⟨w, List.mem_filterMap.mpr ⟨i, List.mem_range.mpr (Array.getElem?_eq_some_iff.mp h1).1, ?_⟩, h1, h2⟩
    rw [h1]
theorem lkl_len (ls : List PV) (i : Nat) : (lkl ls i).length = ls.length := by
  unfold lkl
  split
  · rfl
  · split <;> simp
theorem lkl_get {ls : List PV} {i j : Nat} {v : PV} (h : (lkl ls i)[j]? = some v) (hv : v ≠ pU) : ls[j]? = some v ∧ (j + 1 = i → cat v ≠ 2) := by
  unfold lkl at h
  split at h
  · exact ⟨h, fun e => by omega⟩
  · rename_i i0
    split at h
    · rename_i hq
      by_cases e : i0 = j
      · subst e
        rw [List.getElem?_set_self (by exact (List.getElem?_eq_some_iff.mp hq).1)] at h
        cases h; exact absurd rfl hv
      · rw [List.getElem?_set_ne e] at h
        exact ⟨h, fun e2 => absurd (by omega) e⟩
    · rename_i hq
      refine ⟨h, fun e => ?_⟩
      have : j = i0 := by omega
      subst this
      rcases v with x | x | x | x
      · simp [cat]
      · exact absurd h (hq x)
      · simp [cat]
      · simp [cat]
theorem lR_set1 {sz : Nat} {pre : Int → Nat} {ls : List PV} {lc lc' : Array Slot} {l l' : List (Nat × Value)} {n : Nat} {v : PV} {w : Value} (hvw : vR sz pre v w) (hc1 : cat v = 1) (hm : ∀ (i : Nat) (v : PV), ls[i]? = some v → v ≠ pU → ∃ w, (i, w) ∈ l ∧ lc[i]? = some (.val w) ∧ vR sz pre v w)
    (hl : (n, w) :: l.filter (fun q => !(q.1 == n) && !(q.1 + 1 == n && q.2.category == 2)) = l') (h : lv_has lc' ls.length l') (hn : n < ls.length) : lR sz pre (ls1 ls n v) lc' := by
  refine ⟨by rw [h.1]; unfold ls1; simp [lkl_len], h.2.1, ?_⟩
  intro i u hi hu
  unfold ls1 at hi
  by_cases e : n = i
  · subst e
    rw [List.getElem?_set_self (by rw [lkl_len]; exact hn)] at hi
    cases hi
    exact ⟨w, h.2.2 (n, w) (by rw [← hl]; exact List.mem_cons_self), hvw⟩
  · rw [List.getElem?_set_ne e] at hi
    obtain ⟨h1, h2⟩ := lkl_get hi hu
    obtain ⟨w2, h3, h4, h5⟩ := hm i u h1 hu
    refine ⟨w2, h.2.2 (i, w2) (by
      rw [← hl]
      refine List.mem_cons_of_mem _ (List.mem_filter.mpr ⟨h3, ?_⟩)
      simp only [Bool.and_eq_true, Bool.not_eq_true', beq_eq_false_iff_ne, Bool.and_eq_false_iff]
      refine ⟨fun e2 => e e2.symm, ?_⟩
      by_cases e2 : i + 1 = n
      · exact Or.inr (by rw [vR_cat h5]; exact h2 e2)
      · exact Or.inl (by simpa using e2)), h5⟩
theorem lR_set2 {sz : Nat} {pre : Int → Nat} {ls : List PV} {lc lc' : Array Slot} {l l' : List (Nat × Value)} {n : Nat} {v : PV} {w : Value} (hvw : vR sz pre v w) (hm : ∀ (i : Nat) (v : PV), ls[i]? = some v → v ≠ pU → ∃ w, (i, w) ∈ l ∧ lc[i]? = some (.val w) ∧ vR sz pre v w)
    (hl : (n, w) :: l.filter (fun q => !(q.1 == n) && (!(q.1 == n + 1) && !(q.1 + 1 == n && q.2.category == 2))) = l') (h : lv_has lc' ls.length l') (hn : n + 1 < ls.length) : lR sz pre (ls2 ls n v) lc' := by
  refine ⟨by rw [h.1]; unfold ls2; simp [lkl_len], h.2.1, ?_⟩
  intro i u hi hu
  unfold ls2 at hi
  by_cases e0 : n + 1 = i
  · subst e0
    rw [List.getElem?_set_self (by simp only [List.length_set, lkl_len]; exact hn)] at hi
    cases hi; exact absurd rfl hu
  rw [List.getElem?_set_ne e0] at hi
  by_cases e : n = i
  · subst e
    rw [List.getElem?_set_self (by rw [lkl_len]; omega)] at hi
    cases hi
    exact ⟨w, h.2.2 (n, w) (by rw [← hl]; exact List.mem_cons_self), hvw⟩
  · rw [List.getElem?_set_ne e] at hi
    obtain ⟨h1, h2⟩ := lkl_get hi hu
    obtain ⟨w2, h3, h4, h5⟩ := hm i u h1 hu
    refine ⟨w2, h.2.2 (i, w2) (by
      rw [← hl]
      refine List.mem_cons_of_mem _ (List.mem_filter.mpr ⟨h3, ?_⟩)
      simp only [Bool.and_eq_true, Bool.not_eq_true', beq_eq_false_iff_ne, Bool.and_eq_false_iff]
      refine ⟨fun e2 => e e2.symm, fun e2 => e0 e2.symm, ?_⟩
      by_cases e2 : i + 1 = n
      · exact Or.inr (by rw [vR_cat h5]; exact h2 e2)
      · exact Or.inl (by simpa using e2)), h5⟩
