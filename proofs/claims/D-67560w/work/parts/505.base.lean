/-! base words of contracts -/
set_option maxRecDepth 100000
set_option maxHeartbeats 4000000
theorem gd_of {p : Prop} [Decidable p] {X : RM} (h : p) : gd p X = X := if_pos h
theorem bV_ok {m : Mem} {f : Mem → RM} : bV (some (Sum.inl none, m)) f = f m := rfl
theorem bI_ok {x : Int} {m : Mem} {f : Int → Mem → RM} : bI (some (Sum.inl (some (pI x)), m)) f = f x m := rfl
theorem bL_ok {x : Int} {m : Mem} {f : Int → Mem → RM} : bL (some (Sum.inl (some (pL x)), m)) f = f x m := rfl
theorem bR_ok {x : Int} {m : Mem} {f : Int → Mem → RM} : bR (some (Sum.inl (some (pR x)), m)) f = f x m := rfl
theorem bV_ex {e : Int} {m : Mem} {f : Mem → RM} : bV (some (Sum.inr e, m)) f = some (.inr e, m) := rfl
theorem bI_ex {e : Int} {m : Mem} {f : Int → Mem → RM} : bI (some (Sum.inr e, m)) f = some (.inr e, m) := rfl
theorem bL_ex {e : Int} {m : Mem} {f : Int → Mem → RM} : bL (some (Sum.inr e, m)) f = some (.inr e, m) := rfl
theorem bR_ex {e : Int} {m : Mem} {f : Int → Mem → RM} : bR (some (Sum.inr e, m)) f = some (.inr e, m) := rfl
theorem tz_of {k : Nat} {m m' : Mem} (h : FRM (eM k) m m') (z : TZ m) : TZ m' := h.1.1 z
theorem tg_of {k : Nat} {m m' : Mem} (h : FRM (eM k) m m') {a : Int} (z : TZ m) (ha : tg m a ≠ 0) : tg m' a = tg m a := (h.1.2.2 a (tz_lt z ha)).1
theorem ln_of {k : Nat} {m m' : Mem} (h : FRM (eM k) m m') {a : Int} (z : TZ m) (ha : tg m a ≠ 0) : ln m' a = ln m a := (h.1.2.2 a (tz_lt z ha)).2
theorem vl_of {k : Nat} {m m' : Mem} (h : FRM (eM k) m m') {a f t : Int} (z : TZ m) (ha : tg m a = t) (ht : t ≠ 0) (hb : Nat.testBit (eM k) (bix t f) = false) : vl m' a f = vl m a f := h.2.1 a f (tz_lt z (by rw [ha]; exact ht)) (by rw [ha]; exact hb)
/-! lists of numbers -/
def gi (xs : List Int) (i : Int) : Int := xs.getD i.toNat 0
theorem gi_app_l {xs ys : List Int} {i : Int} (h0 : 0 ≤ i) (h : i < xs.length) : gi (xs ++ ys) i = gi xs i := by
  unfold gi; rw [List.getD_eq_getElem?_getD, List.getD_eq_getElem?_getD, List.getElem?_append_left (by omega)]
theorem gi_app_r {xs ys : List Int} {i : Int} (h : (xs.length : Int) ≤ i) : gi (xs ++ ys) i = gi ys (i - xs.length) := by
  unfold gi; rw [List.getD_eq_getElem?_getD, List.getD_eq_getElem?_getD, List.getElem?_append_right (by omega)]; congr 2; omega
theorem gi_zero {x : Int} {xs : List Int} : gi (x :: xs) 0 = x := rfl
theorem gi_succ {x : Int} {xs : List Int} {i : Int} (h : 1 ≤ i) : gi (x :: xs) i = gi xs (i - 1) := by
  unfold gi
  obtain ⟨j, hj⟩ : ∃ j : Nat, i = j + 1 := ⟨(i - 1).toNat, by omega⟩
  subst hj
  rw [show ((j : Int) + 1).toNat = j + 1 by omega, show ((j : Int) + 1 - 1).toNat = j by omega]
  rfl
theorem gi_ext {xs ys : List Int} (hl : xs.length = ys.length) (h : ∀ i : Int, 0 ≤ i → i < xs.length → gi xs i = gi ys i) : xs = ys := by
  apply List.ext_getElem hl
  intro i h1 h2
  have := h i (by omega) (by omega)
  unfold gi at this
  rw [Int.toNat_natCast, List.getD_eq_getElem?_getD, List.getD_eq_getElem?_getD, List.getElem?_eq_getElem h1, List.getElem?_eq_getElem h2] at this
  exact this
/-- ys stands in xs at a -/
def At (xs : List Int) (a : Int) (ys : List Int) : Prop := 0 ≤ a ∧ a + ys.length ≤ xs.length ∧ ∀ j : Int, 0 ≤ j → j < ys.length → gi xs (a + j) = gi ys j
theorem At.app {xs ys zs : List Int} {a : Int} (h : At xs a (ys ++ zs)) : At xs a ys ∧ At xs (a + ys.length) zs := by
  obtain ⟨h0, h1, h2⟩ := h
  rw [List.length_append] at h1 h2
  refine ⟨⟨h0, by omega, fun j j0 j1 => ?_⟩, ⟨by omega, by omega, fun j j0 j1 => ?_⟩⟩
  · rw [h2 j j0 (by omega), gi_app_l j0 j1]
  · rw [Int.add_assoc, h2 _ (by omega) (by omega), gi_app_r (by omega)]; congr 1; omega
theorem At.mk_app {xs ys zs : List Int} {a : Int} (h : At xs a ys) (h' : At xs (a + ys.length) zs) : At xs a (ys ++ zs) := by
  obtain ⟨h0, h1, h2⟩ := h
  obtain ⟨h3, h4, h5⟩ := h'
  refine ⟨h0, by rw [List.length_append]; omega, fun j j0 j1 => ?_⟩
  rw [List.length_append] at j1
  by_cases hj : j < ys.length
  · rw [h2 j j0 hj, gi_app_l j0 hj]
  · have e := h5 (j - ys.length) (by omega) (by omega)
    rw [show a + (ys.length : Int) + (j - ys.length) = a + j by omega] at e
    rw [e, gi_app_r (by omega)]
theorem At.cons {xs ys : List Int} {a y : Int} (h : At xs a (y :: ys)) : gi xs a = y ∧ At xs (a + 1) ys := by
  have h' : At xs a ([y] ++ ys) := h
  obtain ⟨h1, h2⟩ := h'.app
  refine ⟨?_, h2⟩
  have := h1.2.2 0 (by omega) (by simp)
  rw [Int.add_zero] at this; exact this
theorem At.mono {xs ys zs : List Int} {a : Int} (h : At xs a ys) : At (xs ++ zs) a ys := by
  obtain ⟨h0, h1, h2⟩ := h
  refine ⟨h0, by rw [List.length_append]; omega, fun j j0 j1 => ?_⟩
  rw [gi_app_l (by omega) (by omega)]; exact h2 j j0 j1
theorem At.self {xs : List Int} : At xs 0 xs := ⟨by omega, by omega, fun j _ _ => by rw [Int.zero_add]⟩
theorem At.end {xs ys : List Int} : At (xs ++ ys) xs.length ys := by
  refine ⟨by omega, by rw [List.length_append]; omega, fun j j0 j1 => ?_⟩
  rw [gi_app_r (by omega)]; congr 1; omega
theorem At.nil {xs : List Int} {a : Int} (h0 : 0 ≤ a) (h : a ≤ xs.length) : At xs a [] := ⟨h0, by simpa using h, fun j j0 j1 => absurd j1 (by simp; omega)⟩
theorem At.inj {xs ys zs : List Int} {a : Int} (h : At xs a ys) (h' : At xs a zs) (hl : ys.length = zs.length) : ys = zs := gi_ext hl (fun i i0 i1 => (h.2.2 i i0 i1).symm.trans (h'.2.2 i i0 (by omega)))
