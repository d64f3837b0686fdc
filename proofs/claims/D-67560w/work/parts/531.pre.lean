/-! rows for the walk from above -/
set_option maxRecDepth 100000
theorem nm_eq {α : Type} {v : α} {f : α → RM} : nm v f = f v := rfl
theorem nw_eq {a : Int} {m : Mem} {f : Int → Mem → RM} : nw a m f = f a m := rfl
theorem bV_eq {cc : RM} {m : Mem} {f : Mem → RM} (h : cc = some (Sum.inl none, m)) : bV cc f = f m := by rw [h]; rfl
theorem bI_eq {cc : RM} {x : Int} {m : Mem} {f : Int → Mem → RM} (h : cc = some (Sum.inl (some (pI x)), m)) : bI cc f = f x m := by rw [h]; rfl
theorem bL_eq {cc : RM} {x : Int} {m : Mem} {f : Int → Mem → RM} (h : cc = some (Sum.inl (some (pL x)), m)) : bL cc f = f x m := by rw [h]; rfl
theorem bR_eq {cc : RM} {x : Int} {m : Mem} {f : Int → Mem → RM} (h : cc = some (Sum.inl (some (pR x)), m)) : bR cc f = f x m := by rw [h]; rfl
theorem bV_xq {cc : RM} {e : Int} {m : Mem} {f : Mem → RM} (h : cc = some (Sum.inr e, m)) : bV cc f = some (.inr e, m) := by rw [h]; rfl
theorem bI_xq {cc : RM} {e : Int} {m : Mem} {f : Int → Mem → RM} (h : cc = some (Sum.inr e, m)) : bI cc f = some (.inr e, m) := by rw [h]; rfl
theorem bL_xq {cc : RM} {e : Int} {m : Mem} {f : Int → Mem → RM} (h : cc = some (Sum.inr e, m)) : bL cc f = some (.inr e, m) := by rw [h]; rfl
theorem bR_xq {cc : RM} {e : Int} {m : Mem} {f : Int → Mem → RM} (h : cc = some (Sum.inr e, m)) : bR cc f = some (.inr e, m) := by rw [h]; rfl
theorem gd_m1 {m : Mem} {a k v x t : Int} {X : RM} : gd (tg (mst m a k v) x = t) X = gd (tg m x = t) X := rfl
theorem gd_m2 {m : Mem} {a k v x t u : Int} {X : RM} : gd (tg (mst m a k v) x = t ∨ tg (mst m a k v) x = u) X = gd (tg m x = t ∨ tg m x = u) X := rfl
theorem gd_m3 {m : Mem} {a k v x t u w : Int} {X : RM} : gd (tg (mst m a k v) x = t ∨ tg (mst m a k v) x = u ∨ tg (mst m a k v) x = w) X = gd (tg m x = t ∨ tg m x = u ∨ tg m x = w) X := rfl
theorem gd_mb {m : Mem} {a k v x j : Int} {X : RM} : gd ((0 : Int) ≤ j ∧ j < ln (mst m a k v) x) X = gd ((0 : Int) ≤ j ∧ j < ln m x) X := rfl
