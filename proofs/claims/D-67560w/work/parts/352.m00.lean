/-! the first memory -/
set_option maxRecDepth 100000
set_option maxHeartbeats 4000000
def m00 (L : Nat) (xs : Nat → Int32) : Mem := (92, 0,
  fun a => if a = 1 then 101 else if 2 ≤ a ∧ a < 92 then (if a % 2 = 0 then 31 else 103) else 0,
  fun a => if a = 1 then (L : Int) else if 2 ≤ a ∧ a < 92 ∧ a % 2 = 1 then ((sTx.getD ((a.toNat - 3) / 2) []).length : Int) else 0,
  fun a k => if a = 1 then (if 0 ≤ k ∧ k < L then (xs k.toNat).toInt else 0) else if 2 ≤ a ∧ a < 92 then (if a % 2 = 0 then (if k = 0 then a + 1 else 0) else (sTx.getD ((a.toNat - 3) / 2) []).getD k.toNat 0) else 0)
def pre0 (b : Nat) (ad : Nat → Nat × Nat) (a : Int) : Nat := if a = 1 then b else if a % 2 = 0 then (ad ((a.toNat - 2) / 2)).1 else (ad ((a.toNat - 3) / 2)).2
def SOne (s : State) (q : Nat × Nat) (tx : List Int) : Prop := va_O "java/lang/String" q.1 (fun _ => False) s s.heap ∧ va_OF "java/lang/String" "coder" "B" (.int 0) q.1 (fun _ => False) s s.heap ∧ va_OF "java/lang/String" "value" "[B" (.ref q.2) q.1 (fun _ => False) s s.heap ∧ va_T .byte q.2 tx.length (fun j => .int (Int32.ofInt (tx.getD j 0))) (fun _ => False) s s.heap
theorem i32_pin (x : Int32) : pin x.toInt (-2147483648) 2147483648 := ⟨Int32.le_toInt x, Int32.toInt_lt x⟩
theorem of_va_OF {s : State} {o n d : String} {v : Value} {t i : Nat} {cell : Cell} (h : va_OF o n d v t (fun _ => False) s s.heap) (hc : s.heap[t]? = some cell) (hs : SlotIs s o n d i) : cell.slots[i]? = some v ∧ cell.vm ≠ .unknown := by
  obtain ⟨cf, k, j, f, c9, h1, h2, h3, h4, h5, -⟩ := h
  obtain ⟨a1, a2, a3, fd, g1, g2⟩ := hs
  cases Option.some.inj (hc.symm.trans h3)
  cases Option.some.inj (h1.symm.trans g1)
  rw [← g2]; exact ⟨h5, h4⟩
