/-! the string constants at the law's start -/
set_option maxRecDepth 100000
set_option maxHeartbeats 4000000
abbrev tmV (tm : Term) : Term := .field tm "java/lang/String" "value" "[B"
/-- what the given words say of a string constant with the text tx -/
def stW (tm : Term) (tx : List Int) : List Cond := [.exactly tm "java/lang/String", .eq (.field tm "java/lang/String" "coder" "B") (.int 0), .arrayOf (tmV tm) .byte, .eq (.length (tmV tm)) (.int (Int32.ofNat tx.length))] ++ (List.range tx.length).map (fun j => .eq (.elem (tmV tm) (.int (Int32.ofNat j))) (.int (Int32.ofInt (tx.getD j 0))))
def stT : List (String × Nat × String) := [("PathStore$Patcher", 49, "op"), ("PathStore$Patcher", 58, "path"), ("PathStore$Patcher", 62, "value"), ("PathStore$Patcher", 66, "from"), ("PathStore$Reader", 40, "null"), ("PathStore$Reader", 52, "false"), ("PathStore$Reader", 54, "true"), ("PathStore$Sink", 60, "null"), ("PathStore$Sink", 66, "false"), ("PathStore$Sink", 68, "true"), ("PathStore$Patcher", 159, "add"), ("PathStore$Patcher", 178, "remove"), ("PathStore$Patcher", 182, "replace"), ("PathStore$Patcher", 184, "test"), ("PathStore$Patcher", 190, "move"), ("PathStore$Patcher", 192, "copy"), ("PathStore$Compiler", 231, "true"), ("PathStore$Compiler", 237, "false"), ("PathStore$Compiler", 239, "null"), ("PathStore$Compiler", 241, "length"), ("PathStore$Compiler", 247, "count"), ("PathStore$Compiler", 249, "value"), ("PathStoreModel", 207, "null"), ("PathStoreModel", 209, "true"), ("PathStoreModel", 211, "false"), ("PathStoreModel", 189, "bfnrt"), ("PathStoreModel", 264, "btnfr"), ("PathStoreModel", 266, "\\u"), ("PathStoreModel", 271, "0123456789abcdef"), ("PathStoreModel", 373, "op"), ("PathStoreModel", 377, "path"), ("PathStoreModel", 382, "add"), ("PathStoreModel", 387, "replace"), ("PathStoreModel", 389, "test"), ("PathStoreModel", 391, "move"), ("PathStoreModel", 393, "value"), ("PathStoreModel", 399, "remove"), ("PathStoreModel", 400, "copy"), ("PathStoreModel", 401, "from"), ("PathStoreModel", 487, "=="), ("PathStoreModel", 489, "!="), ("PathStoreModel", 491, "length"), ("PathStoreModel", 492, "count"), ("PathStoreModel", 469, "&&"), ("PathStoreModel", 464, "||")]
def stQ (i : Nat) : String × Nat × String := stT.getD i ("", 0, "")
def stTm (i : Nat) : Term := .string (stQ i).1 (stQ i).2.1
theorem st_one {args : Array Value} {s : State} {tm : Term} {tx : List Int} (h : ∀ w ∈ stW tm tx, w.before args s = true) (hl : tx.length < 2 ^ 31) : ∃ q : Nat × Nat, tm.eval args s none [] s = some (.ref q.1) ∧ va_O "java/lang/String" q.1 (fun _ => False) s s.heap ∧ va_OF "java/lang/String" "coder" "B" (.int 0) q.1 (fun _ => False) s s.heap ∧ va_OF "java/lang/String" "value" "[B" (.ref q.2) q.1 (fun _ => False) s s.heap ∧ va_T .byte q.2 tx.length (fun j => .int (Int32.ofInt (tx.getD j 0))) (fun _ => False) s s.heap := by
  have hA : ∀ a : Nat, a < s.heap.size → ¬ (fun _ : Nat => False) a := fun _ _ h => h
  have hex := h (.exactly tm "java/lang/String") (List.mem_append_left _ (by simp))
  have hco := h (.eq (.field tm "java/lang/String" "coder" "B") (.int 0)) (List.mem_append_left _ (by simp))
  have har := h (.arrayOf (tmV tm) .byte) (List.mem_append_left _ (by simp))
  have hle := h (.eq (.length (tmV tm)) (.int (Int32.ofNat tx.length))) (List.mem_append_left _ (by simp))
  have hel : ∀ j : Nat, j < tx.length → (Cond.eq (.elem (tmV tm) (.int (Int32.ofNat j))) (.int (Int32.ofInt (tx.getD j 0)))).before args s = true := fun j hj => h _ (List.mem_append_right _ (List.mem_map.mpr ⟨j, List.mem_range.mpr hj, rfl⟩))
  obtain ⟨a, c, cA, kA, q1, q2, q3, q4, q5, q6, -⟩ := Cond.exactly_spec (args := args) (first := s) (o := none) (s := s) (idx := []) (t := tm) (cls := "java/lang/String") hex
  obtain ⟨t, ht, hT⟩ := va_Tof (f := fun j => .int (Int32.ofInt (tx.getD j 0))) (A := fun _ => False) hl har (va_eqt hle) (fun j hj => va_eqt (hel j hj)) hA
  exact ⟨(a, t), q1, ⟨cA, q3, q5, by rw [q6]; exact q2, hA a (Array.getElem?_eq_some_iff.mp q3).1⟩, vk_OFof q1 (va_eqt hco) hA, vk_OFof q1 ht hA, hT⟩
abbrev FLT : List Cond := flatC (Jvm.Cond.and given_1 narrow_1)
def stO : List (Nat × Nat) := [(584, 6), (590, 8), (598, 9), (607, 8), (615, 8), (623, 9), (632, 8), (640, 8), (649, 9), (659, 8), (668, 7), (675, 10), (685, 11), (696, 8), (704, 8), (712, 8), (720, 8), (730, 9), (741, 8), (751, 10), (761, 9), (770, 9), (780, 8), (791, 8), (802, 9), (814, 9), (823, 9), (832, 6), (838, 20), (858, 6), (865, 8), (874, 7), (882, 11), (894, 8), (903, 8), (912, 9), (923, 10), (934, 8), (943, 8), (952, 6), (958, 6), (964, 10), (975, 9), (985, 6), (991, 6)]
theorem st_seg : ∀ i, i < 45 → stW (stTm i) (sTx.getD i []) = (FLT.drop (stO.getD i (0, 0)).1).take (stO.getD i (0, 0)).2 := by decide +kernel
theorem st_flat : ∀ i, i < 45 → ∀ w ∈ stW (stTm i) (sTx.getD i []), w ∈ FLT := by
  intro i hi w hw
  rw [st_seg i hi] at hw
  exact List.mem_of_mem_drop (List.mem_of_mem_take hw)
theorem st_ref : ∀ i, i < 45 → Cond.stringRef (stQ i).1 (stQ i).2.1 (stQ i).2.2 ∈ lw_tbl := by decide +kernel
theorem st_len : ∀ i, i < 45 → (sTx.getD i []).length < 32 := by decide +kernel
theorem st_rng : ∀ i, i < 45 → ∀ x ∈ sTx.getD i [], 0 ≤ x ∧ x < 128 := by decide +kernel
theorem flt_at {args : Array Value} {s : State} (h : (Jvm.Cond.and given_1 narrow_1).before args s = true) : ∀ w ∈ FLT, w.before args s = true := flat_of_before _ h
theorem st_nc : ∀ q ∈ ncL, Cond.not (.castable q.1 q.2) ∈ FLT := by decide +kernel
def exL : List Nat := [201, 202, 203, 204, 205, 206]
theorem st_nx : ∀ x ∈ exL, ∀ y ∈ exL, x ≠ y → Cond.not (.castable (eNm (x : Int)) (eNm (y : Int))) ∈ FLT := by decide +kernel
theorem exL_mem {x : Nat} (h1 : 200 < x) (h2 : x < 207) : x ∈ exL := by
  have : x = 201 ∨ x = 202 ∨ x = 203 ∨ x = 204 ∨ x = 205 ∨ x = 206 := by omega
  rcases this with h | h | h | h | h | h <;> subst h <;> decide
