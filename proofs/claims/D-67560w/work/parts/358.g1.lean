/-! the string constants' places -/
set_option maxRecDepth 100000
set_option maxHeartbeats 4000000
/-- every string constant of the tables is one of the 45 -/
theorem rct_st : ∀ c, c < 34 → ∀ q ∈ rCt c, q.2.1 = 1 → 2 ≤ q.2.2 ∧ q.2.2 < 92 ∧ q.2.2 % 2 = 0 ∧ (stQ ((q.2.2.toNat - 2) / 2)).1 = cNm c ∧ (stQ ((q.2.2.toNat - 2) / 2)).2.1 = q.1 := by decide +kernel
theorem st_all {s : State} {args : Array Value} (hf : ∀ w ∈ FLT, w.before args s = true) : ∃ ad : Nat → Nat × Nat, ∀ i, i < 45 → (stTm i).eval args s none [] s = some (.ref (ad i).1) ∧ SOne s (ad i) (sTx.getD i []) := by
  have h : ∀ i : Nat, ∃ q : Nat × Nat, i < 45 → (stTm i).eval args s none [] s = some (.ref q.1) ∧ SOne s q (sTx.getD i []) := by
    intro i
    by_cases hi : i < 45
    · obtain ⟨q, h1, h2⟩ := st_one (tm := stTm i) (tx := sTx.getD i []) (fun w hw => hf w (st_flat i hi w hw)) (by have := st_len i hi; omega)
      exact ⟨q, fun _ => ⟨h1, h2⟩⟩
    · exact ⟨(0, 0), fun h => absurd h hi⟩
  exact Classical.axiomOfChoice h
