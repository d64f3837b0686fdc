/-! the law's end -/
set_option maxRecDepth 100000
set_option maxHeartbeats 4000000
theorem same_drop {s t : State} {L : List Loc} {k n k1 n1 : Nat} (h : s.sameButNew t L k n) (hL : ∀ q ∈ L, s.heap.size ≤ q.base) (hk : k ≤ k1) (hn : n ≤ n1) : s.sameButNew t [] k1 n1 := by
  obtain ⟨h1, h2, h3, h4, h5, h6⟩ := h
  refine ⟨h1, h2, by omega, h4, by omega, fun a c hc => ?_⟩
  obtain ⟨c', g1, g2, g3, g4⟩ := h6 a c hc
  refine ⟨c', g1, g2, g3, fun i _ => g4 i (fun hm => ?_)⟩
  have h7 := hL _ hm
  have h8 := (Array.getElem?_eq_some_iff.mp hc).1
  exact absurd h7 (by show ¬ (s.heap.size ≤ a); omega)
