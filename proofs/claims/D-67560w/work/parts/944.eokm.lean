/-! what is read is a query as it should be: segments, brackets, or, and, parentheses -/
set_option maxRecDepth 100000
set_option maxHeartbeats 4000000
section
variable {t : Int → Int} {e i : Int} {n op : Nat} {sg : Bool}
theorem ok_0 {B : Nat} (h1 : ∀ i, QG 2 (· = 1) B (sQ t e n 1 op sg i)) (h0 : ∀ i, QG 2 (fun _ => True) B (sQ t e n 0 op sg i)) : QG 2 (fun _ => True) B (sQ t e (n + 1) 0 op sg i) := by
  unfold sQ
  rw [if_pos (rfl : (0 : Nat) = 0)]
  split
  · refine QG.bnd (h1 _) fun S j a b c => QG.bnd (h0 _) fun R k a' b' c' => QG.ret (okF_app a a') trivial ?_
    rw [hQ_app]; omega
  · exact QG.ret trivial trivial (Nat.zero_le _)
theorem ok_1 {B : Nat} (hB : 75 ≤ B + 70) (h2 : ∀ i, QG 1 (1 ≤ ·) B (sQ t e n 2 op sg i)) : QG 2 (· = 1) (B + 70) (sQ t e (n + 1) 1 op sg i) := by
  have leaf : ∀ (d : ND) (v j : Int), (d.1 = 1 ∨ d.1 = 2) → (v = 0 ∨ v = 1) → QG 2 (· = 1) (B + 70) (qN 21 v [] (foC d foN foN) j) := fun d v j hd hv => by
    refine QG.n21 hv ⟨?_, ?_, fun q => by omega, fun q => by omega, trivial, trivial⟩ rfl ?_
    · show cK d.1 = 1; unfold cK; rw [if_pos (by omega)]
    · show cN d.1 0
      unfold cN; rw [if_neg (by omega), if_neg (by omega), if_neg (by omega)]; trivial
    · show max (hQ foN + if d.1 = 21 ∨ d.1 = 46 then 70 else 5) 0 + 70 ≤ B + 70
      rw [if_neg (by omega)]
      show max (0 + 5) 0 + 70 ≤ B + 70
      omega
  have many : ∀ (i v : Int), (v = 0 ∨ v = 1) → QG 2 (· = 1) (B + 70) (bnd (sQ t e n 2 op sg i) fun L j => qN 21 v [] L j) := fun i v hv =>
    QG.bnd (h2 i) fun L j a b c => QG.n21 hv a rfl (by omega)
  unfold sQ
  rw [if_neg (by decide : ¬ (1 : Nat) = 0), if_pos (rfl : (1 : Nat) = 1)]
  split
  · split
    · split
      · exact many _ _ (by decide)
      · split
        · exact leaf _ _ _ (Or.inr rfl) (by decide)
        · split
          · exact QG.e
          · exact leaf _ _ _ (Or.inl rfl) (by decide)
    · split
      · exact leaf _ _ _ (Or.inr rfl) (by decide)
      · split
        · exact QG.e
        · exact leaf _ _ _ (Or.inl rfl) (by decide)
  · exact many _ _ (by decide)
theorem ok_2 {B : Nat} (h3 : op < 16 → ∀ i, QG 1 (1 ≤ ·) B (sQ t e n 3 (op + 1) sg i)) : QG 1 (1 ≤ ·) B (sQ t e (n + 1) 2 op sg i) := by
  unfold sQ
  rw [if_neg (by decide : ¬ (2 : Nat) = 0), if_neg (by decide : ¬ (2 : Nat) = 1), if_pos (rfl : (2 : Nat) = 2)]
  split
  · exact QG.e
  · rename_i h
    exact h3 (by omega) _
theorem ok_3 {B : Nat} (h4 : ∀ i, QG 1 (· = 1) B (sQ t e n 4 op sg i)) (h3 : ∀ i, QG 1 (1 ≤ ·) B (sQ t e n 3 op sg i)) : QG 1 (1 ≤ ·) B (sQ t e (n + 1) 3 op sg i) := by
  unfold sQ
  rw [if_neg (by decide : ¬ (3 : Nat) = 0), if_neg (by decide : ¬ (3 : Nat) = 1), if_neg (by decide : ¬ (3 : Nat) = 2), if_pos (rfl : (3 : Nat) = 3)]
  refine QG.bnd (h4 _) fun S j a b c => ?_
  split
  · exact QG.ret a (by omega) c
  · split
    · refine QG.bnd (h3 _) fun R k a' b' c' => QG.ret (okF_app a a') (by rw [cntF_app]; omega) ?_
      rw [hQ_app]; omega
    · exact QG.e
theorem ok_8 {B : Nat} (h5 : op < 16 → ∀ i, QG 3 (1 ≤ ·) B (sQ t e n 5 (op + 1) false i)) : QG 3 (· = 1) (B + 5) (sQ t e (n + 1) 8 op sg i) := by
  unfold sQ
  rw [if_neg (by decide : ¬ (8 : Nat) = 0), if_neg (by decide : ¬ (8 : Nat) = 1), if_neg (by decide : ¬ (8 : Nat) = 2), if_neg (by decide : ¬ (8 : Nat) = 3), if_neg (by decide : ¬ (8 : Nat) = 4), if_neg (by decide : ¬ (8 : Nat) = 5), if_neg (by decide : ¬ (8 : Nat) = 6), if_neg (by decide : ¬ (8 : Nat) = 7), if_pos (rfl : (8 : Nat) = 8)]
  split
  · exact QG.e
  · rename_i h
    refine QG.bnd (h5 (by omega) _) fun L j a b c => ?_
    split
    · exact QG.n rfl b (by decide) (by decide) a rfl (by rw [if_neg (by decide)]; omega)
    · exact QG.e
end
