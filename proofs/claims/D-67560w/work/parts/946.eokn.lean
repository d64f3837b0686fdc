/-! what is read is a query as it should be: or, and, tests, operands -/
set_option maxRecDepth 100000
set_option maxHeartbeats 4000000
section
variable {t : Int → Int} {e i : Int} {n op : Nat} {sg : Bool}
theorem ok_5 {B : Nat} (h6 : ∀ i, QG 3 (1 ≤ ·) B (sQ t e n 6 op false i)) (h5 : ∀ i, QG 3 (1 ≤ ·) (B + 5) (sQ t e n 5 op false i)) : QG 3 (1 ≤ ·) (B + 5) (sQ t e (n + 1) 5 op sg i) := by
  unfold sQ
  rw [if_neg (by decide : ¬ (5 : Nat) = 0), if_neg (by decide : ¬ (5 : Nat) = 1), if_neg (by decide : ¬ (5 : Nat) = 2), if_neg (by decide : ¬ (5 : Nat) = 3), if_neg (by decide : ¬ (5 : Nat) = 4), if_pos (rfl : (5 : Nat) = 5)]
  refine QG.bnd (h6 _) fun X j a b c => ?_
  split
  · split
    · refine QG.bnd (h5 _) fun R k a' b' c' => QG.ret ⟨rfl, b, fun q => absurd q (by decide), fun q => absurd q (by decide), a, a'⟩ (by show 1 ≤ cntF R + 1; omega) ?_
      show max (hQ X + if (31 : Nat) = 21 ∨ (31 : Nat) = 46 then 70 else 5) (hQ R) ≤ B + 5
      rw [if_neg (by decide)]; omega
    · exact QG.e
  · exact QG.n rfl b (by decide) (by decide) a (Nat.le_refl 1) (by rw [if_neg (by decide)]; omega)
theorem ok_6 {B : Nat} (h7 : ∀ i, QG 3 (· = 1) B (sQ t e n 7 op false i)) (h6 : ∀ i, QG 3 (1 ≤ ·) B (sQ t e n 6 op false i)) : QG 3 (1 ≤ ·) B (sQ t e (n + 1) 6 op sg i) := by
  unfold sQ
  rw [if_neg (by decide : ¬ (6 : Nat) = 0), if_neg (by decide : ¬ (6 : Nat) = 1), if_neg (by decide : ¬ (6 : Nat) = 2), if_neg (by decide : ¬ (6 : Nat) = 3), if_neg (by decide : ¬ (6 : Nat) = 4), if_neg (by decide : ¬ (6 : Nat) = 5), if_pos (rfl : (6 : Nat) = 6)]
  refine QG.bnd (h7 _) fun X j a b c => ?_
  split
  · split
    · refine QG.bnd (h6 _) fun R k a' b' c' => QG.ret (okF_app a a') (by rw [cntF_app]; omega) ?_
      rw [hQ_app]; omega
    · exact QG.e
  · exact QG.ret a (by omega) c
/-- a query under something -/
theorem rot_01 {c : Int} : rot c = 0 ∨ rot c = 1 := by unfold rot; split <;> simp
theorem ok_q {S : Fo} {c : Int} (h : okF 2 S) : okF 5 (foC (20, rot c, [], []) S foN) := ⟨rfl, trivial, fun _ => ⟨by show -9007199254740992 < rot c; have := rot_01 (c := c); omega, by show rot c < 9007199254740992; have := rot_01 (c := c); omega, fun q => absurd (show (20 : Nat) = 33 from q) (by decide), fun _ => rot_01⟩, fun q => absurd (show (20 : Nat) = 4 from q) (by decide), h, trivial⟩
theorem hQ_q {S : Fo} {v : Int} : hQ (foC (20, v, [], []) S foN) = hQ S + 5 := by rw [hQ_1, if_neg (by decide)]
theorem ok_7 {B : Nat} (h0 : ∀ i, QG 2 (fun _ => True) B (sQ t e n 0 op false i)) (h8 : ∀ i, QG 3 (· = 1) B (sQ t e n 8 op false i)) (h10 : ∀ i, QG 4 (· = 1) (B + 10) (sQ t e n 10 op false i)) : QG 3 (· = 1) (B + 15) (sQ t e (n + 1) 7 op sg i) := by
  unfold sQ
  rw [if_neg (by decide : ¬ (7 : Nat) = 0), if_neg (by decide : ¬ (7 : Nat) = 1), if_neg (by decide : ¬ (7 : Nat) = 2), if_neg (by decide : ¬ (7 : Nat) = 3), if_neg (by decide : ¬ (7 : Nat) = 4), if_neg (by decide : ¬ (7 : Nat) = 5), if_neg (by decide : ¬ (7 : Nat) = 6), if_pos (rfl : (7 : Nat) = 7)]
  split
  · split
    · exact QG.bnd (h8 _) fun X j a b c => QG.n rfl b (by decide) (by decide) a rfl (by rw [if_neg (by decide)]; omega)
    · split
      · refine QG.bnd (h0 _) fun S j a b c => QG.n rfl rfl (by decide) (by decide) (okF_1 rfl rfl (by decide) (by decide) (ok_q a)) rfl ?_
        rw [hQ_1, hQ_q, if_neg (by decide), if_neg (by decide)]; omega
      · exact QG.e
  · split
    · intro F j h
      obtain ⟨a, b, c⟩ := h8 _ F j h
      exact ⟨a, b, by omega⟩
    · split
      · refine QG.bnd (h0 _) fun S j a b c => ?_
        split
        · split
          · split
            · exact QG.e
            · rename_i o k hO
              refine QG.bnd (h10 _) fun R q a' b' c' => QG.n3 (sOp_o hO) ?_ ⟨rfl, rfl, fun q => absurd q (by decide), fun q => absurd q (by decide), ok_q a, a'⟩ rfl ?_
              · show cntF R + 1 = 2; omega
              · show max (hQ (foC (20, rot (pk t e i), [], []) S foN) + if (45 : Nat) = 21 ∨ (45 : Nat) = 46 then 70 else 5) (hQ R) + 5 ≤ B + 15
                rw [hQ_q, if_neg (by decide)]; omega
          · exact QG.e
        · refine QG.n rfl rfl (by decide) (by decide) (ok_q a) rfl ?_
          rw [hQ_q, if_neg (by decide)]; omega
      · refine QG.bnd (h10 _) fun L j a b c => ?_
        split
        · exact QG.e
        · rename_i o k hO
          refine QG.bnd (h10 _) fun R q a' b' c' => QG.n3 (sOp_o hO) ?_ (okF_app a a') rfl ?_
          · rw [cntF_app]; omega
          · rw [hQ_app]; omega
end
