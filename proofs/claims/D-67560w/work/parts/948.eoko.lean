/-! what is read is a query as it should be: operands, selectors, all -/
set_option maxRecDepth 100000
set_option maxHeartbeats 4000000
section
variable {t : Int → Int} {e i : Int} {n op : Nat} {sg : Bool}
theorem QG.wo {cls B : Nat} {c : Nat → Prop} {cs : List Int} {f : Int → QR} (h : ∀ j, QG cls c B (f j)) : QG cls c B (sWo t e cs i f) := by
  unfold sWo
  split
  · exact QG.e
  · exact h _
theorem ok_10 {B : Nat} (hB : 100 ≤ B) (h0 : ∀ i, QG 2 (fun _ => True) B (sQ t e n 0 op true i)) (h0' : op < 16 → ∀ i, QG 2 (fun _ => True) B (sQ t e n 0 (op + 1) false i)) (h10 : op < 16 → ∀ i, QG 4 (· = 1) (B - 90) (sQ t e n 10 (op + 1) false i)) : QG 4 (· = 1) (B + 10) (sQ t e (n + 1) 10 op sg i) := by
  have lf : ∀ (k : Nat) (v j : Int) (us : List Int), (41 ≤ k ∧ k ≤ 44) → QG 4 (· = 1) (B + 10) (qN k v us foN j) := fun k v j us hk => by
    refine QG.n ?_ ?_ (by omega) (by omega) trivial rfl ?_
    · unfold cK; rw [if_neg (by omega), if_neg (by omega), if_neg (by omega), if_pos (by omega)]
    · show cN k 0
      unfold cN; rw [if_neg (by omega), if_neg (by omega), if_neg (by omega)]; trivial
    · rw [if_neg (by omega)]; show 0 + 5 ≤ B + 10; omega
  unfold sQ
  rw [if_neg (by decide : ¬ (10 : Nat) = 0), if_neg (by decide : ¬ (10 : Nat) = 1), if_neg (by decide : ¬ (10 : Nat) = 2), if_neg (by decide : ¬ (10 : Nat) = 3), if_neg (by decide : ¬ (10 : Nat) = 4), if_neg (by decide : ¬ (10 : Nat) = 5), if_neg (by decide : ¬ (10 : Nat) = 6), if_neg (by decide : ¬ (10 : Nat) = 7), if_neg (by decide : ¬ (10 : Nat) = 8)]
  by_cases z1 : qb (pk t e i)
  · rw [if_pos z1]
    refine QG.bnd (h0 _) fun S j a b c => QG.n rfl rfl (by decide) (by decide) (ok_q a) rfl ?_
    rw [hQ_q, if_neg (by decide)]; omega
  rw [if_neg z1]
  by_cases z2 : pk t e i = 39 ∨ pk t e i = 34
  · rw [if_pos z2]
    split
    · exact QG.e
    · exact lf _ _ _ _ (by omega)
  rw [if_neg z2]
  by_cases z3 : pk t e i = 116
  · rw [if_pos z3]; exact QG.wo fun j => lf _ _ _ _ (by omega)
  rw [if_neg z3]
  by_cases z4 : pk t e i = 102
  · rw [if_pos z4]; exact QG.wo fun j => lf _ _ _ _ (by omega)
  rw [if_neg z4]
  by_cases z5 : pk t e i = 110
  · rw [if_pos z5]; exact QG.wo fun j => lf _ _ _ _ (by omega)
  rw [if_neg z5]
  by_cases z6 : pk t e i = 108
  · rw [if_pos z6]
    refine QG.wo fun j => ?_
    by_cases hh : pk t e j = 40 ∧ op < 16
    · rw [if_pos hh]
      refine QG.bnd (h10 hh.2 _) fun X k a b c => ?_
      split
      · exact QG.n rfl b (by decide) (by decide) a rfl (by rw [if_pos (by decide)]; omega)
      · exact QG.e
    · rw [if_neg hh]; exact QG.e
  rw [if_neg z6]
  by_cases z7 : pk t e i = 99 ∨ pk t e i = 118
  · rw [if_pos z7]
    refine QG.wo fun j => ?_
    by_cases hh : pk t e j = 40 ∧ op < 16
    · rw [if_pos hh]
      by_cases z8 : qb (pk t e (sB t e (j + 1)))
      · rw [if_pos z8]
        refine QG.bnd (h0' hh.2 _) fun S k a b c => ?_
        by_cases z9 : pk t e (sB t e k) = 41
        · rw [if_pos z9]
          by_cases y : pk t e i = 99
          · rw [if_pos y]
            refine QG.n rfl rfl (by decide) (by decide) (ok_q a) rfl ?_
            rw [hQ_q, if_neg (by decide)]; omega
          · rw [if_neg y]
            refine QG.n rfl rfl (by decide) (by decide) (ok_q a) rfl ?_
            rw [hQ_q, if_neg (by decide)]; omega
        · rw [if_neg z9]; exact QG.e
      · rw [if_neg z8]; exact QG.e
    · rw [if_neg hh]; exact QG.e
  rw [if_neg z7]
  split
  · exact QG.e
  · rename_i v j hE
    exact QG.ret ⟨rfl, trivial, fun _ => ⟨(sIn_rng hE).2.2.1, (sIn_rng hE).2.2.2, fun q => absurd (show (40 : Nat) = 33 from q) (by decide), fun q => absurd (show (40 : Nat) = 20 ∨ (40 : Nat) = 21 from q) (by decide)⟩, fun q => absurd (show (40 : Nat) = 4 from q) (by decide), trivial, trivial⟩ rfl (by show max (0 + 5) 0 ≤ B + 10; omega)
/-- a slice's numbers -/
theorem ok_sl {B : Nat} (hB : 5 ≤ B) {us : List Int} {j : Int} (h : ∀ u ∈ us, -9007199254740992 < u ∧ u < 9007199254740992) : QG 1 (· = 1) B (qN 4 0 us foN j) := QG.ret ⟨rfl, trivial, fun q => absurd (show (4 : Nat) = 3 ∨ (4 : Nat) = 33 ∨ (4 : Nat) = 40 ∨ (4 : Nat) = 20 ∨ (4 : Nat) = 21 from q) (by decide), fun _ => h, trivial, trivial⟩ rfl (by show max (0 + 5) 0 ≤ B; omega)
theorem ok_st {B : Nat} (hB : 5 ≤ B) {hs s he v j : Int} (h : ∀ u ∈ [hs, s, he, v], -9007199254740992 < u ∧ u < 9007199254740992) : QG 1 (· = 1) B (sSt t e hs s he v j) := by
  have h5 : ∀ w : Int, (-9007199254740992 < w ∧ w < 9007199254740992) → ∀ u ∈ [hs, s, he, v, w], -9007199254740992 < u ∧ u < 9007199254740992 := fun w hw u hu => by
    have : u ∈ [hs, s, he, v] ∨ u = w := by simp at hu ⊢; omega
    rcases this with z | z
    · exact h u z
    · rw [z]; exact hw
  unfold sSt
  split
  · split
    · split
      · exact QG.e
      · rename_i w k hE
        exact ok_sl hB (h5 _ (sIn_rng hE).2.2)
    · exact ok_sl hB (h5 _ (by decide))
  · exact ok_sl hB (h5 _ (by decide))
theorem ok_ss {B : Nat} (hB : 5 ≤ B) {hs s j : Int} (h : ∀ u ∈ [hs, s], -9007199254740992 < u ∧ u < 9007199254740992) : QG 1 (· = 1) B (sSl t e hs s j) := by
  have h4 : ∀ a b : Int, (-9007199254740992 < a ∧ a < 9007199254740992) → (-9007199254740992 < b ∧ b < 9007199254740992) → ∀ u ∈ [hs, s, a, b], -9007199254740992 < u ∧ u < 9007199254740992 := fun a b ha hb u hu => by
    have : u ∈ [hs, s] ∨ u = a ∨ u = b := by simp at hu ⊢; omega
    rcases this with z | z | z
    · exact h u z
    · rw [z]; exact ha
    · rw [z]; exact hb
  unfold sSl
  split
  · split
    · exact QG.e
    · rename_i v k hE
      exact ok_st hB (h4 _ _ (by decide) (sIn_rng hE).2.2)
  · exact ok_st hB (h4 _ _ (by decide) (by decide))
theorem ok_4 {B : Nat} (h5 : ∀ i, QG 3 (1 ≤ ·) B (sQ t e n 5 op false i)) : QG 1 (· = 1) (B + 10) (sQ t e (n + 1) 4 op sg i) := by
  have lf : ∀ (k : Nat) (v j : Int) (us : List Int), (k = 1 ∨ k = 2) → QG 1 (· = 1) (B + 10) (qN k v us foN j) := fun k v j us hk => by
    refine QG.n ?_ ?_ (by omega) (by omega) trivial rfl ?_
    · unfold cK; rw [if_pos (by omega)]
    · show cN k 0
      unfold cN; rw [if_neg (by omega), if_neg (by omega), if_neg (by omega)]; trivial
    · rw [if_neg (by omega)]; show 0 + 5 ≤ B + 10; omega
  have two : ∀ a b : Int, (-9007199254740992 < a ∧ a < 9007199254740992) → (-9007199254740992 < b ∧ b < 9007199254740992) → ∀ u ∈ [a, b], -9007199254740992 < u ∧ u < 9007199254740992 := fun a b ha hb u hu => by
    have : u = a ∨ u = b := by simpa using hu
    rcases this with z | z
    · rw [z]; exact ha
    · rw [z]; exact hb
  unfold sQ
  rw [if_neg (by decide : ¬ (4 : Nat) = 0), if_neg (by decide : ¬ (4 : Nat) = 1), if_neg (by decide : ¬ (4 : Nat) = 2), if_neg (by decide : ¬ (4 : Nat) = 3), if_pos (rfl : (4 : Nat) = 4)]
  split
  · split
    · exact QG.e
    · exact lf _ _ _ _ (Or.inl rfl)
  · split
    · exact lf _ _ _ _ (Or.inr rfl)
    · split
      · refine QG.bnd (h5 _) fun L j a b c => QG.n rfl rfl (by decide) (by decide) (okF_1 rfl b (by decide) (by decide) a) rfl ?_
        rw [hQ_1, if_neg (by decide), if_neg (by decide)]; omega
      · split
        · split
          · exact QG.e
          · rename_i v j hE
            split
            · exact ok_ss (by omega) (two _ _ (by decide) (sIn_rng hE).2.2)
            · exact QG.ret ⟨rfl, trivial, fun _ => ⟨(sIn_rng hE).2.2.1, (sIn_rng hE).2.2.2, fun q => absurd (show (3 : Nat) = 33 from q) (by decide), fun q => absurd (show (3 : Nat) = 20 ∨ (3 : Nat) = 21 from q) (by decide)⟩, fun q => absurd (show (3 : Nat) = 4 from q) (by decide), trivial, trivial⟩ rfl (by show max (0 + 5) 0 ≤ B + 10; omega)
        · split
          · exact ok_ss (by omega) (two _ _ (by decide) (by decide))
          · exact QG.e
end
