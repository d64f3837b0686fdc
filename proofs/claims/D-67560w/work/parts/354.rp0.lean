/-! the first memory stands for the law's first heap -/
set_option maxRecDepth 100000
set_option maxHeartbeats 4000000
theorem rp_start {s : State} {dC : Nat → ClassId} {dI : Nat → Nat → Nat} {b L : Nat} {xs : Nat → Int32} {ad : Nat → Nat × Nat} (hL : L ≤ 384) (hX : va_X b L xs s s.heap) (hK : u_Kn s (cNm 31) (TT 31) (fTy 31).length (dC 31) (dI 31)) (hS : ∀ i, i < 45 → SOne s (ad i) (sTx.getD i [])) : RP s (pre0 b ad) dC dI (m00 L xs) s.heap := by
  refine ⟨by show (92 : Int) ≤ 92; omega, by show s.heap.size = s.heap.size + ((92 : Int) - 92).toNat; simp, fun q _ => rfl, fun a ha => ?_, fun a h0 h1 => ?_⟩
  · replace ha : (if a = 1 then (101 : Int) else if 2 ≤ a ∧ a < 92 then (if a % 2 = 0 then 31 else 103) else 0) ≠ 0 := ha
    show 0 < a ∧ a < 92 ∧ (92 ≤ a ∨ (if a = 1 then (101 : Int) else if 2 ≤ a ∧ a < 92 then (if a % 2 = 0 then 31 else 103) else 0) = 31 ∨ (if a = 1 then (101 : Int) else if 2 ≤ a ∧ a < 92 then (if a % 2 = 0 then 31 else 103) else 0) = 101 ∨ (if a = 1 then (101 : Int) else if 2 ≤ a ∧ a < 92 then (if a % 2 = 0 then 31 else 103) else 0) = 103)
    split at ha
    · omega
    · split at ha
      · rename_i h1 h2
        rw [if_neg h1, if_pos h2]
        refine ⟨by omega, by omega, Or.inr ?_⟩
        split <;> simp
      · exact absurd rfl ha
  · replace h1 : a < 92 := h1
    have had : adr s.heap.size (pre0 b ad) a = pre0 b ad a := adr_lt h1
    by_cases e1 : a = 1
    · subst e1
      refine ⟨fun g1 g2 => absurd g2 (by show ¬ ((101 : Int) < 100); omega), fun _ _ => ?_⟩
      obtain ⟨scr, q1, q2, q3, q4, q5⟩ := hX
      show 0 ≤ (L : Int) ∧ (L : Int) < 2147483648 ∧ _
      refine ⟨by omega, by omega, fun k k1 k2 => ?_, scr, by rw [had]; exact q1, q2, q3, q2.1, ⟨⟨by show (L : Int).toNat ≤ _; omega, by rw [q4]; rfl⟩, fun h => absurd h (by decide)⟩, fun j hj => ?_, fun h => absurd h (by decide)⟩
      · show pin (if 0 ≤ k ∧ k < L then (xs k.toNat).toInt else 0) _ _
        split
        · exact i32_pin _
        · unfold pin; omega
      · replace hj : (j : Int) < (L : Int) := hj
        rw [q5 j (by omega)]
        show _ = some (Value.int (Int32.ofInt (if 0 ≤ (j : Int) ∧ (j : Int) < L then (xs ((j : Int)).toNat).toInt else 0)))
        rw [if_pos (by omega)]
        simp
    · by_cases e2 : a % 2 = 0
      · have hi : (a.toNat - 2) / 2 < 45 := by omega
        obtain ⟨⟨cell, c1, c2, c3, -⟩, d1, d2, -⟩ := hS _ hi
        have ht : tg (m00 L xs) a = 31 := by show (if a = 1 then (101 : Int) else if 2 ≤ a ∧ a < 92 then (if a % 2 = 0 then 31 else 103) else 0) = 31; rw [if_neg e1, if_pos (by omega), if_pos e2]
        have hp : pre0 b ad a = (ad ((a.toNat - 2) / 2)).1 := by unfold pre0; rw [if_neg e1, if_pos e2]
        have hp2 : pre0 b ad (a + 1) = (ad ((a.toNat - 2) / 2)).2 := by unfold pre0; rw [if_neg (by omega), if_neg (by omega), show ((a + 1).toNat - 3) / 2 = (a.toNat - 2) / 2 by omega]
        rw [ht]
        have hv0 : vl (m00 L xs) a 0 = a + 1 := by show (if a = 1 then _ else if 2 ≤ a ∧ a < 92 then (if a % 2 = 0 then (if (0 : Int) = 0 then a + 1 else 0) else _) else (0 : Int)) = a + 1; rw [if_neg e1, if_pos (by omega), if_pos e2, if_pos rfl]
        have hv1 : vl (m00 L xs) a 1 = 0 := by show (if a = 1 then _ else if 2 ≤ a ∧ a < 92 then (if a % 2 = 0 then (if (1 : Int) = 0 then a + 1 else 0) else _) else (0 : Int)) = 0; rw [if_neg e1, if_pos (by omega), if_pos e2, if_neg (by omega)]
        refine ⟨fun _ _ => ⟨⟨cell, by rw [had, hp]; exact c1, ?_, ⟨⟨(of_va_OF d2 c1 (hK.1 0 (by decide))).2, c2⟩, fun h => absurd h (by omega)⟩, fun k hk => ?_⟩, fun k hk => ?_⟩, fun g1 g2 => absurd g1 (by decide)⟩
        · exact (Option.some.inj (hK.2.1.symm.trans c3)).symm
        · have hk2 : k = 0 ∨ k = 1 := by
            have : k < 2 := hk
            omega
          rcases hk2 with rfl | rfl
          · refine ((of_va_OF d2 c1 (hK.1 0 (by decide))).1).trans ?_
            show _ = some (rfv s.heap.size (pre0 b ad) (vl (m00 L xs) a 0))
            rw [hv0, rfv_ref (by omega), adr_lt (by omega), hp2]
          · refine ((of_va_OF d1 c1 (hK.1 1 (by decide))).1).trans ?_
            show _ = some (Value.int (Int32.ofInt (vl (m00 L xs) a 1)))
            rw [hv1]; rfl
        · have hk2 : k = 0 ∨ k = 1 := by
            have : k < 2 := hk
            omega
          rcases hk2 with rfl | rfl
          · exact trivial
          · rw [show ((1 : Nat) : Int) = 1 from rfl, hv1]
            exact (⟨by decide, by decide⟩ : pin 0 (-2147483648) 2147483648)
      · have hi : (a.toNat - 3) / 2 < 45 := by omega
        obtain ⟨-, -, -, cell, c1, c2, c3, c4, c5, c6, -⟩ := hS _ hi
        have ht : tg (m00 L xs) a = 103 := by show (if a = 1 then (101 : Int) else if 2 ≤ a ∧ a < 92 then (if a % 2 = 0 then 31 else 103) else 0) = 103; rw [if_neg e1, if_pos (by omega), if_neg e2]
        have hn : ln (m00 L xs) a = ((sTx.getD ((a.toNat - 3) / 2) []).length : Int) := by show (if a = 1 then (L : Int) else if 2 ≤ a ∧ a < 92 ∧ a % 2 = 1 then ((sTx.getD ((a.toNat - 3) / 2) []).length : Int) else 0) = _; rw [if_neg e1, if_pos (by omega)]
        have hp : pre0 b ad a = (ad ((a.toNat - 3) / 2)).2 := by unfold pre0; rw [if_neg e1, if_neg e2]
        have hv : ∀ k, vl (m00 L xs) a k = (sTx.getD ((a.toNat - 3) / 2) []).getD k.toNat 0 := fun k => by show (if a = 1 then _ else if 2 ≤ a ∧ a < 92 then (if a % 2 = 0 then (if k = 0 then a + 1 else 0) else (sTx.getD ((a.toNat - 3) / 2) []).getD k.toNat 0) else (0 : Int)) = _; rw [if_neg e1, if_pos (by omega), if_neg e2]
        have hl := st_len _ hi
        have hr := st_rng _ hi
        rw [ht, hn]
        refine ⟨fun g1 g2 => absurd g2 (by decide), fun _ _ => ⟨by omega, by omega, fun k k1 k2 => ?_, cell, by rw [had, hp]; exact c1, c2, c3, c2.1, ⟨⟨by rw [Int.toNat_natCast]; exact c4, by rw [Int.toNat_natCast]; exact c5⟩, fun h => absurd h (by omega)⟩, fun j hj => ?_, fun h => absurd h (by omega)⟩⟩
        · rw [hv]
          have hk : k.toNat < (sTx.getD ((a.toNat - 3) / 2) []).length := by omega
          have hm := hr _ (List.getElem_mem hk)
          rw [List.getD_eq_getElem?_getD (l := sTx.getD ((a.toNat - 3) / 2) []), List.getElem?_eq_getElem hk]
          show pin _ (-128) 128
          refine ⟨?_, ?_⟩
          · have := hm.1; simp only [Option.getD_some]; omega
          · have := hm.2; simp only [Option.getD_some]; omega
        · rw [c6 j (by omega)]
          show _ = some (Value.int (Int32.ofInt (vl (m00 L xs) a j)))
          rw [hv, Int.toNat_natCast]
