/-! the twin's texts: characters by escapes -/
set_option maxRecDepth 100000
set_option maxHeartbeats 4000000
theorem f4_fi (t : Int → Int) (e fi fj : Int) (hi : fi < e) (hj : fj < e) : ∀ (k : Nat) (i u : Int), i ≤ e → (∀ v, f4 t e fi k i u = .inr v → f4 t e fj k i u = .inr v) ∧ (∀ p, f4 t e fi k i u = .inl p → f4 t e fj k i u = .inl (if p < e then fj else p)) := by
  intro k
  induction k with
  | zero => intro i u _; exact ⟨fun v h => h, fun p h => (by cases h)⟩
  | succ k ih =>
    intro i u hie
    unfold f4
    by_cases h1 : i < e
    · rw [if_pos h1, if_pos h1]
      by_cases h2 : hexV (pk t e i) < 0
      · rw [if_pos h2, if_pos h2]
        refine ⟨fun v h => (by cases h), fun p h => ?_⟩
        cases h
        rw [if_pos hi]
      · rw [if_neg h2, if_neg h2]; exact ih _ _ (by omega)
    · rw [if_neg h1, if_neg h1]
      refine ⟨fun v h => (by cases h), fun p h => ?_⟩
      cases h
      rw [if_neg (by omega)]
/-- a character behind a backslash -/
def eC (t : Int → Int) (e q i : Int) : Int ⊕ (List Int × Int) := match eU t e q i with
  | .inl p => .inl p
  | .inr (u, j) => if 56320 ≤ u ∧ u < 57344 then .inl i else if u < 55296 ∨ 56319 < u then .inr ([u], j) else
    if ¬ j < e then .inl j else if pk t e j ≠ 92 then .inl i else if ¬ j + 1 < e then .inl (j + 1) else if pk t e (j + 1) ≠ 117 then .inl i else match eU t e q j with
      | .inl p => .inl (if p < e then i else p)
      | .inr (v, k) => if v < 56320 ∨ 57343 < v then .inl i else .inr ([u, v], k)
theorem eU_u {t : Int → Int} {e q i : Int} (h1 : i + 1 < e) (h : pk t e (i + 1) = 117) : eU t e q i = match f4 t e i 4 (i + 2) 0 with
    | .inl p => .inl p
    | .inr u => .inr (u, i + 6) := by
  unfold eU
  rw [if_neg (by omega), if_neg (by omega), if_neg (by omega), if_neg (by omega), if_neg (by omega), if_neg (by omega), if_neg (by omega), if_pos h]
  cases f4 t e i 4 (i + 2) 0 <;> rfl
theorem f4_end (t : Int → Int) (e fi : Int) : ∀ (k : Nat) (i u v : Int), i ≤ e → f4 t e fi k i u = .inr v → i + k ≤ e := by
  intro k
  induction k with
  | zero => intro i u v h _; omega
  | succ k ih =>
    intro i u v hie h
    unfold f4 at h
    by_cases h1 : i < e
    · rw [if_pos h1] at h
      by_cases h2 : hexV (pk t e i) < 0
      · rw [if_pos h2] at h; cases h
      · rw [if_neg h2] at h
        have := ih (i + 1) _ v (by omega) h
        omega
    · rw [if_neg h1] at h; cases h
theorem sC_eC {t : Int → Int} {e q i : Int} (hi : i < e) (h : pk t e i = 92) (hq : q = 34 ∨ q = 39) : sC t e q i = eC t e q i := by
  unfold sC
  rw [if_neg (by omega), if_neg (by omega)]
  by_cases g1 : i + 1 < e
  · rw [if_neg (by omega)]
    have hp0 : 0 ≤ pk t e (i + 1) := by unfold pk; rw [if_pos g1]; omega
    have hr := pkf_rng t e (i + 1)
    have small : ∀ u j, u < 55296 → eU t e q i = .inr (u, j) → eC t e q i = .inr ([u], j) := by
      intro u j hu he
      unfold eC
      rw [he]
      show (if 56320 ≤ u ∧ u < 57344 then _ else _) = _
      rw [if_neg (by omega), if_pos (by omega)]
    by_cases c7 : pk t e (i + 1) = 117
    · rw [if_neg (by omega), if_neg (by omega), if_neg (by omega), if_neg (by omega), if_neg (by omega), if_neg (by omega), if_pos c7]
      unfold sU eC
      rw [eU_u g1 c7]
      cases hf : f4 t e i 4 (i + 2) 0 with
      | inl p => rfl
      | inr u =>
        have hend := f4_end t e i 4 (i + 2) 0 u (by omega) hf
        show (if 56320 ≤ u ∧ u < 57344 then _ else if u < 55296 ∨ 56319 < u then _ else _) = (if 56320 ≤ u ∧ u < 57344 then _ else if u < 55296 ∨ 56319 < u then _ else _)
        by_cases d1 : 56320 ≤ u ∧ u < 57344
        · rw [if_pos d1, if_pos d1]
        rw [if_neg d1, if_neg d1]
        by_cases d2 : u < 55296 ∨ 56319 < u
        · rw [if_pos d2, if_pos d2, show i + 2 + 4 = i + 6 by omega]
        rw [if_neg d2, if_neg d2, show i + 2 + 4 = i + 6 by omega, show i + 2 + 5 = i + 6 + 1 by omega]
        by_cases d3 : i + 6 < e
        · rw [if_neg (show ¬ ¬ i + 6 < e by omega), if_neg (show ¬ ¬ i + 6 < e by omega)]
          by_cases d4 : pk t e (i + 6) ≠ 92
          · rw [if_pos d4, if_pos d4]
          rw [if_neg d4, if_neg d4]
          by_cases d5 : i + 6 + 1 < e
          · rw [if_neg (show ¬ ¬ i + 6 + 1 < e by omega), if_neg (show ¬ ¬ i + 6 + 1 < e by omega)]
            by_cases d6 : pk t e (i + 6 + 1) ≠ 117
            · rw [if_pos d6, if_pos d6]
            rw [if_neg d6, if_neg d6, eU_u d5 (by omega)]
            obtain ⟨k1, k2⟩ := f4_fi t e (i + 6) i (by omega) hi 4 (i + 6 + 2) 0 (by omega)
            cases hf2 : f4 t e (i + 6) 4 (i + 6 + 2) 0 with
            | inl p2 =>
              have := k2 p2 hf2
              rw [show i + 2 + 6 = i + 6 + 2 by omega, this]
            | inr v2 =>
              have := k1 v2 hf2
              rw [show i + 2 + 6 = i + 6 + 2 by omega, this, show i + 2 + 10 = i + 6 + 6 by omega]
          · rw [if_pos d5, if_pos d5]
        · rw [if_pos d3, if_pos d3]
    · by_cases c1 : pk t e (i + 1) = 47 ∨ pk t e (i + 1) = 92
      · rw [if_pos c1]; exact (small _ _ (by omega) (by unfold eU; rw [if_neg (by omega), if_pos c1])).symm
      rw [if_neg c1]
      by_cases c2 : pk t e (i + 1) = 98
      · rw [if_pos c2]; exact (small _ _ (by omega) (by unfold eU; rw [if_neg (by omega), if_neg c1, if_pos c2])).symm
      rw [if_neg c2]
      by_cases c3 : pk t e (i + 1) = 102
      · rw [if_pos c3]; exact (small _ _ (by omega) (by unfold eU; rw [if_neg (by omega), if_neg c1, if_neg c2, if_pos c3])).symm
      rw [if_neg c3]
      by_cases c4 : pk t e (i + 1) = 110
      · rw [if_pos c4]; exact (small _ _ (by omega) (by unfold eU; rw [if_neg (by omega), if_neg c1, if_neg c2, if_neg c3, if_pos c4])).symm
      rw [if_neg c4]
      by_cases c5 : pk t e (i + 1) = 114
      · rw [if_pos c5]; exact (small _ _ (by omega) (by unfold eU; rw [if_neg (by omega), if_neg c1, if_neg c2, if_neg c3, if_neg c4, if_pos c5])).symm
      rw [if_neg c5]
      by_cases c6 : pk t e (i + 1) = 116
      · rw [if_pos c6]; exact (small _ _ (by omega) (by unfold eU; rw [if_neg (by omega), if_neg c1, if_neg c2, if_neg c3, if_neg c4, if_neg c5, if_pos c6])).symm
      rw [if_neg c6, if_neg c7]
      by_cases c8 : pk t e (i + 1) = q
      · rw [if_pos c8]; exact (small _ _ (by omega) (by unfold eU; rw [if_neg (by omega), if_neg c1, if_neg c2, if_neg c3, if_neg c4, if_neg c5, if_neg c6, if_neg c7, if_pos c8])).symm
      · rw [if_neg c8]
        unfold eC eU
        rw [if_neg (by omega), if_neg c1, if_neg c2, if_neg c3, if_neg c4, if_neg c5, if_neg c6, if_neg c7, if_neg c8]
  · rw [if_pos g1]
    unfold eC eU
    rw [if_pos g1]
