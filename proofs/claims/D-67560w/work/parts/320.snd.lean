/-! the pure machine is sound -/
set_option maxRecDepth 100000
set_option maxHeartbeats 4000000
theorem cat_two {v : PV} (h : cat v = 2) : ∃ x, v = pL x := by
  rcases v with x | x | x | x
  · simp [cat] at h
  · exact ⟨x, rfl⟩
  · simp [cat] at h
  · simp [cat] at h
theorem arL_sl {sz : Nat} {pre : Int → Nat} {as : List PV} {aC : List Value} (h : sR sz pre as aC) : (arL as).length = (lg_sl aC).length ∧ ∀ (i : Nat) (v : PV), (arL as)[i]? = some v → v ≠ pU → ∃ w, (lg_sl aC)[i]? = some (.val w) ∧ vR sz pre v w := by
  induction as generalizing aC with
  | nil => rw [sR_nil h]; exact ⟨rfl, fun i v hi => by simp [arL] at hi⟩
  | cons u r ih =>
    obtain ⟨w, q, rfl, h1, h2⟩ := sR_cons h
    obtain ⟨i1, i2⟩ := ih h2
    have hc := vR_cat h1
    by_cases e : cat u = 2
    · obtain ⟨x, rfl⟩ := cat_two e
      have el : lg_sl (w :: q) = .val w :: .second :: lg_sl q := by
        unfold lg_sl; simp [hc, e]
      have ea : arL (pL x :: r) = pL x :: pU :: arL r := rfl
      rw [el, ea]
      refine ⟨by simp [i1], fun i v hi hv => ?_⟩
      match i, hi with
      | 0, hi => cases hi; exact ⟨w, rfl, h1⟩
      | 1, hi => cases hi; exact absurd rfl hv
      | i + 2, hi => exact i2 i v hi hv
    · have el : lg_sl (w :: q) = .val w :: lg_sl q := by
        unfold lg_sl; simp [hc, e]
      have ea : arL (u :: r) = u :: arL r := by
        rcases u with x | x | x | x
        · rfl
        · simp [cat] at e
        · rfl
        · rfl
      rw [el, ea]
      refine ⟨by simp [i1], fun i v hi hv => ?_⟩
      match i, hi with
      | 0, hi => cases hi; exact ⟨w, rfl, h1⟩
      | i + 1, hi => exact i2 i v hi hv
theorem entry_lR {sz : Nat} {pre : Int → Nat} {as : List PV} {aC : List Value} {n : Nat} (h : sR sz pre as aC) (hn : (arL as).length ≤ n) : lR sz pre (ini n as) ((lg_sl aC ++ List.replicate (n - (lg_sl aC).length) Slot.unset).toArray) ∧ (ini n as).length = n := by
  obtain ⟨e1, e2⟩ := arL_sl h
  obtain ⟨q1, q2, -⟩ := lv_entry aC (n := n) (by omega)
  have hl : (ini n as).length = n := by unfold ini; simp; omega
  refine ⟨⟨q1.trans hl.symm, q2, fun i v hi hv => ?_⟩, hl⟩
  unfold ini at hi
  by_cases hlt : i < (arL as).length
  · rw [List.getElem?_append_left hlt] at hi
    obtain ⟨w, h1, h2⟩ := e2 i v hi hv
    refine ⟨w, ?_, h2⟩
    rw [List.getElem?_toArray, List.getElem?_append_left (by omega)]
    exact h1
  · rw [List.getElem?_append_right (by omega), List.getElem?_replicate] at hi
    split at hi
    · cases hi; exact absurd rfl hv
    · cases hi
theorem nG_thr {a : Nat} {b c : List PV} {d : Mem} {x : Int × Mem} (h : nG a b c d = some (.inr (.inr (.inr x)))) : False := by unfold nG at h; cases h
theorem nJ_thr {a : Nat} {o : Int} {b c : List PV} {d : Mem} {x : Int × Mem} (h : nJ a o b c d = some (.inr (.inr (.inr x)))) : False := by
  unfold nJ at h; split at h
  · exact nG_thr h
  · cases h
theorem nR_thr {v : Option PV} {x : Int × Mem} (h : nR v = some (.inr (.inr (.inr x)))) : False := by unfold nR at h; cases h
theorem nC_thr {k : Nat} {as rest : List PV} {len : Nat} {x : Int × Mem} (h : nCall k as rest len = some (.inr (.inr (.inr x)))) : False := by
  unfold nCall nC at h; split at h <;> cases h
/-- only 'new' throws -/
theorem stp_thr {c k rk ik pc len : Nat} {i : Instr} {ls st : List PV} {m m1 : Mem} {x : Int} (h : stp c k rk ik i pc len ls st m = some (.inr (.inr (.inr (x, m1))))) : ∃ n e f, i = .new n ∧ lkN (rNt c) n = some (1, e, f) ∧ (pc, e) ∈ rXt k ∧ catS st ≤ 8 ∧ x = (e : Int) ∧ m1 = mal m e f := by
  cases i
  case new n =>
    dsimp only [stp] at h
    split at h
    · exact (nG_thr h).elim
    · rename_i e f hq
      split at h
      · rename_i h0
        unfold nT at h
        cases h
        exact ⟨n, e, f, rfl, hq, h0.1, h0.2, rfl, rfl⟩
      · cases h
    · cases h
  all_goals (dsimp only [stp] at h; (repeat' split at h) <;> first | exact (nG_thr h).elim | exact (nJ_thr h).elim | exact (nR_thr h).elim | exact (nC_thr h).elim | cases h)
theorem stp_thr_mono {c k rk ik pc len : Nat} {i : Instr} {ls st : List PV} {m m1 : Mem} {x : Int} (h : stp c k rk ik i pc len ls st m = some (.inr (.inr (.inr (x, m1))))) : nx m ≤ nx m1 ∧ sl m ≤ sl m1 := by
  obtain ⟨n, e, f, -, -, -, -, -, rfl⟩ := stp_thr h
  rw [nx_mal, sl_mal]
  exact ⟨by omega, by omega⟩
theorem exec_mono : ∀ (n d k pc : Nat) (ls st : List PV) (m : Mem) (r : Rs) (m1 : Mem), exec n d k pc ls st m = some (r, m1) → nx m ≤ nx m1 ∧ sl m ≤ sl m1 := by
  intro n
  induction n with
  | zero => intro d k pc ls st m r m1 h; cases h
  | succ n ih =>
    intro d k pc ls st m r m1 h
    unfold exec at h
    split at h
    · cases h
    · split at h
      · split at h
        · cases h
        · split at h
          · cases h
          · rename_i hst
            obtain ⟨-, a1, a2⟩ := stp_keep hst
            obtain ⟨b1, b2⟩ := ih _ _ _ _ _ _ _ _ h
            exact ⟨by omega, by omega⟩
          · split at h
            · cases h
            · split at h
              · cases h
              · split at h
                · cases h
                · split at h
                  · cases h
                  · rename_i hcall
                    obtain ⟨a1, a2⟩ := ih _ _ _ _ _ _ _ _ hcall
                    obtain ⟨b1, b2⟩ := ih _ _ _ _ _ _ _ _ h
                    exact ⟨by omega, by omega⟩
                  · rename_i hcall
                    obtain ⟨a1, a2⟩ := ih _ _ _ _ _ _ _ _ hcall
                    split at h
                    · cases h
                    · split at h
                      · obtain ⟨b1, b2⟩ := ih _ _ _ _ _ _ _ _ h
                        exact ⟨by omega, by omega⟩
                      · cases h; exact ⟨a1, a2⟩
                      · cases h
          · cases h; exact ⟨Int.le_refl _, Int.le_refl _⟩
          · rename_i hst
            split at h
            · cases h
            · split at h
              · cases h
                exact stp_thr_mono hst
              · cases h
      · cases h
