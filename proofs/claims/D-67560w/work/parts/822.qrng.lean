/-! queries as they are written: places, and enough fuel -/
set_option maxRecDepth 100000
set_option maxHeartbeats 4000000
theorem bnd_inr {x : QR} {f : Fo → Int → QR} {F : Fo} {j : Int} (h : bnd x f = some (.inr (F, j))) : ∃ G k, x = some (.inr (G, k)) ∧ f G k = some (.inr (F, j)) := by
  unfold bnd at h
  split at h
  · cases h
  · cases h
  · exact ⟨_, _, rfl, h⟩
theorem bnd_some {x : QR} {f : Fo → Int → QR} (h : x ≠ none) (hf : ∀ G k, x = some (.inr (G, k)) → f G k ≠ none) : bnd x f ≠ none := by
  unfold bnd
  split
  · rename_i h'; exact absurd rfl h
  · simp
  · exact hf _ _ rfl
theorem qN_inr {k : Nat} {v j j' : Int} {us : List Int} {l F : Fo} (h : qN k v us l j = some (.inr (F, j'))) : j' = j ∧ F = foC (k, v, us, []) l foN := by
  cases h; exact ⟨rfl, rfl⟩
section
variable {t : Int → Int} {e : Int}
theorem sIn_rng {i v j : Int} (h : sIn t e i = .inr (v, j)) : i < j ∧ j ≤ e ∧ -9007199254740992 < v ∧ v < 9007199254740992 := by
  unfold sIn at h
  split at h
  · cases h
  · rename_i h1
    split at h
    · cases h
    · cases h
      have hd : dg (pk t e (nI0 t e i)) := Classical.byContradiction fun q => h1 (Or.inl q)
      obtain ⟨a1, a2, a3, a4, -⟩ := nDV_rng hd
      have : i ≤ nI0 t e i := by unfold nI0; split <;> omega
      refine ⟨by omega, a4, ?_⟩
      split <;> omega
theorem sNa_rng : ∀ (n : Nat) (i : Int), (e - i).toNat = n → i ≤ e → i ≤ (sNa t e i).2 ∧ (sNa t e i).2 ≤ e ∧ ((sNa t e i).1.length : Int) = (sNa t e i).2 - i ∧ ((ltr (pk t e i) ∨ dg (pk t e i)) → i < (sNa t e i).2) ∧ ∀ u, u ∈ (sNa t e i).1 → 48 ≤ u ∧ u ≤ 122 := by
  intro n
  induction n with
  | zero =>
    intro i hn hi
    rw [sNa_eq]
    have hp : ¬ (ltr (pk t e i) ∨ dg (pk t e i)) := fun q => by
      have : i < e := pkf_lt (t := t) (by omega)
      omega
    rw [if_neg hp]
    exact ⟨Int.le_refl _, hi, by simp, fun q => absurd q hp, fun u hu => absurd hu (by simp)⟩
  | succ n ih =>
    intro i hn hi
    rw [sNa_eq]
    by_cases hp : ltr (pk t e i) ∨ dg (pk t e i)
    · rw [if_pos hp]
      obtain ⟨a1, a2, a3, a4, a5⟩ := ih (i + 1) (by omega) (by omega)
      refine ⟨by dsimp only; omega, a2, by simp only [List.length_cons]; push_cast; omega, fun _ => by dsimp only; omega, fun u hu => ?_⟩
      rcases List.mem_cons.mp hu with q | q
      · omega
      · exact a5 u q
    · rw [if_neg hp]
      exact ⟨Int.le_refl _, hi, by simp, fun q => absurd q hp, fun u hu => absurd hu (by simp)⟩
theorem sOp_rng {i o k : Int} (hi : i ≤ e) (h : sOp t e i = .inr (o, k)) : i < k ∧ k ≤ e ∧ 0 ≤ o ∧ o ≤ 5 := by
  unfold sOp at h
  have l1 : ∀ x : Int, pk t e (i + 1) = x → 0 ≤ x → i + 1 < e := fun x hx h0 => pkf_lt (t := t) (by omega)
  have l0 : ∀ x : Int, pk t e i = x → 0 ≤ x → i < e := fun x hx h0 => pkf_lt (t := t) (by omega)
  split at h
  · split at h
    · rename_i q; have := l1 _ q (by decide); cases h; omega
    · cases h
  · split at h
    · split at h
      · rename_i q; have := l1 _ q (by decide); cases h; omega
      · cases h
    · split at h
      · rename_i q0
        have := l0 _ q0 (by decide)
        split at h
        · rename_i q; have := l1 _ q (by decide); cases h; omega
        · cases h; omega
      · split at h
        · rename_i q0
          have := l0 _ q0 (by decide)
          split at h
          · rename_i q; have := l1 _ q (by decide); cases h; omega
          · cases h; omega
        · cases h
theorem sSt_rng {hs s he v j k : Int} {F : Fo} (hj : j ≤ e) (h : sSt t e hs s he v j = some (.inr (F, k))) : j ≤ k ∧ k ≤ e ∧ ∃ us, F = foC (4, 0, us, []) foN foN := by
  have b1 := sB_rng t (i := j) (e := e) hj
  unfold sSt at h
  split at h
  · rename_i h58
    have hlt : sB t e j < e := pkf_lt (t := t) (by omega)
    have b2 := sB_rng t (i := sB t e j + 1) (e := e) (by omega)
    split at h
    · split at h
      · cases h
      · rename_i w k' hI
        have := sIn_rng hI
        cases h
        exact ⟨by omega, by omega, _, rfl⟩
    · cases h; exact ⟨by omega, by omega, _, rfl⟩
  · cases h; exact ⟨by omega, by omega, _, rfl⟩
theorem sSl_rng {hs s i k : Int} {F : Fo} (hi : i < e) (h : sSl t e hs s i = some (.inr (F, k))) : i < k ∧ k ≤ e ∧ ∃ us, F = foC (4, 0, us, []) foN foN := by
  have b1 := sB_rng t (i := i + 1) (e := e) (by omega)
  unfold sSl at h
  split at h
  · split at h
    · cases h
    · rename_i v j hI
      have := sIn_rng hI
      have := sSt_rng (by omega) h
      exact ⟨by omega, this.2.1, this.2.2⟩
  · have := sSt_rng (by omega) h
    exact ⟨by omega, this.2.1, this.2.2⟩
theorem sWo_inr {cs : List Int} {i j : Int} {f : Int → QR} {F : Fo} (hc : cs = cTru ∨ cs = cFls ∨ cs = cNul ∨ cs = cLen ∨ cs = cCnt ∨ cs = cVal) (hi : i ≤ e) (h : sWo t e cs i f = some (.inr (F, j))) : ∃ k, sW t e cs i = .inr k ∧ i < k ∧ k ≤ e ∧ f k = some (.inr (F, j)) := by
  unfold sWo at h
  split at h
  · cases h
  · rename_i k hw
    have hnn : (∀ c, c ∈ cs → 0 ≤ c) ∧ 1 ≤ cs.length := by
      rcases hc with q | q | q | q | q | q <;> rw [q] <;> exact ⟨by intro c hc; simp [cTru, cFls, cNul, cLen, cCnt, cVal] at hc; omega, by decide⟩
    have := sW_rng cs i k hi hnn.1 hw
    exact ⟨k, hw, by omega, this.2, h⟩
theorem sQ_rng : ∀ (n mo op : Nat) (sg : Bool) (i : Int) (F : Fo) (j : Int), i ≤ e → (mo = 1 ∨ mo = 2 ∨ mo = 8 → i < e) → sQ t e n mo op sg i = some (.inr (F, j)) → i ≤ j ∧ j ≤ e ∧ (mo ≠ 0 → i < j) := by
  intro n
  induction n with
  | zero => intro mo op sg i F j _ _ h; cases h
  | succ n ih =>
    intro mo op sg i F j hi hm h
    have b0 := sB_rng t (i := i) (e := e) hi
    have lt : ∀ k x : Int, pk t e k = x → 0 ≤ x → k < e := fun k x hx h0 => pkf_lt (t := t) (by omega)
    unfold sQ at h
    by_cases m0 : mo = 0
    · rw [if_pos m0] at h
      split at h
      · rename_i hp
        have hb : sB t e i < e := pkf_lt (t := t) (by omega)
        obtain ⟨S, k, h1, h2⟩ := bnd_inr h
        obtain ⟨R, q, h3, h4⟩ := bnd_inr h2
        have r1 := ih 1 op sg _ S k (by omega) (fun _ => hb) h1
        have r2 := ih 0 op sg k R q (by omega) (fun q => by omega) h3
        cases h4
        exact ⟨by omega, by omega, fun q => absurd m0 q⟩
      · cases h; exact ⟨by omega, by omega, fun q => absurd m0 q⟩
    · rw [if_neg m0] at h
      by_cases m1 : mo = 1
      · rw [if_pos m1] at h
        have hie := hm (Or.inl m1)
        split at h
        · split at h
          · rename_i hp1 hp2
            have l2 := lt (i + 1) 46 hp2.2 (by decide)
            split at h
            · rename_i hp3
              have l3 := lt (i + 2) 91 hp3 (by decide)
              obtain ⟨S, k, h1, h2⟩ := bnd_inr h
              have r1 := ih 2 op sg _ S k (by omega) (fun _ => l3) h1
              cases h2; omega
            · split at h
              · rename_i hp3
                have l3 := lt (i + 2) 42 hp3 (by decide)
                cases h; omega
              · split at h
                · cases h
                · have hl := Classical.not_not.mp (by assumption)
                  have := sNa_rng (t := t) (e := e) _ (i + 2) rfl (by omega)
                  have := this.2.2.2.1 (Or.inl hl)
                  cases h; omega
          · split at h
            · rename_i hp3
              have l3 := lt (i + 1) 42 hp3.2 (by decide)
              cases h; omega
            · split at h
              · cases h
              · have hl := Classical.not_not.mp (by assumption)
                have := sNa_rng (t := t) (e := e) _ (i + 1) rfl (by omega)
                have := this.2.2.2.1 (Or.inl hl)
                cases h; omega
        · obtain ⟨S, k, h1, h2⟩ := bnd_inr h
          have r1 := ih 2 op sg _ S k (by omega) (fun _ => hie) h1
          cases h2; omega
      · rw [if_neg m1] at h
        by_cases m2 : mo = 2
        · rw [if_pos m2] at h
          have hie := hm (Or.inr (Or.inl m2))
          split at h
          · cases h
          · have r1 := ih 3 (op + 1) sg _ F j (by omega) (fun q => by omega) h
            omega
        · rw [if_neg m2] at h
          by_cases m3 : mo = 3
          · rw [if_pos m3] at h
            obtain ⟨S, k, h1, h2⟩ := bnd_inr h
            have r1 := ih 4 op sg _ S k (by omega) (fun q => by omega) h1
            have b1 := sB_rng t (i := k) (e := e) (by omega)
            split at h2
            · rename_i hp; have := lt _ 93 hp (by decide); cases h2; omega
            · split at h2
              · rename_i hp
                have l2 := lt _ 44 hp.2 (by decide)
                obtain ⟨R, q, h3, h4⟩ := bnd_inr h2
                have r2 := ih 3 op sg _ R q (by omega) (fun q => by omega) h3
                cases h4; omega
              · cases h2
          · rw [if_neg m3] at h
            by_cases m4 : mo = 4
            · rw [if_pos m4] at h
              split at h
              · rename_i hp
                have l0 : i < e := pkf_lt (t := t) (by omega)
                split at h
                · cases h
                · rename_i us k hS
                  have := sS_rng (t := t) (e := e) (by omega) hS
                  cases h; omega
              · split at h
                · rename_i hp; have := lt _ 42 hp.2 (by decide); cases h; omega
                · split at h
                  · rename_i hp
                    have l0 := lt _ 63 hp.2 (by decide)
                    have b1 := sB_rng t (i := i + 1) (e := e) (by omega)
                    obtain ⟨S, k, h1, h2⟩ := bnd_inr h
                    have r1 := ih 5 op false _ S k (by omega) (fun q => by omega) h1
                    cases h2; omega
                  · split at h
                    · split at h
                      · cases h
                      · rename_i v k hI
                        have := sIn_rng hI
                        have b1 := sB_rng t (i := k) (e := e) (by omega)
                        split at h
                        · rename_i hp
                          have l0 := lt _ 58 hp.2 (by decide)
                          have := sSl_rng l0 h; omega
                        · cases h; omega
                    · split at h
                      · rename_i hp
                        have l0 := lt _ 58 hp.2 (by decide)
                        have := sSl_rng l0 h; omega
                      · cases h
            · rw [if_neg m4] at h
              by_cases m5 : mo = 5
              · rw [if_pos m5] at h
                obtain ⟨S, k, h1, h2⟩ := bnd_inr h
                have r1 := ih 6 op false _ S k (by omega) (fun q => by omega) h1
                have b1 := sB_rng t (i := k) (e := e) (by omega)
                split at h2
                · split at h2
                  · rename_i hp
                    have l2 := lt _ 124 hp (by decide)
                    have b2 := sB_rng t (i := sB t e k + 2) (e := e) (by omega)
                    obtain ⟨R, q, h3, h4⟩ := bnd_inr h2
                    have r2 := ih 5 op false _ R q (by omega) (fun q => by omega) h3
                    cases h4; omega
                  · cases h2
                · cases h2; omega
              · rw [if_neg m5] at h
                by_cases m6 : mo = 6
                · rw [if_pos m6] at h
                  obtain ⟨S, k, h1, h2⟩ := bnd_inr h
                  have r1 := ih 7 op false _ S k (by omega) (fun q => by omega) h1
                  have b1 := sB_rng t (i := k) (e := e) (by omega)
                  split at h2
                  · split at h2
                    · rename_i hp
                      have l2 := lt _ 38 hp (by decide)
                      have b2 := sB_rng t (i := sB t e k + 2) (e := e) (by omega)
                      obtain ⟨R, q, h3, h4⟩ := bnd_inr h2
                      have r2 := ih 6 op false _ R q (by omega) (fun q => by omega) h3
                      cases h4; omega
                    · cases h2
                  · cases h2; omega
                · rw [if_neg m6] at h
                  by_cases m7 : mo = 7
                  · rw [if_pos m7] at h
                    split at h
                    · rename_i hp
                      have l0 := lt _ 33 hp (by decide)
                      have b1 := sB_rng t (i := i + 1) (e := e) (by omega)
                      split at h
                      · rename_i hp2
                        have l1 := lt _ 40 hp2 (by decide)
                        obtain ⟨S, k, h1, h2⟩ := bnd_inr h
                        have r1 := ih 8 op false _ S k (by omega) (fun _ => l1) h1
                        cases h2; omega
                      · split at h
                        · rename_i hp2
                          have l1 : sB t e (i + 1) < e := pkf_lt (t := t) (by omega)
                          obtain ⟨S, k, h1, h2⟩ := bnd_inr h
                          have r1 := ih 0 op false _ S k (by omega) (fun q => by omega) h1
                          cases h2; omega
                        · cases h
                    · split at h
                      · rename_i hp
                        have l0 := lt _ 40 hp (by decide)
                        have r1 := ih 8 op false _ F j hi (fun _ => l0) h
                        omega
                      · split at h
                        · rename_i hp
                          have l0 : i < e := pkf_lt (t := t) (by omega)
                          obtain ⟨S, k, h1, h2⟩ := bnd_inr h
                          have r1 := ih 0 op false _ S k (by omega) (fun q => by omega) h1
                          have b1 := sB_rng t (i := k) (e := e) (by omega)
                          split at h2
                          · split at h2
                            · split at h2
                              · cases h2
                              · rename_i o k2 hO
                                have := sOp_rng (by omega) hO
                                have b2 := sB_rng t (i := k2) (e := e) (by omega)
                                obtain ⟨R, q, h3, h4⟩ := bnd_inr h2
                                have r2 := ih 10 op false _ R q (by omega) (fun q => by omega) h3
                                cases h4; omega
                            · cases h2
                          · cases h2; omega
                        · obtain ⟨S, k, h1, h2⟩ := bnd_inr h
                          have r1 := ih 10 op false _ S k (by omega) (fun q => by omega) h1
                          have b1 := sB_rng t (i := k) (e := e) (by omega)
                          split at h2
                          · cases h2
                          · rename_i o k2 hO
                            have := sOp_rng (by omega) hO
                            have b2 := sB_rng t (i := k2) (e := e) (by omega)
                            obtain ⟨R, q, h3, h4⟩ := bnd_inr h2
                            have r2 := ih 10 op false _ R q (by omega) (fun q => by omega) h3
                            cases h4; omega
                  · rw [if_neg m7] at h
                    by_cases m8 : mo = 8
                    · rw [if_pos m8] at h
                      have hie := hm (Or.inr (Or.inr m8))
                      have b1 := sB_rng t (i := i + 1) (e := e) (by omega)
                      split at h
                      · cases h
                      · obtain ⟨S, k, h1, h2⟩ := bnd_inr h
                        have r1 := ih 5 (op + 1) false _ S k (by omega) (fun q => by omega) h1
                        have b2 := sB_rng t (i := k) (e := e) (by omega)
                        split at h2
                        · rename_i hp; have := lt _ 41 hp (by decide); cases h2; omega
                        · cases h2
                    · rw [if_neg m8] at h
                      by_cases hp0 : qb (pk t e i)
                      · have hp := hp0
                        rw [if_pos hp0] at h
                        have l0 : i < e := pkf_lt (t := t) (by omega)
                        obtain ⟨S, k, h1, h2⟩ := bnd_inr h
                        have r1 := ih 0 op true _ S k (by omega) (fun q => by omega) h1
                        cases h2; omega
                      · rw [if_neg hp0] at h
                        by_cases hp1 : pk t e i = 39 ∨ pk t e i = 34
                        · have hp := hp1
                          rw [if_pos hp1] at h
                          have l0 : i < e := pkf_lt (t := t) (by omega)
                          split at h
                          · cases h
                          · rename_i us k hS
                            have := sS_rng (t := t) (e := e) (by omega) hS
                            cases h; omega
                        · rw [if_neg hp1] at h
                          by_cases hp2 : pk t e i = 116
                          · rw [if_pos hp2] at h
                            obtain ⟨k, w1, w2, w3, w4⟩ := sWo_inr (by simp) hi h
                            cases w4; omega
                          · rw [if_neg hp2] at h
                            by_cases hp3 : pk t e i = 102
                            · rw [if_pos hp3] at h
                              obtain ⟨k, w1, w2, w3, w4⟩ := sWo_inr (by simp) hi h
                              cases w4; omega
                            · rw [if_neg hp3] at h
                              by_cases hp4 : pk t e i = 110
                              · rw [if_pos hp4] at h
                                obtain ⟨k, w1, w2, w3, w4⟩ := sWo_inr (by simp) hi h
                                cases w4; omega
                              · rw [if_neg hp4] at h
                                by_cases hp5 : pk t e i = 108
                                · rw [if_pos hp5] at h
                                  obtain ⟨k, w1, w2, w3, w4⟩ := sWo_inr (by simp) hi h
                                  split at w4
                                  · rename_i hp
                                    have l1 := lt _ 40 hp.1 (by decide)
                                    have b1 := sB_rng t (i := k + 1) (e := e) (by omega)
                                    obtain ⟨S, q, h1, h2⟩ := bnd_inr w4
                                    have r1 := ih 10 (op + 1) false _ S q (by omega) (fun q => by omega) h1
                                    have b2 := sB_rng t (i := q) (e := e) (by omega)
                                    split at h2
                                    · rename_i hp; have := lt _ 41 hp (by decide); cases h2; omega
                                    · cases h2
                                  · cases w4
                                · rw [if_neg hp5] at h
                                  by_cases hp6 : pk t e i = 99 ∨ pk t e i = 118
                                  · rw [if_pos hp6] at h
                                    obtain ⟨k, w1, w2, w3, w4⟩ := sWo_inr (by split <;> simp) hi h
                                    split at w4
                                    · rename_i hp
                                      have l1 := lt _ 40 hp.1 (by decide)
                                      have b1 := sB_rng t (i := k + 1) (e := e) (by omega)
                                      split at w4
                                      · rename_i hp2
                                        have l2 : sB t e (k + 1) < e := pkf_lt (t := t) (by omega)
                                        obtain ⟨S, q, h1, h2⟩ := bnd_inr w4
                                        have r1 := ih 0 (op + 1) false _ S q (by omega) (fun q => by omega) h1
                                        have b2 := sB_rng t (i := q) (e := e) (by omega)
                                        split at h2
                                        · rename_i hp; have := lt _ 41 hp (by decide); cases h2; omega
                                        · cases h2
                                      · cases w4
                                    · cases w4
                                  · rw [if_neg hp6] at h
                                    split at h
                                    · cases h
                                    · rename_i v k hI
                                      have := sIn_rng hI
                                      cases h; omega
end
