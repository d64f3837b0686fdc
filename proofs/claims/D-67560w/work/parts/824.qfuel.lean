/-! queries as they are written: enough fuel -/
set_option maxRecDepth 100000
set_option maxHeartbeats 4000000
def rkQ (mo : Nat) : Int := if mo = 0 then 3 else if mo = 1 then 2 else if mo = 2 then 1 else if mo = 3 then 2 else if mo = 4 then 1 else if mo = 5 then 4 else if mo = 6 then 3 else if mo = 7 then 2 else 1
theorem qE_ne (p : Int) : qE p ≠ none := fun q => by cases q
theorem qN_ne (k : Nat) (v : Int) (us : List Int) (l : Fo) (j : Int) : qN k v us l j ≠ none := fun q => by cases q
theorem sSt_ne (t : Int → Int) (e hs s he v j : Int) : sSt t e hs s he v j ≠ none := by
  unfold sSt
  split
  · split
    · split
      · exact qE_ne _
      · exact qN_ne _ _ _ _ _
    · exact qN_ne _ _ _ _ _
  · exact qN_ne _ _ _ _ _
theorem sSl_ne (t : Int → Int) (e hs s i : Int) : sSl t e hs s i ≠ none := by
  unfold sSl
  split
  · split
    · exact qE_ne _
    · exact sSt_ne _ _ _ _ _ _ _
  · exact sSt_ne _ _ _ _ _ _ _
theorem sWo_ne {t : Int → Int} {e : Int} {cs : List Int} {i : Int} {f : Int → QR} (h : ∀ k, sW t e cs i = .inr k → f k ≠ none) : sWo t e cs i f ≠ none := by
  unfold sWo
  split
  · exact qE_ne _
  · rename_i k hk; exact h k hk
section
variable {t : Int → Int} {e : Int}
theorem sW_nn {cs : List Int} {i k : Int} (hc : cs = cTru ∨ cs = cFls ∨ cs = cNul ∨ cs = cLen ∨ cs = cCnt ∨ cs = cVal) (hi : i ≤ e) (hw : sW t e cs i = .inr k) : i < k ∧ k ≤ e := by
  have hnn : (∀ c, c ∈ cs → 0 ≤ c) ∧ 1 ≤ cs.length := by
    rcases hc with q | q | q | q | q | q <;> rw [q] <;> exact ⟨by intro c hc; simp [cTru, cFls, cNul, cLen, cCnt, cVal] at hc; omega, by decide⟩
  have := sW_rng cs i k hi hnn.1 hw
  omega
theorem sQ_some : ∀ (n mo op : Nat) (sg : Bool) (i : Int), i ≤ e → (mo = 1 ∨ mo = 2 ∨ mo = 8 → i < e) → 8 * (e - i) + rkQ mo ≤ n → sQ t e n mo op sg i ≠ none := by
  intro n
  induction n with
  | zero => intro mo op sg i hi hm hn; exact absurd hn (by unfold rkQ; omega)
  | succ n ih =>
    intro mo op sg i hi hm hn
    have b0 := sB_rng t (i := i) (e := e) hi
    have lt : ∀ k x : Int, pk t e k = x → 0 ≤ x → k < e := fun k x hx h0 => pkf_lt (t := t) (by omega)
    unfold rkQ at hn
    unfold sQ
    by_cases m0 : mo = 0
    · rw [if_pos m0]
      rw [if_pos m0] at hn
      split
      · rename_i hp
        have hb : sB t e i < e := pkf_lt (t := t) (by omega)
        refine bnd_some (ih 1 op sg _ (by omega) (fun _ => hb) (by unfold rkQ; omega)) (fun G k h1 => ?_)
        have r1 := sQ_rng n 1 op sg _ G k (by omega) (fun _ => hb) h1
        exact bnd_some (ih 0 op sg k (by omega) (fun q => by omega) (by unfold rkQ; omega)) (fun G k h1 => fun q => by cases q)
      · intro q; cases q
    · rw [if_neg m0]
      rw [if_neg m0] at hn
      by_cases m1 : mo = 1
      · rw [if_pos m1]
        rw [if_pos m1] at hn
        have hie := hm (Or.inl m1)
        split
        · split
          · rename_i hp1 hp2
            have l2 := lt (i + 1) 46 hp2.2 (by decide)
            split
            · rename_i hp3
              have l3 := lt (i + 2) 91 hp3 (by decide)
              exact bnd_some (ih 2 op sg _ (by omega) (fun _ => l3) (by unfold rkQ; omega)) (fun G k h1 => qN_ne _ _ _ _ _)
            · split
              · exact qN_ne _ _ _ _ _
              · split
                · exact qE_ne _
                · exact qN_ne _ _ _ _ _
          · split
            · exact qN_ne _ _ _ _ _
            · split
              · exact qE_ne _
              · exact qN_ne _ _ _ _ _
        · exact bnd_some (ih 2 op sg _ (by omega) (fun _ => hie) (by unfold rkQ; omega)) (fun G k h1 => qN_ne _ _ _ _ _)
      · rw [if_neg m1]
        rw [if_neg m1] at hn
        by_cases m2 : mo = 2
        · rw [if_pos m2]
          rw [if_pos m2] at hn
          have hie := hm (Or.inr (Or.inl m2))
          split
          · exact qE_ne _
          · exact ih 3 (op + 1) sg _ (by omega) (fun q => by omega) (by unfold rkQ; omega)
        · rw [if_neg m2]
          rw [if_neg m2] at hn
          by_cases m3 : mo = 3
          · rw [if_pos m3]
            rw [if_pos m3] at hn
            refine bnd_some (ih 4 op sg _ (by omega) (fun q => by omega) (by unfold rkQ; omega)) (fun G k h1 => ?_)
            have r1 := sQ_rng n 4 op sg _ G k (by omega) (fun q => by omega) h1
            have b1 := sB_rng t (i := k) (e := e) (by omega)
            split
            · intro q; cases q
            · split
              · rename_i hp
                have l2 := lt _ 44 hp.2 (by decide)
                exact bnd_some (ih 3 op sg _ (by omega) (fun q => by omega) (by unfold rkQ; omega)) (fun G k h1 => fun q => by cases q)
              · exact qE_ne _
          · rw [if_neg m3]
            rw [if_neg m3] at hn
            by_cases m4 : mo = 4
            · rw [if_pos m4]
              rw [if_pos m4] at hn
              split
              · split
                · exact qE_ne _
                · exact qN_ne _ _ _ _ _
              · split
                · exact qN_ne _ _ _ _ _
                · split
                  · rename_i hp
                    have l0 := lt _ 63 hp.2 (by decide)
                    have b1 := sB_rng t (i := i + 1) (e := e) (by omega)
                    exact bnd_some (ih 5 op false _ (by omega) (fun q => by omega) (by unfold rkQ; omega)) (fun G k h1 => qN_ne _ _ _ _ _)
                  · split
                    · split
                      · exact qE_ne _
                      · split
                        · exact sSl_ne _ _ _ _ _
                        · exact qN_ne _ _ _ _ _
                    · split
                      · exact sSl_ne _ _ _ _ _
                      · exact qE_ne _
            · rw [if_neg m4]
              rw [if_neg m4] at hn
              by_cases m5 : mo = 5
              · rw [if_pos m5]
                rw [if_pos m5] at hn
                refine bnd_some (ih 6 op false _ (by omega) (fun q => by omega) (by unfold rkQ; omega)) (fun G k h1 => ?_)
                have r1 := sQ_rng n 6 op false _ G k (by omega) (fun q => by omega) h1
                have b1 := sB_rng t (i := k) (e := e) (by omega)
                split
                · split
                  · rename_i hp
                    have l2 := lt _ 124 hp (by decide)
                    have b2 := sB_rng t (i := sB t e k + 2) (e := e) (by omega)
                    exact bnd_some (ih 5 op false _ (by omega) (fun q => by omega) (by unfold rkQ; omega)) (fun G k h1 => fun q => by cases q)
                  · exact qE_ne _
                · exact qN_ne _ _ _ _ _
              · rw [if_neg m5]
                rw [if_neg m5] at hn
                by_cases m6 : mo = 6
                · rw [if_pos m6]
                  rw [if_pos m6] at hn
                  refine bnd_some (ih 7 op false _ (by omega) (fun q => by omega) (by unfold rkQ; omega)) (fun G k h1 => ?_)
                  have r1 := sQ_rng n 7 op false _ G k (by omega) (fun q => by omega) h1
                  have b1 := sB_rng t (i := k) (e := e) (by omega)
                  split
                  · split
                    · rename_i hp
                      have l2 := lt _ 38 hp (by decide)
                      have b2 := sB_rng t (i := sB t e k + 2) (e := e) (by omega)
                      exact bnd_some (ih 6 op false _ (by omega) (fun q => by omega) (by unfold rkQ; omega)) (fun G k h1 => fun q => by cases q)
                    · exact qE_ne _
                  · intro q; cases q
                · rw [if_neg m6]
                  rw [if_neg m6] at hn
                  by_cases m7 : mo = 7
                  · rw [if_pos m7]
                    rw [if_pos m7] at hn
                    split
                    · rename_i hp
                      have l0 := lt _ 33 hp (by decide)
                      have b1 := sB_rng t (i := i + 1) (e := e) (by omega)
                      split
                      · rename_i hp2
                        have l1 := lt _ 40 hp2 (by decide)
                        exact bnd_some (ih 8 op false _ (by omega) (fun _ => l1) (by unfold rkQ; omega)) (fun G k h1 => qN_ne _ _ _ _ _)
                      · split
                        · rename_i hp2
                          have l1 : sB t e (i + 1) < e := pkf_lt (t := t) (by omega)
                          exact bnd_some (ih 0 op false _ (by omega) (fun q => by omega) (by unfold rkQ; omega)) (fun G k h1 => qN_ne _ _ _ _ _)
                        · exact qE_ne _
                    · split
                      · rename_i hp
                        have l0 := lt _ 40 hp (by decide)
                        exact ih 8 op false _ hi (fun _ => l0) (by unfold rkQ; omega)
                      · split
                        · rename_i hp
                          have l0 : i < e := pkf_lt (t := t) (by omega)
                          refine bnd_some (ih 0 op false _ (by omega) (fun q => by omega) (by unfold rkQ; omega)) (fun G k h1 => ?_)
                          have r1 := sQ_rng n 0 op false _ G k (by omega) (fun q => by omega) h1
                          have b1 := sB_rng t (i := k) (e := e) (by omega)
                          split
                          · split
                            · split
                              · exact qE_ne _
                              · rename_i o k2 hO
                                have := sOp_rng (by omega) hO
                                have b2 := sB_rng t (i := k2) (e := e) (by omega)
                                exact bnd_some (ih 10 op false _ (by omega) (fun q => by omega) (by unfold rkQ; omega)) (fun G k h1 => qN_ne _ _ _ _ _)
                            · exact qE_ne _
                          · exact qN_ne _ _ _ _ _
                        · refine bnd_some (ih 10 op false _ (by omega) (fun q => by omega) (by unfold rkQ; omega)) (fun G k h1 => ?_)
                          have r1 := sQ_rng n 10 op false _ G k (by omega) (fun q => by omega) h1
                          have b1 := sB_rng t (i := k) (e := e) (by omega)
                          split
                          · exact qE_ne _
                          · rename_i o k2 hO
                            have := sOp_rng (by omega) hO
                            have b2 := sB_rng t (i := k2) (e := e) (by omega)
                            exact bnd_some (ih 10 op false _ (by omega) (fun q => by omega) (by unfold rkQ; omega)) (fun G k h1 => qN_ne _ _ _ _ _)
                  · rw [if_neg m7]
                    rw [if_neg m7] at hn
                    by_cases m8 : mo = 8
                    · rw [if_pos m8]
                      have hie := hm (Or.inr (Or.inr m8))
                      have b1 := sB_rng t (i := i + 1) (e := e) (by omega)
                      split
                      · exact qE_ne _
                      · refine bnd_some (ih 5 (op + 1) false _ (by omega) (fun q => by omega) (by unfold rkQ; omega)) (fun G k h1 => ?_)
                        split
                        · exact qN_ne _ _ _ _ _
                        · exact qE_ne _
                    · rw [if_neg m8]
                      by_cases hp0 : qb (pk t e i)
                      · rw [if_pos hp0]
                        have l0 : i < e := pkf_lt (t := t) (by omega)
                        exact bnd_some (ih 0 op true _ (by omega) (fun q => by omega) (by unfold rkQ; omega)) (fun G k h1 => qN_ne _ _ _ _ _)
                      rw [if_neg hp0]
                      by_cases hp1 : pk t e i = 39 ∨ pk t e i = 34
                      · rw [if_pos hp1]
                        split
                        · exact qE_ne _
                        · exact qN_ne _ _ _ _ _
                      rw [if_neg hp1]
                      by_cases hp2 : pk t e i = 116
                      · rw [if_pos hp2]
                        exact sWo_ne (fun k hk => qN_ne _ _ _ _ _)
                      rw [if_neg hp2]
                      by_cases hp3 : pk t e i = 102
                      · rw [if_pos hp3]
                        exact sWo_ne (fun k hk => qN_ne _ _ _ _ _)
                      rw [if_neg hp3]
                      by_cases hp4 : pk t e i = 110
                      · rw [if_pos hp4]
                        exact sWo_ne (fun k hk => qN_ne _ _ _ _ _)
                      rw [if_neg hp4]
                      by_cases hp5 : pk t e i = 108
                      · rw [if_pos hp5]
                        refine sWo_ne (fun k hk => ?_)
                        have := sW_nn (by simp) hi hk
                        split
                        · rename_i hp
                          have l1 := lt _ 40 hp.1 (by decide)
                          have b1 := sB_rng t (i := k + 1) (e := e) (by omega)
                          refine bnd_some (ih 10 (op + 1) false _ (by omega) (fun q => by omega) (by unfold rkQ; omega)) (fun G k h1 => ?_)
                          split
                          · exact qN_ne _ _ _ _ _
                          · exact qE_ne _
                        · exact qE_ne _
                      rw [if_neg hp5]
                      by_cases hp6 : pk t e i = 99 ∨ pk t e i = 118
                      · rw [if_pos hp6]
                        refine sWo_ne (fun k hk => ?_)
                        have := sW_nn (by split <;> simp) hi hk
                        split
                        · rename_i hp
                          have l1 := lt _ 40 hp.1 (by decide)
                          have b1 := sB_rng t (i := k + 1) (e := e) (by omega)
                          split
                          · rename_i hp2
                            have l2 : sB t e (k + 1) < e := pkf_lt (t := t) (by omega)
                            refine bnd_some (ih 0 (op + 1) false _ (by omega) (fun q => by omega) (by unfold rkQ; omega)) (fun G k h1 => ?_)
                            split
                            · exact qN_ne _ _ _ _ _
                            · exact qE_ne _
                          · exact qE_ne _
                        · exact qE_ne _
                      rw [if_neg hp6]
                      split
                      · exact qE_ne _
                      · exact qN_ne _ _ _ _ _
/-- a query is broken or read -/
theorem sQu_some (t : Int → Int) {e : Int} (he : 0 ≤ e) {n : Nat} (hn : 8 * e + 3 ≤ n) : sQu t e n ≠ none := by
  unfold sQu
  split
  · intro q; cases q
  · rename_i h36
    have h36 : pk t e 0 = 36 := Classical.not_not.mp h36
    have l0 : (0 : Int) < e := pkf_lt (t := t) (by omega)
    have := sQ_some (t := t) (e := e) n 0 0 false 1 (by omega) (fun q => by omega) (by unfold rkQ; omega)
    split
    · rename_i h; exact absurd h this
    · intro q; cases q
    · split <;> (intro q; cases q)
end
