/-! bytes of a value by what is printed: at most one and a half times as many -/
set_option maxRecDepth 100000
set_option maxHeartbeats 4000000
theorem utf_prC (u : Int) : (utf u).length ≤ (prC 34 u).length := by
  by_cases h : u < 128
  · have : utf u = [u] := by unfold utf; rw [if_pos h]
    rw [this]; exact prC_len 34 u
  · have h3 := (utf_len u).2
    have := prC_u (q := 34) (u := u) (by omega) (by omega)
    rw [this]; simp; omega
theorem uts_prS (us : List Int) : (uts us).length + 2 ≤ (prS 34 us).length := by
  have : (uts us).length ≤ (us.flatMap (prC 34)).length := by
    induction us with
    | nil => simp [uts_nil]
    | cons u us ih =>
      have := utf_prC u
      rw [uts_cons]
      simp only [List.flatMap_cons, List.length_append]; omega
  unfold prS
  simp only [List.length_cons, List.length_append, List.length_nil]; omega
theorem nu_pr {v : Int} (h0 : -9007199254740992 < v) (h1 : v < 9007199254740992) : 2 * (1 + (nuB v).length) ≤ 3 * (prN v).length + 1 := by
  obtain ⟨U, hU0, hU1, hUl, hz⟩ : ∃ U : Int, 0 ≤ U ∧ U < 9007199254740992 ∧ kd 17 U + 1 ≤ (prN v).length ∧ (0 ≤ zz v ∧ zz v ≤ 2 * U) := by
    unfold prN
    by_cases hv : v < 0
    · refine ⟨-v, by omega, by omega, ?_, ?_⟩
      · rw [if_pos hv, List.length_cons, dl_len]; omega
      · unfold zz; split <;> omega
    · refine ⟨v, by omega, by omega, ?_, ?_⟩
      · rw [if_neg hv, dl_len]; exact Nat.le_refl _
      · unfold zz; split <;> omega
  obtain ⟨k1, -⟩ := kd_spec 17 U hU0 (by omega)
  unfold nuB
  generalize hk : kd 17 U = k at *
  rcases Nat.lt_or_ge k 5 with hk5 | hk5
  · have : k = 0 ∨ k = 1 ∨ k = 2 ∨ k = 3 ∨ k = 4 := by omega
    rcases this with q | q | q | q | q <;> subst q
    · have := vi_len2 0 9 (zz v) hz.1 (by simp at k1 ⊢; omega)
      omega
    · have := vi_len2 1 9 (zz v) hz.1 (by simp at k1 ⊢; omega)
      omega
    · have := vi_len2 1 9 (zz v) hz.1 (by simp at k1 ⊢; omega)
      omega
    · have := vi_len2 2 9 (zz v) hz.1 (by simp at k1 ⊢; omega)
      omega
    · have := vi_len2 2 9 (zz v) hz.1 (by simp at k1 ⊢; omega)
      omega
  · have := vi_len2 7 9 (zz v) hz.1 (by simp; omega)
    omega
theorem enV_prV {d : ND} {l : Fo} (hw : wfN d) (hl : 2 * (enF (d.1 == 6) l).length + 2 * cntF l ≤ 3 * (prF (d.1 == 6) false l).length) : 2 * (enV d l).length ≤ 3 * (prV d l).length + 1 := by
  unfold enV enD prV prD
  by_cases k0 : d.1 = 0
  · rw [if_pos (by omega), if_pos k0]; simp [cNul]
  by_cases k1 : d.1 = 1
  · rw [if_pos (by omega), if_neg k0, if_pos k1]; simp [cFls]
  by_cases k2 : d.1 = 2
  · rw [if_pos (by omega), if_neg k0, if_neg k1, if_pos k2]; simp [cTru]
  rw [if_neg (by omega), if_neg k0, if_neg k1, if_neg k2]
  by_cases k3 : d.1 = 3
  · rw [if_pos k3, if_pos k3]
    have := nu_pr hw.2.1 hw.2.2.1
    simp only [List.length_cons]; omega
  rw [if_neg k3, if_neg k3]
  by_cases k4 : d.1 = 4
  · rw [if_pos k4, if_pos k4]
    have := uts_prS d.2.2.1
    have := nmB_len d.2.2.1
    simp only [List.length_cons]; omega
  rw [if_neg k4, if_neg k4]
  have hb : ∀ a b : Int, 2 * ((d.1 : Int) :: (l2 (enF (d.1 == 6) l).length ++ enF (d.1 == 6) l)).length ≤ 3 * (a :: (prF (d.1 == 6) true l ++ [b])).length + 1 := by
    intro a b
    simp only [List.length_cons, List.length_append, l2_len, List.length_nil]
    by_cases hL : l = .leaf
    · subst hL
      rw [show enF (d.1 == 6) .leaf = [] from enF_leaf _, show prF (d.1 == 6) true .leaf = [] from prF_leaf _ _]
      simp
    · have hf := prF_false hL (d.1 == 6)
      rw [hf, List.length_cons] at hl
      have hc : 1 ≤ cntF l := by
        cases l with
        | leaf => exact absurd rfl hL
        | inner i d' u l' r => simp only [cntF]; omega
      omega
  split
  · exact hb 91 93
  · exact hb 123 125
theorem enF_prF (F : Fo) : ∀ ob, wfF F → 2 * (enF ob F).length + 2 * cntF F ≤ 3 * (prF ob false F).length := by
  induction F with
  | leaf => intro ob _; rw [show enF ob .leaf = [] from enF_leaf _]; simp [cntF]
  | inner i d u l r ihl ihr =>
    intro ob hw
    obtain ⟨w1, w2, w3, w4, w5, w6⟩ := hw
    have h1 := enV_prV w1 (ihl (d.1 == 6) w5)
    have h2 := ihr ob w6
    rw [enF_inner, prF_inner, if_neg (show ¬ (false = true) by decide)]
    simp only [cntF, List.length_append, List.length_cons, List.length_nil]
    have hk : 2 * (if ob then nmB d.2.2.2 else []).length ≤ 3 * (if ob then prS 34 d.2.2.2 ++ [58] else []).length := by
      cases ob with
      | true =>
        have := uts_prS d.2.2.2
        have := nmB_len d.2.2.2
        simp; omega
      | false => simp
    omega
/-- a document that prints in 480 bytes has at most 720 -/
theorem en_pr {d : ND} {l : Fo} (hw : wfF (foC d l foN)) : 2 * (enV d l).length ≤ 3 * (prV d l).length + 1 := enV_prV hw.1 (enF_prF l _ hw.2.2.2.2.1)
