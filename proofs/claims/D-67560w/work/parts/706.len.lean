/-! sizes by what is printed -/
set_option maxRecDepth 100000
theorem prS_len (q : Int) (us : List Int) : us.length + 2 ≤ (prS q us).length := by
  have := prCs_len q us
  unfold prS
  simp only [List.length_cons, List.length_append, List.length_nil]; omega
theorem prV_len {d : ND} {l : Fo} (hk : d.1 ≤ 6) (h4 : d.1 ≠ 4 → d.2.2.1 = []) (h5 : d.1 < 5 → l = foN) (h1 : szF l + unF (d.1 == 6) l ≤ (prF (d.1 == 6) true l).length) : 1 + szF l + d.2.2.1.length + unF (d.1 == 6) l ≤ (prV d l).length := by
  unfold prV prD
  by_cases k0 : d.1 = 0
  · rw [if_pos k0, h4 (by omega), h5 (by omega)]; simp [szF, unF, cNul]
  rw [if_neg k0]
  by_cases k1 : d.1 = 1
  · rw [if_pos k1, h4 (by omega), h5 (by omega)]; simp [szF, unF, cFls]
  rw [if_neg k1]
  by_cases k2 : d.1 = 2
  · rw [if_pos k2, h4 (by omega), h5 (by omega)]; simp [szF, unF, cTru]
  rw [if_neg k2]
  by_cases k3 : d.1 = 3
  · rw [if_pos k3, h4 (by omega), h5 (by omega)]
    obtain ⟨c, r, e, -⟩ := prN_hd d.2.1
    rw [e]; simp [szF, unF]
  rw [if_neg k3]
  by_cases k4 : d.1 = 4
  · rw [if_pos k4, h5 (by omega)]
    have := prS_len 34 d.2.2.1
    simp [szF, unF]; omega
  rw [if_neg k4, h4 k4]
  by_cases k5 : d.1 = 5
  · rw [if_pos k5]; simp only [List.length_cons, List.length_append, List.length_nil]; omega
  · rw [if_neg k5]; simp only [List.length_cons, List.length_append, List.length_nil]; omega
theorem prF_len (F : Fo) : ∀ ob fst, wfF F → cnF ob F → szF F + unF ob F ≤ (prF ob fst F).length := by
  induction F with
  | leaf => intro ob fst _ _; simp [szF, unF]
  | inner i d u l r ihl ihr =>
    intro ob fst hw hc
    obtain ⟨w1, w2, w3, w4, w5, w6⟩ := hw
    obtain ⟨c1, c2, c3, c4⟩ := hc
    have h2 := ihr ob false w6 c4
    have hv := prV_len w1.1 c2.2.1 w3 (ihl (d.1 == 6) true w5 c3)
    rw [prF_inner]
    simp only [szF, unF, List.length_append]
    have hn : (if ob then d.2.2.2.length else 0) ≤ (if ob then prS 34 d.2.2.2 ++ [58] else []).length := by
      cases ob with
      | true => have := prS_len 34 d.2.2.2; simp; omega
      | false => simp
    omega
theorem prV_sz {d : ND} {l : Fo} (hw : wfF (foC d l foN)) (hc : cnF false (foC d l foN)) : 1 + szF l + d.2.2.1.length + unF (d.1 == 6) l ≤ (prV d l).length := prV_len hw.1.1 hc.2.1.2.1 hw.2.2.1 (prF_len l _ _ hw.2.2.2.2.1 hc.2.2.1)
