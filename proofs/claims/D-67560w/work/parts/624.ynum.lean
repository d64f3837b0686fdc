/-! the twin's texts: numbers -/
set_option maxRecDepth 100000
set_option maxHeartbeats 4000000
section
variable {d : Nat} {m : Mem} {M tp e tr n C : Int} {t : Int → Int} {us : List Int}
theorem c207_80 {x a3 a4 : Int} (hd : 2 ≤ d) : ∀ (N : Nat) (k v : Int) (m : Mem), (e - k).toNat = N → TZ m → YX m M tp e k t → 0 ≤ v → v < 90071992547409930 →
    ∃ w, 0 ≤ w ∧ w < 90071992547409930 ∧ min w 9007199254740992 = (sDg t e k (min v 9007199254740992)).1 ∧ ∀ Q, rn d 207 130 [pR M, pR tr, pI x, pI a3, pI a4, pL w, pU] [] (mst m M 12 (sDg t e k (min v 9007199254740992)).2) = some Q → rn d 207 80 [pR M, pR tr, pI x, pI a3, pI a4, pL v, pU] [] m = some Q := by
  intro N
  induction N with
  | zero =>
    intro k v m hN hz h v0 v1
    have h199 := c199 (d := d - 1) hz h
    have h206 := c206 (d := d - 1) (m := m) (x := pk t e k) hz
    have hp : pk t e k = -1 := by unfold pk; rw [if_neg (by omega)]
    rw [sDg_eq, if_neg (by rw [hp]; decide)]
    rw [if_neg (by omega)] at h206
    refine ⟨v, v0, v1, rfl, fun Q hQ => ?_⟩
    rw [mst_self h.2.2.2.1] at hQ
    refine q207_80 (by omega) hz _ ?_
    rw [gd_of h.1, bI_eq h199, bI_eq h206, if_pos rfl]; exact hQ
  | succ N ih =>
    intro k v m hN hz h v0 v1
    have h199 := c199 (d := d - 1) hz h
    have h206 := c206 (d := d - 1) (m := m) (x := pk t e k) hz
    have b4 := h.2.2.2.1
    have b6 := h.2.2.2.2.2.2.1
    rw [sDg_eq]
    by_cases hD : dg (pk t e k)
    · have hD' : 48 ≤ pk t e k ∧ pk t e k ≤ 57 := hD
      rw [if_pos hD'] at h206
      rw [if_pos hD]
      have hx1 : YX (mst m M 12 (k + 1)) M tp e (k + 1) t := h.at (by omega) (by omega)
      by_cases hv : 9007199254740991 < v
      · obtain ⟨w, w0, w1, w2, w3⟩ := ih (k + 1) v (mst m M 12 (k + 1)) (by omega) hz hx1 v0 v1
        have em : min (10 * min v 9007199254740992 + pk t e k - 48) 9007199254740992 = min v 9007199254740992 := by omega
        rw [em]
        refine ⟨w, w0, w1, w2, fun Q hQ => ?_⟩
        refine q207_80 (by omega) hz _ ?_
        rw [gd_of h.1, bI_eq h199, bI_eq h206, if_neg (by decide), if_pos hv, b4, w32_of (by omega) (by omega)]
        refine w3 Q ?_
        rw [mst_mst]; exact hQ
      · obtain ⟨w, w0, w1, w2, w3⟩ := ih (k + 1) (10 * v + pk t e k - 48) (mst m M 12 (k + 1)) (by omega) hz hx1 (by omega) (by omega)
        have em : min (10 * min v 9007199254740992 + pk t e k - 48) 9007199254740992 = min (10 * v + pk t e k - 48) 9007199254740992 := by omega
        rw [em]
        refine ⟨w, w0, w1, w2, fun Q hQ => ?_⟩
        have e1 : w64 (w64 (w64 (10 * v) + pk t e k) - 48) = 10 * v + pk t e k - 48 := by
          rw [w64_of (z := 10 * v) (by omega) (by omega), w64_of (z := 10 * v + _) (by omega) (by omega), w64_of (by omega) (by omega)]
        refine q207_80 (by omega) hz _ ?_
        rw [gd_of h.1, bI_eq h199, bI_eq h206, if_neg (by decide), if_neg hv, bI_eq h199, b4, w32_of (by omega) (by omega), e1]
        refine w3 Q ?_
        rw [mst_mst]; exact hQ
    · have hD' : ¬ (48 ≤ pk t e k ∧ pk t e k ≤ 57) := hD
      rw [if_neg hD'] at h206
      rw [if_neg hD]
      refine ⟨v, v0, v1, rfl, fun Q hQ => ?_⟩
      rw [mst_self b4] at hQ
      refine q207_80 (by omega) hz _ ?_
      rw [gd_of h.1, bI_eq h199, bI_eq h206, if_pos rfl]; exact hQ
theorem c207 {i x : Int} (hd : 3 ≤ d) (hz : TZ m) (h : YX m M tp e i t) (hw : TW m tr n us C) (hx : 0 ≤ x ∧ x < n) :
    (∀ v j, sNm t e i = .inr (v, j) → -9007199254740992 < v ∧ v < 9007199254740992 ∧ i < j ∧ j ≤ e ∧ cl d 207 [pR M, pR tr, pI x] m = some (.inl (some (pI 1)), mst (mst m M 12 j) (vl m tr 1) x v)) ∧
    (∀ p, sNm t e i = .inl p → ∃ j, cl d 207 [pR M, pR tr, pI x] m = some (.inl (some (pI 0)), mst (mst m M 12 j) M 14 p)) := by
  have hM := h.1
  have b4 := h.2.2.2.1
  have b6 := h.2.2.2.2.2.2.1
  have h199 := c199 (d := d - 1) hz h
  have hi0 : i ≤ nI0 t e i ∧ nI0 t e i ≤ e := by
    unfold nI0; split
    · have : i < e := pkf_lt (t := t) (by omega)
      omega
    · omega
  have hx0 : YX (mst m M 12 (nI0 t e i)) M tp e (nI0 t e i) t := h.at (by omega) hi0.2
  have hz0 : TZ (mst m M 12 (nI0 t e i)) := hz
  have hM0 : tg (mst m M 12 (nI0 t e i)) M = 11 := hM
  have h199b := c199 (d := d - 1) hz0 hx0
  have h206b := c206 (d := d - 1) (m := mst m M 12 (nI0 t e i)) (x := pk t e (nI0 t e i)) hz0
  have v12 : vl (mst m M 12 (nI0 t e i)) M 12 = nI0 t e i := hx0.2.2.2.1
  have v14 : vl (mst m M 12 (nI0 t e i)) M 14 = -1 := hx0.2.2.2.2.1
  obtain ⟨mi, hmi⟩ : ∃ mi : Int, mi = if pk t e i = 45 then 1 else 0 := ⟨_, rfl⟩
  have s1 : ∀ Q, rn d 207 36 [pR M, pR tr, pI x, pI i, pI mi, pU, pU] [] (mst m M 12 (nI0 t e i)) = some Q → cl d 207 [pR M, pR tr, pI x] m = some Q := by
    intro Q hQ
    refine q207 (by omega) hz _ ?_
    rw [gd_of hM, nm_eq, b4, bI_eq h199]
    unfold nI0 at hQ
    by_cases h45 : pk t e i = 45
    · have : i < e := pkf_lt (t := t) (by omega)
      rw [if_pos h45] at hQ hmi
      rw [if_pos h45, if_neg (by decide), b4, w32_of (by omega) (by omega)]
      rw [hmi] at hQ; exact hQ
    · rw [if_neg h45] at hQ hmi
      rw [if_neg h45, if_pos rfl]
      rw [hmi, mst_self b4] at hQ; exact hQ
  unfold sNm
  by_cases hD : dg (pk t e (nI0 t e i))
  · have hD' : 48 ≤ pk t e (nI0 t e i) ∧ pk t e (nI0 t e i) ≤ 57 := hD
    rw [if_neg (fun q => q hD)]
    rw [if_pos hD'] at h206b
    obtain ⟨r1, r2, r3, r4, r5, r6⟩ := nDV_rng hD
    obtain ⟨w, w0, w1, w2, w3⟩ : ∃ w, 0 ≤ w ∧ w < 90071992547409930 ∧ min w 9007199254740992 = (nDV t e (nI0 t e i)).1 ∧ ∀ Q, rn d 207 130 [pR M, pR tr, pI x, pI i, pI mi, pL w, pU] [] (mst m M 12 (nDV t e (nI0 t e i)).2) = some Q → cl d 207 [pR M, pR tr, pI x] m = some Q := by
      unfold nDV
      by_cases h48 : pk t e (nI0 t e i) = 48
      · rw [if_pos h48]
        refine ⟨0, by decide, by decide, by show min (0 : Int) 9007199254740992 = 0; decide, fun Q hQ => ?_⟩
        refine s1 _ (q207_36 (by omega) hz0 _ ?_)
        have hl : nI0 t e i < e := pkf_lt (t := t) (by omega)
        rw [gd_of hM0, bI_eq h199b, bI_eq h206b, if_neg (by decide), bI_eq h199b, if_pos h48, v12, w32_of (by omega) (by omega), mst_mst]; exact hQ
      · rw [if_neg h48]
        obtain ⟨w, w0, w1, w2, w3⟩ := c207_80 (d := d) (tr := tr) (x := x) (a3 := i) (a4 := mi) (by omega) _ (nI0 t e i) 0 (mst m M 12 (nI0 t e i)) rfl hz0 hx0 (by decide) (by decide)
        refine ⟨w, w0, w1, w2, fun Q hQ => ?_⟩
        refine s1 _ (q207_36 (by omega) hz0 _ ?_)
        rw [gd_of hM0, bI_eq h199b, bI_eq h206b, if_neg (by decide), bI_eq h199b, if_neg h48]
        refine w3 Q ?_
        rw [mst_mst]; exact hQ
    generalize hV : (nDV t e (nI0 t e i)).1 = v at *
    generalize hJ : (nDV t e (nI0 t e i)).2 = j at *
    have hx1 : YX (mst m M 12 j) M tp e j t := h.at (by omega) r4
    have hz1 : TZ (mst m M 12 j) := hz
    have h199c := c199 (d := d - 1) hz1 hx1
    have hM1 : tg (mst m M 12 j) M = 11 := hM
    have h202 := c202 (d := d - 1) (p := i) hz1 hM1 hx1.2.2.2.2.1
    by_cases hb : 9007199254740991 < v ∨ pk t e j = 46 ∨ pk t e j = 101 ∨ pk t e j = 69
    · rw [if_pos hb]
      refine ⟨fun v j hE => (by cases hE), fun p hp => ?_⟩
      cases hp
      refine ⟨j, w3 _ (q207_130 (by omega) hz1 _ ?_)⟩
      by_cases b1 : 9007199254740991 < w
      · rw [if_pos b1, gd_of hM1, bI_eq h202, gd_of (Or.inl rfl)]
      · rw [if_neg b1, gd_of hM1, bI_eq h199c]
        by_cases b2 : pk t e j = 46
        · rw [if_pos b2, bI_eq h202, gd_of (Or.inl rfl)]
        · rw [if_neg b2, bI_eq h199c]
          by_cases b3 : pk t e j = 101
          · rw [if_pos b3, bI_eq h202, gd_of (Or.inl rfl)]
          · rw [if_neg b3, bI_eq h199c, if_pos (by omega), bI_eq h202, gd_of (Or.inl rfl)]
    · rw [if_neg hb]
      refine ⟨fun v' j' hE => ?_, fun p hp => (by cases hp)⟩
      cases hE
      have hwv : w = v := by omega
      have hw1 : tg (mst m M 12 j) tr = 13 := hw.1
      have hne : tr ≠ M := by intro q; rw [q] at hw; have := hw.1; omega
      have v1 : vl (mst m M 12 j) tr 1 = vl m tr 1 := by rw [vl_mst, if_neg (by omega)]
      have l1 := hw.2.2.1
      have hC := hw.2.2.2.2.2.2.1
      have run : ∀ v', v' = (if mi = 0 then v else w64 (-v)) → cl d 207 [pR M, pR tr, pI x] m = some (.inl (some (pI 1)), mst (mst m M 12 j) (vl m tr 1) x v') := by
        intro v' hv'
        refine w3 _ (q207_130 (by omega) hz1 _ ?_)
        rw [if_neg (by omega), gd_of hM1, bI_eq h199c, if_neg (by omega), bI_eq h199c, if_neg (by omega), bI_eq h199c, if_neg (by omega), gd_of hw1, nm_eq, v1, hwv]
        have gg : tg (mst m M 12 j) (vl m tr 1) = 284102 ∨ tg (mst m M 12 j) (vl m tr 1) = 286102 := l1.1
        have g2 : 0 ≤ x ∧ x < ln (mst m M 12 j) (vl m tr 1) := by show 0 ≤ x ∧ x < ln m (vl m tr 1); omega
        by_cases hm : mi = 0
        · rw [if_pos hm] at hv' ⊢
          rw [gd_of gg, gd_of g2, hv']
        · rw [if_neg hm] at hv' ⊢
          rw [gd_of gg, gd_of g2, hv']
      by_cases h45 : pk t e i = 45
      · rw [if_pos h45] at hmi ⊢
        exact ⟨by omega, by omega, by omega, r4, run _ (by rw [if_neg (by omega), w64_of (by omega) (by omega)])⟩
      · rw [if_neg h45] at hmi ⊢
        exact ⟨by omega, by omega, by omega, r4, run _ (by rw [if_pos hmi])⟩
  · have hD' : ¬ (48 ≤ pk t e (nI0 t e i) ∧ pk t e (nI0 t e i) ≤ 57) := hD
    rw [if_pos hD]
    rw [if_neg hD'] at h206b
    refine ⟨fun v j hE => (by cases hE), fun p hp => ?_⟩
    cases hp
    refine ⟨nI0 t e i, s1 _ (q207_36 (by omega) hz0 _ ?_)⟩
    rw [gd_of hM0, bI_eq h199b, bI_eq h206b, if_pos rfl, v12, bI_eq (c202 hz0 hM0 v14), gd_of (Or.inl rfl)]
end
