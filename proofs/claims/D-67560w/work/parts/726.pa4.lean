/-! the patcher: a pointer's tokens -/
set_option maxRecDepth 100000
set_option maxHeartbeats 4000000
theorem uts_ge (us : List Int) : us.length ≤ (uts us).length := by
  induction us with
  | nil => simp
  | cons u us ih => rw [uts_cons]; have := utf_len u; simp only [List.length_append, List.length_cons]; omega
section
variable {d : Nat} {m : Mem} {P r c a ct : Int} {xs ts us : List Int}
theorem c120 (hd : 3 ≤ d) (hP : tg m P = 7) (hsa : tg m (vl m P 10) = 112101 ∧ ln m (vl m P 10) = 16384) (ok : OK m) (hI : RI m) (hR : RW m r xs c) (hT : RW m (vl m P 9) ts ct) (hne : r ≠ vl m P 9) (hA : At xs a (4 :: nmB us)) (hw : wfU us) (hx : xs.length < 60000) (hl : (uts us).length ≤ 1900) :
    (∀ tks, ptr us = some tks → ∃ m' c', cl d 120 [pR P, pR r, pI a] m = some (.inl none, m') ∧ RG (vl m P 9) m ct (tkB tks) m' c' ∧ PIV m' P (vl m P 9) (vl m P 10) (stL 0 tks)) ∧
    (ptr us = none → ∃ m', cl d 120 [pR P, pR r, pI a] m = some (.inr 206, m') ∧ RX (vl m P 9) m ct m') := by
  have hP8 : tg m P ≠ 8 ∧ tg m P < 100 := by omega
  have g1 := RG.clear hT hI ok
  have g2 : RG (vl m P 9) m ct [] (mst (mst m (vl m P 9) 1 0) P 11 0) ct := g1.trans (RG.mT (m := mst m (vl m P 9) 1 0) (T := P) (f := 11) (v := 0) g1.1 hP8 g1.2.1.1) (Nat.le_refl _)
  have hPr : P ≠ vl m P 9 := by intro q; have := hT.1; rw [← q] at this; omega
  have hPs : P ≠ vl m P 10 := by intro q; have := hsa.1; rw [← q] at this; omega
  have hsr : vl m P 10 ≠ vl m P 9 := by intro q; have := hT.1; rw [← q] at this; omega
  have h2 : PIV (mst (mst m (vl m P 9) 1 0) P 11 0) P (vl m P 9) (vl m P 10) [] := by
    refine ⟨ok, hP, ?_, ?_, hsa.1, hsa.2, ?_, fun j j0 j1 => absurd j1 (by simp; omega)⟩
    · rw [vl_mst, if_neg (by omega), vl_mst, if_neg (by omega)]
    · rw [vl_mst, if_neg (by omega), vl_mst, if_neg (by omega)]
    · rw [vl_mst, if_pos ⟨rfl, rfl⟩]; rfl
  have hR2 : RW (mst (mst m (vl m P 9) 1 0) P 11 0) r xs c := g2.2.1.2 r hne xs c hR
  have hlen := nmB_len us
  have ha0 := hA.1
  have ha1 := hA.2.1
  simp only [List.length_cons] at ha1
  have h137 := c137 (d := d - 1) (nd := (4, 0, us, [])) (l := foN) (a := a) (by omega) h2.1.1 hR2 hA ⟨by show 4 ≤ 6; decide, z53.1, z53.2, hw, fun u hu => absurd hu (by simp)⟩ (by show (4 :: nmB us).length < 65536; simp only [List.length_cons]; omega)
  have e1 : a + ((enV (4, 0, us, []) foN).length : Int) = a + 3 + (uts us).length := by
    show a + ((4 :: nmB us).length : Int) = _
    simp only [List.length_cons]; omega
  rw [e1] at h137
  have hB : At xs (a + 3) (uts us) := by
    have := hA.cons.2.app.2
    rw [l2_len] at this
    rw [show a + 3 = a + 1 + ((2 : Nat) : Int) by omega]; exact this
  have s0 : ∀ Q, rn d 120 24 [pR P, pR r, pI a, pI (a + 3 + (uts us).length), pI (a + 3), pU, pU] [] (mst (mst m (vl m P 9) 1 0) P 11 0) = some Q → cl d 120 [pR P, pR r, pI a] m = some Q := by
    intro Q hQ
    refine q120 (by omega) ok.1 _ ?_
    rw [gd_of hP, nm_eq, gd_of hT.1, gd_of hR.1, bI_eq h137, w32_of (by omega) (by omega)]; exact hQ
  generalize hm2 : mst (mst m (vl m P 9) 1 0) P 11 0 = m2 at *
  clear h137 g1 hm2 e1
  cases us with
  | nil =>
    refine ⟨fun tks ht => ?_, fun ht => (by cases ht)⟩
    cases ht
    refine ⟨m2, ct, s0 _ (q120_24 h2.1.1 rfl rfl _ ?_), g2, h2⟩
    rw [if_neg (by rw [uts_nil]; simp)]
  | cons u us =>
    have hu := hw u (by simp)
    have hul := utf_len u
    have hB0 := hB
    rw [uts_cons] at hB
    obtain ⟨hB1, hB2⟩ := hB
    have hB3 := hB0.2.1
    have hug := uts_ge us
    by_cases h47 : u = 47
    · subst h47
      have hpt : ptr (47 :: us) = pTk [] us := by show (if (47 : Int) = 47 then pTk [] us else none) = _; rw [if_pos rfl]
      have hBc : At xs (a + 3) (47 :: uts us) := hB0
      have hlu : (uts (47 :: us)).length = (uts us).length + 1 := by rw [uts_cons]; simp [utf]
      have hg := hBc.cons.1
      obtain ⟨m3, c3, g3, h3, s3⟩ := c120_24 (d := d) (a2 := a) (e := a + 3 + (uts (47 :: us)).length) (k := a + 3) (tks := []) (z5 := pU) (z6 := pU) (by omega) rfl rfl h2 g2.2.1.1 hne hR2 g2.1 (by simp [tkB]) (by simp) ⟨by omega, by omega, by omega⟩ hx hg
      have hmain := c120_96 (d := d) (P := P) (r := r) (rt := vl m P 9) (sa := vl m P 10) (c := c) (a2 := a) (e := a + 3 + (uts (47 :: us)).length) (xs := xs) (by omega) hne hx (by omega) _ us (Nat.le_refl _) [] [] m3 (a + 3 + 1) c3 pU rfl (fun x hx => hw x (by simp [hx])) h3 g3.2.1.1 (g3.2.1.2 r hne xs c hR2) g3.1 hBc.cons.2 (by omega) (by simp [tkB, uts_nil]; omega) (by simp; omega)
      rw [hpt]
      refine ⟨fun tks ht => ?_, fun ht => ?_⟩
      · obtain ⟨m4, c4, e4, g4, h4⟩ := hmain.1 tks ht
        have hge := pTk_len (tks := []) ht
        exact ⟨m4, c4, s0 _ (s3 _ e4), (g2.trans g3 (by simp)).trans g4 hge, h4⟩
      · obtain ⟨m4, e4, x4⟩ := hmain.2 ht
        exact ⟨m4, s0 _ (s3 _ e4), (x4.pre g3 (by simp [tkB])).pre g2 (by simp)⟩
    · have hpt : ptr (u :: us) = none := by show (if u = 47 then pTk [] us else none) = _; rw [if_neg h47]
      rw [hpt]
      refine ⟨fun tks ht => (by cases ht), fun _ => ?_⟩
      have hll := hR2.2.2.2.2.1
      have hlc := hR2.2.2.1
      have hul2 : 1 ≤ (uts (u :: us)).length := by rw [uts_cons, List.length_append]; omega
      have hgk : gi xs (a + 3) ≠ 47 := by
        rw [uts_cons] at hB0
        by_cases h128 : u < 128
        · have ex : utf u = [u] := by unfold utf; rw [if_pos h128]
          rw [ex] at hB0
          rw [hB0.cons.1]; exact h47
        · obtain ⟨b, r', e1, e2⟩ := utf_big (u := u) (by omega)
          rw [e1] at hB0
          rw [hB0.cons.1]; omega
      have hgv : vl m2 (vl m2 r 0) (a + 3) = gi xs (a + 3) := hR2.2.2.2.2.2.2 _ (by omega) (by omega)
      refine ⟨_, s0 _ (q120_24 h2.1.1 rfl rfl _ ?_), RX.of (t := 206) g2 h2.1 (by simp) (by decide)⟩
      rw [if_pos (by omega), gd_of hR2.1, nm_eq, gd_of hR2.2.1, gd_of ⟨by omega, by omega⟩, hgv, if_neg hgk]
      refine q120_47 (by omega) h2.1.1 rfl rfl _ ?_
      rw [bV_xq (c115_0 h2.1.1)]
end
