/-! texts: units, characters, quoted strings -/
set_option maxRecDepth 100000
set_option maxHeartbeats 4000000
/-- behind \u -/
def sU (t : Int → Int) (e fi i : Int) : Int ⊕ (List Int × Int) := match f4 t e fi 4 i 0 with
  | .inl p => .inl p
  | .inr u => if 56320 ≤ u ∧ u < 57344 then .inl fi else if u < 55296 ∨ 56319 < u then .inr ([u], i + 4) else
    if ¬ i + 4 < e then .inl (i + 4) else if pk t e (i + 4) ≠ 92 then .inl fi else if ¬ i + 5 < e then .inl (i + 5) else if pk t e (i + 5) ≠ 117 then .inl fi else match f4 t e fi 4 (i + 6) 0 with
      | .inl p => .inl p
      | .inr v => if v < 56320 ∨ 57343 < v then .inl fi else .inr ([u, v], i + 10)
/-- a character -/
def sC (t : Int → Int) (e q i : Int) : Int ⊕ (List Int × Int) :=
  if pk t e i < 32 ∨ 126 < pk t e i then .inl i else if pk t e i ≠ 92 then .inr ([pk t e i], i + 1) else if ¬ i + 1 < e then .inl (i + 1) else
  if pk t e (i + 1) = 47 ∨ pk t e (i + 1) = 92 then .inr ([pk t e (i + 1)], i + 2) else if pk t e (i + 1) = 98 then .inr ([8], i + 2) else if pk t e (i + 1) = 102 then .inr ([12], i + 2) else if pk t e (i + 1) = 110 then .inr ([10], i + 2) else if pk t e (i + 1) = 114 then .inr ([13], i + 2) else if pk t e (i + 1) = 116 then .inr ([9], i + 2) else if pk t e (i + 1) = 117 then sU t e i (i + 2) else if pk t e (i + 1) = q then .inr ([q], i + 2) else .inl i
theorem uts_cons (u : Int) (us : List Int) : uts (u :: us) = utf u ++ uts us := rfl
theorem uts_nil : uts [] = [] := rfl
theorem uts_one (u : Int) : uts [u] = utf u := by rw [uts_cons, uts_nil, List.append_nil]
section
variable {d : Nat} {m : Mem} {T tp e fi i r c q : Int} {t : Int → Int} {xs : List Int}
theorem c71 (hd : 4 ≤ d) (hz : TZ m) (h : TX m T tp e i t) :
    (∀ v, f4 t e fi 4 i 0 = .inr v → 0 ≤ v ∧ v < 65536 ∧ i + 4 ≤ e ∧ cl d 71 [pR T, pI fi] m = some (.inl (some (pI v)), mst m T 2 (i + 4))) ∧
    (∀ p, f4 t e fi 4 i 0 = .inl p → ∃ j, 0 ≤ j ∧ j ≤ e ∧ cl d 71 [pR T, pI fi] m = some (.inr 204, mal (mst (mst m T 2 j) T 3 p) 204 6)) := by
  have hl := c71_l (fi := fi) hd 4 i 0 m pU (by omega) rfl hz h (by omega) (by decide)
  refine ⟨fun v hv => ?_, fun p hp => ?_⟩
  · obtain ⟨b1, b2, b3, b4⟩ := hl.1 v hv
    exact ⟨b1, b2, b3, q71 hz _ b4⟩
  · obtain ⟨j, j0, j1, hj⟩ := hl.2 p hp
    exact ⟨j, j0, j1, q71 hz _ hj⟩
theorem BR.mk2 {j p : Int} (hz : TZ m) (h : TX m T tp e i t) (hI : RI m) (hR : RW m r xs c) : BR T r m c p (mal (mst (mst m T 2 j) T 3 p) 204 6) :=
  (BR.mk (m := mst m T 2 j) hz h.1 (hI.mT (tx_t h.1).1) (hR.mT (tx_t h.1))).at h.1 hI
theorem c70 (hd : 5 ≤ d) (ok : OK m) (hI : RI m) (h : TX m T tp e i t) (hR : RW m r xs c) (hL : xs.length + 6 ≤ 6000) :
    (∀ us j, sU t e fi i = .inr (us, j) → wfU us ∧ i ≤ j ∧ j ≤ e ∧ ∃ m' c', cl d 70 [pR T, pR r, pI fi] m = some (.inl none, m') ∧ TX m' T tp e j t ∧ RG r m c (xs ++ uts us) m' c') ∧
    (∀ p, sU t e fi i = .inl p → ∃ m', cl d 70 [pR T, pR r, pI fi] m = some (.inr 204, m') ∧ BR T r m c p m') := by
  have h1 := c71 (d := d - 1) (fi := fi) (by omega) ok.1 h
  have hT := h.1
  have hr8 := hR.1
  unfold sU
  cases hf : f4 t e fi 4 i 0 with
  | inl p0 =>
    refine ⟨fun us j hq => (by cases hq), fun p hp => ?_⟩
    cases hp
    obtain ⟨j, j0, j1, hj⟩ := h1.2 p0 hf
    refine ⟨_, ?_, BR.mk2 (j := j) ok.1 h hI hR⟩
    refine q70 (by omega) ok.1 _ ?_
    simp (disch := first | assumption | omega) only [↓nm_eq, ↓gd_m1, ↓gd_m2, ↓gd_of, ↓bI_xq hj, bI_xq hj]
  | inr u =>
    obtain ⟨u0, u1, ie, hu⟩ := h1.1 u hf
    have hx1 := h.at (j := i + 4) (by have := h.2.2.2.2.2.1; omega) ie
    have g0 : RG r m c xs (mst m T 2 (i + 4)) c := RG.atR hR hT hI
    have ok0 : OK (mst m T 2 (i + 4)) := ok
    by_cases hs : 56320 ≤ u ∧ u < 57344
    · dsimp only
      rw [if_pos hs]
      refine ⟨fun us j hq => (by cases hq), fun p hp => ?_⟩
      cases hp
      refine ⟨_, ?_, BR.mk2 (j := i + 4) (p := fi) ok.1 h hI hR⟩
      refine q70 (by omega) ok.1 _ ?_
      have h67 := c67 (d := d - 1) (p := fi) (m := mst m T 2 (i + 4)) ok.1 hT
      simp (disch := first | assumption | omega) only [↓nm_eq, ↓gd_m1, ↓gd_m2, ↓gd_of, ↓bI_eq hu, bI_eq hu, ↓if_neg, ↓if_pos, ↓bV_xq h67, bV_xq h67]
    · dsimp only
      rw [if_neg hs]
      obtain ⟨m1, c1, e1, g1⟩ := c132 (d := d - 1) (b := u) (by omega) ok0 g0.2.1.1 g0.1 u0 u1 (by omega)
      have g1' := g0.trans g1 (by simp)
      have ok1 := ok0.fr (cl_FRM e1)
      have hx2 := hx1.fr (cl_FRM e1) ok0.1 (by rfl)
      have l1 : (xs ++ utf u).length ≤ 6000 := by have := utf_len u; simp; omega
      have hrt := g1.1.1
      have hrt0 := g0.1.1
      have step : ∀ Q, rn d 70 23 [pR T, pR r, pI fi, pI u, pU] [] (mst m T 2 (i + 4)) = some Q → cl d 70 [pR T, pR r, pI fi] m = some Q := by
        intro Q hQ
        refine q70 (by omega) ok.1 _ ?_
        by_cases hlo : u < 56320
        · simp (disch := first | assumption | omega) only [↓nm_eq, ↓gd_m1, ↓gd_m2, ↓gd_of, ↓bI_eq hu, bI_eq hu, ↓if_pos]; exact hQ
        · simp (disch := first | assumption | omega) only [↓nm_eq, ↓gd_m1, ↓gd_m2, ↓gd_of, ↓bI_eq hu, bI_eq hu, ↓if_neg]; exact hQ
      by_cases hh : u < 55296 ∨ 56319 < u
      · rw [if_pos hh]
        refine ⟨fun us j hq => ?_, fun p hp => (by cases hp)⟩
        cases hq
        refine ⟨fun w hw => by simp at hw; omega, by omega, ie, m1, c1, step _ ?_, hx2, by rw [uts_one]; exact g1'⟩
        refine q70_23 (by omega) ok0.1 _ ?_
        by_cases hlo : u < 55296
        · simp (disch := first | assumption | omega) only [↓nm_eq, ↓gd_m1, ↓gd_m2, ↓gd_of, ↓bV_eq e1, bV_eq e1, ↓if_pos]
        · simp (disch := first | assumption | omega) only [↓nm_eq, ↓gd_m1, ↓gd_m2, ↓gd_of, ↓bV_eq e1, bV_eq e1, ↓if_pos, ↓if_neg]
      · rw [if_neg hh]
        obtain ⟨b1, b2, b3, b4, b5, b6, b7⟩ := hx2
        have hx2 : TX m1 T tp e (i + 4) t := ⟨b1, b2, b3, b4, b5, b6, b7⟩
        have h63 := c63 (d := d - 1) ok1.1 hx2
        have h66 := c66_1 (d := d - 1) (T := T) (m := m1) (by omega) ok1.1
        have h660 := c66_0 (d := d - 1) (by omega) ok1.1 hx2
        have h67 := c67 (d := d - 1) (p := fi) ok1.1 b1
        by_cases he4 : i + 4 < e
        · rw [if_neg (by omega)]
          by_cases h92 : pk t e (i + 4) = 92
          · rw [if_neg (by omega)]
            have hx3 := hx2.at (j := i + 5) (by omega) (by omega)
            have hz3 : TZ (mst m1 T 2 (i + 5)) := ok1.1
            have h63b := c63 (d := d - 1) hz3 hx3
            have h66b := c66_1 (d := d - 1) (T := T) (m := mst m1 T 2 (i + 5)) (by omega) hz3
            have h660b := c66_0 (d := d - 1) (by omega) hz3 hx3
            have h67b := c67 (d := d - 1) (p := fi) (m := mst m1 T 2 (i + 5)) hz3 b1
            have st2 : ∀ Q, rn d 70 75 [pR T, pR r, pI fi, pI u, pU] [] m1 = some Q → cl d 70 [pR T, pR r, pI fi] m = some Q := by
              intro Q hQ
              refine step _ (q70_23 (by omega) ok0.1 _ ?_)
              simp (disch := first | assumption | omega) only [↓nm_eq, ↓gd_m1, ↓gd_m2, ↓gd_of, ↓bV_eq e1, bV_eq e1, ↓if_neg, b3, b4, ↓if_pos]
              refine q70_58 (by omega) ok1.1 _ ?_
              simp (disch := first | assumption | omega) only [↓nm_eq, ↓gd_m1, ↓gd_m2, ↓gd_of, ↓bV_eq h66, bV_eq h66, ↓bI_eq h63, bI_eq h63, ↓if_pos]
              exact hQ
            by_cases he5 : i + 5 < e
            · rw [if_neg (by omega)]
              have st3 : ∀ Q, rn d 70 102 [pR T, pR r, pI fi, pI u, pU] [pI 1, pR T] (mst m1 T 2 (i + 5)) = some Q → cl d 70 [pR T, pR r, pI fi] m = some Q := by
                intro Q hQ
                refine st2 _ (q70_75 ok1.1 _ ?_)
                have e5 : i + 4 + 1 = i + 5 := by omega
                simp (disch := first | assumption | omega) only [↓nm_eq, ↓gd_m1, ↓gd_m2, ↓gd_of, b3, b4, w32_of, e5, ↓if_pos]
                exact hQ
              by_cases h117 : pk t e (i + 5) = 117
              · rw [if_neg (by omega)]
                have hx4 := hx3.at (j := i + 6) (by omega) (by omega)
                rw [mst_mst] at hx4
                have hz4 : TZ (mst m1 T 2 (i + 6)) := ok1.1
                have h2 := c71 (d := d - 1) (fi := fi) (m := mst m1 T 2 (i + 6)) (by omega) hz4 hx4
                have e24 : vl (mst m1 T 2 (i + 5)) T 2 = i + 5 := by rw [vl_mst, if_pos ⟨rfl, rfl⟩]
                have st4 : ∀ Q, rn d 70 119 [pR T, pR r, pI fi, pI u, pU] [] (mst m1 T 2 (i + 5)) = some Q → cl d 70 [pR T, pR r, pI fi] m = some Q := by
                  intro Q hQ
                  refine st3 _ (q70_102 (by omega) hz3 _ ?_)
                  simp (disch := first | assumption | omega) only [↓nm_eq, ↓gd_m1, ↓gd_m2, ↓gd_of, ↓bV_eq h66b, bV_eq h66b, ↓bI_eq h63b, bI_eq h63b, ↓if_pos]
                  exact hQ
                have e6 : i + 5 + 1 = i + 6 := by omega
                cases hf2 : f4 t e fi 4 (i + 6) 0 with
                | inl p0 =>
                  refine ⟨fun us j hq => (by cases hq), fun p hp => ?_⟩
                  cases hp
                  obtain ⟨j, j0, j1, hj⟩ := h2.2 p0 hf2
                  rw [mst_mst] at hj
                  refine ⟨_, ?_, (BR.mk2 (j := j) ok1.1 hx2 g1.2.1.1 g1.1).pre g1' l1⟩
                  refine st4 _ (q70_119 (by omega) hz3 _ ?_)
                  simp (disch := first | assumption | omega) only [↓nm_eq, ↓gd_m1, ↓gd_m2, ↓gd_of, e24, w32_of, e6, mst_mst, ↓bI_xq hj, bI_xq hj]
                | inr v =>
                  obtain ⟨v0, v1, ie2, hv⟩ := h2.1 v hf2
                  rw [mst_mst] at hv
                  dsimp only
                  have e10 : i + 6 + 4 = i + 10 := by omega
                  rw [e10] at hv
                  by_cases hlo : v < 56320 ∨ 57343 < v
                  · rw [if_pos hlo]
                    refine ⟨fun us j hq => (by cases hq), fun p hp => ?_⟩
                    cases hp
                    have h67c := c67 (d := d - 1) (p := fi) (m := mst m1 T 2 (i + 10)) ok1.1 b1
                    refine ⟨_, ?_, (BR.mk2 (j := i + 10) (p := fi) ok1.1 hx2 g1.2.1.1 g1.1).pre g1' l1⟩
                    have st5 : rn d 70 150 [pR T, pR r, pI fi, pI u, pI v] [] (mst m1 T 2 (i + 10)) = some (.inr 204, mal (mst (mst m1 T 2 (i + 10)) T 3 fi) 204 6) := by
                      have hzA : TZ (mst m1 T 2 (i + 10)) := ok1.1
                      refine q70_150 (by omega) hzA _ ?_
                      simp (disch := first | assumption | omega) only [↓nm_eq, ↓gd_m1, ↓gd_m2, ↓gd_of, ↓bV_xq h67c, bV_xq h67c]
                    refine st4 _ (q70_119 (by omega) hz3 _ ?_)
                    simp (disch := first | assumption | omega) only [↓nm_eq, ↓gd_m1, ↓gd_m2, ↓gd_of, e24, w32_of, e6, mst_mst, ↓bI_eq hv, bI_eq hv]
                    by_cases hA : v < 56320
                    · rw [if_pos hA]; exact st5
                    · rw [if_neg hA, if_pos (by omega)]; exact st5
                  · rw [if_neg hlo]
                    refine ⟨fun us j hq => ?_, fun p hp => (by cases hp)⟩
                    cases hq
                    have gA : RG r m1 c1 (xs ++ utf u) (mst m1 T 2 (i + 10)) c1 := RG.atR g1.1 b1 g1.2.1.1
                    have okA : OK (mst m1 T 2 (i + 10)) := ok1
                    obtain ⟨m2, c2, e2, g2⟩ := c132 (d := d - 1) (b := v) (by omega) okA gA.2.1.1 gA.1 v0 v1 (by omega)
                    have hx5 := (hx2.at (j := i + 10) (by omega) (by omega)).fr (cl_FRM e2) okA.1 (by rfl)
                    have gF := (g1'.trans gA (by simp)).trans g2 (by simp)
                    have hrt2 : tg m1 r = 8 := gA.1.1
                    refine ⟨fun w hw => by simp at hw; omega, by omega, by omega, m2, c2, ?_, hx5, ?_⟩
                    · refine st4 _ (q70_119 (by omega) hz3 _ ?_)
                      simp (disch := first | assumption | omega) only [↓nm_eq, ↓gd_m1, ↓gd_m2, ↓gd_of, e24, w32_of, e6, mst_mst, ↓bI_eq hv, bI_eq hv, ↓if_neg, ↓bV_eq e2, bV_eq e2]
                    · rw [uts_cons, uts_one, ← List.append_assoc]; exact gF
              · rw [if_pos (by omega)]
                refine ⟨fun us j hq => (by cases hq), fun p hp => ?_⟩
                cases hp
                refine ⟨_, ?_, (BR.mk2 (j := i + 5) (p := fi) ok1.1 hx2 g1.2.1.1 g1.1).pre g1' l1⟩
                refine st3 _ (q70_102 (by omega) hz3 _ ?_)
                simp (disch := first | assumption | omega) only [↓nm_eq, ↓gd_m1, ↓gd_m2, ↓gd_of, ↓bV_eq h66b, bV_eq h66b, ↓bI_eq h63b, bI_eq h63b, ↓if_neg, ↓bV_xq h67b, bV_xq h67b]
            · rw [if_pos (by omega)]
              refine ⟨fun us j hq => (by cases hq), fun p hp => ?_⟩
              cases hp
              refine ⟨_, ?_, (BR.mk2 (j := i + 5) (p := i + 5) ok1.1 hx2 g1.2.1.1 g1.1).pre g1' l1⟩
              refine st2 _ (q70_75 ok1.1 _ ?_)
              have e5 : i + 4 + 1 = i + 5 := by omega
              simp (disch := first | assumption | omega) only [↓nm_eq, ↓gd_m1, ↓gd_m2, ↓gd_of, b3, b4, w32_of, e5, ↓if_neg]
              refine q70_102 (by omega) hz3 _ ?_
              simp (disch := first | assumption | omega) only [↓nm_eq, ↓gd_m1, ↓gd_m2, ↓gd_of, ↓bV_xq h660b, bV_xq h660b]
          · rw [if_pos (by omega)]
            refine ⟨fun us j hq => (by cases hq), fun p hp => ?_⟩
            cases hp
            refine ⟨_, ?_, (BR.mk (p := fi) ok1.1 b1 g1.2.1.1 g1.1).pre g1' l1⟩
            refine step _ (q70_23 (by omega) ok0.1 _ ?_)
            simp (disch := first | assumption | omega) only [↓nm_eq, ↓gd_m1, ↓gd_m2, ↓gd_of, ↓bV_eq e1, bV_eq e1, ↓if_neg, b3, b4, ↓if_pos]
            refine q70_58 (by omega) ok1.1 _ ?_
            simp (disch := first | assumption | omega) only [↓nm_eq, ↓gd_m1, ↓gd_m2, ↓gd_of, ↓bV_eq h66, bV_eq h66, ↓bI_eq h63, bI_eq h63, ↓if_neg, ↓bV_xq h67, bV_xq h67]
        · rw [if_pos (by omega)]
          refine ⟨fun us j hq => (by cases hq), fun p hp => ?_⟩
          cases hp
          refine ⟨_, ?_, (BR.mk (p := i + 4) ok1.1 b1 g1.2.1.1 g1.1).pre g1' l1⟩
          refine step _ (q70_23 (by omega) ok0.1 _ ?_)
          simp (disch := first | assumption | omega) only [↓nm_eq, ↓gd_m1, ↓gd_m2, ↓gd_of, ↓bV_eq e1, bV_eq e1, ↓if_neg, b3, b4]
          refine q70_58 (by omega) ok1.1 _ ?_
          simp (disch := first | assumption | omega) only [↓nm_eq, ↓gd_m1, ↓gd_m2, ↓gd_of, ↓bV_xq h660, bV_xq h660]
theorem sU_len {us : List Int} {j : Int} (h : sU t e fi i = .inr (us, j)) : (uts us).length ≤ 3 * (j - i) ∧ i < j := by
  unfold sU at h
  split at h
  · cases h
  · rename_i u _
    split at h
    · cases h
    · split at h
      · cases h
        have := utf_len u
        rw [uts_one]; omega
      · split at h
        · cases h
        · split at h
          · cases h
          · split at h
            · cases h
            · split at h
              · cases h
              · split at h
                · cases h
                · rename_i v _
                  split at h
                  · cases h
                  · cases h
                    have := utf_len u
                    have := utf_len v
                    rw [uts_cons, uts_one, List.length_append]; omega
theorem c69 (hd : 6 ≤ d) (ok : OK m) (hI : RI m) (h : TX m T tp e i t) (hR : RW m r xs c) (hL : xs.length + 6 ≤ 6000) (hq : q = 34 ∨ q = 39) :
    (∀ us j, sC t e q i = .inr (us, j) → wfU us ∧ i < j ∧ j ≤ e ∧ ∃ m' c', cl d 69 [pR T, pR r, pI q] m = some (.inl none, m') ∧ TX m' T tp e j t ∧ RG r m c (xs ++ uts us) m' c') ∧
    (∀ p, sC t e q i = .inl p → ∃ m', cl d 69 [pR T, pR r, pI q] m = some (.inr 204, m') ∧ BR T r m c p m') := by
  have hT := h.1
  have hr8 := hR.1
  have h63 := c63 (d := d - 1) ok.1 h
  have h66 := c66_1 (d := d - 1) (T := T) (m := m) (by omega) ok.1
  have h660 := c66_0 (d := d - 1) (by omega) ok.1 h
  have hpr := pkf_rng t e i
  obtain ⟨b1, b2, b3, b4, b5, b6, b7⟩ := h
  have h : TX m T tp e i t := ⟨b1, b2, b3, b4, b5, b6, b7⟩
  unfold sC
  by_cases hb : pk t e i < 32 ∨ 126 < pk t e i
  · rw [if_pos hb]
    refine ⟨fun us j hq => (by cases hq), fun p hp => ?_⟩
    cases hp
    refine ⟨_, ?_, BR.mk (p := i) ok.1 b1 hI hR⟩
    have st : rn d 69 31 [pR T, pR r, pI q, pI i, pI (pk t e i), pU] [pI 0, pR T] m = some (.inr 204, mal (mst m T 3 i) 204 6) := by
      refine q69_31 (by omega) ok.1 _ ?_
      simp (disch := first | assumption | omega) only [↓nm_eq, ↓gd_m1, ↓gd_m2, ↓gd_of, ↓bV_xq h660, bV_xq h660]
    refine q69 (by omega) ok.1 _ ?_
    simp (disch := first | assumption | omega) only [↓nm_eq, ↓gd_m1, ↓gd_m2, ↓gd_of, b4, ↓bI_eq h63, bI_eq h63]
    by_cases hA : pk t e i < 32
    · rw [if_pos hA]; exact st
    · rw [if_neg hA, if_pos (by omega)]; exact st
  · rw [if_neg hb]
    have hie : i < e := pkf_lt (t := t) (by omega)
    have st : ∀ Q, rn d 69 31 [pR T, pR r, pI q, pI i, pI (pk t e i), pU] [pI 1, pR T] m = some Q → cl d 69 [pR T, pR r, pI q] m = some Q := by
      intro Q hQ
      refine q69 (by omega) ok.1 _ ?_
      simp (disch := first | assumption | omega) only [↓nm_eq, ↓gd_m1, ↓gd_m2, ↓gd_of, b4, ↓bI_eq h63, bI_eq h63, ↓if_neg]
      exact hQ
    have g0 : RG r m c xs (mst m T 2 (i + 1)) c := RG.atR hR hT hI
    have ok0 : OK (mst m T 2 (i + 1)) := ok
    have hx0 := h.at (j := i + 1) (by omega) (by omega)
    by_cases h92 : pk t e i = 92
    · rw [if_neg (by omega)]
      by_cases h1 : i + 1 < e
      · rw [if_neg (by omega)]
        have h63b := c63 (d := d - 1) ok0.1 hx0
        have h66b := c66_1 (d := d - 1) (T := T) (m := mst m T 2 (i + 1)) (by omega) ok0.1
        have hpr2 := pkf_rng t e (i + 1)
        have st2 : ∀ Q, rn d 69 75 [pR T, pR r, pI q, pI i, pI (pk t e i), pU] [pI 1, pR T] (mst m T 2 (i + 1)) = some Q → cl d 69 [pR T, pR r, pI q] m = some Q := by
          intro Q hQ
          refine st _ (q69_31 (by omega) ok.1 _ ?_)
          simp (disch := first | assumption | omega) only [↓nm_eq, ↓gd_m1, ↓gd_m2, ↓gd_of, ↓bV_eq h66, bV_eq h66, b3, b4, w32_of, ↓if_pos]
          exact hQ
        have e21 : vl (mst m T 2 (i + 1)) T 2 = i + 1 := by rw [vl_mst, if_pos ⟨rfl, rfl⟩]
        have e2 : i + 1 + 1 = i + 2 := by omega
        have ok1 : OK (mst m T 2 (i + 2)) := ok
        have hx1 := h.at (j := i + 2) (by omega) (by omega)
        have g1 : RG r m c xs (mst m T 2 (i + 2)) c := RG.atR hR hT hI
        have unit : ∀ b, 0 ≤ b → b < 65536 → (∀ m2, cl (d - 1) 132 [pR r, pI b] (mst m T 2 (i + 2)) = some (.inl none, m2) → rn d 69 75 [pR T, pR r, pI q, pI i, pI (pk t e i), pU] [pI 1, pR T] (mst m T 2 (i + 1)) = some (.inl none, m2)) → wfU [b] ∧ i < i + 2 ∧ i + 2 ≤ e ∧ ∃ m' c', cl d 69 [pR T, pR r, pI q] m = some (.inl none, m') ∧ TX m' T tp e (i + 2) t ∧ RG r m c (xs ++ uts [b]) m' c' := by
          intro b hb0 hb1 hc
          obtain ⟨m2, c2, e3, g2⟩ := c132 (d := d - 1) (b := b) (by omega) ok1 g1.2.1.1 g1.1 hb0 hb1 (by omega)
          refine ⟨fun w hw => by simp at hw; omega, by omega, by omega, m2, c2, st2 _ (hc m2 e3), hx1.fr (cl_FRM e3) ok1.1 (by rfl), ?_⟩
          rw [uts_one]; exact g1.trans g2 (by simp)
        have go : ∀ (b : Int) (us : List Int) (j : Int), (Sum.inr ([b], i + 2) : Int ⊕ (List Int × Int)) = Sum.inr (us, j) → (wfU [b] ∧ i < i + 2 ∧ i + 2 ≤ e ∧ ∃ m' c', cl d 69 [pR T, pR r, pI q] m = some (.inl none, m') ∧ TX m' T tp e (i + 2) t ∧ RG r m c (xs ++ uts [b]) m' c') → wfU us ∧ i < j ∧ j ≤ e ∧ ∃ m' c', cl d 69 [pR T, pR r, pI q] m = some (.inl none, m') ∧ TX m' T tp e j t ∧ RG r m c (xs ++ uts us) m' c' := by
          intro b us j hE hU; cases hE; exact hU
        by_cases k1 : pk t e (i + 1) = 47 ∨ pk t e (i + 1) = 92
        · rw [if_pos k1]
          refine ⟨fun us j hE => go _ us j hE (unit _ (by omega) (by omega) (fun m2 e3 => ?_)), fun p hp => (by cases hp)⟩
          refine q69_75 (by omega) ok0.1 _ ?_
          simp (disch := first | assumption | omega) only [↓nm_eq, ↓gd_m1, ↓gd_m2, ↓gd_of, ↓bV_eq h66b, bV_eq h66b, ↓bI_eq h63b, bI_eq h63b, ↓if_pos, e21, w32_of, e2, mst_mst, ↓bV_eq e3, bV_eq e3]
        · rw [if_neg k1]
          by_cases k2 : pk t e (i + 1) = 98
          · rw [if_pos k2]
            refine ⟨fun us j hE => go _ us j hE (unit _ (by omega) (by omega) (fun m2 e3 => ?_)), fun p hp => (by cases hp)⟩
            refine q69_75 (by omega) ok0.1 _ ?_
            simp (disch := first | assumption | omega) only [↓nm_eq, ↓gd_m1, ↓gd_m2, ↓gd_of, ↓bV_eq h66b, bV_eq h66b, ↓bI_eq h63b, bI_eq h63b, ↓if_neg, ↓if_pos, e21, w32_of, e2, mst_mst, ↓bV_eq e3, bV_eq e3]
          · rw [if_neg k2]
            by_cases k3 : pk t e (i + 1) = 102
            · rw [if_pos k3]
              refine ⟨fun us j hE => go _ us j hE (unit _ (by omega) (by omega) (fun m2 e3 => ?_)), fun p hp => (by cases hp)⟩
              refine q69_75 (by omega) ok0.1 _ ?_
              simp (disch := first | assumption | omega) only [↓nm_eq, ↓gd_m1, ↓gd_m2, ↓gd_of, ↓bV_eq h66b, bV_eq h66b, ↓bI_eq h63b, bI_eq h63b, ↓if_neg, ↓if_pos, e21, w32_of, e2, mst_mst, ↓bV_eq e3, bV_eq e3]
            · rw [if_neg k3]
              by_cases k4 : pk t e (i + 1) = 110
              · rw [if_pos k4]
                refine ⟨fun us j hE => go _ us j hE (unit _ (by omega) (by omega) (fun m2 e3 => ?_)), fun p hp => (by cases hp)⟩
                refine q69_75 (by omega) ok0.1 _ ?_
                simp (disch := first | assumption | omega) only [↓nm_eq, ↓gd_m1, ↓gd_m2, ↓gd_of, ↓bV_eq h66b, bV_eq h66b, ↓bI_eq h63b, bI_eq h63b, ↓if_neg, ↓if_pos, e21, w32_of, e2, mst_mst, ↓bV_eq e3, bV_eq e3]
              · rw [if_neg k4]
                by_cases k5 : pk t e (i + 1) = 114
                · rw [if_pos k5]
                  refine ⟨fun us j hE => go _ us j hE (unit _ (by omega) (by omega) (fun m2 e3 => ?_)), fun p hp => (by cases hp)⟩
                  refine q69_75 (by omega) ok0.1 _ ?_
                  simp (disch := first | assumption | omega) only [↓nm_eq, ↓gd_m1, ↓gd_m2, ↓gd_of, ↓bV_eq h66b, bV_eq h66b, ↓bI_eq h63b, bI_eq h63b, ↓if_neg, ↓if_pos, e21, w32_of, e2, mst_mst, ↓bV_eq e3, bV_eq e3]
                · rw [if_neg k5]
                  by_cases k6 : pk t e (i + 1) = 116
                  · rw [if_pos k6]
                    refine ⟨fun us j hE => go _ us j hE (unit _ (by omega) (by omega) (fun m2 e3 => ?_)), fun p hp => (by cases hp)⟩
                    refine q69_75 (by omega) ok0.1 _ ?_
                    simp (disch := first | assumption | omega) only [↓nm_eq, ↓gd_m1, ↓gd_m2, ↓gd_of, ↓bV_eq h66b, bV_eq h66b, ↓bI_eq h63b, bI_eq h63b, ↓if_neg, ↓if_pos, e21, w32_of, e2, mst_mst, ↓bV_eq e3, bV_eq e3]
                  · rw [if_neg k6]
                    by_cases k7 : pk t e (i + 1) = 117
                    · rw [if_pos k7]
                      have hu := c70 (d := d - 1) (fi := i) (m := mst m T 2 (i + 2)) (by omega) ok1 g1.2.1.1 hx1 g1.1 hL
                      refine ⟨fun us j hE => ?_, fun p hp => ?_⟩
                      · obtain ⟨a1, a2, a3, m2, c2, e3, a4, a5⟩ := hu.1 us j hE
                        refine ⟨a1, by omega, a3, m2, c2, st2 _ ?_, a4, g1.trans a5 (by simp)⟩
                        refine q69_75 (by omega) ok0.1 _ ?_
                        simp (disch := first | assumption | omega) only [↓nm_eq, ↓gd_m1, ↓gd_m2, ↓gd_of, ↓bV_eq h66b, bV_eq h66b, ↓bI_eq h63b, bI_eq h63b, ↓if_neg, ↓if_pos, e21, w32_of, e2, mst_mst, ↓bV_eq e3, bV_eq e3]
                      · obtain ⟨m2, e3, a4⟩ := hu.2 p hp
                        refine ⟨m2, st2 _ ?_, a4.at hT hI⟩
                        refine q69_75 (by omega) ok0.1 _ ?_
                        simp (disch := first | assumption | omega) only [↓nm_eq, ↓gd_m1, ↓gd_m2, ↓gd_of, ↓bV_eq h66b, bV_eq h66b, ↓bI_eq h63b, bI_eq h63b, ↓if_neg, ↓if_pos, e21, w32_of, e2, mst_mst, ↓bV_xq e3, bV_xq e3]
                    · rw [if_neg k7]
                      by_cases k8 : pk t e (i + 1) = q
                      · rw [if_pos k8]
                        refine ⟨fun us j hE => go _ us j hE (unit _ (by omega) (by omega) (fun m2 e3 => ?_)), fun p hp => (by cases hp)⟩
                        refine q69_75 (by omega) ok0.1 _ ?_
                        rw [k8] at h63b
                        simp (disch := first | assumption | omega) only [↓nm_eq, ↓gd_m1, ↓gd_m2, ↓gd_of, ↓bV_eq h66b, bV_eq h66b, ↓bI_eq h63b, bI_eq h63b, ↓if_neg, ↓if_pos, e21, w32_of, e2, mst_mst, ↓bV_eq e3, bV_eq e3]
                      · rw [if_neg k8]
                        refine ⟨fun us j hq => (by cases hq), fun p hp => ?_⟩
                        cases hp
                        have h67 := c67 (d := d - 1) (p := i) (m := mst m T 2 (i + 2)) ok1.1 b1
                        refine ⟨_, st2 _ ?_, BR.mk2 (j := i + 2) (p := i) ok.1 h hI hR⟩
                        refine q69_75 (by omega) ok0.1 _ ?_
                        simp (disch := first | assumption | omega) only [↓nm_eq, ↓gd_m1, ↓gd_m2, ↓gd_of, ↓bV_eq h66b, bV_eq h66b, ↓bI_eq h63b, bI_eq h63b, ↓if_neg, ↓if_pos, e21, w32_of, e2, mst_mst, ↓bV_xq h67, bV_xq h67]
      · rw [if_pos (by omega)]
        refine ⟨fun us j hq => (by cases hq), fun p hp => ?_⟩
        cases hp
        have h660b := c66_0 (d := d - 1) (by omega) ok0.1 hx0
        refine ⟨_, st _ ?_, BR.mk2 (j := i + 1) (p := i + 1) ok.1 h hI hR⟩
        refine q69_31 (by omega) ok.1 _ ?_
        simp (disch := first | assumption | omega) only [↓nm_eq, ↓gd_m1, ↓gd_m2, ↓gd_of, ↓bV_eq h66, bV_eq h66, b3, b4, w32_of, ↓if_pos, ↓if_neg]
        refine q69_75 (by omega) ok0.1 _ ?_
        simp (disch := first | assumption | omega) only [↓nm_eq, ↓gd_m1, ↓gd_m2, ↓gd_of, ↓bV_xq h660b, bV_xq h660b]
    · rw [if_pos (by omega)]
      refine ⟨fun us j hE => ?_, fun p hp => (by cases hp)⟩
      cases hE
      obtain ⟨m2, c2, e3, g2⟩ := c132 (d := d - 1) (b := pk t e i) (by omega) ok0 g0.2.1.1 g0.1 (by omega) (by omega) (by omega)
      refine ⟨fun w hw => by simp at hw; omega, by omega, by omega, m2, c2, st _ ?_, hx0.fr (cl_FRM e3) ok0.1 (by rfl), by rw [uts_one]; exact g0.trans g2 (by simp)⟩
      refine q69_31 (by omega) ok.1 _ ?_
      simp (disch := first | assumption | omega) only [↓nm_eq, ↓gd_m1, ↓gd_m2, ↓gd_of, ↓bV_eq h66, bV_eq h66, b3, b4, w32_of, ↓if_neg, ↓bV_eq e3, bV_eq e3]
theorem sC_len {us : List Int} {j : Int} (h : sC t e q i = .inr (us, j)) : (uts us).length ≤ 3 * (j - i) := by
  unfold sC at h
  have one : ∀ (b k : Int), i + 1 ≤ k → (Sum.inr ([b], k) : Int ⊕ (List Int × Int)) = Sum.inr (us, j) → ((uts us).length : Int) ≤ 3 * (j - i) := by
    intro b k hk hE; cases hE
    have := utf_len b
    rw [uts_one]; omega
  split at h
  · cases h
  · split at h
    · exact one _ _ (by omega) h
    · split at h
      · cases h
      · iterate 6 (split at h; exact one _ _ (by omega) h)
        split at h
        · have := sU_len h; omega
        · split at h
          · exact one _ _ (by omega) h
          · cases h
end
