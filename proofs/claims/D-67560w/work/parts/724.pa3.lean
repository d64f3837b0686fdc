/-! the patcher: pointers, all of it -/
set_option maxRecDepth 100000
set_option maxHeartbeats 4000000
theorem pTk_sl (acc r : List Int) : pTk acc (47 :: r) = (pTk [] r).map (acc :: ·) := by
  cases r with
  | nil => rfl
  | cons x r => rw [pTk, if_pos rfl]
theorem pTk_u {u : Int} (acc r : List Int) (h : u ≠ 47 ∧ u ≠ 126) : pTk acc (u :: r) = pTk (acc ++ [u]) r := by
  cases r with
  | nil => simp [pTk, h.1, h.2]
  | cons x r => rw [pTk, if_neg h.1, if_neg h.2]
theorem pTk_hd : ∀ (n : Nat) (acc l : List Int) (ts : List (List Int)), l.length ≤ n → pTk acc l = some ts → ∃ t0 t1, ts = t0 :: t1 ∧ (uts acc).length ≤ (uts t0).length := by
  intro n
  induction n with
  | zero =>
    intro acc l ts hl h
    cases l with
    | nil => cases h; exact ⟨acc, [], rfl, Nat.le_refl _⟩
    | cons x l => simp at hl
  | succ n ih =>
    intro acc l ts hl h
    have up : ∀ (x : Int) (r : List Int), r.length ≤ n → pTk (acc ++ [x]) r = some ts → ∃ t0 t1, ts = t0 :: t1 ∧ (uts acc).length ≤ (uts t0).length := by
      intro x r hr hq
      obtain ⟨t0, t1, e1, e2⟩ := ih (acc ++ [x]) r ts hr hq
      refine ⟨t0, t1, e1, ?_⟩
      rw [uts_app, List.length_append] at e2; omega
    match l, h, hl with
    | [], h, hl => cases h; exact ⟨acc, [], rfl, Nat.le_refl _⟩
    | [c], h, hl =>
      by_cases h47 : c = 47
      · subst h47
        rw [pTk_sl] at h
        cases h; exact ⟨acc, [[]], rfl, Nat.le_refl _⟩
      · by_cases h126 : c = 126
        · subst h126; cases h
        · rw [pTk_u acc [] ⟨h47, h126⟩] at h
          exact up c [] (by simp) h
    | c :: x :: r, h, hl =>
      simp only [List.length_cons] at hl
      by_cases h47 : c = 47
      · subst h47
        rw [pTk_sl] at h
        cases hq : pTk [] (x :: r) with
        | none => rw [hq] at h; cases h
        | some w => rw [hq] at h; cases h; exact ⟨acc, w, rfl, Nat.le_refl _⟩
      · by_cases h126 : c = 126
        · subst h126
          rw [pTk, if_neg (by decide), if_pos rfl] at h
          split at h
          · exact up 126 r (by omega) h
          · split at h
            · exact up 47 r (by omega) h
            · cases h
        · rw [pTk_u acc (x :: r) ⟨h47, h126⟩] at h
          exact up c (x :: r) (by simp; omega) h
theorem pTk_len {acc l : List Int} {ts tks : List (List Int)} (h : pTk acc l = some ts) : (tkB tks ++ 0 :: 0 :: uts acc).length ≤ (tkB (tks ++ ts)).length := by
  obtain ⟨t0, t1, rfl, e2⟩ := pTk_hd _ acc l ts (Nat.le_refl _) h
  rw [tkB_app, show t0 :: t1 = [t0] ++ t1 from rfl, tkB_app [t0], tkB_one]
  simp only [List.length_append, nmB_len, List.length_cons]; omega
theorem utf_ok {u : Int} (hu : 0 ≤ u ∧ u < 65536) (h : u ≠ 47 ∧ u ≠ 126) : ∀ b, b ∈ utf u → b ≠ 47 ∧ b ≠ 126 ∧ -128 ≤ b ∧ b < 128 := by
  intro b hb
  have hr := utf_rng hu b hb
  unfold utf at hb
  split at hb
  · simp at hb; omega
  · have : b < 0 := by
      split at hb
      · simp at hb; rcases hb with h | h <;> rw [h] <;> unfold w8 <;> omega
      · simp at hb; rcases hb with h | h | h <;> rw [h] <;> unfold w8 <;> omega
    omega
section
variable {d : Nat} {P r rt sa c a2 e : Int} {xs : List Int}
theorem c120_t0 {m : Mem} {k st0 : Int} {st : List Int} {z : PV} (hd : 2 ≤ d) (hz : cat z = 1) (h : PIV m P rt sa st) (hR : RW m r xs c) (hk : 0 ≤ k ∧ k < e ∧ e ≤ xs.length) (hx : xs.length < 60000) (hg : gi xs k = 126) (hn : k + 1 < e → gi xs (k + 1) ≠ 48 ∧ gi xs (k + 1) ≠ 49) : rn d 120 96 [pR P, pR r, pI a2, pI e, pI k, pI st0, z] [] m = some (.inr 206, mal m 206 6) := by
  have ok := h.1
  have hll := hR.2.2.2.2.1
  have hlc := hR.2.2.1
  have hgv : vl m (vl m r 0) k = 126 := by rw [hR.2.2.2.2.2.2 k hk.1 (by omega), hg]
  have r168 : rn d 120 168 [pR P, pR r, pI a2, pI e, pI (k + 1), pI st0, pI 126] [pI 0] m = some (.inr 206, mal m 206 6) := by
    refine q120_168 (by omega) ok.1 _ ?_
    rw [bV_xq (c115_0 ok.1)]
  refine q120_96 (by omega) ok.1 hz _ ?_
  rw [if_pos (by omega), gd_of hR.1, nm_eq, gd_of hR.2.1, gd_of ⟨by omega, by omega⟩, nm_eq, hgv, if_neg (by decide), nm_eq, w32_of (by omega) (by omega), if_pos rfl]
  by_cases h1 : k + 1 < e
  · have hgv2 : vl m (vl m r 0) (k + 1) = gi xs (k + 1) := hR.2.2.2.2.2.2 (k + 1) (by omega) (by omega)
    have hn1 := hn h1
    rw [if_pos h1, gd_of ⟨by omega, by omega⟩, nm_eq, hgv2, if_neg hn1.1, if_neg hn1.2]; exact r168
  · rw [if_neg h1]; exact r168
theorem c120_t1 {m : Mem} {k ct x st0 : Int} {L st : List Int} {z : PV} (hd : 2 ≤ d) (hz : cat z = 1) (h : PIV m P rt sa st) (hI : RI m) (hR : RW m r xs c) (hT : RW m rt L ct) (hL : L.length + 1 ≤ 6000) (hk : 0 ≤ k ∧ k + 1 < e ∧ e ≤ xs.length) (hx : xs.length < 60000) (hg : gi xs k = 126) (hg2 : gi xs (k + 1) = x) (hxx : x = 48 ∨ x = 49) :
    ∃ m1 c1 z1, cat z1 = 1 ∧ RG rt m ct (L ++ [if x = 48 then 126 else 47]) m1 c1 ∧ PIV m1 P rt sa st ∧ ∀ Q, rn d 120 96 [pR P, pR r, pI a2, pI e, pI (k + 2), pI st0, z1] [] m1 = some Q → rn d 120 96 [pR P, pR r, pI a2, pI e, pI k, pI st0, z] [] m = some Q := by
  have ok := h.1
  have hll := hR.2.2.2.2.1
  have hlc := hR.2.2.1
  have hgv : vl m (vl m r 0) k = 126 := by rw [hR.2.2.2.2.2.2 k hk.1 (by omega), hg]
  have hgv2 : vl m (vl m r 0) (k + 1) = x := by rw [hR.2.2.2.2.2.2 (k + 1) (by omega) (by omega), hg2]
  have s1 : ∀ Q, rn d 120 168 [pR P, pR r, pI a2, pI e, pI (k + 1), pI st0, pI 126] [pI 1] m = some Q → rn d 120 96 [pR P, pR r, pI a2, pI e, pI k, pI st0, z] [] m = some Q := by
    intro Q hQ
    refine q120_96 (by omega) ok.1 hz _ ?_
    rw [if_pos (by omega), gd_of hR.1, nm_eq, gd_of hR.2.1, gd_of ⟨by omega, by omega⟩, nm_eq, hgv, if_neg (by decide), nm_eq, w32_of (by omega) (by omega), if_pos rfl, if_pos (by omega), gd_of ⟨by omega, by omega⟩, nm_eq, hgv2]
    rcases hxx with q | q
    · rw [if_pos q]; exact hQ
    · rw [if_neg (by omega), if_pos q]; exact hQ
  by_cases h48 : x = 48
  · rw [if_pos h48]
    obtain ⟨m1, c1, e1, g1⟩ := c130 (d := d - 1) (b := 126) (by omega) ok hI hT (by omega)
    rw [show w8 126 = 126 from rfl] at g1
    refine ⟨m1, c1, pI 126, rfl, g1, h.fr (cl_FRM e1) (by rfl), fun Q hQ => s1 Q (q120_168 (by omega) ok.1 _ ?_)⟩
    rw [bV_eq (c115_1 ok.1), gd_of hR.1, nm_eq, nm_eq, gd_of hR.2.1, gd_of ⟨by omega, by omega⟩, hgv2, if_pos h48, gd_of h.2.1, nm_eq, h.2.2.1, gd_of hT.1, bV_eq e1, w32_of (by omega) (by omega), show k + 1 + 1 = k + 2 by omega]; exact hQ
  · rw [if_neg h48]
    obtain ⟨m1, c1, e1, g1⟩ := c130 (d := d - 1) (b := 47) (by omega) ok hI hT (by omega)
    rw [show w8 47 = 47 from rfl] at g1
    refine ⟨m1, c1, pI 47, rfl, g1, h.fr (cl_FRM e1) (by rfl), fun Q hQ => s1 Q (q120_168 (by omega) ok.1 _ ?_)⟩
    rw [bV_eq (c115_1 ok.1), gd_of hR.1, nm_eq, nm_eq, gd_of hR.2.1, gd_of ⟨by omega, by omega⟩, hgv2, if_neg h48, gd_of h.2.1, nm_eq, h.2.2.1, gd_of hT.1, bV_eq e1, w32_of (by omega) (by omega), show k + 1 + 1 = k + 2 by omega]; exact hQ
theorem c120_96 (hd : 2 ≤ d) (hne : r ≠ rt) (hx : xs.length < 60000) (he : e ≤ xs.length) : ∀ (N : Nat) (rest : List Int), rest.length ≤ N → ∀ (tks : List (List Int)) (acc : List Int) (m : Mem) (k ct : Int) (z : PV), cat z = 1 → wfU rest → PIV m P rt sa (stL 0 tks ++ [((tkB tks).length : Int)]) → RI m → RW m r xs c → RW m rt (tkB tks ++ 0 :: 0 :: uts acc) ct → At xs k (uts rest) → k + (uts rest).length = e → (tkB tks).length + 2 + (uts acc).length + 3 * (uts rest).length ≤ 6000 → (tks.length : Int) + 1 + rest.length < 15000 →
    (∀ ts, pTk acc rest = some ts → ∃ m' c', rn d 120 96 [pR P, pR r, pI a2, pI e, pI k, pI (tkB tks).length, z] [] m = some (.inl none, m') ∧ RG rt m ct (tkB (tks ++ ts)) m' c' ∧ PIV m' P rt sa (stL 0 (tks ++ ts))) ∧
    (pTk acc rest = none → ∃ m', rn d 120 96 [pR P, pR r, pI a2, pI e, pI k, pI (tkB tks).length, z] [] m = some (.inr 206, m') ∧ RX rt m ct m') := by
  intro N
  induction N with
  | zero =>
    intro rest hN tks acc m k ct z hz hw h hI hR hT hA hk hL hc
    cases rest with
    | cons u rest => simp at hN
    | nil =>
      refine ⟨fun ts hts => ?_, fun hts => (by cases hts)⟩
      cases hts
      rw [uts_nil] at hk
      obtain ⟨m1, g1, h1, s1⟩ := c120_207 (d := d) (r := r) (a2 := a2) (e := e) (k := k) (z := z) (by omega) hz h hI hT (by simp; omega)
      refine ⟨m1, ct, ?_, g1, ?_⟩
      · refine q120_96 (by omega) h.1.1 hz _ ?_
        rw [if_neg (by simp at hk; omega)]
        refine s1 _ (q120_24 h1.1.1 rfl hz _ ?_)
        rw [if_neg (by simp at hk; omega)]
      · rw [stL_app]; simpa [stL] using h1
  | succ N ih =>
    intro rest hN tks acc m k ct z hz hw h hI hR hT hA hk hL hc
    cases rest with
    | nil =>
      refine ⟨fun ts hts => ?_, fun hts => (by cases hts)⟩
      cases hts
      rw [uts_nil] at hk
      obtain ⟨m1, g1, h1, s1⟩ := c120_207 (d := d) (r := r) (a2 := a2) (e := e) (k := k) (z := z) (by omega) hz h hI hT (by simp; omega)
      refine ⟨m1, ct, ?_, g1, ?_⟩
      · refine q120_96 (by omega) h.1.1 hz _ ?_
        rw [if_neg (by simp at hk; omega)]
        refine s1 _ (q120_24 h1.1.1 rfl hz _ ?_)
        rw [if_neg (by simp at hk; omega)]
      · rw [stL_app]; simpa [stL] using h1
    | cons u rest =>
      have hu := hw u (by simp)
      have hw' : wfU rest := fun x hx => hw x (by simp [hx])
      rw [uts_cons] at hA hk hL
      rw [List.length_append] at hk hL
      have hk0 := hA.1
      have hul := utf_len u
      obtain ⟨hA1, hA2⟩ := hA.app
      simp only [List.length_cons] at hN hc
      by_cases h47 : u = 47
      · subst h47
        have e47 : utf 47 = [47] := rfl
        rw [e47] at hA1 hA2 hk hL
        have hg := hA1.cons.1
        simp only [List.length_cons, List.length_nil] at hA2 hk hL
        obtain ⟨m1, g1, h1, s1⟩ := c120_207 (d := d) (r := r) (a2 := a2) (e := e) (k := k) (z := z) (by omega) hz h hI hT (by simp; omega)
        have hlen1 : (tkB (tks ++ [acc])).length = (tkB tks).length + 2 + (uts acc).length := by rw [tkB_app, tkB_one, List.length_append, nmB_len]; omega
        have hst1 : stL 0 tks ++ [((tkB tks).length : Int)] = stL 0 (tks ++ [acc]) := by rw [stL_app]; simp [stL]
        rw [hst1] at h1
        obtain ⟨m2, c2, g2, h2, s2⟩ := c120_24 (d := d) (a2 := a2) (e := e) (k := k) (z5 := pI (tkB tks).length) (z6 := z) hd rfl hz h1 g1.2.1.1 hne (g1.2.1.2 r hne xs c hR) g1.1 (by omega) (by rw [stL_len]; simp; omega) ⟨hk0, by omega, he⟩ hx hg
        have hI2 := ih rest (by omega) (tks ++ [acc]) [] m2 (k + 1) c2 z hz hw' h2 g2.2.1.1 (g2.2.1.2 r hne xs c (g1.2.1.2 r hne xs c hR)) g2.1 hA2 (by omega) (by rw [hlen1, uts_nil]; simp; omega) (by simp; omega)
        have step : ∀ Q, rn d 120 96 [pR P, pR r, pI a2, pI e, pI (k + 1), pI (tkB (tks ++ [acc])).length, z] [] m2 = some Q → rn d 120 96 [pR P, pR r, pI a2, pI e, pI k, pI (tkB tks).length, z] [] m = some Q := by
          intro Q hQ
          have hll := hR.2.2.2.2.1
          have hlc := hR.2.2.1
          have hgv : vl m (vl m r 0) k = 47 := by rw [hR.2.2.2.2.2.2 k hk0 (by omega), hg]
          refine q120_96 (by omega) h.1.1 hz _ ?_
          rw [if_pos (by omega), gd_of hR.1, nm_eq, gd_of hR.2.1, gd_of ⟨by omega, by omega⟩, nm_eq, hgv, if_pos rfl]
          exact s1 _ (s2 _ hQ)
        rw [pTk_sl]
        cases hp : pTk [] rest with
        | none =>
          refine ⟨fun ts hts => (by cases hts), fun _ => ?_⟩
          obtain ⟨m3, e3, x3⟩ := hI2.2 hp
          exact ⟨m3, step _ e3, (x3.pre g2 (by simp; omega)).pre g1 (by omega)⟩
        | some ts0 =>
          refine ⟨fun ts hts => ?_, fun hts => (by cases hts)⟩
          cases hts
          obtain ⟨m3, c3, e3, g3, h3⟩ := hI2.1 ts0 hp
          have ea : tks ++ [acc] ++ ts0 = tks ++ (acc :: ts0) := by simp
          rw [ea] at g3 h3
          have hge : (tkB (tks ++ [acc]) ++ [0, 0]).length ≤ (tkB (tks ++ (acc :: ts0))).length := by
            have := pTk_len (tks := tks ++ [acc]) hp
            rw [ea] at this; exact this
          exact ⟨m3, c3, step _ e3, (g1.trans g2 (by simp)).trans g3 hge, h3⟩
      · by_cases h126 : u = 126
        · subst h126
          have e126 : utf 126 = [126] := rfl
          rw [e126] at hA1 hA2 hk hL
          have hg := hA1.cons.1
          simp only [List.length_cons, List.length_nil] at hA2 hk hL
          cases rest with
          | nil =>
            refine ⟨fun ts hts => (by cases hts), fun _ => ?_⟩
            rw [uts_nil] at hk
            simp at hk
            exact ⟨_, c120_t0 hd hz h hR ⟨hk0, by omega, he⟩ hx hg (fun q => by omega), RX.of (RG.self hI hT) h.1 (by simp; omega) (by decide)⟩
          | cons x rest =>
            have hx1 := hw' x (by simp)
            rw [uts_cons] at hA2 hk hL
            rw [List.length_append] at hk hL
            have hxl := utf_len x
            obtain ⟨hB1, hB2⟩ := hA2.app
            have hpt : pTk acc (126 :: x :: rest) = if x = 48 then pTk (acc ++ [126]) rest else if x = 49 then pTk (acc ++ [47]) rest else none := by rw [pTk, if_neg (by decide), if_pos rfl]
            rw [hpt]
            by_cases hxx : x = 48 ∨ x = 49
            · have ex : utf x = [x] := by unfold utf; rw [if_pos (by omega)]
              rw [ex] at hB1 hB2 hk hL
              simp only [List.length_cons, List.length_nil] at hB2 hk hL hN hc
              obtain ⟨m1, c1, z1, hz1, g1, h1, s1⟩ := c120_t1 (d := d) (a2 := a2) (st0 := (tkB tks).length) hd hz h hI hR hT (by simp; omega) ⟨hk0, by omega, he⟩ hx hg hB1.cons.1 hxx
              have eu : (tkB tks ++ 0 :: 0 :: uts acc) ++ [if x = 48 then 126 else 47] = tkB tks ++ 0 :: 0 :: uts (acc ++ [if x = 48 then 126 else 47]) := by
                rw [uts_app, uts_one]
                have : utf (if x = 48 then (126 : Int) else 47) = [if x = 48 then 126 else 47] := by split <;> rfl
                rw [this]; simp
              rw [eu] at g1
              have hB2' : At xs (k + 2) (uts rest) := by
                rw [show k + 2 = k + ((0 + 1 : Nat) : Int) + ((0 + 1 : Nat) : Int) by omega]; exact hB2
              have hI2 := ih rest (by omega) tks (acc ++ [if x = 48 then 126 else 47]) m1 (k + 2) c1 z1 hz1 (fun y hy => hw' y (by simp [hy])) h1 g1.2.1.1 (g1.2.1.2 r hne xs c hR) g1.1 hB2' (by omega) (by
                rw [uts_app, uts_one]
                have : (utf (if x = 48 then (126 : Int) else 47)).length = 1 := by split <;> rfl
                rw [List.length_append, this]; omega) (by omega)
              have hpe : (if x = 48 then pTk (acc ++ [126]) rest else if x = 49 then pTk (acc ++ [47]) rest else none) = pTk (acc ++ [if x = 48 then 126 else 47]) rest := by
                rcases hxx with q | q
                · rw [if_pos q, if_pos q]
                · rw [if_neg (by omega), if_pos q, if_neg (by omega)]
              rw [hpe]
              refine ⟨fun ts hts => ?_, fun hts => ?_⟩
              · obtain ⟨m3, c3, e3, g3, h3⟩ := hI2.1 ts hts
                exact ⟨m3, c3, s1 _ e3, g1.trans g3 (pTk_len hts), h3⟩
              · obtain ⟨m3, e3, x3⟩ := hI2.2 hts
                exact ⟨m3, s1 _ e3, x3.pre g1 (by rw [List.length_append]; simp only [List.length_cons]; rw [uts_app, uts_one, List.length_append]; have : (utf (if x = 48 then (126 : Int) else 47)).length = 1 := by split <;> rfl
                                                  rw [this]; omega)⟩
            · rw [if_neg (by omega), if_neg (by omega)]
              refine ⟨fun ts hts => (by cases hts), fun _ => ?_⟩
              refine ⟨_, c120_t0 hd hz h hR ⟨hk0, by omega, he⟩ hx hg (fun q => ?_), RX.of (RG.self hI hT) h.1 (by simp; omega) (by decide)⟩
              by_cases hx128 : x < 128
              · have ex : utf x = [x] := by unfold utf; rw [if_pos hx128]
                rw [ex] at hB1
                have := hB1.cons.1
                rw [show k + ((0 + 1 : Nat) : Int) = k + 1 by omega] at this
                rw [this]; omega
              · obtain ⟨b, r', e1, e2⟩ := utf_big (u := x) (by omega)
                rw [e1] at hB1
                have := hB1.cons.1
                rw [show k + ((0 + 1 : Nat) : Int) = k + 1 by omega] at this
                rw [this]; omega
        · obtain ⟨m1, c1, z1, hz1, g1, h1, s1⟩ := c120_bs (d := d) (a2 := a2) (st0 := (tkB tks).length) hd hne hx he (utf u) m k ct _ _ z hz h hI hR hT (by simp; omega) hk0 (by omega) hA1 (utf_ok hu ⟨h47, h126⟩)
          have eu : (tkB tks ++ 0 :: 0 :: uts acc) ++ utf u = tkB tks ++ 0 :: 0 :: uts (acc ++ [u]) := by
            rw [uts_app, uts_one]; simp
          rw [eu] at g1
          have hI2 := ih rest (by omega) tks (acc ++ [u]) m1 (k + (utf u).length) c1 z1 hz1 hw' h1 g1.2.1.1 (g1.2.1.2 r hne xs c hR) g1.1 hA2 (by omega) (by rw [uts_app, uts_one, List.length_append]; omega) (by omega)
          rw [pTk_u acc rest ⟨h47, h126⟩]
          refine ⟨fun ts hts => ?_, fun hts => ?_⟩
          · obtain ⟨m3, c3, e3, g3, h3⟩ := hI2.1 ts hts
            exact ⟨m3, c3, s1 _ e3, g1.trans g3 (pTk_len hts), h3⟩
          · obtain ⟨m3, e3, x3⟩ := hI2.2 hts
            exact ⟨m3, s1 _ e3, x3.pre g1 (by rw [List.length_append]; simp only [List.length_cons]; rw [uts_app, uts_one, List.length_append]; omega)⟩
end
