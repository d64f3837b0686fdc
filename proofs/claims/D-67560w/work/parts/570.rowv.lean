/-! values in rows: members, elements, kids -/
set_option maxRecDepth 100000
set_option maxHeartbeats 4000000
def cntF : Fo → Nat
  | .leaf => 0
  | .inner _ _ _ _ r => cntF r + 1
def memP : Fo → List Int → Int → Int
  | .leaf, _, _ => -1
  | .inner _ d _ l r, nm, p => if d.2.2.2 = nm then p else memP r nm (p + (nmB d.2.2.2).length + (enV d l).length)
def eltP : Fo → Int → Int → Int
  | .leaf, _, _ => -1
  | .inner _ d _ l r, i, p => if i < 0 then -1 else if i = 0 then p else eltP r (i - 1) (p + (enV d l).length)
/-- where the values of kids begin -/
def kidP : Bool → Fo → Int → List Int
  | _, .leaf, _ => []
  | ob, .inner _ d _ l r, p => (p + ((if ob then nmB d.2.2.2 else []).length : Int)) :: kidP ob r (p + ((if ob then nmB d.2.2.2 else []).length : Int) + (enV d l).length)
section
variable {d : Nat} {m : Mem} {r r2 c c2 : Int} {xs ys : List Int}
/-- the body of an array or object -/
theorem enV_many {nd : ND} {l : Fo} {a : Int} (hA : At xs a (enV nd l)) (h5 : ¬ nd.1 < 5) : enV nd l = (nd.1 : Int) :: (l2 (enF (nd.1 == 6) l).length ++ enF (nd.1 == 6) l) ∧ gi xs a = nd.1 ∧ At xs (a + 3) (enF (nd.1 == 6) l) ∧ (enV nd l).length = (enF (nd.1 == 6) l).length + 3 ∧ At xs (a + 1) (l2 (enF (nd.1 == 6) l).length) := by
  have e : enV nd l = (nd.1 : Int) :: (l2 (enF (nd.1 == 6) l).length ++ enF (nd.1 == 6) l) := by unfold enV enD; rw [if_neg (by omega), if_neg (by omega), if_neg (by omega)]
  rw [e] at hA
  have A2 := hA.cons.2.app
  rw [l2_len] at A2
  refine ⟨e, hA.cons.1, ?_, by rw [e]; simp [l2_len]; omega, A2.1⟩
  rw [show a + 3 = a + 1 + ((2 : Nat) : Int) by omega]; exact A2.2
theorem gi_kind {nd : ND} {l : Fo} {a : Int} (hA : At xs a (enV nd l)) : gi xs a = nd.1 := by
  unfold enV enD at hA
  split at hA
  · exact hA.cons.1
  · split at hA
    · rename_i h3; rw [hA.cons.1]; omega
    · split at hA
      · rename_i h4; rw [hA.cons.1]; omega
      · exact hA.cons.1
theorem c144_l {a b en n : Int} {nm : List Int} (hd : 3 ≤ d) (hz : TZ m) (hR : RW m r xs c) (hR2 : RW m r2 ys c2) (hn : At ys b (nmB nm)) (hnw : wfU nm) (hnl : (uts nm).length < 65536) (hnn : n = (uts nm).length) : ∀ (F : Fo) (k : Int), wfF F → (enF true F).length < 65536 → At xs k (enF true F) → k + (enF true F).length = en → rn d 144 19 [pR r, pI a, pR r2, pI b, pI en, pI n, pI k] [] m = some (.inl (some (pI (memP F nm k))), m) := by
  subst hnn
  intro F
  induction F with
  | leaf =>
    intro k hw hl hA hk
    rw [enF_leaf] at hk
    refine q144_19 (by omega) hz _ ?_
    rw [if_neg (by simp at hk; omega)]; rfl
  | inner nn dd u l rr _ ih =>
    intro k hw hl hA hk
    obtain ⟨w1, w2, w3, w4, w5, w6⟩ := hw
    rw [enF_inner, if_pos rfl] at hA hk hl
    simp only [List.length_append] at hk hl
    obtain ⟨A1, A2⟩ := hA.app
    obtain ⟨A3, A4⟩ := A2.app
    have hp := enV_pos dd l
    have hnl2 := nmB_len dd.2.2.2
    have hnl3 := nmB_len nm
    have x0 := A1.1
    have x1 := A1.2.1
    have y0 := hn.1
    have y1 := hn.2.1
    have z1 := A4.2.1
    have hcc := hR.2.2.2.2.1
    have hcc2 := hR.2.2.2.2.2.1
    have hdd := hR2.2.2.2.2.1
    have hdd2 := hR2.2.2.2.2.2.1
    obtain ⟨A5, A6⟩ := A1.app
    have t1 := tw_nm A1 (by omega)
    obtain ⟨N1, N2⟩ := hn.app
    have h134a := c134 (d := d - 1) (a := k) hz hR (by omega) (by omega)
    rw [t1] at h134a
    have h136 := c136 (d := d - 1) (a := k) (by omega) hz hR (by omega) (by omega)
    rw [t1] at h136
    have e2 : k + 2 + ((uts dd.2.2.2).length : Int) = k + (nmB dd.2.2.2).length := by omega
    rw [e2] at h136
    have h137 := c137 (d := d - 1) (a := k + (nmB dd.2.2.2).length) (by omega) hz hR A3 w1 (by omega)
    have hr8 := hR.1
    have hI := ih (k + (nmB dd.2.2.2).length + (enV dd l).length) w6 (by omega) A4 (by omega)
    have em : memP (.inner nn dd u l rr) nm k = if dd.2.2.2 = nm then k else memP rr nm (k + (nmB dd.2.2.2).length + (enV dd l).length) := rfl
    rw [em]
    refine q144_19 (by omega) hz _ ?_
    rw [if_pos (by omega), gd_of hr8, bI_eq h134a]
    by_cases hs : dd.2.2.2 = nm
    · have h135 := c135 (d := d - 1) (a := k + 2) (b := b + 2) (n := (uts nm).length) hz hR hR2 (by rw [l2_len] at A6; exact A6) (by rw [l2_len] at N2; exact N2) (by rw [hs]) rfl
      rw [if_pos (by rw [hs])] at h135
      rw [if_pos (by rw [hs]), w32_of (by omega) (by omega), w32_of (by omega) (by omega), bI_eq h135, if_neg (by decide), if_pos hs]
    · have hne : uts dd.2.2.2 ≠ uts nm := fun h => hs (uts_inj w1.2.2.2.2 hnw h)
      have st57 : rn d 144 57 [pR r, pI a, pR r2, pI b, pI en, pI (uts nm).length, pI k] [] m = some (.inl (some (pI (memP rr nm (k + (nmB dd.2.2.2).length + (enV dd l).length)))), m) := by
        refine q144_57 (by omega) hz _ ?_
        rw [gd_of hr8, bI_eq h136, bI_eq h137]; exact hI
      rw [if_neg hs]
      by_cases hle : (uts dd.2.2.2).length = (uts nm).length
      · have h135 := c135 (d := d - 1) (a := k + 2) (b := b + 2) (n := (uts nm).length) hz hR hR2 (by rw [l2_len] at A6; exact A6) (by rw [l2_len] at N2; exact N2) (by omega) rfl
        rw [if_neg hne] at h135
        rw [if_pos (by omega), w32_of (by omega) (by omega), w32_of (by omega) (by omega), bI_eq h135, if_pos rfl]; exact st57
      · rw [if_neg (by omega)]; exact st57
theorem c144 {a b : Int} {nd : ND} {l : Fo} {nm : List Int} (hd : 3 ≤ d) (hz : TZ m) (hR : RW m r xs c) (hR2 : RW m r2 ys c2) (hA : At xs a (enV nd l)) (hw : wfF (foC nd l foN)) (h6 : nd.1 = 6) (hx : xs.length < 60000) (hn : At ys b (nmB nm)) (hnw : wfU nm) (hnl : (uts nm).length < 65536) : cl d 144 [pR r, pI a, pR r2, pI b] m = some (.inl (some (pI (memP l nm (a + 3)))), m) := by
  obtain ⟨e, hg, hb, hl, -⟩ := enV_many hA (by omega)
  have ha0 := hA.1
  have ha := hA.2.1
  have hcc := hR.2.2.2.2.1
  have hcc2 := hR.2.2.2.2.2.1
  have y0 := hn.1
  have y1 := hn.2.1
  have hnl3 := nmB_len nm
  have h137 := c137 (d := d - 1) (by omega) hz hR hA hw.1 (by omega)
  have h134 := c134 (d := d - 1) (a := b) hz hR2 y0 (by omega)
  rw [tw_nm hn hnl] at h134
  rw [show (nd.1 == 6) = true by rw [h6]; rfl] at hb hl
  refine q144 (by omega) hz _ ?_
  rw [gd_of hR.1, bI_eq h137, gd_of hR2.1, bI_eq h134, w32_of (by omega) (by omega)]
  exact c144_l hd hz hR hR2 hn hnw hnl rfl l (a + 3) hw.2.2.2.2.1 (by omega) hb (by omega)
theorem c145_l {a en : Int} {ob : Bool} (hd : 2 ≤ d) (hz : TZ m) (hR : RW m r xs c) (ha : 0 ≤ a ∧ a < xs.length) (hob : gi xs a = 6 ↔ ob = true) : ∀ (F : Fo) (k n : Int), wfF F → (enF ob F).length < 60000 → At xs k (enF ob F) → k + (enF ob F).length = en → 0 ≤ n → n + (enF ob F).length ≤ 100000 → rn d 145 13 [pR r, pI a, pI en, pI n, pI k] [] m = some (.inl (some (pI (n + cntF F))), m) := by
  have hr8 := hR.1
  have hb := hR.2.1
  have hc := hR.2.2.1
  have hcc := hR.2.2.2.2.1
  have hcc2 := hR.2.2.2.2.2.1
  have hv := hR.2.2.2.2.2.2
  intro F
  induction F with
  | leaf =>
    intro k n hw hl hA hk hn0 hn1
    rw [enF_leaf] at hk
    refine q145_13 (by omega) hz _ ?_
    rw [if_neg (by simp at hk; omega)]
    show _ = some (Sum.inl (some (pI (n + ((0 : Nat) : Int)))), m)
    rw [show n + ((0 : Nat) : Int) = n by omega]
  | inner nn dd u l rr _ ih =>
    intro k n hw hl hA hk hn0 hn1
    obtain ⟨w1, w2, w3, w4, w5, w6⟩ := hw
    rw [enF_inner] at hA hk hl hn1
    simp only [List.length_append] at hk hl hn1
    obtain ⟨A1, A2⟩ := hA.app
    obtain ⟨A3, A4⟩ := A2.app
    have hp := enV_pos dd l
    have x0 := A1.1
    have x2 := A4.2.1
    have h137 := c137 (d := d - 1) (by omega) hz hR A3 w1 (by omega)
    have hI := ih (k + ((if ob then nmB dd.2.2.2 else []).length : Int) + (enV dd l).length) (n + 1) w6 (by omega) A4 (by omega) (by omega) (by omega)
    have ec : (n : Int) + ((cntF (.inner nn dd u l rr) : Nat) : Int) = n + 1 + ((cntF rr : Nat) : Int) := by
      show n + ((cntF rr + 1 : Nat) : Int) = _
      omega
    rw [ec]
    refine q145_13 (by omega) hz _ ?_
    rw [if_pos (by omega), gd_of hr8, nm_eq, gd_of hb, gd_of ⟨ha.1, by omega⟩, hv a ha.1 ha.2]
    cases ob with
    | false =>
      have h137' : cl (d - 1) 137 [pR r, pI k] m = some (.inl (some (pI (k + (enV dd l).length))), m) := by simpa using h137
      rw [if_neg (fun q => absurd (hob.mp q) (by decide)), bI_eq h137', w32_of (by omega) (by omega)]
      simpa using hI
    | true =>
      have A1' : At xs k (nmB dd.2.2.2) := A1
      have hln := nmB_len dd.2.2.2
      rw [if_pos rfl] at hl hk h137 hI
      have t1 := tw_nm A1' (by omega)
      have h136 := c136 (d := d - 1) (a := k) (by omega) hz hR (by omega) (by have := A1'.2.1; omega)
      rw [t1, show k + 2 + ((uts dd.2.2.2).length : Int) = k + (nmB dd.2.2.2).length by omega] at h136
      rw [if_pos (hob.mpr rfl), bI_eq h136, bI_eq h137, w32_of (by omega) (by omega)]; exact hI
theorem c145 {a : Int} {nd : ND} {l : Fo} (hd : 2 ≤ d) (hz : TZ m) (hR : RW m r xs c) (hA : At xs a (enV nd l)) (hw : wfF (foC nd l foN)) (h5 : ¬ nd.1 < 5) (hx : xs.length < 60000) : cl d 145 [pR r, pI a] m = some (.inl (some (pI (cntF l))), m) := by
  obtain ⟨e, hg, hb, hl, -⟩ := enV_many hA h5
  have ha0 := hA.1
  have ha := hA.2.1
  have hcc := hR.2.2.2.2.1
  have hcc2 := hR.2.2.2.2.2.1
  have h137 := c137 (d := d - 1) (by omega) hz hR hA hw.1 (by omega)
  refine q145 (by omega) hz _ ?_
  rw [gd_of hR.1, bI_eq h137, w32_of (by omega) (by omega)]
  have := c145_l (d := d) (a := a) (en := a + (enV nd l).length) (ob := (nd.1 == 6)) hd hz hR ⟨ha0, by omega⟩ (by rw [hg]; simp; omega) l (a + 3) 0 hw.2.2.2.2.1 (by omega) hb (by omega) (by omega) (by omega)
  rw [Int.zero_add] at this; exact this
theorem c146_l {a en i0 : Int} (hd : 2 ≤ d) (hz : TZ m) (hR : RW m r xs c) : ∀ (F : Fo) (k i : Int), wfF F → (enF false F).length < 60000 → At xs k (enF false F) → k + (enF false F).length = en → -9223372036854775808 ≤ i → i < 9223372036854775808 → rn d 146 15 [pR r, pI a, pL i0, pU, pI en, pL i, pU, pI k] [] m = some (.inl (some (pI (eltP F i k))), m) := by
  have hr8 := hR.1
  intro F
  induction F with
  | leaf =>
    intro k i hw hl hA hk hi0 hi1
    rw [enF_leaf] at hk
    refine q146_15 (by omega) hz _ ?_
    rw [if_neg (by simp at hk; omega)]; rfl
  | inner nn dd u l rr _ ih =>
    intro k i hw hl hA hk hi0 hi1
    obtain ⟨w1, w2, w3, w4, w5, w6⟩ := hw
    have e0 : enF false (.inner nn dd u l rr) = enV dd l ++ enF false rr := by rw [enF_inner]; rfl
    rw [e0] at hA hk hl
    simp only [List.length_append] at hk hl
    obtain ⟨A3, A4⟩ := hA.app
    have hp := enV_pos dd l
    have h137 := c137 (d := d - 1) (by omega) hz hR A3 w1 (by omega)
    have em : eltP (.inner nn dd u l rr) i k = if i < 0 then -1 else if i = 0 then k else eltP rr (i - 1) (k + (enV dd l).length) := rfl
    rw [em]
    refine q146_15 (by omega) hz _ ?_
    rw [if_pos (by omega)]
    by_cases h1 : i < 0
    · rw [if_pos h1, if_pos h1]
    · rw [if_neg h1, if_neg h1]
      by_cases h2 : i = 0
      · rw [if_pos h2, if_pos h2]
      · rw [if_neg h2, if_neg h2, gd_of hr8, bI_eq h137, w64_of (by omega) (by omega)]
        exact ih _ _ w6 (by omega) A4 (by omega) (by omega) (by omega)
theorem c146 {a i : Int} {nd : ND} {l : Fo} (hd : 2 ≤ d) (hz : TZ m) (hR : RW m r xs c) (hA : At xs a (enV nd l)) (hw : wfF (foC nd l foN)) (h5 : nd.1 = 5) (hx : xs.length < 60000) (hi0 : -9223372036854775808 ≤ i) (hi1 : i < 9223372036854775808) : cl d 146 [pR r, pI a, pL i] m = some (.inl (some (pI (eltP l i (a + 3)))), m) := by
  obtain ⟨e, hg, hb, hl, -⟩ := enV_many hA (by omega)
  have ha0 := hA.1
  have ha := hA.2.1
  have hcc := hR.2.2.2.2.1
  have hcc2 := hR.2.2.2.2.2.1
  have h137 := c137 (d := d - 1) (by omega) hz hR hA hw.1 (by omega)
  rw [show (nd.1 == 6) = false by rw [h5]; rfl] at hb hl
  refine q146 (by omega) hz _ ?_
  rw [gd_of hR.1, bI_eq h137, w32_of (by omega) (by omega)]
  exact c146_l hd hz hR l (a + 3) i hw.2.2.2.2.1 (by omega) hb (by omega) hi0 hi1
end
