/-! a table's keys: what is the same has the same key -/
set_option maxRecDepth 100000
set_option maxHeartbeats 4000000
def rwK (h : Int) (xs : List Int) : Int := xs.foldl (fun h b => w64 (w64 (131 * h) + b)) h
def kyD (d : ND) (x : Int) : Int := if d.1 < 3 then (d.1 : Int) else if d.1 = 3 then w64 (w64 (31 * d.2.1) + 3) else if d.1 = 4 then rwK 7 (uts d.2.2.1) else x
/-- a kid's part of the key -/
def kyS (ob : Bool) (nm : List Int) (h v : Int) : Int := if ob then w64 (h + w64 (rwK 17 (uts nm) * w64 (w64 (2 * v) + 1))) else w64 (w64 (37 * h) + v)
def kyF : Fo → Bool → Int → Int
  | .leaf, _, h => h
  | .inner _ d _ l r, ob, h => kyF r ob (kyS ob d.2.2.2 h (kyD d (kyF l (d.1 == 6) (if d.1 = 6 then 11 else 13))))
def kyV (d : ND) (l : Fo) : Int := kyD d (kyF l (d.1 == 6) (if d.1 = 6 then 11 else 13))
theorem kyF_in {n : Nat} {d : ND} {u : Unit} {l r : Fo} {ob : Bool} {h : Int} : kyF (.inner n d u l r) ob h = kyF r ob (kyS ob d.2.2.2 h (kyV d l)) := rfl
section
variable {d : Nat} {m : Mem} {r c : Int} {xs : List Int}
theorem c345_6 {a n h0 : Int} (hz : TZ m) (hR : RW m r xs c) (ha : 0 ≤ a) (hn : a + n ≤ 100000) : ∀ (ys : List Int) (acc j : Int), 0 ≤ j → At xs (a + j) ys → j + ys.length = n → rn d 345 6 [pR r, pI a, pI n, pL h0, pU, pL acc, pU, pI j] [] m = some (.inl (some (pL (rwK acc ys))), m) := by
  obtain ⟨ht, hb, hc, hs, hl, hcc, hv⟩ := hR
  intro ys
  induction ys with
  | nil =>
    intro acc j j0 hA hj
    refine q345_6 hz _ ?_
    rw [if_neg (by simp at hj; omega)]; rfl
  | cons y ys ih =>
    intro acc j j0 hA hj
    have hA2 := hA.2.1
    rw [List.length_cons] at hj hA2
    push_cast at hj hA2
    obtain ⟨g1, g2⟩ := hA.cons
    refine q345_6 hz _ ?_
    rw [if_pos (by omega), gd_of ht, nm_eq, nm_eq, (w32_of (by omega) (by omega) : w32 (a + j) = a + j), gd_of hb, gd_of ⟨by omega, by omega⟩, hv _ (by omega) (by omega), g1, (w32_of (by omega) (by omega) : w32 (j + 1) = j + 1)]
    exact ih _ (j + 1) (by omega) (by rw [← Int.add_assoc]; exact g2) (by omega)
theorem c345 {a h0 : Int} {zs : List Int} (hz : TZ m) (hR : RW m r xs c) (hA : At xs a zs) (hx : xs.length < 60000) : cl d 345 [pR r, pI a, pI zs.length, pL h0] m = some (.inl (some (pL (rwK h0 zs))), m) := by
  have h1 := hA.1
  have h2 := hA.2.1
  exact q345 hz _ (c345_6 hz hR h1 (by omega) zs h0 0 (by omega) (by rw [Int.add_zero]; exact hA) (by omega))
def KYs (r c : Int) (xs : List Int) (m : Mem) (F : Fo) : Prop := ∀ (d : Nat) (a en k h : Int) (ob : Bool) (z : PV), 5 + 2 * dpF F ≤ d → cat z = 1 → wfF F → At xs k (enF ob F) → k + (enF ob F).length = en → rn d 346 42 [pR r, pI a, pI (b2i ob), pL h, pU, pI en, pI k, z] [] m = some (.inl (some (pL (kyF F ob h))), m)
theorem c344_of {nd : ND} {l : Fo} {a : Int} (hF : KYs r c xs m l) (hd : 3 ≤ d) (hd2 : nd.1 < 5 ∨ 6 + 2 * dpF l ≤ d) (hz : TZ m) (hR : RW m r xs c) (hx : xs.length < 60000) (hw : wfF (foC nd l foN)) (hA : At xs a (enV nd l)) : cl d 344 [pR r, pI a] m = some (.inl (some (pL (kyV nd l))), m) := by
  have hg := gi_kind hA
  have hp := enV_pos nd l
  have ha0 := hA.1
  have ha := hA.2.1
  have ht := hR.1
  have e139 := c139 (d := d - 1) (a := a) hz hR ha0 (by omega)
  rw [hg] at e139
  obtain ⟨hk6, hv1, hv2, -, -⟩ := hw.1
  refine q344 (by omega) hz _ ?_
  rw [gd_of ht, bI_eq e139]
  unfold kyV kyD
  by_cases h3 : nd.1 < 3
  · rw [if_pos (by omega), bI_eq e139, if_pos h3]
  · by_cases h4 : nd.1 = 3
    · have e : enV nd l = 3 :: nuB nd.2.1 := by unfold enV enD; rw [if_neg h3, if_pos h4]
      rw [e] at hA
      have e140 := c140 (d := d - 1) hz hR hA.cons.2 hv1 hv2
      rw [if_neg (by omega), if_pos (by omega), (w32_of (by omega) (by omega) : w32 (a + 1) = a + 1), bL_eq e140, if_neg h3, if_pos h4]
    · by_cases h5 : nd.1 = 4
      · have e : enV nd l = 4 :: nmB nd.2.2.1 := by unfold enV enD; rw [if_neg h3, if_neg h4, if_pos h5]
        rw [e] at hA
        have A1 := hA.cons.2
        have A2 := A1.app.2
        rw [l2_len, show a + 1 + ((2 : Nat) : Int) = a + 3 by omega] at A2
        have l1 := A1.2.1
        have l0 := nmB_len nd.2.2.1
        have h134 := c134 (d := d - 1) (a := a + 1) hz hR (by omega) (by omega)
        rw [tw_nm A1 (by omega)] at h134
        have h345 := c345 (d := d - 1) (h0 := 7) hz hR A2 hx
        rw [if_neg (by omega), if_neg (by omega), if_pos (by omega), (w32_of (by omega) (by omega) : w32 (a + 1) = a + 1), bI_eq h134, (w32_of (by omega) (by omega) : w32 (a + 3) = a + 3), bL_eq h345, if_neg h3, if_neg h4, if_pos h5]
      · have h6 : ¬ nd.1 < 5 := by omega
        obtain ⟨e, -, hb, hl, h2⟩ := enV_many hA h6
        have e139' := c139 (d := d - 1 - 1) (a := a) hz hR ha0 (by omega)
        rw [hg] at e139'
        have h137 := c137 (d := d - 1 - 1) (by omega) hz hR hA hw.1 (by omega)
        rw [if_neg (by omega), if_neg (by omega), if_neg (by omega), if_neg h3, if_neg h4, if_neg h5]
        have hF' := hF (d - 1) a (a + (enV nd l).length) (a + 3) (if nd.1 = 6 then 11 else 13) (nd.1 == 6) pU (by rcases hd2 with q | q <;> omega) rfl hw.2.2.2.2.1 hb (by omega)
        have h346 : cl (d - 1) 346 [pR r, pI a] m = some (.inl (some (pL (kyF l (nd.1 == 6) (if nd.1 = 6 then 11 else 13)))), m) := by
          refine q346 (by omega) hz _ ?_
          rw [gd_of ht, bI_eq e139']
          by_cases k6 : nd.1 = 6
          · have kb : (nd.1 == 6) = true := by simp [k6]
            rw [kb, if_pos k6] at hF' ⊢
            rw [if_pos (by omega), if_neg (by decide)]
            refine q346_29 (by omega) hz _ ?_
            rw [gd_of ht, bI_eq h137, (w32_of (by omega) (by omega) : w32 (a + 3) = a + 3)]
            exact hF'
          · have kb : (nd.1 == 6) = false := by simp [k6]
            rw [kb, if_neg k6] at hF' ⊢
            rw [if_neg (by omega), if_pos rfl]
            refine q346_29 (by omega) hz _ ?_
            rw [gd_of ht, bI_eq h137, (w32_of (by omega) (by omega) : w32 (a + 3) = a + 3)]
            exact hF'
        rw [bL_eq h346]
theorem KYs_all (hz : TZ m) (hR : RW m r xs c) (hx : xs.length < 60000) : ∀ F, KYs r c xs m F := by
  have hr8 := hR.1
  intro F
  induction F with
  | leaf =>
    intro d a en k h ob z hd hcz hw hA hk
    rw [enF_leaf] at hk
    refine q346_42 (by omega) hz hcz _ ?_
    rw [if_neg (by simp at hk; omega)]; rfl
  | inner n dd u l rr ihl ihr =>
    intro d a en k h ob z hd hcz hw hA hk
    obtain ⟨w1, w2, w3, w4, w5, w6⟩ := hw
    have hwv : wfF (foC dd l foN) := ⟨w1, w2, w3, w4, w5, trivial⟩
    have ed : dpF (.inner n dd u l rr) = max (dpV dd l) (dpF rr) := rfl
    rw [ed] at hd
    rw [enF_inner] at hA hk
    simp only [List.length_append] at hk
    obtain ⟨A1, A2⟩ := hA.app
    obtain ⟨A3, A4⟩ := A2.app
    have hp := enV_pos dd l
    have x0 := A1.1
    have x3 := A3.2.1
    have x4 := A4.2.1
    have hdl : dd.1 < 5 ∨ 6 + 2 * dpF l ≤ d - 1 := by
      by_cases h5 : dd.1 < 5
      · exact Or.inl h5
      · right; unfold dpV at hd; rw [if_neg h5] at hd; omega
    have h344 := c344_of (d := d - 1) ihl (by omega) hdl hz hR hx hwv A3
    have h137 := c137 (d := d - 1) (by omega) hz hR A3 w1 (by omega)
    have hI := fun zz : PV => fun hzz : cat zz = 1 => ihr d a en (k + ((if ob then nmB dd.2.2.2 else []).length : Int) + (enV dd l).length) (kyS ob dd.2.2.2 h (kyV dd l)) ob zz (by omega) hzz w6 A4 (by omega)
    rw [kyF_in]
    refine q346_42 (by omega) hz hcz _ ?_
    rw [if_pos (by omega)]
    cases ob with
    | false =>
      rw [if_pos (show b2i false = 0 from rfl)]
      refine q346_64 (by omega) hz hcz _ ?_
      have A3' : At xs k (enV dd l) := by simpa using A3
      have e344 : cl (d - 1) 344 [pR r, pI k] m = some (.inl (some (pL (kyV dd l))), m) := by simpa using h344
      have e137 : cl (d - 1) 137 [pR r, pI k] m = some (.inl (some (pI (k + (enV dd l).length))), m) := by simpa using h137
      rw [if_pos (show b2i false = 0 from rfl), bL_eq e344, gd_of hr8, bI_eq e137]
      have := hI (pI k) rfl
      simpa [kyS] using this
    | true =>
      have A1' : At xs k (nmB dd.2.2.2) := A1
      have A1t : At xs (k + 2) (uts dd.2.2.2) := by
        have := A1'.app.2
        rw [l2_len] at this
        exact this
      have hln := nmB_len dd.2.2.2
      have y1 := A1'.2.1
      rw [if_pos rfl] at hk
      have h136 := c136 (d := d - 1) (a := k) (by omega) hz hR (by omega) (by omega)
      rw [tw_nm A1' (by omega), show k + 2 + ((uts dd.2.2.2).length : Int) = k + (nmB dd.2.2.2).length by omega] at h136
      have h134 := c134 (d := d - 1) (a := k) hz hR (by omega) (by omega)
      rw [tw_nm A1' (by omega)] at h134
      have h345 := c345 (d := d - 1) (h0 := 17) hz hR A1t hx
      rw [if_neg (by decide), gd_of hr8, bI_eq h136]
      refine q346_64 (by omega) hz hcz _ ?_
      have e344 : cl (d - 1) 344 [pR r, pI (k + (nmB dd.2.2.2).length)] m = some (.inl (some (pL (kyV dd l))), m) := h344
      have e137 : cl (d - 1) 137 [pR r, pI (k + (nmB dd.2.2.2).length)] m = some (.inl (some (pI (k + (nmB dd.2.2.2).length + (enV dd l).length))), m) := h137
      rw [if_neg (by decide), gd_of hr8, bI_eq h134, (w32_of (by omega) (by omega) : w32 (k + 2) = k + 2), bL_eq h345, bL_eq e344, bI_eq e137]
      exact hI (pI (k + (nmB dd.2.2.2).length)) rfl
/-- a value's key -/
theorem c344 {nd : ND} {l : Fo} {a : Int} (hd : 6 + 2 * dpF l ≤ d) (hz : TZ m) (hR : RW m r xs c) (hx : xs.length < 60000) (hw : wfF (foC nd l foN)) (hA : At xs a (enV nd l)) : cl d 344 [pR r, pI a] m = some (.inl (some (pL (kyV nd l))), m) := c344_of (KYs_all hz hR hx l) (by omega) (Or.inr hd) hz hR hx hw hA
end
/-- without the first of a name -/
def rmN (nm : List Int) : Fo → Fo
  | .leaf => .leaf
  | .inner i d u l r => if d.2.2.2 = nm then r else .inner i d u l (rmN nm r)
theorem kyS_sw {n1 n2 : List Int} {h v1 v2 : Int} : kyS true n2 (kyS true n1 h v1) v2 = kyS true n1 (kyS true n2 h v2) v1 := by
  unfold kyS
  rw [if_pos rfl, if_pos rfl, if_pos rfl, if_pos rfl]
  generalize w64 (rwK 17 (uts n1) * w64 (w64 (2 * v1) + 1)) = x
  generalize w64 (rwK 17 (uts n2) * w64 (w64 (2 * v2) + 1)) = y
  unfold w64; omega
theorem kyF_rm {nm : List Int} {d' : ND} {l' : Fo} : ∀ (G : Fo) (h : Int), fndF G nm = some (d', l') → kyF G true h = kyF (rmN nm G) true (kyS true nm h (kyV d' l')) := by
  intro G
  induction G with
  | leaf => intro h e; cases e
  | inner i d u l r _ ih =>
    intro h e
    have ef : fndF (.inner i d u l r) nm = if d.2.2.2 = nm then some (d, l) else fndF r nm := rfl
    have er : rmN nm (.inner i d u l r) = if d.2.2.2 = nm then r else .inner i d u l (rmN nm r) := rfl
    rw [ef] at e
    rw [er, kyF_in]
    by_cases q : d.2.2.2 = nm
    · rw [if_pos q] at e ⊢
      cases e
      rw [q]
    · rw [if_neg q] at e ⊢
      rw [ih _ e, kyF_in, kyS_sw]
theorem rmN_cnt {nm : List Int} {p : ND × Fo} : ∀ (G : Fo), fndF G nm = some p → cntF G = cntF (rmN nm G) + 1 := by
  intro G
  induction G with
  | leaf => intro e; cases e
  | inner i d u l r _ ih =>
    intro e
    have ef : fndF (.inner i d u l r) nm = if d.2.2.2 = nm then some (d, l) else fndF r nm := rfl
    have er : rmN nm (.inner i d u l r) = if d.2.2.2 = nm then r else .inner i d u l (rmN nm r) := rfl
    rw [ef] at e
    rw [er]
    by_cases q : d.2.2.2 = nm
    · rw [if_pos q]; rfl
    · rw [if_neg q] at e ⊢
      show cntF r + 1 = cntF (rmN nm r) + 1 + 1
      rw [ih e]
theorem rmN_nms {nm : List Int} : ∀ (G : Fo), (∀ x ∈ nmsF (rmN nm G), x ∈ nmsF G) ∧ ((nmsF G).Nodup → (nmsF (rmN nm G)).Nodup) := by
  intro G
  induction G with
  | leaf => exact ⟨fun x h => h, fun h => h⟩
  | inner i d u l r _ ih =>
    have er : rmN nm (.inner i d u l r) = if d.2.2.2 = nm then r else .inner i d u l (rmN nm r) := rfl
    have en : ∀ r : Fo, nmsF (.inner i d u l r) = d.2.2.2 :: nmsF r := fun _ => rfl
    rw [er]
    by_cases q : d.2.2.2 = nm
    · rw [if_pos q, en]
      exact ⟨fun x h => List.mem_cons_of_mem _ h, fun h => (List.nodup_cons.mp h).2⟩
    · rw [if_neg q, en, en]
      refine ⟨fun x h => ?_, fun h => ?_⟩
      · rcases List.mem_cons.mp h with s | s
        · rw [s]; exact List.mem_cons_self
        · exact List.mem_cons_of_mem _ (ih.1 x s)
      · obtain ⟨h1, h2⟩ := List.nodup_cons.mp h
        exact List.nodup_cons.mpr ⟨fun s => h1 (ih.1 _ s), ih.2 h2⟩
theorem rmN_wf {nm : List Int} : ∀ (G : Fo), wfF G → wfF (rmN nm G) := by
  intro G
  induction G with
  | leaf => exact fun h => h
  | inner i d u l r _ ih =>
    intro h
    have er : rmN nm (.inner i d u l r) = if d.2.2.2 = nm then r else .inner i d u l (rmN nm r) := rfl
    obtain ⟨w1, w2, w3, w4, w5, w6⟩ := h
    rw [er]
    split
    · exact w6
    · exact ⟨w1, w2, w3, w4, w5, ih w6⟩
theorem fndF_rm {nm k : List Int} (h : k ≠ nm) : ∀ (G : Fo), fndF (rmN nm G) k = fndF G k := by
  intro G
  induction G with
  | leaf => rfl
  | inner i d u l r _ ih =>
    have ef : ∀ r : Fo, fndF (.inner i d u l r) k = if d.2.2.2 = k then some (d, l) else fndF r k := fun _ => rfl
    have er : rmN nm (.inner i d u l r) = if d.2.2.2 = nm then r else .inner i d u l (rmN nm r) := rfl
    rw [er, ef]
    by_cases q : d.2.2.2 = nm
    · rw [if_pos q, if_neg (by rw [q]; exact fun s => h s.symm)]
    · rw [if_neg q, ef, ih]
theorem smF_rm {nm : List Int} {G : Fo} : ∀ (F : Fo), nm ∉ nmsF F → smF F true (rmN nm G) = smF F true G := by
  intro F
  induction F with
  | leaf => intro _; rfl
  | inner i d u l r _ ih =>
    intro h
    have hn : nmsF (.inner i d u l r) = d.2.2.2 :: nmsF r := rfl
    rw [hn] at h
    have h1 : d.2.2.2 ≠ nm := fun s => h (by rw [s]; exact List.mem_cons_self)
    have h2 : nm ∉ nmsF r := fun s => h (List.mem_cons_of_mem _ s)
    simp only [smF, if_true, fndF_rm h1, ih h2]
theorem fndF_wf {nm : List Int} {d' : ND} {l' : Fo} : ∀ (G : Fo), wfF G → fndF G nm = some (d', l') → wfF (foC d' l' foN) := by
  intro G
  induction G with
  | leaf => intro _ e; cases e
  | inner i d u l r _ ih =>
    intro h e
    obtain ⟨w1, w2, w3, w4, w5, w6⟩ := h
    have ef : fndF (.inner i d u l r) nm = if d.2.2.2 = nm then some (d, l) else fndF r nm := rfl
    rw [ef] at e
    split at e
    · cases e; exact ⟨w1, w2, w3, w4, w5, trivial⟩
    · exact ih w6 e
/-- the same values have the same key -/
theorem kyD_sm {d d' : ND} {b : Bool} {x x' : Int} {bc : Bool} (h : smD d d' bc b = true) (hx : d.1 ≠ 0 → 5 ≤ d.1 → d.1 = d'.1 → bc = true → b = true → x = x') : kyD d x = kyD d' x' := by
  unfold smD at h
  simp only [Bool.and_eq_true, beq_iff_eq] at h
  obtain ⟨h1, h2⟩ := h
  unfold kyD
  rw [← h1]
  by_cases k3 : d.1 < 3
  · rw [if_pos k3, if_pos k3]
  · rw [if_neg k3] at h2 ⊢
    rw [if_neg k3]
    by_cases k4 : d.1 = 3
    · rw [if_pos k4] at h2
      rw [if_pos k4, if_pos k4, show d.2.1 = d'.2.1 by simpa using h2]
    · rw [if_neg k4] at h2 ⊢
      rw [if_neg k4]
      by_cases k5 : d.1 = 4
      · rw [if_pos k5] at h2
        rw [if_pos k5, if_pos k5, show d.2.2.1 = d'.2.2.1 by simpa using h2]
      · rw [if_neg k5] at h2 ⊢
        rw [if_neg k5]
        simp only [Bool.and_eq_true] at h2
        exact hx (by omega) (by omega) h1 h2.1 h2.2
theorem kyF_sm : ∀ (F : Fo) (ob : Bool) (G : Fo) (h : Int), smF F ob G = true → (ob = true → (nmsF F).Nodup ∧ (nmsF G).Nodup) → cntF F = cntF G → wfF F → wfF G → kyF F ob h = kyF G ob h := by
  intro F
  induction F with
  | leaf =>
    intro ob G h _ _ hc _ _
    cases G with
    | leaf => rfl
    | inner i d u l r => cases hc
  | inner i d u l r ihl ihr =>
    intro ob G h hs hn hc hw hwG
    obtain ⟨w1, w2, w3, w4, w5, w6⟩ := hw
    have hv : ∀ (d' : ND) (l' : Fo), wfF (foC d' l' foN) → smD d d' (cntF l == cntF l') (smF l (d.1 == 6) l') = true → kyV d l = kyV d' l' := fun d' l' hw' hd => by
      unfold kyV
      refine kyD_sm hd fun _ h5 e1 e2 e3 => ?_
      rw [← e1]
      obtain ⟨v1, v2, v3, v4, v5, -⟩ := hw'
      exact ihl _ l' _ e3 (fun q => ⟨w4 (by simpa using q), v4 (by rw [← e1]; simpa using q)⟩) (by simpa using e2) w5 v5
    have hcn : cntF (.inner i d u l r) = cntF r + 1 := rfl
    have hnn : nmsF (.inner i d u l r) = d.2.2.2 :: nmsF r := rfl
    rw [hcn] at hc
    cases ob with
    | false =>
      cases G with
      | leaf => cases hc
      | inner i' d' u' l' r' =>
        have hcn' : cntF (.inner i' d' u' l' r') = cntF r' + 1 := rfl
        rw [hcn'] at hc
        obtain ⟨v1, v2, v3, v4, v5, v6⟩ := hwG
        have hs' : (smD d d' (cntF l == cntF l') (smF l (d.1 == 6) l') && smF r false r') = true := hs
        simp only [Bool.and_eq_true] at hs'
        rw [kyF_in, kyF_in, hv d' l' ⟨v1, v2, v3, v4, v5, trivial⟩ hs'.1]
        have e : kyS false d.2.2.2 h (kyV d' l') = kyS false d'.2.2.2 h (kyV d' l') := rfl
        rw [e]
        exact ihr false r' _ hs'.2 (fun q => absurd q (by decide)) (by omega) w6 v6
    | true =>
      obtain ⟨n1, n2⟩ := hn rfl
      rw [hnn] at n1
      obtain ⟨n3, n4⟩ := List.nodup_cons.mp n1
      cases hf : fndF G d.2.2.2 with
      | none =>
        simp only [smF, if_true, hf] at hs
        cases hs
      | some p =>
        obtain ⟨d', l'⟩ := p
        simp only [smF, if_true, hf, Bool.and_eq_true] at hs
        rw [kyF_in, kyF_rm G h hf, hv d' l' (fndF_wf G hwG hf) hs.1]
        have h2 : smF r true (rmN d.2.2.2 G) = true := by rw [smF_rm r n3]; exact hs.2
        have hcr := rmN_cnt G hf
        exact ihr true _ _ h2 (fun _ => ⟨n4, (rmN_nms G).2 n2⟩) (by omega) w6 (rmN_wf G hwG)
theorem kyV_sm {d d' : ND} {l l' : Fo} (hw : wfF (foC d l foN)) (hw' : wfF (foC d' l' foN)) (h : smV d l d' l' = true) : kyV d l = kyV d' l' := by
  obtain ⟨w1, w2, w3, w4, w5, -⟩ := hw
  obtain ⟨v1, v2, v3, v4, v5, -⟩ := hw'
  unfold kyV
  refine kyD_sm h fun _ h5 e1 e2 e3 => ?_
  rw [← e1]
  exact kyF_sm l _ l' _ e3 (fun q => ⟨w4 (by simpa using q), v4 (by rw [← e1]; simpa using q)⟩) (by simpa using e2) w5 v5
theorem kyF_er (F : Fo) : ∀ ob h, kyF (erF F) ob h = kyF F ob h := by
  induction F with
  | leaf => intro ob h; rfl
  | inner i d u l r ihl ihr =>
    intro ob h
    show kyF (.inner 0 d u (erF l) (erF r)) ob h = _
    rw [kyF_in, kyF_in, ihr]
    unfold kyV
    rw [ihl]
theorem kyV_er (d : ND) (l : Fo) : kyV d (erF l) = kyV d l := by unfold kyV; rw [kyF_er]
theorem rwK_rng {xs : List Int} {h : Int} (hh : -9223372036854775808 ≤ h ∧ h < 9223372036854775808) : -9223372036854775808 ≤ rwK h xs ∧ rwK h xs < 9223372036854775808 := by
  induction xs generalizing h with
  | nil => exact hh
  | cons x xs ih => exact ih (by dsimp only; unfold w64; omega)
