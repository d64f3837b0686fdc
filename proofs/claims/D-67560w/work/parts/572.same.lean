/-! values in rows: going from kid to kid, how deep, the same -/
set_option maxRecDepth 100000
set_option maxHeartbeats 4000000
/-- the value of the first of some kids that begin at k -/
def nxK (ob : Bool) (F : Fo) (k : Int) : Int := match F with
  | .leaf => k
  | .inner _ d _ _ _ => k + ((if ob then nmB d.2.2.2 else []).length : Int)
def hdF : Fo → Option (ND × Fo)
  | .leaf => none
  | .inner _ d _ l _ => some (d, l)
def tlF : Fo → Fo
  | .leaf => .leaf
  | .inner _ _ _ _ r => r
def fndF : Fo → List Int → Option (ND × Fo)
  | .leaf, _ => none
  | .inner _ d _ l r, nm => if d.2.2.2 = nm then some (d, l) else fndF r nm
def smD (d d' : ND) (ce inner : Bool) : Bool := d.1 == d'.1 && (if d.1 < 3 then true else if d.1 = 3 then d.2.1 == d'.2.1 else if d.1 = 4 then d.2.2.1 == d'.2.2.1 else ce && inner)
/-- whether what stands side by side is the same: in turn, or by names -/
def smF : Fo → Bool → Fo → Bool
  | .leaf, ob, G => ob || (hdF G).isNone
  | .inner _ d _ l r, ob, G => match (if ob then fndF G d.2.2.2 else hdF G) with
    | none => false
    | some (d', l') => smD d d' (cntF l == cntF l') (smF l (d.1 == 6) l') && smF r ob (if ob then G else tlF G)
def smV (d : ND) (l : Fo) (d' : ND) (l' : Fo) : Bool := smD d d' (cntF l == cntF l') (smF l (d.1 == 6) l')
section
variable {d : Nat} {m : Mem} {r r2 c c2 : Int} {xs ys : List Int}
theorem c150 {a : Int} {nd : ND} {l : Fo} (hd : 2 ≤ d) (hz : TZ m) (hR : RW m r xs c) (hA : At xs a (enV nd l)) (hw : wfF (foC nd l foN)) (h5 : ¬ nd.1 < 5) (hx : xs.length < 60000) : cl d 150 [pR r, pI a] m = some (.inl (some (pI (nxK (nd.1 == 6) l (a + 3)))), m) := by
  obtain ⟨e, hg, hb, hl, h2⟩ := enV_many hA h5
  have ha0 := hA.1
  have ha := hA.2.1
  obtain ⟨ht, htb, hc, hs, hll, hcc, hv⟩ := hR
  have hR : RW m r xs c := ⟨ht, htb, hc, hs, hll, hcc, hv⟩
  have hw1 := hw.1
  refine q150 (by omega) hz _ ?_
  rw [gd_of ht, nm_eq, gd_of htb, gd_of ⟨ha0, by omega⟩, hv a ha0 (by omega), hg]
  by_cases k5 : nd.1 = 5
  · rw [if_pos (by omega), w32_of (by omega) (by omega), show (nd.1 == 6) = false by rw [k5]; rfl]
    cases l <;> simp [nxK]
  · have k6 : (nd.1 == 6) = true := by have := hw1.1; simp; omega
    rw [k6] at hb hl h2 ⊢
    have h134 := c134 (d := d - 1) (a := a + 1) hz hR (by omega) (by omega)
    rw [tw_l2 h2 (by omega)] at h134
    rw [if_neg (by omega), w32_of (z := a + 1) (by omega) (by omega), bI_eq h134, w32_of (z := a + 3) (by omega) (by omega)]
    cases l with
    | leaf => rw [if_pos (by rw [enF_leaf]; rfl)]; rfl
    | inner n dd u l2' rr =>
      rw [enF_inner, if_pos rfl] at hb hl
      simp only [List.length_append] at hl
      have hln := nmB_len dd.2.2.2
      have B1 := hb.app.1
      have h136 := c136 (d := d - 1) (a := a + 3) (by omega) hz hR (by omega) (by have := B1.2.1; omega)
      rw [tw_nm B1 (by omega)] at h136
      rw [if_neg (by rw [enF_inner, if_pos rfl]; simp only [List.length_append]; omega), bI_eq h136, show a + 3 + 2 + ((uts dd.2.2.2).length : Int) = a + 3 + (nmB dd.2.2.2).length by omega]
      rfl
theorem c151 {a p : Int} {nd nd' : ND} {l l' F : Fo} (hd : 2 ≤ d) (hz : TZ m) (hR : RW m r xs c) (hA : At xs a (enV nd l)) (hw : wfF (foC nd l foN)) (h5 : ¬ nd.1 < 5) (hx : xs.length < 60000) (hB : At xs p (enV nd' l')) (hw' : wfN nd') (hF : At xs (p + (enV nd' l').length) (enF (nd.1 == 6) F)) (hend : p + (enV nd' l').length + (enF (nd.1 == 6) F).length = a + (enV nd l).length) : cl d 151 [pR r, pI a, pI p] m = some (.inl (some (pI (nxK (nd.1 == 6) F (p + (enV nd' l').length)))), m) := by
  obtain ⟨e, hg, hb, hl, h2⟩ := enV_many hA h5
  have ha0 := hA.1
  have ha := hA.2.1
  have hb0 := hB.1
  have hb1 := hB.2.1
  obtain ⟨ht, htb, hc, hs, hll, hcc, hv⟩ := hR
  have hR : RW m r xs c := ⟨ht, htb, hc, hs, hll, hcc, hv⟩
  have hw1 := hw.1
  have h137 := c137 (d := d - 1) (by omega) hz hR hB hw' (by omega)
  have h137b := c137 (d := d - 1) (by omega) hz hR hA hw1 (by omega)
  refine q151 (by omega) hz _ ?_
  rw [gd_of ht, bI_eq h137, nm_eq, gd_of htb, gd_of ⟨ha0, by omega⟩, hv a ha0 (by omega), hg]
  by_cases k5 : nd.1 = 5
  · rw [if_pos (by omega), show (nd.1 == 6) = false by rw [k5]; rfl]
    cases F <;> simp [nxK]
  · have k6 : (nd.1 == 6) = true := by have := hw1.1; simp; omega
    rw [k6] at hF hend ⊢
    rw [if_neg (by omega), bI_eq h137b]
    cases F with
    | leaf =>
      rw [enF_leaf] at hend
      rw [if_pos (by simp at hend; omega)]; rfl
    | inner n dd u l2' rr =>
      rw [enF_inner, if_pos rfl] at hF hend
      simp only [List.length_append] at hend
      have hln := nmB_len dd.2.2.2
      have B1 := hF.app.1
      have h136 := c136 (d := d - 1) (a := p + (enV nd' l').length) (by omega) hz hR (by omega) (by have := B1.2.1; omega)
      rw [tw_nm B1 (by omega)] at h136
      rw [if_neg (by omega), bI_eq h136, show p + ((enV nd' l').length : Int) + 2 + ((uts dd.2.2.2).length : Int) = p + (enV nd' l').length + (nmB dd.2.2.2).length by omega]
      rfl
/-- how deep -/
def DFs (r c : Int) (xs : List Int) (m : Mem) (F : Fo) : Prop := ∀ (d : Nat) (a en k mx : Int) (ob : Bool) (z : PV), 4 + dpF F ≤ d → cat z = 1 → wfF F → At xs k (enF ob F) → k + (enF ob F).length = en → (0 ≤ a ∧ a < xs.length) → (gi xs a = 6 ↔ ob = true) → 0 ≤ mx → mx ≤ 60000 → rn d 149 25 [pR r, pI a, pI mx, pI en, pI k, z] [] m = some (.inl (some (pI (1 + max mx (dpF F)))), m)
theorem dp_len : ∀ (F : Fo) (ob : Bool), dpF F ≤ (enF ob F).length := by
  intro F
  induction F with
  | leaf => intro ob; simp [dpF]
  | inner n dd u l rr ihl ihr =>
    intro ob
    have ed : dpF (.inner n dd u l rr) = max (if dd.1 < 5 then 0 else 1 + dpF l) (dpF rr) := rfl
    rw [ed, enF_inner]
    simp only [List.length_append]
    have h1 := ihr ob
    by_cases h5 : dd.1 < 5
    · rw [if_pos h5]; omega
    · rw [if_neg h5]
      have h2 := ihl (dd.1 == 6)
      have h3 : (enV dd l).length = (enF (dd.1 == 6) l).length + 3 := by
        unfold enV enD; rw [if_neg (by omega), if_neg (by omega), if_neg (by omega)]; simp [l2_len]; omega
      omega
def dpV (nd : ND) (l : Fo) : Nat := if nd.1 < 5 then 0 else 1 + dpF l
theorem c149_of {nd : ND} {l : Fo} {a : Int} (hF : DFs r c xs m l) (hd : 2 ≤ d) (hd2 : nd.1 < 5 ∨ 4 + dpF l ≤ d) (hz : TZ m) (hR : RW m r xs c) (hx : xs.length < 60000) (hw : wfF (foC nd l foN)) (hA : At xs a (enV nd l)) : cl d 149 [pR r, pI a] m = some (.inl (some (pI (dpV nd l))), m) := by
  have hg := gi_kind hA
  have hp := enV_pos nd l
  have ha0 := hA.1
  have ha := hA.2.1
  obtain ⟨ht, htb, hc, hs, hll, hcc, hv⟩ := hR
  have hR : RW m r xs c := ⟨ht, htb, hc, hs, hll, hcc, hv⟩
  refine q149 (by omega) hz _ ?_
  rw [gd_of ht, nm_eq, gd_of htb, gd_of ⟨ha0, by omega⟩, hv a ha0 (by omega), hg]
  unfold dpV
  by_cases h5 : nd.1 < 5
  · rw [if_pos (by omega), if_pos h5]; rfl
  · obtain ⟨e, -, hb, hl, h2⟩ := enV_many hA h5
    have h137 := c137 (d := d - 1) (by omega) hz hR hA hw.1 (by omega)
    rw [if_neg (by omega), if_neg h5, bI_eq h137, w32_of (by omega) (by omega)]
    have := hF d a (a + (enV nd l).length) (a + 3) 0 (nd.1 == 6) pU (by rcases hd2 with q | q <;> omega) rfl hw.2.2.2.2.1 hb (by omega) ⟨ha0, by omega⟩ (by rw [hg]; simp; omega) (by omega) (by omega)
    rw [this, show (1 : Int) + max 0 (dpF l : Int) = ((1 + dpF l : Nat) : Int) by omega]
theorem DFs_all (hz : TZ m) (hR : RW m r xs c) (hx : xs.length < 60000) : ∀ F, DFs r c xs m F := by
  have hr8 := hR.1
  have hb := hR.2.1
  have hc := hR.2.2.1
  have hll := hR.2.2.2.2.1
  have hcc := hR.2.2.2.2.2.1
  have hv := hR.2.2.2.2.2.2
  intro F
  induction F with
  | leaf =>
    intro d a en k mx ob z hd hcz hw hA hk ha hob h0 h1
    rw [enF_leaf] at hk
    refine q149_25 (by omega) hz hcz _ ?_
    rw [if_neg (by simp at hk; omega), w32_of (by omega) (by omega)]
    show _ = some (Sum.inl (some (pI (1 + max mx ((0 : Nat) : Int)))), m)
    rw [show max mx ((0 : Nat) : Int) = mx by omega]
  | inner n dd u l rr ihl ihr =>
    intro d a en k mx ob z hd hcz hw hA hk ha hob h0 h1
    obtain ⟨w1, w2, w3, w4, w5, w6⟩ := hw
    have hwv : wfF (foC dd l foN) := ⟨w1, w2, w3, w4, w5, trivial⟩
    have ed : dpF (.inner n dd u l rr) = max (dpV dd l) (dpF rr) := rfl
    rw [ed] at hd ⊢
    rw [enF_inner] at hA hk
    simp only [List.length_append] at hk
    obtain ⟨A1, A2⟩ := hA.app
    obtain ⟨A3, A4⟩ := A2.app
    have hp := enV_pos dd l
    have x0 := A1.1
    have x3 := A3.2.1
    have x4 := A4.2.1
    have hdl : dd.1 < 5 ∨ 4 + dpF l ≤ d - 1 := by
      by_cases h5 : dd.1 < 5
      · exact Or.inl h5
      · right; unfold dpV at hd; rw [if_neg h5] at hd; omega
    have h149 := c149_of (d := d - 1) ihl (by omega) hdl hz hR hx hwv A3
    have h137 := c137 (d := d - 1) (by omega) hz hR A3 w1 (by omega)
    have hdv : dpV dd l ≤ 60000 := by
      have h1 := dp_len l (dd.1 == 6)
      unfold dpV
      by_cases h5 : dd.1 < 5
      · rw [if_pos h5]; omega
      · rw [if_neg h5]
        have h3 : (enV dd l).length = (enF (dd.1 == 6) l).length + 3 := by
          unfold enV enD; rw [if_neg (by omega), if_neg (by omega), if_neg (by omega)]; simp [l2_len]; omega
        omega
    have hI := ihr d a en (k + ((if ob then nmB dd.2.2.2 else []).length : Int) + (enV dd l).length) (max mx (dpV dd l)) ob (pI (k + ((if ob then nmB dd.2.2.2 else []).length : Int))) (by omega) rfl w6 A4 (by omega) ha hob (by omega) (by omega)
    have s53 : ∀ zz : PV, cat zz = 1 → rn d 149 53 [pR r, pI a, pI mx, pI en, pI k, zz] [pI (k + ((if ob then nmB dd.2.2.2 else []).length : Int))] m = some (.inl (some (pI (1 + max mx ((max (dpV dd l) (dpF rr) : Nat) : Int)))), m) := by
      intro zz hzz
      refine q149_53 (by omega) hz hzz _ ?_
      rw [gd_of hr8, bI_eq h149, bI_eq h137, hI, show (1 : Int) + max (max mx (dpV dd l : Int)) (dpF rr : Int) = 1 + max mx ((max (dpV dd l) (dpF rr) : Nat) : Int) by omega]
    refine q149_25 (by omega) hz hcz _ ?_
    rw [if_pos (by omega), gd_of hr8, nm_eq, gd_of hb, gd_of ⟨ha.1, by omega⟩, hv a ha.1 ha.2]
    cases ob with
    | false =>
      rw [if_neg (fun q => absurd (hob.mp q) (by decide))]
      simpa using s53 z hcz
    | true =>
      have A1' : At xs k (nmB dd.2.2.2) := A1
      have hln := nmB_len dd.2.2.2
      rw [if_pos rfl] at hk
      have h136 := c136 (d := d - 1) (a := k) (by omega) hz hR (by omega) (by have := A1'.2.1; omega)
      rw [tw_nm A1' (by have := A1'.2.1; omega), show k + 2 + ((uts dd.2.2.2).length : Int) = k + (nmB dd.2.2.2).length by omega] at h136
      rw [if_pos (hob.mpr rfl), bI_eq h136]
      simpa using s53 z hcz
theorem c149 {nd : ND} {l : Fo} {a : Int} (hd : 4 + dpF l ≤ d) (hz : TZ m) (hR : RW m r xs c) (hx : xs.length < 60000) (hw : wfF (foC nd l foN)) (hA : At xs a (enV nd l)) : cl d 149 [pR r, pI a] m = some (.inl (some (pI (dpV nd l))), m) := c149_of (DFs_all hz hR hx l) (by omega) (Or.inr hd) hz hR hx hw hA
theorem memP_fnd : ∀ (F : Fo) (nm : List Int) (k : Int), 0 ≤ k → wfF F → At xs k (enF true F) →
    (fndF F nm = none ∧ memP F nm k = -1) ∨ (∃ nd l, fndF F nm = some (nd, l) ∧ nd.2.2.2 = nm ∧ wfF (foC nd l foN) ∧ k ≤ memP F nm k ∧ At xs (memP F nm k) (nmB nm) ∧ At xs (memP F nm k + (nmB nm).length) (enV nd l) ∧ dpV nd l ≤ dpF F) := by
  intro F
  induction F with
  | leaf => intro nm k hk hw hA; exact Or.inl ⟨rfl, rfl⟩
  | inner n dd u l rr _ ih =>
    intro nm k hk hw hA
    obtain ⟨w1, w2, w3, w4, w5, w6⟩ := hw
    rw [enF_inner, if_pos rfl] at hA
    obtain ⟨A1, A2⟩ := hA.app
    obtain ⟨A3, A4⟩ := A2.app
    have em : memP (.inner n dd u l rr) nm k = if dd.2.2.2 = nm then k else memP rr nm (k + (nmB dd.2.2.2).length + (enV dd l).length) := rfl
    have ef : fndF (.inner n dd u l rr) nm = if dd.2.2.2 = nm then some (dd, l) else fndF rr nm := rfl
    have ed : dpF (.inner n dd u l rr) = max (dpV dd l) (dpF rr) := rfl
    rw [em, ef, ed]
    by_cases hs : dd.2.2.2 = nm
    · rw [if_pos hs, if_pos hs]
      rw [hs] at A1 A3
      exact Or.inr ⟨dd, l, rfl, hs, ⟨w1, w2, w3, w4, w5, trivial⟩, by omega, A1, A3, by omega⟩
    · rw [if_neg hs, if_neg hs]
      rcases ih nm (k + (nmB dd.2.2.2).length + (enV dd l).length) (by omega) w6 A4 with h | ⟨nd, l', h1, h2, h3, h4, h5, h6, h7⟩
      · exact Or.inl h
      · exact Or.inr ⟨nd, l', h1, h2, h3, by omega, h5, h6, by omega⟩
end
