/-! values in rows: the same -/
set_option maxRecDepth 100000
set_option maxHeartbeats 4000000
def SFs (r c : Int) (xs : List Int) (r2 c2 : Int) (ys : List Int) (m : Mem) (F : Fo) : Prop := ∀ (d : Nat) (a b en j k : Int) (ob : Bool) (G : Fo) (z8 z9 z10 : PV), 7 + 2 * dpF F ≤ d → cat z8 = 1 → cat z9 = 1 → cat z10 = 1 → wfF F → At xs k (enF ob F) → k + (enF ob F).length = en →
  (ob = true → ∃ nd : ND, nd.1 = 6 ∧ At ys b (enV nd G) ∧ wfF (foC nd G foN)) → (ob = false → At ys j (enF false G) ∧ wfF G ∧ cntF F = cntF G) →
  rn d 148 35 [pR r, pI a, pR r2, pI b, pI (b2i ob), pI en, pI j, pI k, z8, z9, z10] [] m = some (.inl (some (pI (b2i (smF F ob G)))), m)
section
variable {d : Nat} {m : Mem} {r r2 c c2 : Int} {xs ys : List Int}
theorem c147_of {nd nd' : ND} {l l' : Fo} {a b : Int} (hF : SFs r c xs r2 c2 ys m l) (hd : 6 ≤ d) (hd2 : nd.1 < 5 ∨ 8 + 2 * dpF l ≤ d) (hz : TZ m) (hR : RW m r xs c) (hR2 : RW m r2 ys c2) (hx : xs.length < 60000) (hy : ys.length < 60000) (hw : wfF (foC nd l foN)) (hw' : wfF (foC nd' l' foN)) (hA : At xs a (enV nd l)) (hB : At ys b (enV nd' l')) : cl d 147 [pR r, pI a, pR r2, pI b] m = some (.inl (some (pI (b2i (smV nd l nd' l')))), m) := by
  have hg := gi_kind hA
  have hg' := gi_kind hB
  have hp := enV_pos nd l
  have hp' := enV_pos nd' l'
  have ha0 := hA.1
  have ha := hA.2.1
  have hb0 := hB.1
  have hb := hB.2.1
  obtain ⟨ht, htb, hc, hs, hll, hcc, hv⟩ := hR
  have hR : RW m r xs c := ⟨ht, htb, hc, hs, hll, hcc, hv⟩
  obtain ⟨ht', htb', hc', hs', hll', hcc', hv'⟩ := hR2
  have hR2 : RW m r2 ys c2 := ⟨ht', htb', hc', hs', hll', hcc', hv'⟩
  obtain ⟨⟨w1, w2, w3, w4, w5⟩, w6, w7, w8', w9, -⟩ := hw
  obtain ⟨⟨v1, v2, v3, v4, v5⟩, v6, v7, v8', v9, -⟩ := hw'
  refine q147 (by omega) hz _ ?_
  rw [gd_of ht, nm_eq, gd_of htb, gd_of ⟨ha0, by omega⟩, nm_eq, hv a ha0 (by omega), hg, gd_of ht', nm_eq, gd_of htb', gd_of ⟨hb0, by omega⟩, hv' b hb0 (by omega), hg']
  unfold smV smD
  by_cases hk : nd.1 = nd'.1
  · rw [if_pos (by omega), show (nd.1 == nd'.1) = true by simp [hk], Bool.true_and]
    by_cases h3 : nd.1 < 3
    · rw [if_pos (by omega), if_pos h3]; rfl
    · rw [if_neg (by omega), if_neg h3]
      by_cases k3 : nd.1 = 3
      · rw [if_pos (by omega), if_pos k3]
        have e : enV nd l = 3 :: nuB nd.2.1 := by unfold enV enD; rw [if_neg h3, if_pos k3]
        have e' : enV nd' l' = 3 :: nuB nd'.2.1 := by unfold enV enD; rw [if_neg (by omega), if_pos (by omega)]
        rw [e] at hA
        rw [e'] at hB
        have h1 := c140 (d := d - 1) hz hR hA.cons.2 w2 w3
        have h2 := c140 (d := d - 1) hz hR2 hB.cons.2 v2 v3
        rw [w32_of (z := a + 1) (by omega) (by omega), bL_eq h1, w32_of (z := b + 1) (by omega) (by omega), bL_eq h2]
        by_cases hn : nd.2.1 = nd'.2.1
        · rw [if_pos hn, show (nd.2.1 == nd'.2.1) = true by simp [hn]]; rfl
        · rw [if_neg hn, show (nd.2.1 == nd'.2.1) = false by simp [hn]]; rfl
      · rw [if_neg (by omega), if_neg k3]
        by_cases k4 : nd.1 = 4
        · rw [if_pos (by omega), if_pos k4]
          have e : enV nd l = 4 :: nmB nd.2.2.1 := by unfold enV enD; rw [if_neg h3, if_neg k3, if_pos k4]
          have e' : enV nd' l' = 4 :: nmB nd'.2.2.1 := by unfold enV enD; rw [if_neg (by omega), if_neg (by omega), if_pos (by omega)]
          rw [e] at hA ha
          rw [e'] at hB hb
          have ln1 := nmB_len nd.2.2.1
          have ln2 := nmB_len nd'.2.2.1
          simp only [List.length_cons] at ha hb
          have A1 := hA.cons.2
          have B1 := hB.cons.2
          have h1 := c134 (d := d - 1) (a := a + 1) hz hR (by omega) (by omega)
          have h2 := c134 (d := d - 1) (a := b + 1) hz hR2 (by omega) (by omega)
          rw [tw_nm A1 (by omega)] at h1
          rw [tw_nm B1 (by omega)] at h2
          have A2 := A1.app.2
          have B2 := B1.app.2
          rw [l2_len] at A2 B2
          have A3 : At xs (a + 3) (uts nd.2.2.1) := by rw [show a + 3 = a + 1 + ((2 : Nat) : Int) by omega]; exact A2
          have B3 : At ys (b + 3) (uts nd'.2.2.1) := by rw [show b + 3 = b + 1 + ((2 : Nat) : Int) by omega]; exact B2
          rw [w32_of (z := a + 1) (by omega) (by omega), bI_eq h1, w32_of (z := b + 1) (by omega) (by omega), bI_eq h2]
          by_cases hle : (uts nd.2.2.1).length = (uts nd'.2.2.1).length
          · have h135 := c135 (d := d - 1) (n := (uts nd.2.2.1).length) hz hR hR2 A3 B3 rfl (by omega)
            rw [if_pos (by omega), bI_eq h1, w32_of (z := a + 3) (by omega) (by omega), w32_of (z := b + 3) (by omega) (by omega), bI_eq h135]
            by_cases hu : nd.2.2.1 = nd'.2.2.1
            · have e1 : (if uts nd.2.2.1 = uts nd'.2.2.1 then (1 : Int) else 0) = 1 := if_pos (by rw [hu])
              rw [e1, if_neg (by decide), show (nd.2.2.1 == nd'.2.2.1) = true by simp [hu]]; rfl
            · rw [if_neg (fun q => hu (uts_inj w4 v4 q)), if_pos rfl, show (nd.2.2.1 == nd'.2.2.1) = false by simp [hu]]; rfl
          · rw [if_neg (by omega), show (nd.2.2.1 == nd'.2.2.1) = false by simp; intro q; rw [q] at hle; exact hle rfl]; rfl
        · rw [if_neg (by omega), if_neg k4]
          have h1 := c145 (d := d - 1) (by omega) hz hR hA ⟨⟨w1, w2, w3, w4, w5⟩, w6, w7, w8', w9, trivial⟩ (by omega) hx
          have h2 := c145 (d := d - 1) (by omega) hz hR2 hB ⟨⟨v1, v2, v3, v4, v5⟩, v6, v7, v8', v9, trivial⟩ (by omega) hy
          rw [bI_eq h1, bI_eq h2]
          by_cases hcn : cntF l = cntF l'
          · rw [if_pos (by omega), show (cntF l == cntF l') = true by simp [hcn], Bool.true_and]
            obtain ⟨e, -, hbA, hlA, -⟩ := enV_many hA (by omega)
            obtain ⟨e', -, hbB, hlB, -⟩ := enV_many hB (by omega)
            have h137 := c137 (d := d - 1 - 1) (by omega) hz hR hA ⟨w1, w2, w3, w4, w5⟩ (by omega)
            have h148 : cl (d - 1) 148 [pR r, pI a, pR r2, pI b] m = some (.inl (some (pI (b2i (smF l (nd.1 == 6) l')))), m) := by
              have h35 := hF (d - 1) a b (a + (enV nd l).length) (b + 3) (a + 3) (nd.1 == 6) l' pU pU pU (by rcases hd2 with q | q <;> omega) rfl rfl rfl w9 hbA (by omega) (fun hq => ⟨nd', by simp at hq; omega, hB, ⟨⟨v1, v2, v3, v4, v5⟩, v6, v7, v8', v9, trivial⟩⟩) (fun hq => ⟨by rw [show (nd'.1 == 6) = false by rw [← hk]; exact hq] at hbB; exact hbB, v9, hcn⟩)
              have s16 : rn (d - 1) 148 16 [pR r, pI a, pR r2, pI b, pU, pU, pU, pU, pU, pU, pU] [pI (b2i (nd.1 == 6))] m = some (.inl (some (pI (b2i (smF l (nd.1 == 6) l')))), m) := by
                refine q148_16 (by omega) hz _ ?_
                rw [gd_of ht, bI_eq h137, w32_of (by omega) (by omega), w32_of (by omega) (by omega)]; exact h35
              refine q148 hz _ ?_
              rw [gd_of ht, nm_eq, gd_of htb, gd_of ⟨ha0, by omega⟩, hv a ha0 (by omega), hg]
              by_cases k6 : nd.1 = 6
              · rw [if_pos (by omega)]
                rw [show (nd.1 == 6) = true by simp [k6]] at s16 ⊢; exact s16
              · rw [if_neg (by omega)]
                rw [show (nd.1 == 6) = false by simp [k6]] at s16 ⊢; exact s16
            rw [bI_eq h148]
            cases smF l (nd.1 == 6) l' with
            | false => rw [if_pos (show b2i false = 0 from rfl)]; rfl
            | true => rw [if_neg (show ¬ b2i true = 0 by decide)]; rfl
          · rw [if_neg (by omega), show (cntF l == cntF l') = false by simp [hcn]]; rfl
  · rw [if_neg (by omega), show (nd.1 == nd'.1) = false by simp [hk]]; rfl
theorem SFs_all (hz : TZ m) (hR : RW m r xs c) (hR2 : RW m r2 ys c2) (hx : xs.length < 60000) (hy : ys.length < 60000) : ∀ F, SFs r c xs r2 c2 ys m F := by
  have hr8 := hR.1
  have hr8' := hR2.1
  have hll := hR.2.2.2.2.1
  have hcc := hR.2.2.2.2.2.1
  have hll' := hR2.2.2.2.2.1
  have hcc' := hR2.2.2.2.2.2.1
  intro F
  induction F with
  | leaf =>
    intro d a b en j k ob G z8 z9 z10 hd h8 h9 h10 hw hA hk ho hf
    rw [enF_leaf] at hk
    refine q148_35 (by omega) hz h8 h9 h10 _ ?_
    rw [if_neg (by simp at hk; omega)]
    cases ob with
    | true => rfl
    | false =>
      obtain ⟨-, -, hc⟩ := hf rfl
      cases G with
      | leaf => rfl
      | inner n dd u l rr => exact absurd hc (by show ¬ (0 = cntF rr + 1); omega)
  | inner n dd u l rr ihl ihr =>
    intro d a b en j k ob G z8 z9 z10 hd h8 h9 h10 hw hA hk ho hf
    obtain ⟨w1, w2, w3, w4, w5, w6⟩ := hw
    have hwv : wfF (foC dd l foN) := ⟨w1, w2, w3, w4, w5, trivial⟩
    have ed : dpF (.inner n dd u l rr) = max (dpV dd l) (dpF rr) := rfl
    rw [ed] at hd
    have es : smF (.inner n dd u l rr) ob G = (match (if ob then fndF G dd.2.2.2 else hdF G) with
      | none => false
      | some (d', l') => smV dd l d' l' && smF rr ob (if ob then G else tlF G)) := by cases ob <;> rfl
    rw [enF_inner] at hA hk
    simp only [List.length_append] at hk
    obtain ⟨A1, A2⟩ := hA.app
    obtain ⟨A3, A4⟩ := A2.app
    have hp := enV_pos dd l
    have x0 := A1.1
    have x3 := A3.2.1
    have x4 := A4.2.1
    have hdl : dd.1 < 5 ∨ 8 + 2 * dpF l ≤ d - 1 := by
      by_cases h5 : dd.1 < 5
      · exact Or.inl h5
      · right; unfold dpV at hd; rw [if_neg h5] at hd; omega
    have h137 := c137 (d := d - 1) (by omega) hz hR A3 w1 (by omega)
    -- behind the comparison
    have s88 : ∀ (d' : ND) (l' : Fo) (p2 j2 : Int) (G2 : Fo) (z : PV), cat z = 1 → wfF (foC d' l' foN) → At ys p2 (enV d' l') → (ob = true → j2 = j) → (ob = false → j2 = p2 + (enV d' l').length) → (∀ z8 z9, cat z8 = 1 → cat z9 = 1 → rn d 148 35 [pR r, pI a, pR r2, pI b, pI (b2i ob), pI en, pI j2, pI (k + ((if ob then nmB dd.2.2.2 else []).length : Int) + (enV dd l).length), z8, z9, z] [] m = some (.inl (some (pI (b2i (smF rr ob G2)))), m)) → rn d 148 88 [pR r, pI a, pR r2, pI b, pI (b2i ob), pI en, pI j, pI k, pI (k + ((if ob then nmB dd.2.2.2 else []).length : Int)), pI p2, z] [] m = some (.inl (some (pI (b2i (smV dd l d' l' && smF rr ob G2)))), m) := by
      intro d' l' p2 j2 G2 z hz10 hw' hB hj1 hj0 hnext
      have h147 := c147_of (d := d - 1) ihl (by omega) hdl hz hR hR2 hx hy hwv hw' A3 hB
      have hb0 := hB.1
      have hb1 := hB.2.1
      have h137b := c137 (d := d - 1) (by omega) hz hR2 hB hw'.1 (by omega)
      refine q148_88 (by omega) hz hz10 _ ?_
      rw [gd_of hr8, bI_eq h147]
      cases hsm : smV dd l d' l' with
      | false => rw [if_pos (show b2i false = 0 from rfl)]; rfl
      | true =>
        rw [if_neg (show ¬ b2i true = 0 by decide), bI_eq h137, Bool.true_and]
        cases ob with
        | false =>
          rw [if_pos (show b2i false = 0 from rfl), gd_of hr8', bI_eq h137b]
          have := hnext (pI (k + ((if false then nmB dd.2.2.2 else []).length : Int))) (pI p2) rfl rfl
          rw [hj0 rfl] at this; exact this
        | true =>
          rw [if_neg (show ¬ b2i true = 0 by decide)]
          have := hnext (pI (k + ((if true then nmB dd.2.2.2 else []).length : Int))) (pI p2) rfl rfl
          rw [hj1 rfl] at this; exact this
    rw [es]
    refine q148_35 (by omega) hz h8 h9 h10 _ ?_
    rw [if_pos (by omega)]
    cases ob with
    | false =>
      obtain ⟨g1, g2, g3⟩ := hf rfl
      rw [if_pos (show b2i false = 0 from rfl)]
      cases G with
      | leaf => exact absurd g3 (by show ¬ (cntF rr + 1 = 0); omega)
      | inner n' d' u' l' r' =>
        have eG : enF false (.inner n' d' u' l' r') = enV d' l' ++ enF false r' := by rw [enF_inner]; rfl
        rw [eG] at g1
        obtain ⟨G1, G2⟩ := g1.app
        obtain ⟨v1, v2, v3, v4, v5, v6⟩ := g2
        have := s88 d' l' j (j + (enV d' l').length) r' z10 h10 ⟨v1, v2, v3, v4, v5, trivial⟩ G1 (fun q => absurd q (by decide)) (fun _ => rfl) (fun z8 z9 hz8 hz9 => ihr d a b en _ _ false r' z8 z9 z10 (by omega) hz8 hz9 h10 w6 A4 (by omega) (fun q => absurd q (by decide)) (fun _ => ⟨G2, v6, by have : cntF rr + 1 = cntF r' + 1 := g3; omega⟩))
        have this2 : rn d 148 88 [pR r, pI a, pR r2, pI b, pI (b2i false), pI en, pI j, pI k, pI k, pI j, z10] [] m = some (.inl (some (pI (b2i (smV dd l d' l' && smF rr false r')))), m) := by simpa using this
        exact this2
    | true =>
      obtain ⟨nd, n6, hB, hwG⟩ := ho rfl
      rw [if_neg (show ¬ b2i true = 0 by decide), gd_of hr8']
      have A1' : At xs k (nmB dd.2.2.2) := A1
      have hln := nmB_len dd.2.2.2
      have hx1 := A1'.2.1
      have hb0 := hB.1
      have hb1 := hB.2.1
      have h144 := c144 (d := d - 1) (by omega) hz hR2 hR hB hwG n6 hy A1' w1.2.2.2.2 (by omega)
      obtain ⟨eB, -, hbB, hlB, -⟩ := enV_many hB (by omega)
      rw [show (nd.1 == 6) = true by simp [n6]] at hbB hlB
      rw [bI_eq h144, if_pos rfl]
      rcases memP_fnd G dd.2.2.2 (b + 3) (by omega) hwG.2.2.2.2.1 hbB with ⟨q1, q2⟩ | ⟨d', l', q1, q2, q3, q4, q5, q6, q7⟩
      · rw [q1, q2, if_pos (by decide)]; rfl
      · rw [q1]
        have h136 := c136 (d := d - 1) (a := k) (by omega) hz hR (by omega) (by omega)
        rw [tw_nm A1' (by omega), show k + 2 + ((uts dd.2.2.2).length : Int) = k + (nmB dd.2.2.2).length by omega] at h136
        have hq5 := q5.2.1
        have h136b := c136 (d := d - 1) (a := memP G dd.2.2.2 (b + 3)) (by omega) hz hR2 (by omega) (by omega)
        rw [tw_nm q5 (by omega), show memP G dd.2.2.2 (b + 3) + 2 + ((uts dd.2.2.2).length : Int) = memP G dd.2.2.2 (b + 3) + (nmB dd.2.2.2).length by omega] at h136b
        rw [if_neg (by omega), gd_of hr8, bI_eq h136, bI_eq h136b]
        exact s88 d' l' _ j G (pI (memP G dd.2.2.2 (b + 3))) rfl q3 q6 (fun _ => rfl) (fun q => absurd q (by decide)) (fun z8 z9 hz8 hz9 => ihr d a b en j _ true G z8 z9 _ (by omega) hz8 hz9 rfl w6 A4 (by omega) (fun _ => ⟨nd, n6, hB, hwG⟩) (fun q => absurd q (by decide)))
theorem c147 {nd nd' : ND} {l l' : Fo} {a b : Int} (hd : 8 + 2 * dpF l ≤ d) (hz : TZ m) (hR : RW m r xs c) (hR2 : RW m r2 ys c2) (hx : xs.length < 60000) (hy : ys.length < 60000) (hw : wfF (foC nd l foN)) (hw' : wfF (foC nd' l' foN)) (hA : At xs a (enV nd l)) (hB : At ys b (enV nd' l')) : cl d 147 [pR r, pI a, pR r2, pI b] m = some (.inl (some (pI (b2i (smV nd l nd' l')))), m) := c147_of (SFs_all hz hR hR2 hx hy l) (by omega) (Or.inr hd) hz hR hR2 hx hy hw hw' hA hB
end
