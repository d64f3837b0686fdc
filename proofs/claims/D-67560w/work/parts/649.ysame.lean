/-! the twin's trees: the same values -/
set_option maxRecDepth 100000
set_option maxHeartbeats 4000000
theorem kT_inj {a b : Nat} : kT a = kT b ↔ a = b := by
  unfold kT
  constructor
  · intro h; split at h <;> split at h <;> (try split at h) <;> (try split at h) <;> omega
  · intro h; rw [h]
theorem smF_cnt : ∀ (F G : Fo), smF F false G = true → cntF F = cntF G := by
  intro F
  induction F with
  | leaf =>
    intro G h
    cases G with
    | leaf => rfl
    | inner i d u l r => simp [smF, hdF] at h
  | inner i d u l r _ ih =>
    intro G h
    cases G with
    | leaf => simp [smF, hdF] at h
    | inner i' d' u' l' r' =>
      have e : smF (.inner i d u l r) false (.inner i' d' u' l' r') = (smV d l d' l' && smF r false r') := rfl
      rw [e, Bool.and_eq_true] at h
      have := ih r' h.2
      simp only [cntF, this]
theorem TF.fnd {g : Int → Int → Int} {us : List Int} {n : Int} {p : Int} {ob : Bool} (ks : List Int) : ∀ {G : Fo}, TF g us n p ob G → wfF G → (fndF G ks = none ∧ fnI ks G < 0) ∨ ∃ (i : Nat) (d' : ND) (l' : Fo), fndF G ks = some (d', l') ∧ fnI ks G = i ∧ TN g us n i d' l' ∧ wfF (foC d' l' foN) ∧ d'.2.2.2 = ks := by
  intro G
  induction G with
  | leaf => intro _ _; exact Or.inl ⟨rfl, by show (-1 : Int) < 0; decide⟩
  | inner i d u l r _ ih =>
    intro h hw
    obtain ⟨f1, f2, f3, f4, f5, f6, f7, f8, f9, f10⟩ := h
    obtain ⟨w1, w2, w3, w4, w5, w6⟩ := hw
    simp only [fndF, fnI]
    by_cases hk : d.2.2.2 = ks
    · rw [if_pos hk, if_pos hk]
      exact Or.inr ⟨i, d, l, rfl, rfl, ⟨f1, f2, f3, f4, f7, f9⟩, ⟨w1, w2, w3, w4, w5, trivial⟩, hk⟩
    · rw [if_neg hk, if_neg hk]
      exact ih f10 w6
theorem ctI_cnt (F : Fo) : ctI F = (cntF F : Int) := by
  induction F with
  | leaf => rfl
  | inner i d u l r _ ih => simp only [ctI, cntF, ih]; omega
theorem cnt_sz (F : Fo) : cntF F ≤ szF F := by
  induction F with
  | leaf => exact Nat.le_refl _
  | inner i d u l r _ ih => simp only [cntF, szF]; omega
/-- what same says of nodes side by side -/
def PSM (m : Mem) (t t' n n' : Int) (us us' : List Int) (F : Fo) : Prop := ∀ (d : Nat) (x y p p' : Int) (G : Fo), 3 + hI F ≤ d → wfF F → wfF G → szF F ≤ 100000 → szF G ≤ 100000 →
  (TF (nv m t) us n p false F → TF (nv m t') us' n' p' false G → rn d 235 106 [pR t, pI x, pR t', pI y, pI (hdI G), pI (hdI F), pU] [] m = some (.inl (some (pI (b2i (smF F false G)))), m)) ∧
  (∀ (z : PV) (yy : Nat) (nd' : ND), cat z = 1 → y = yy → nd'.1 = 6 → TF (nv m t) us n p true F → TN (nv m t') us' n' yy nd' G → rn d 235 185 [pR t, pI x, pR t', pI y, pU, pI (hdI F), z] [] m = some (.inl (some (pI (b2i (smF F true G)))), m))
section
variable {d : Nat} {m : Mem} {t t' n n' C C' : Int} {us us' : List Int}
theorem c235_of {x y : Nat} {nd nd' : ND} {l l' : Fo} (hF : PSM m t t' n n' us us' l) (hd : 3 + hI l ≤ d) (ok : OK m) (hw : TW m t n us C) (hw' : TW m t' n' us' C') (hN : TN (nv m t) us n x nd l) (hN' : TN (nv m t') us' n' y nd' l') (wf : wfF (foC nd l foN)) (wf' : wfF (foC nd' l' foN)) (hb : szF l ≤ 100000) (hb' : szF l' ≤ 100000) : cl d 235 [pR t, pI x, pR t', pI y] m = some (.inl (some (pI (b2i (smV nd l nd' l')))), m) := by
  have hc := hw.2.2.2.2.2.2.1
  have hc' := hw'.2.2.2.2.2.2.1
  have l0 := hw.ld (f := 0) ⟨by decide, by decide⟩ (by decide)
  have l4 := hw.ld (f := 4) ⟨by decide, by decide⟩ (by decide)
  have l1 := hw.2.2.1
  have r0 := hw'.ld (f := 0) ⟨by decide, by decide⟩ (by decide)
  have r4 := hw'.ld (f := 4) ⟨by decide, by decide⟩ (by decide)
  have r1 := hw'.2.2.1
  have hN0 := hN
  have hN0' := hN'
  obtain ⟨n1, n2, n3, n4, n6, n7⟩ := hN
  obtain ⟨p1, p2, p3, p4, p6, p7⟩ := hN'
  obtain ⟨w1, w2, w3, w4, w5, -⟩ := wf
  obtain ⟨v1, v2, v3, v4, v5, -⟩ := wf'
  have e0 : vl m (vl m t 0) x = kT nd.1 := n2
  have e0' : vl m (vl m t' 0) y = kT nd'.1 := p2
  have s0 : ∀ X : RM, (if kT nd.1 = kT nd'.1 then (if kT nd.1 = 3 then (nm (vl m t 1) fun v7 => gd (tg m v7 = 284102 ∨ tg m v7 = 286102) <| gd ((0 : Int) ≤ x ∧ (x : Int) < ln m v7) <| nm (vl m t' 1) fun v8 => gd (tg m v8 = 284102 ∨ tg m v8 = 286102) <| gd ((0 : Int) ≤ y ∧ (y : Int) < ln m v8) <| if (vl m v7 x) = (vl m v8 y) then (some (.inl (some (pI 1)), m)) else some (.inl (some (pI 0)), m)) else if kT nd.1 = 4 then (bI (cl (d - 1) 236 [pR t, pI x, pR t', pI y] m) fun v3 m3 => if v3 = 0 then (some (.inl (some (pI 1)), m3)) else some (.inl (some (pI 0)), m3)) else if kT nd.1 = 5 then (nm (vl m t' 4) fun v9 => gd (tg m v9 = 284101 ∨ tg m v9 = 287101) <| gd ((0 : Int) ≤ y ∧ (y : Int) < ln m v9) <| nm (vl m t 4) fun v10 => gd (tg m v10 = 284101 ∨ tg m v10 = 287101) <| gd ((0 : Int) ≤ x ∧ (x : Int) < ln m v10) <| rn d 235 106 [pR t, pI x, pR t', pI y, pI (vl m v9 y), pI (vl m v10 x), pU] [] m) else if kT nd.1 = 6 then (bI (cl (d - 1) 291 [pR t, pI x] m) fun v1 m1 => bI (cl (d - 1) 291 [pR t', pI y] m1) fun v2 m2 => if v1 = v2 then (nm (vl m2 t 4) fun v11 => gd (tg m2 v11 = 284101 ∨ tg m2 v11 = 287101) <| gd ((0 : Int) ≤ x ∧ (x : Int) < ln m2 v11) <| rn d 235 185 [pR t, pI x, pR t', pI y, pU, pI (vl m2 v11 x), pU] [] m2) else some (.inl (some (pI 0)), m2)) else some (.inl (some (pI 1)), m)) else some (.inl (some (pI 0)), m)) = X → ∀ Q, X = some Q → cl d 235 [pR t, pI x, pR t', pI y] m = some Q := by
    intro X hX Q hQ
    refine q235 (by omega) ok.1 _ ?_
    rw [gd_of hw.1, nm_eq, gd_of l0.1, gd_of ⟨by omega, by omega⟩, nm_eq, gd_of hw'.1, nm_eq, gd_of r0.1, gd_of ⟨by omega, by omega⟩, e0, e0']
    exact (by exact hX : _ = X).trans hQ
  unfold smV smD
  by_cases hk : nd.1 = nd'.1
  · have hkk : kT nd.1 = kT nd'.1 := by rw [hk]
    rw [show (nd.1 == nd'.1) = true from beq_iff_eq.mpr hk, Bool.true_and]
    by_cases k3 : nd.1 < 3
    · rw [if_pos k3]
      refine s0 _ ?_ _ rfl
      have h2 : kT nd.1 < 3 := by unfold kT; split <;> (try split) <;> omega
      rw [if_pos hkk, if_neg (by omega), if_neg (by omega), if_neg (by omega), if_neg (by omega)]; rfl
    · rw [if_neg k3]
      have hk6 := kT_6 (k := nd.1) (by omega)
      by_cases k4 : nd.1 = 3
      · rw [if_pos k4]
        have e1 : vl m (vl m t 1) x = nd.2.1 := n3 k4
        have e1' : vl m (vl m t' 1) y = nd'.2.1 := p3 (by omega)
        refine s0 _ ?_ _ rfl
        rw [if_pos hkk, hk6, if_pos (by omega), nm_eq, gd_of l1.1, gd_of ⟨by omega, by omega⟩, nm_eq, gd_of r1.1, gd_of ⟨by omega, by omega⟩, e1, e1']
        by_cases hv : nd.2.1 = nd'.2.1
        · rw [if_pos hv, show (nd.2.1 == nd'.2.1) = true from beq_iff_eq.mpr hv]; rfl
        · rw [if_neg hv, show (nd.2.1 == nd'.2.1) = false from beq_eq_false_iff_ne.mpr hv]; rfl
      · rw [if_neg k4]
        by_cases k5 : nd.1 = 4
        · rw [if_pos k5]
          have h236 := c236 (d := d - 1) (by omega) ok.1 hw hw' hN0 hN0' w1.2.2.2.1 v1.2.2.2.1 w2 v2
          refine s0 _ ?_ _ rfl
          rw [if_pos hkk, hk6, if_neg (by omega), if_pos (by omega), bI_eq h236]
          by_cases hv : nd.2.2.1 = nd'.2.2.1
          · rw [if_pos ((orC_0 _ _).mpr (by rw [hv])), show (nd.2.2.1 == nd'.2.2.1) = true from beq_iff_eq.mpr hv]; rfl
          · rw [if_neg (fun q => hv (chU_inj _ _ _ (Nat.le_refl _) w1.2.2.2.1 v1.2.2.2.1 w2 v2 ((orC_0 _ _).mp q))), show (nd.2.2.1 == nd'.2.2.1) = false from beq_eq_false_iff_ne.mpr hv]; rfl
        · rw [if_neg k5]
          have e4 : vl m (vl m t 4) x = hdI l := n6
          have e4' : vl m (vl m t' 4) y = hdI l' := p6
          have h56 : nd.1 = 5 ∨ nd.1 = 6 := by have := w1.1; omega
          rcases h56 with h5 | h6
          · have hob : (nd.1 == 6) = false := by rw [h5]; rfl
            have hob' : (nd'.1 == 6) = false := by rw [← hk, h5]; rfl
            rw [hob] at n7 ⊢
            rw [hob'] at p7
            have hL := (hF d x y x y l' (by omega) w5 v5 hb hb').1 n7 p7
            have hce : (cntF l == cntF l' && smF l false l') = smF l false l' := by
              cases hs : smF l false l' with
              | false => rw [Bool.and_false]
              | true => rw [Bool.and_true]; exact beq_iff_eq.mpr (smF_cnt l l' hs)
            rw [hce]
            refine s0 _ ?_ _ rfl
            rw [if_pos hkk, hk6, if_neg (by omega), if_neg (by omega), if_pos (by omega), nm_eq, gd_of r4.1, gd_of ⟨by omega, by omega⟩, nm_eq, gd_of l4.1, gd_of ⟨by omega, by omega⟩, e4, e4']
            exact hL
          · have hob : (nd.1 == 6) = true := by rw [h6]; rfl
            rw [hob] at n7 ⊢
            have hL := (hF d x y x y l' (by omega) w5 v5 hb hb').2 pU y nd' rfl rfl (by omega) n7 hN0'
            have h291 := c291 (d := d - 1) hw ok hN0 (by rw [ctI_cnt]; have := cnt_sz l; omega)
            have h291' := c291 (d := d - 1) hw' ok hN0' (by rw [ctI_cnt]; have := cnt_sz l'; omega)
            rw [ctI_cnt] at h291 h291'
            refine s0 _ ?_ _ rfl
            rw [if_pos hkk, hk6, if_neg (by omega), if_neg (by omega), if_neg (by omega), if_pos (by omega), bI_eq h291, bI_eq h291']
            by_cases hcn : cntF l = cntF l'
            · rw [if_pos (by omega), nm_eq, gd_of l4.1, gd_of ⟨by omega, by omega⟩, e4, show (cntF l == cntF l') = true from beq_iff_eq.mpr hcn, Bool.true_and]
              exact hL
            · rw [if_neg (by omega), show (cntF l == cntF l') = false from beq_eq_false_iff_ne.mpr hcn]; rfl
  · rw [show (nd.1 == nd'.1) = false from beq_eq_false_iff_ne.mpr hk, Bool.false_and]
    refine s0 _ ?_ _ rfl
    rw [if_neg (fun q => hk (kT_inj.mp q))]; rfl
theorem fnd_sz {ks : List Int} {d' : ND} {l' : Fo} : ∀ {G : Fo}, fndF G ks = some (d', l') → szF l' ≤ szF G := by
  intro G
  induction G with
  | leaf => intro h; cases h
  | inner i d u l r _ ih =>
    intro h
    simp only [fndF] at h
    split at h
    · cases h; simp only [szF]; omega
    · have := ih h; simp only [szF]; omega
theorem PSM_all (ok : OK m) (hw : TW m t n us C) (hw' : TW m t' n' us' C') : ∀ F : Fo, PSM m t t' n n' us us' F := by
  have hc := hw.2.2.2.2.2.2.1
  have hc' := hw'.2.2.2.2.2.2.1
  have l5 := hw.ld (f := 5) ⟨by decide, by decide⟩ (by decide)
  have l6 := hw.ld (f := 6) ⟨by decide, by decide⟩ (by decide)
  have l7 := hw.ld (f := 7) ⟨by decide, by decide⟩ (by decide)
  have r5 := hw'.ld (f := 5) ⟨by decide, by decide⟩ (by decide)
  intro F
  induction F with
  | leaf =>
    intro d x y p p' G hd wF wG sF sG
    refine ⟨fun h h' => ?_, fun z yy nd' hz hy h6 h h' => ?_⟩
    · refine q235_106 (by omega) ok.1 _ ?_
      rw [if_pos (show hdI .leaf < 0 by decide)]
      cases G with
      | leaf => rw [if_pos (show hdI .leaf < 0 by decide)]; rfl
      | inner i d' u l r => rw [if_neg (show ¬ hdI (.inner i d' u l r) < 0 by show ¬ (i : Int) < 0; omega)]; rfl
    · refine q235_185 (by omega) ok.1 hz _ ?_
      rw [if_pos (show hdI .leaf < 0 by decide)]; rfl
  | inner i nd u l r ihl ihr =>
    intro d x y p p' G hd wF wG sF sG
    have hh : max (1 + hI l) (hI r) + 3 ≤ d := by have : hI (.inner i nd u l r) = max (1 + hI l) (hI r) := rfl; omega
    obtain ⟨w1, w2, w3, w4, w5, w6⟩ := wF
    simp only [szF] at sF
    have hhd : hdI (.inner i nd u l r) = (i : Int) := rfl
    rw [hhd]
    refine ⟨fun h h' => ?_, fun z yy nd' hz hy h6 h h' => ?_⟩
    · obtain ⟨f1, f2, f3, f4, f5, f6, f7, f8, f9, f10⟩ := h
      have e5 : vl m (vl m t 5) i = hdI r := f8
      refine q235_106 (by omega) ok.1 _ ?_
      rw [if_neg (by omega)]
      cases G with
      | leaf => rw [if_pos (show hdI .leaf < 0 by decide)]; rfl
      | inner i' nd' u' l' r' =>
        obtain ⟨g1, g2, g3, g4, g5, g6, g7, g8, g9, g10⟩ := h'
        obtain ⟨v1, v2, v3, v4, v5, v6⟩ := wG
        simp only [szF] at sG
        have e5' : vl m (vl m t' 5) i' = hdI r' := g8
        have hcall := c235_of (d := d - 1) ihl (by omega) ok hw hw' ⟨f1, f2, f3, f4, f7, f9⟩ ⟨g1, g2, g3, g4, g7, g9⟩ ⟨w1, w2, w3, w4, w5, trivial⟩ ⟨v1, v2, v3, v4, v5, trivial⟩ (by omega) (by omega)
        rw [if_neg (show ¬ hdI (.inner i' nd' u' l' r') < 0 by show ¬ (i' : Int) < 0; omega), show hdI (.inner i' nd' u' l' r') = (i' : Int) from rfl, bI_eq hcall]
        have es : smF (.inner i nd u l r) false (.inner i' nd' u' l' r') = (smV nd l nd' l' && smF r false r') := rfl
        rw [es]
        cases hs : smV nd l nd' l' with
        | false => rw [if_pos (show b2i false = 0 from rfl), Bool.false_and]; rfl
        | true =>
          rw [if_neg (show ¬ b2i true = 0 by decide), Bool.true_and, gd_of hw'.1, nm_eq, gd_of r5.1, gd_of ⟨by omega, by omega⟩, gd_of hw.1, nm_eq, gd_of l5.1, gd_of ⟨by omega, by omega⟩, e5, e5']
          exact (ihr d x y p p' r' (by omega) w6 v6 (by omega) (by omega)).1 f10 g10
    · obtain ⟨f1, f2, f3, f4, f5, f6, f7, f8, f9, f10⟩ := h
      have e5 : vl m (vl m t 5) i = hdI r := f8
      obtain ⟨g7, g6⟩ := f5 rfl
      have e7 : vl m (vl m t 7) i = nd.2.2.2.length := g7
      have g6' : At us (vl m (vl m t 6) i) nd.2.2.2 := g6
      have h288 := c288 (d := d - 1) (by omega) hw' hw ok g6' h' h6
      have hG : TF (nv m t') us' n' yy (nd'.1 == 6) G := h'.2.2.2.2.2
      refine q235_185 (by omega) ok.1 hz _ ?_
      rw [if_neg (by omega), gd_of hw.1, nm_eq, gd_of l6.1, gd_of ⟨by omega, by omega⟩, nm_eq, gd_of l7.1, gd_of ⟨by omega, by omega⟩, gd_of hw'.1, e7, hy, bI_eq h288]
      rcases hG.fnd nd.2.2.2 wG with ⟨k1, k2⟩ | ⟨j, d1, l1, k1, k2, k3, k4, k5⟩
      · have es : smF (.inner i nd u l r) true G = false := by simp only [smF, if_true, k1]
        rw [if_pos k2, es]; rfl
      · have es : smF (.inner i nd u l r) true G = (smV nd l d1 l1 && smF r true G) := by simp only [smF, if_true, k1]; rfl
        have hsz := fnd_sz k1
        have hcall := c235_of (d := d - 1) ihl (by omega) ok hw hw' ⟨f1, f2, f3, f4, f7, f9⟩ k3 ⟨w1, w2, w3, w4, w5, trivial⟩ k4 (by omega) (by omega)
        rw [k2, if_neg (by omega), bI_eq hcall, es]
        cases hs : smV nd l d1 l1 with
        | false => rw [if_pos (show b2i false = 0 from rfl), Bool.false_and]; rfl
        | true =>
          rw [if_neg (show ¬ b2i true = 0 by decide), Bool.true_and, nm_eq, gd_of l5.1, gd_of ⟨by omega, by omega⟩, e5]
          have := (ihr d x yy p p' G (by omega) w6 wG (by omega) (by omega)).2 (pI j) yy nd' rfl rfl h6 f10 h'
          exact this
theorem c235 {x y : Nat} {nd nd' : ND} {l l' : Fo} (hd : 3 + hI l ≤ d) (ok : OK m) (hw : TW m t n us C) (hw' : TW m t' n' us' C') (hN : TN (nv m t) us n x nd l) (hN' : TN (nv m t') us' n' y nd' l') (wf : wfF (foC nd l foN)) (wf' : wfF (foC nd' l' foN)) (hb : szF l ≤ 100000) (hb' : szF l' ≤ 100000) : cl d 235 [pR t, pI x, pR t', pI y] m = some (.inl (some (pI (b2i (smV nd l nd' l')))), m) := c235_of (PSM_all ok hw hw' l) hd ok hw hw' hN hN' wf wf' hb hb'
end
