/-! values out of texts: the component's reader -/
set_option maxRecDepth 100000
set_option maxHeartbeats 4000000
def PEs (T tp e r : Int) (t : Int → Int) (n : Nat) : Prop := ∀ (d dep : Nat) (m : Mem) (c i k0 : Int) (pre : List Int) (F0 : Fo) (ob : Bool) (seen : List (List Int)), 11 + 3 * (33 - dep) ≤ d → 1 ≤ dep → dep ≤ 32 → RI m → RDS m T tp e i t dep → RW m r (pre ++ k0 :: 0 :: 0 :: enF ob F0) c → wfF F0 → seen = nmsF F0 → (ob = true → seen.Nodup) → ((pre ++ k0 :: 0 :: 0 :: enF ob F0).length : Int) + 3 * (e - i) ≤ 5900 →
  (∀ F j, sP t e n true dep ob seen i = some (.inr (F, j)) → wfF F ∧ (ob = true → (nmsF (fapp F0 F)).Nodup) ∧ i < j ∧ j ≤ e ∧ ((enF ob F).length : Int) ≤ 3 * (j - i) ∧ ∃ m' c', (bV (cl (d - 1) 78 [pR T, pR r, pI pre.length, pI (b2i ob)] m) fun m6 => rn d 77 115 [pR T, pR r, pI (b2i ob), pI (clo ob), pI pre.length] [] m6) = some (.inl none, m') ∧ TX m' T tp e j t ∧ vl m' T 4 = (dep : Int) - 1 ∧ RG r m c (pre ++ k0 :: (l2 (enF ob (fapp F0 F)).length ++ enF ob (fapp F0 F))) m' c') ∧
  (∀ p, sP t e n true dep ob seen i = some (.inl p) → ∃ m', (bV (cl (d - 1) 78 [pR T, pR r, pI pre.length, pI (b2i ob)] m) fun m6 => rn d 77 115 [pR T, pR r, pI (b2i ob), pI (clo ob), pI pre.length] [] m6) = some (.inr 204, m') ∧ BR T r m c p m')
theorem RG.m4 {m : Mem} {T r c v : Int} {xs : List Int} (hR : RW m r xs c) (hT : tg m T = 4) (hI : RI m) : RG r m c xs (mst m T 4 v) c := ⟨hR.mT (by omega), RO.mT (by omega) hI, ⟨by omega, by show nx m - nx m ≤ _; omega, by show sl m - sl m ≤ _; omega⟩, by omega⟩
section
variable {d dep n : Nat} {m : Mem} {T tp e i r c k0 : Int} {t : Int → Int} {pre : List Int}
/-- the closing bracket -/
theorem c77_end {B : List Int} {a2 a3 : Int} (hd : 2 ≤ d) (hdep : 1 ≤ dep) (hdep2 : dep ≤ 32) (hI : RI m) (h : RDS m T tp e i t dep) (hie : i < e) (hR : RW m r (pre ++ k0 :: 0 :: 0 :: B) c) (hL : pre.length + B.length + 3 ≤ 6000) : ∃ m', rn d 77 144 [pR T, pR r, pI a2, pI a3, pI pre.length] [] m = some (.inl none, m') ∧ TX m' T tp e (i + 1) t ∧ vl m' T 4 = (dep : Int) - 1 ∧ RG r m c (pre ++ k0 :: (l2 B.length ++ B)) m' c := by
  obtain ⟨ok, h4, hn4, hS, hX⟩ := h
  have b4 := hX.2.2.2.1
  have b6 := hX.2.2.2.2.2.1
  have hr8 := hR.1
  have hsz := hR.2.2.2.1
  simp only [List.length_append, List.length_cons] at hsz
  have g1 : RG r m c _ (mst m T 2 (i + 1)) c := RG.atR hR hX.1 hI
  have g2 := g1.trans (RG.m4 (T := T) (v := (dep : Int) - 1) g1.1 h4 g1.2.1.1) (by simp)
  have e0 : pre ++ k0 :: 0 :: 0 :: B = (pre ++ [k0]) ++ 0 :: 0 :: B := by simp
  have hR2 := g2.1
  rw [e0] at hR2
  obtain ⟨m1, e1, g3⟩ := c133 (d := d - 1) (m := mst (mst m T 2 (i + 1)) T 4 ((dep : Int) - 1)) (a := (pre.length : Int) + 1) (b := B.length) ok g2.2.1.1 hR2 (by simp) ⟨by omega, by omega⟩
  have hx1 : TX (mst (mst m T 2 (i + 1)) T 4 ((dep : Int) - 1)) T tp e (i + 1) t := (hX.at (by omega) (by omega)).m4
  refine ⟨m1, ?_, hx1.fr (cl_FRM e1) ok.1 (by rfl), ?_, ?_⟩
  · refine q77_144 (by omega) ok.1 _ ?_
    have ev : vl m r 1 - (pre.length : Int) - 3 = B.length := by rw [hsz]; omega
    rw [gd_of h4, gd_of hr8, w32_of (z := (pre.length : Int) + 1) (by omega) (by omega), w32_of (z := vl m r 1 - pre.length) (by omega) (by omega), ev, w32_of (z := (B.length : Int)) (by omega) (by omega), b4, w32_of (z := i + 1) (by omega) (by omega), hn4, w32_of (z := (dep : Int) - 1) (by omega) (by omega), bV_eq e1]
  · rw [vl_of (cl_FRM e1) (show TZ (mst (mst m T 2 (i + 1)) T 4 ((dep : Int) - 1)) from ok.1) (show tg (mst (mst m T 2 (i + 1)) T 4 ((dep : Int) - 1)) T = 4 from h4) (by decide) (by rfl), vl_mst, if_pos ⟨rfl, rfl⟩]
  · have g4 := g2.trans g3 (by simp)
    simpa [l2] using g4
theorem PEs_succ (hPV : PVs T tp e r t n) (hPE : PEs T tp e r t n) : PEs T tp e r t (n + 1) := by
  intro d dep m c i k0 pre F0 ob seen hd hdep1 hdep hI h hR hw hsn hnd hL
  have hel := c78 (d := d - 1) hPV (by omega) hdep hI h hR hw hsn hL
  have b6 := h.2.2.2.2.2.2.2.2.2.1
  unfold sP
  cases hk : sKey t e ob seen i with
  | inl p0 =>
    refine ⟨fun F j hF => (by cases hF), fun p hp => ?_⟩
    cases hp
    obtain ⟨m1, e1, hb⟩ := hel.1 p0 hk
    exact ⟨m1, bV_xq e1, hb⟩
  | inr w =>
    obtain ⟨nm, j⟩ := w
    have hel2 := hel.2 nm j hk
    dsimp only
    cases hv : sP t e n false dep ob seen j with
    | none => exact ⟨fun F j hF => (by cases hF), fun p hp => (by cases hp)⟩
    | some w =>
      cases w with
      | inl p0 =>
        refine ⟨fun F j hF => (by cases hF), fun p hp => ?_⟩
        cases hp
        obtain ⟨m1, e1, hb⟩ := hel2.1 p0 hv
        exact ⟨m1, bV_xq e1, hb⟩
      | inr w =>
        obtain ⟨Fv, k⟩ := w
        obtain ⟨nd, l, rfl, f1, f2, f3, f4, f5, f6, m1, c1, e1, h1, g1⟩ := hel2.2 Fv k hv
        dsimp only
        have hbk := sB_rng t (i := k) (e := e) f5
        have hx1 := h1.2.2.2.2
        have h63 := c63 (d := d - 1) h1.1.1 hx1
        have eN : enF ob (foC (nd.1, nd.2.1, nd.2.2.1, nm) l foN) = (if ob then nmB nm else []) ++ enV nd l := by
          rw [enF_inner, enF_leaf, List.append_nil]; rfl
        have eF : (pre ++ k0 :: 0 :: 0 :: enF ob F0) ++ ((if ob then nmB nm else []) ++ enV nd l) = pre ++ k0 :: 0 :: 0 :: enF ob (fapp F0 (foC (nd.1, nd.2.1, nd.2.2.1, nm) l foN)) := by
          rw [enF_fapp, eN]; simp
        rw [eF] at g1
        have hwN : wfF (foC (nd.1, nd.2.1, nd.2.2.1, nm) l foN) := ⟨⟨f1.1.1, f1.1.2.1, f1.1.2.2.1, f1.1.2.2.2.1, f2⟩, f1.2.1, f1.2.2.1, f1.2.2.2.1, f1.2.2.2.2.1, trivial⟩
        have hwA : ∀ G H : Fo, wfF G → wfF H → wfF (fapp G H) := by
          intro G H hG hH
          induction G with
          | leaf => exact hH
          | inner a b c x y _ ih => exact ⟨hG.1, hG.2.1, hG.2.2.1, hG.2.2.2.1, hG.2.2.2.2.1, ih hG.2.2.2.2.2⟩
        have hnm : nmsF (fapp F0 (foC (nd.1, nd.2.1, nd.2.2.1, nm) l foN)) = seen ++ [nm] := by rw [nmsF_fapp, ← hsn]; rfl
        have hnd2 : ob = true → (seen ++ [nm]).Nodup := by
          intro ho
          rw [List.nodup_append]
          refine ⟨hnd ho, by simp, fun a ha b hb => ?_⟩
          simp at hb; subst hb
          intro q; subst q; exact f3 ho ha
        have hlen1 : ((pre ++ k0 :: 0 :: 0 :: enF ob (fapp F0 (foC (nd.1, nd.2.1, nd.2.2.1, nm) l foN))).length : Int) + 3 * (e - k) ≤ 5900 := by
          rw [← eF, List.length_append]; omega
        have hlen2 : pre.length + (enF ob (fapp F0 (foC (nd.1, nd.2.1, nd.2.2.1, nm) l foN))).length + 3 ≤ 5900 := by
          simp only [List.length_append, List.length_cons] at hlen1; omega
        by_cases hc : pk t e (sB t e k) = clo ob
        · rw [if_pos hc]
          refine ⟨fun F j hF => ?_, fun p hp => (by cases hp)⟩
          cases hF
          have hlt : sB t e k < e := pkf_lt (t := t) (by rw [hc]; cases ob <;> decide)
          obtain ⟨m2, e2, hx2, hn2, g2⟩ := c77_end (d := d) (a2 := b2i ob) (a3 := clo ob) (by omega) hdep1 hdep g1.2.1.1 h1 hlt g1.1 (by omega)
          refine ⟨hwN, fun ho => by rw [hnm]; exact hnd2 ho, by omega, by omega, by rw [eN]; omega, m2, c1, ?_, hx2, hn2, g1.trans g2 (by simp [l2_len]; omega)⟩
          rw [bV_eq e1]
          refine q77_115 (by omega) h1.1.1 _ ?_
          rw [gd_of h1.2.1, bI_eq h63, if_pos hc]; exact e2
        · rw [if_neg hc]
          by_cases h44 : pk t e (sB t e k) = 44
          · rw [if_pos h44]
            have hlt : sB t e k < e := pkf_lt (t := t) (by omega)
            have h65 := c65_1 (d := d - 1) (x := 44) (by omega) h1.1.1 hx1 h44 (by decide)
            have h2 := h1.at (j := sB t e k + 1) (by omega) (by omega)
            have e62 := c62 (d := d - 1) (by omega) h2.1.1 h2.2.2.2.2
            rw [mst_mst] at e62
            have hb2 := sB_rng t (i := sB t e k + 1) (e := e) (by omega)
            have h3 := h1.at (j := sB t e (sB t e k + 1)) (by omega) hb2.2
            have g3 := RG.atR (j := sB t e (sB t e k + 1)) g1.1 hx1.1 g1.2.1.1
            have hI3 := hPE d dep _ c1 (sB t e (sB t e k + 1)) k0 pre (fapp F0 (foC (nd.1, nd.2.1, nd.2.2.1, nm) l foN)) ob (seen ++ [nm]) hd hdep1 hdep g3.2.1.1 h3 g3.1 (hwA _ _ hw hwN) hnm.symm hnd2 (by omega)
            have step : ∀ X : RM, (bV (cl (d - 1) 78 [pR T, pR r, pI pre.length, pI (b2i ob)] (mst m1 T 2 (sB t e (sB t e k + 1)))) fun m6 => rn d 77 115 [pR T, pR r, pI (b2i ob), pI (clo ob), pI pre.length] [] m6) = X → ∀ Q, X = some Q → (bV (cl (d - 1) 78 [pR T, pR r, pI pre.length, pI (b2i ob)] m) fun m6 => rn d 77 115 [pR T, pR r, pI (b2i ob), pI (clo ob), pI pre.length] [] m6) = some Q := by
              intro X hX Q hQ
              rw [bV_eq e1]
              refine q77_115 (by omega) h1.1.1 _ ?_
              rw [gd_of h1.2.1, bI_eq h63, if_neg hc, bV_eq h65, bV_eq e62, hX]; exact hQ
            cases hr : sP t e n true dep ob (seen ++ [nm]) (sB t e (sB t e k + 1)) with
            | none => exact ⟨fun F j hF => (by cases hF), fun p hp => (by cases hp)⟩
            | some w =>
              cases w with
              | inl p0 =>
                refine ⟨fun F j hF => (by cases hF), fun p hp => ?_⟩
                cases hp
                obtain ⟨m4, e4, hb⟩ := hI3.2 p0 hr
                exact ⟨m4, step _ e4 _ rfl, (hb.at hx1.1 g1.2.1.1).pre g1 (by simp only [List.length_append, List.length_cons]; omega)⟩
              | inr w =>
                obtain ⟨R, q⟩ := w
                refine ⟨fun F j hF => ?_, fun p hp => (by cases hp)⟩
                cases hF
                obtain ⟨w1, w2, w3, w4, w5, m4, c4, e4, hx4, hn4, g4⟩ := hI3.1 R q hr
                have eR : fapp F0 (foC (nd.1, nd.2.1, nd.2.2.1, nm) l R) = fapp (fapp F0 (foC (nd.1, nd.2.1, nd.2.2.1, nm) l foN)) R := by rw [fapp_assoc]; rfl
                have eR2 : enF ob (foC (nd.1, nd.2.1, nd.2.2.1, nm) l R) = ((if ob then nmB nm else []) ++ enV nd l) ++ enF ob R := by rw [enF_inner, List.append_assoc]; rfl
                refine ⟨⟨hwN.1, hwN.2.1, hwN.2.2.1, hwN.2.2.2.1, hwN.2.2.2.2.1, w1⟩, fun ho => by rw [eR]; exact w2 ho, by omega, w4, by rw [eR2, List.length_append]; omega, m4, c4, step _ e4 _ rfl, hx4, hn4, ?_⟩
                rw [eR]
                exact (g1.trans g3 (by simp)).trans g4 (by simp only [List.length_append, List.length_cons, l2_len, enF_fapp]; omega)
          · rw [if_neg h44]
            refine ⟨fun F j hF => (by cases hF), fun p hp => ?_⟩
            cases hp
            have h65 := c65_0 (d := d - 1) (x := 44) (by omega) h1.1.1 hx1 h44
            refine ⟨_, ?_, (BR.mk (p := sB t e k) h1.1.1 hx1.1 g1.2.1.1 g1.1).pre g1 (by simp only [List.length_append, List.length_cons]; omega)⟩
            rw [bV_eq e1]
            refine q77_115 (by omega) h1.1.1 _ ?_
            rw [gd_of h1.2.1, bI_eq h63, if_neg hc, bV_xq h65]
theorem z53 : (-9007199254740992 : Int) < 0 ∧ (0 : Int) < 9007199254740992 := by decide
theorem enV_small {k : Nat} {a : Int} {us nm : List Int} {l : Fo} (h : k < 3) : enV (k, a, us, nm) l = [(k : Int)] := by unfold enV enD; rw [if_pos h]
theorem PVs_word {cs : List Int} {k : Nat} {a : Int} {xs : List Int} (hk : k < 3) (hd : 8 ≤ d) (hI : RI m) (h : RDS m T tp e i t dep) (hR : RW m r xs c) (hSC : SC m a cs) (hL : (xs.length : Int) + 3 * (e - i) ≤ 5900) (hcs : 1 ≤ cs.length)
    (hstep : ∀ X : RM, (bV (cl (d - 1) 64 [pR T, pR a] m) fun m5 => gd (tg m5 r = 8) <| bV (cl (d - 1) 130 [pR r, pI k] m5) fun m6 => some (.inl none, m6)) = X → ∀ Q, X = some Q → cl d 76 [pR T, pR r] m = some Q) :
    (∀ F j, (some (sWd t e cs k i) : Option (Int ⊕ (Fo × Int))) = some (.inr (F, j)) → ∃ nd l, F = foC nd l foN ∧ nd.2.2.2 = [] ∧ wfF F ∧ i < j ∧ j ≤ e ∧ ((enV nd l).length : Int) ≤ 3 * (j - i) ∧ ∃ m' c', cl d 76 [pR T, pR r] m = some (.inl none, m') ∧ TX m' T tp e j t ∧ vl m' T 4 = dep ∧ RG r m c (xs ++ enV nd l) m' c') ∧
    (∀ p, (some (sWd t e cs k i) : Option (Int ⊕ (Fo × Int))) = some (.inl p) → ∃ m', cl d 76 [pR T, pR r] m = some (.inr 204, m') ∧ BR T r m c p m') := by
  obtain ⟨ok, h4, hn4, hS, hX⟩ := h
  have h : RDS m T tp e i t dep := ⟨ok, h4, hn4, hS, hX⟩
  have hw := c64 (d := d - 1) (by omega) ok.1 hX hSC
  unfold sWd
  cases hs : sW t e cs i with
  | inl p0 =>
    refine ⟨fun F j hF => (by cases hF), fun p hp => ?_⟩
    cases hp
    obtain ⟨j, j0, j1, e1⟩ := hw.2 p0 hs
    exact ⟨_, hstep _ (bV_xq e1) _ rfl, BR.mk2 ok.1 hX hI hR⟩
  | inr j =>
    refine ⟨fun F j hF => ?_, fun p hp => (by cases hp)⟩
    cases hF
    obtain ⟨a1, a2, a3, e1⟩ := hw.1 j hs
    have h1 := h.at (j := j) (by have := hX.2.2.2.2.2.1; omega) a2
    have g1 : RG r m c xs (mst m T 2 j) c := RG.atR hR hX.1 hI
    obtain ⟨m2, c2, e2, g2⟩ := c130 (d := d - 1) (b := k) (by omega) h1.1 g1.2.1.1 g1.1 (by omega)
    have h2 := h1.fr (cl_FRM e2) (h1.2.2.2.2.fr (cl_FRM e2) h1.1.1 (by rfl)) (by rfl) (by rfl)
    refine ⟨(k, 0, [], []), foN, rfl, rfl, ⟨⟨by show k ≤ 6; omega, z53.1, z53.2, fun u hu => absurd hu (by simp), fun u hu => absurd hu (by simp)⟩, trivial, fun _ => rfl, fun _ => by simp [nmsF], trivial, trivial⟩, by omega, a2, by rw [enV_small hk]; simp; omega, m2, c2, hstep _ (by rw [bV_eq e1, gd_of g1.1.1, bV_eq e2]) _ rfl, h2.2.2.2.2, h2.2.2.1, ?_⟩
    rw [enV_small hk]
    have : w8 (k : Int) = k := w8_of (by omega) (by omega)
    rw [this] at g2
    exact g1.trans g2 (by simp)
theorem PVs_succ (hPE : PEs T tp e r t n) : PVs T tp e r t (n + 1) := by
  intro d dep m c i xs ob seen hd hdep ok hI h4 hn4 hS hX hR hL
  have h : RDS m T tp e i t dep := ⟨ok, h4, hn4, hS, hX⟩
  have h63 := c63 (d := d - 1) ok.1 hX
  have b4 := hX.2.2.2.1
  have b6 := hX.2.2.2.2.2.1
  have hr8 := hR.1
  have hsz := hR.2.2.2.1
  unfold sP
  by_cases h34 : pk t e i = 34
  · rw [if_pos h34]
    have hie : i < e := pkf_lt (t := t) (by omega)
    obtain ⟨m1, c1, e1, g1⟩ := c130 (d := d - 1) (b := 4) (by omega) ok hI hR (by omega)
    have hx1 := hX.fr (cl_FRM e1) ok.1 (by rfl)
    have h1 := h.fr (cl_FRM e1) hx1 (by rfl) (by rfl)
    have h68 := c68 (d := d - 1) (q := 34) (by omega) (Or.inl rfl) h1.1 g1.2.1.1 hx1 h34 g1.1 (by simp; omega)
    have step : ∀ X : RM, (bV (cl (d - 1) 68 [pR T, pR r, pI 34] m1) fun m11 => some (.inl none, m11)) = X → ∀ Q, X = some Q → cl d 76 [pR T, pR r] m = some Q := by
      intro X hX Q hQ
      refine q76 (by omega) ok.1 _ ?_
      rw [gd_of h4, bI_eq h63, if_pos h34, gd_of hr8, bV_eq e1, hX]; exact hQ
    cases hs : sS t e 34 (i + 1) with
    | inl p0 =>
      refine ⟨fun F j hF => (by cases hF), fun p hp => ?_⟩
      cases hp
      obtain ⟨m2, e2, hb⟩ := h68.2 p0 hs
      exact ⟨m2, step _ (bV_xq e2) _ rfl, hb.pre g1 (by simp; omega)⟩
    | inr w =>
      obtain ⟨us, j⟩ := w
      refine ⟨fun F j hF => ?_, fun p hp => (by cases hp)⟩
      cases hF
      obtain ⟨a1, a2, a3, a4, m2, c2, e2, hx2, g2⟩ := h68.1 us j hs
      have h2 := h1.fr (cl_FRM e2) hx2 (by rfl) (by rfl)
      have hE : enV (4, 0, us, []) foN = 4 :: nmB us := rfl
      refine ⟨(4, 0, us, []), foN, rfl, rfl, ⟨⟨by show 4 ≤ 6; omega, z53.1, z53.2, a1, fun u hu => absurd hu (by simp)⟩, sS_sur (Or.inl rfl) hs, fun _ => rfl, fun hq => absurd hq (show ¬ (4 : Nat) = 6 by decide), trivial, trivial⟩, by omega, a3, ?_, m2, c2, step _ (bV_eq e2) _ rfl, hx2, h2.2.2.1, ?_⟩
      · rw [hE]; have := nmB_len us; simp only [List.length_cons]; omega
      · rw [hE]
        have := g1.trans g2 (by simp)
        simpa [show w8 4 = 4 from rfl] using this
  · rw [if_neg h34]
    by_cases hbr : pk t e i = 91 ∨ pk t e i = 123
    · rw [if_pos hbr]
      have hie : i < e := pkf_lt (t := t) (by omega)
      obtain ⟨ob1, hob⟩ : ∃ b : Bool, b = (pk t e i == 123) := ⟨_, rfl⟩
      rw [← hob]
      have hobv : (ob1 = true ↔ pk t e i = 123) := by rw [hob]; simp
      have e77 : ∀ Q, rn (d - 1) 77 14 [pR T, pR r, pU, pU, pU] [pI (b2i ob1)] m = some Q → cl (d - 1) 77 [pR T, pR r] m = some Q := by
        intro Q hQ
        have h63' := c63 (d := d - 1 - 1) ok.1 hX
        refine q77 (by omega) ok.1 _ ?_
        rw [gd_of h4, bI_eq h63']
        by_cases h123 : pk t e i = 123
        · rw [if_pos h123]
          rw [hobv.mpr h123] at hQ; exact hQ
        · rw [if_neg h123]
          have : ob1 = false := by
            cases hh : ob1 with
            | false => rfl
            | true => exact absurd (hobv.mp hh) h123
          rw [this] at hQ; exact hQ
      have sok : ∀ m', rn (d - 1) 77 14 [pR T, pR r, pU, pU, pU] [pI (b2i ob1)] m = some (.inl none, m') → cl d 76 [pR T, pR r] m = some (.inl none, m') := by
        intro m' hm
        refine q76 (by omega) ok.1 _ ?_
        rw [gd_of h4, bI_eq h63, if_neg h34, if_pos hbr, bV_eq (e77 _ hm)]
      have sex : ∀ m', rn (d - 1) 77 14 [pR T, pR r, pU, pU, pU] [pI (b2i ob1)] m = some (.inr 204, m') → cl d 76 [pR T, pR r] m = some (.inr 204, m') := by
        intro m' hm
        refine q76 (by omega) ok.1 _ ?_
        rw [gd_of h4, bI_eq h63, if_neg h34, if_pos hbr, bV_xq (e77 _ hm)]
      have s14 : ∀ b : Int, (vl m T 4 < 32 → b = 1) → (¬ vl m T 4 < 32 → b = 0) → ∀ Q, rn (d - 1) 77 42 [pR T, pR r, pI (b2i ob1), pI (clo ob1), pU] [pI b, pR T] m = some Q → rn (d - 1) 77 14 [pR T, pR r, pU, pU, pU] [pI (b2i ob1)] m = some Q := by
        intro b hb1 hb0 Q hQ
        refine q77_14 ok.1 _ ?_
        cases ob1 with
        | false =>
          rw [if_pos (show b2i false = 0 from rfl), gd_of h4]
          by_cases hlt : vl m T 4 < 32
          · rw [if_pos hlt]; rw [hb1 hlt] at hQ; exact hQ
          · rw [if_neg hlt]; rw [hb0 hlt] at hQ; exact hQ
        | true =>
          rw [if_neg (show ¬ b2i true = 0 by decide), gd_of h4]
          by_cases hlt : vl m T 4 < 32
          · rw [if_pos hlt]; rw [hb1 hlt] at hQ; exact hQ
          · rw [if_neg hlt]; rw [hb0 hlt] at hQ; exact hQ
      by_cases hd32 : dep < 32
      · rw [if_neg (fun q => q hd32)]
        have h66 := c66_1 (d := d - 1 - 1) (T := T) (m := m) (by omega) ok.1
        obtain ⟨kd, hkd⟩ : ∃ k : Nat, k = (if ob1 then 6 else 5) := ⟨_, rfl⟩
        rw [← hkd]
        have hkd5 : ¬ kd < 5 ∧ kd ≤ 6 ∧ ¬ kd < 3 ∧ ¬ kd = 3 ∧ ¬ kd = 4 ∧ (kd = 6 → ob1 = true) ∧ ((kd == 6) = ob1) := by rw [hkd]; cases ob1 <;> decide
        -- into the bracket
        have hA : RDS (mst (mst m T 4 ((dep : Int) + 1)) T 2 (i + 1)) T tp e (i + 1) t (dep + 1) := by
          refine ⟨ok, h4, ?_, (hS.mT h4).mT h4, hX.m4.at (by omega) (by omega)⟩
          rw [vl_mst, if_neg (by omega), vl_mst, if_pos ⟨rfl, rfl⟩]; rfl
        have gA0 : RG r m c xs (mst m T 4 ((dep : Int) + 1)) c := RG.m4 hR h4 hI
        have gA := gA0.trans (RG.atR (j := i + 1) gA0.1 hX.1 gA0.2.1.1) (by simp)
        have s42 : ∀ Q, rn (d - 1) 77 82 [pR T, pR r, pI (b2i ob1), pI (clo ob1), pI xs.length] [pI kd, pR r] (mst (mst m T 4 ((dep : Int) + 1)) T 2 (i + 1)) = some Q → rn (d - 1) 77 14 [pR T, pR r, pU, pU, pU] [pI (b2i ob1)] m = some Q := by
          intro Q hQ
          refine s14 1 (fun _ => rfl) (fun hn => absurd (by omega) hn) _ (q77_42 (by omega) ok.1 _ ?_)
          rw [gd_of h4, bV_eq h66, gd_of h4, gd_of hr8, nm_eq, hsz, hn4, b4, w32_of (z := (dep : Int) + 1) (by omega) (by omega), w32_of (z := i + 1) (by omega) (by omega)]
          cases ob1 with
          | false => rw [if_pos (show b2i false = 0 from rfl)]; rw [hkd] at hQ; exact hQ
          | true => rw [if_neg (show ¬ b2i true = 0 by decide)]; rw [hkd] at hQ; exact hQ
        obtain ⟨m1, c1, e1, g1⟩ := c130 (d := d - 1 - 1) (b := kd) (by omega) hA.1 gA.2.1.1 gA.1 (by omega)
        have h1 := hA.fr (cl_FRM e1) (hA.2.2.2.2.fr (cl_FRM e1) hA.1.1 (by rfl)) (by rfl) (by rfl)
        obtain ⟨m2, c2, e2, g2⟩ := c130 (d := d - 1 - 1) (b := 0) (by omega) h1.1 g1.2.1.1 g1.1 (by simp; omega)
        have h2 := h1.fr (cl_FRM e2) (h1.2.2.2.2.fr (cl_FRM e2) h1.1.1 (by rfl)) (by rfl) (by rfl)
        obtain ⟨m3, c3, e3, g3⟩ := c130 (d := d - 1 - 1) (b := 0) (by omega) h2.1 g2.2.1.1 g2.1 (by simp; omega)
        have h3 := h2.fr (cl_FRM e3) (h2.2.2.2.2.fr (cl_FRM e3) h2.1.1 (by rfl)) (by rfl) (by rfl)
        have gB := ((gA.trans g1 (by simp)).trans g2 (by simp)).trans g3 (by simp)
        have eB : xs ++ [w8 (kd : Int)] ++ [w8 0] ++ [w8 0] = xs ++ (kd : Int) :: 0 :: 0 :: enF ob1 foN := by
          rw [enF_leaf, show w8 0 = 0 from rfl, w8_of (z := (kd : Int)) (by omega) (by omega)]; simp
        rw [eB] at gB
        have e62 := c62 (d := d - 1 - 1) (by omega) h3.1.1 h3.2.2.2.2
        have hb := sB_rng t (i := i + 1) (e := e) (by omega)
        have h4' := h3.at (j := sB t e (i + 1)) (by omega) hb.2
        have gC := gB.trans (RG.atR (j := sB t e (i + 1)) gB.1 h3.2.2.2.2.1 gB.2.1.1) (by simp)
        have h63b := c63 (d := d - 1 - 1) h4'.1.1 h4'.2.2.2.2
        have hr8a : tg (mst (mst m T 4 ((dep : Int) + 1)) T 2 (i + 1)) r = 8 := hr8
        have s82 : ∀ X : RM, (if pk t e (sB t e (i + 1)) = clo ob1 then rn (d - 1) 77 144 [pR T, pR r, pI (b2i ob1), pI (clo ob1), pI xs.length] [] (mst m3 T 2 (sB t e (i + 1))) else bV (cl (d - 1 - 1) 78 [pR T, pR r, pI xs.length, pI (b2i ob1)] (mst m3 T 2 (sB t e (i + 1)))) fun m6 => rn (d - 1) 77 115 [pR T, pR r, pI (b2i ob1), pI (clo ob1), pI xs.length] [] m6) = X → ∀ Q, X = some Q → rn (d - 1) 77 14 [pR T, pR r, pU, pU, pU] [pI (b2i ob1)] m = some Q := by
          intro X hXX Q hQ
          refine s42 _ (q77_82 (by omega) hA.1.1 _ ?_)
          rw [gd_of hr8a, bV_eq e1, gd_of g1.1.1, bV_eq e2, bV_eq e3, gd_of h3.2.1, bV_eq e62, bI_eq h63b, hXX]; exact hQ
        have hEV : ∀ l, enV (kd, 0, [], []) l = (kd : Int) :: (l2 (enF ob1 l).length ++ enF ob1 l) := by
          intro l
          unfold enV enD
          rw [if_neg hkd5.2.2.1, if_neg hkd5.2.2.2.1, if_neg hkd5.2.2.2.2.1, show ((kd, (0 : Int), ([] : List Int), ([] : List Int)).1 == 6) = ob1 from hkd5.2.2.2.2.2.2]
        have hWF : ∀ l, wfF l → (ob1 = true → (nmsF l).Nodup) → wfF (foC (kd, 0, [], []) l foN) := fun l h1 h2 => ⟨⟨hkd5.2.1, z53.1, z53.2, fun u hu => absurd hu (by simp), fun u hu => absurd hu (by simp)⟩, trivial, fun hq => absurd hq hkd5.1, fun hq => h2 (hkd5.2.2.2.2.2.1 hq), h1, trivial⟩
        by_cases hcl : pk t e (sB t e (i + 1)) = clo ob1
        · rw [if_pos hcl]
          refine ⟨fun F j hF => ?_, fun p hp => (by cases hp)⟩
          cases hF
          have hlt : sB t e (i + 1) < e := pkf_lt (t := t) (by rw [hcl]; cases ob1 <;> decide)
          have hRC := gC.1
          rw [enF_leaf] at hRC
          obtain ⟨m5, e5, hx5, hn5, g5⟩ := c77_end (d := d - 1) (a2 := b2i ob1) (a3 := clo ob1) (by omega) (by omega) (by omega) gC.2.1.1 h4' hlt hRC (by simp; omega)
          refine ⟨(kd, 0, [], []), foN, rfl, rfl, hWF _ trivial (fun _ => by simp [nmsF]), by omega, by omega, ?_, m5, c3, sok _ (s82 _ (by rw [if_pos hcl]; exact e5) _ rfl), hx5, by rw [hn5]; omega, ?_⟩
          · rw [hEV, enF_leaf]; simp [l2_len]; omega
          · rw [hEV, enF_leaf]
            exact gC.trans g5 (by simp [l2_len, enF_leaf])
        · rw [if_neg hcl]
          have hE := hPE (d - 1) (dep + 1) _ c3 (sB t e (i + 1)) kd xs foN ob1 [] (by omega) (by omega) (by omega) gC.2.1.1 h4' gC.1 trivial rfl (fun _ => List.nodup_nil) (by rw [enF_leaf]; simp; omega)
          have hl6 : (xs ++ (kd : Int) :: 0 :: 0 :: enF ob1 foN).length ≤ 6000 := by rw [enF_leaf]; simp; omega
          cases hr : sP t e n true (dep + 1) ob1 [] (sB t e (i + 1)) with
          | none => exact ⟨fun F j hF => (by cases hF), fun p hp => (by cases hp)⟩
          | some w =>
            cases w with
            | inl p0 =>
              refine ⟨fun F j hF => (by cases hF), fun p hp => ?_⟩
              cases hp
              obtain ⟨m5, e5, hbr5⟩ := hE.2 p0 hr
              exact ⟨m5, sex _ (s82 _ (by rw [if_neg hcl]; exact e5) _ rfl), hbr5.pre gC hl6⟩
            | inr w =>
              obtain ⟨l, j⟩ := w
              refine ⟨fun F j hF => ?_, fun p hp => (by cases hp)⟩
              cases hF
              obtain ⟨w1, w2, w3, w4, w5, m5, c5, e5, hx5, hn5, g5⟩ := hE.1 l j hr
              refine ⟨(kd, 0, [], []), l, rfl, rfl, hWF _ w1 w2, by omega, w4, ?_, m5, c5, sok _ (s82 _ (by rw [if_neg hcl]; exact e5) _ rfl), hx5, by rw [hn5]; omega, ?_⟩
              · rw [hEV]; simp [l2_len]; omega
              · rw [hEV]
                exact gC.trans g5 (by simp [l2_len, enF_leaf, fapp])
      · rw [if_pos hd32]
        refine ⟨fun F j hF => (by cases hF), fun p hp => ?_⟩
        cases hp
        have h660 := c66_0 (d := d - 1 - 1) (by omega) ok.1 hX
        refine ⟨_, sex _ (s14 0 (fun hn => absurd hn (by omega)) (fun _ => rfl) _ (q77_42 (by omega) ok.1 _ ?_)), BR.mk (p := i) ok.1 hX.1 hI hR⟩
        rw [gd_of h4, bV_xq h660]
    · rw [if_neg hbr]
      by_cases h102 : pk t e i = 102
      · rw [if_pos h102]
        refine PVs_word (by decide) (by omega) hI h hR hS.2.1 hL (by decide) ?_
        intro X hX2 Q hQ
        refine q76 (by omega) ok.1 _ ?_
        rw [gd_of h4, bI_eq h63, if_neg h34, if_neg hbr, if_pos h102]
        exact (by exact hX2 : _ = X).trans hQ
      · rw [if_neg h102]
        by_cases h110 : pk t e i = 110
        · rw [if_pos h110]
          refine PVs_word (by decide) (by omega) hI h hR hS.1 hL (by decide) ?_
          intro X hX2 Q hQ
          refine q76 (by omega) ok.1 _ ?_
          rw [gd_of h4, bI_eq h63, if_neg h34, if_neg hbr, if_neg h102, if_pos h110]
          exact (by exact hX2 : _ = X).trans hQ
        · rw [if_neg h110]
          by_cases h116 : pk t e i = 116
          · rw [if_pos h116]
            refine PVs_word (by decide) (by omega) hI h hR hS.2.2 hL (by decide) ?_
            intro X hX2 Q hQ
            refine q76 (by omega) ok.1 _ ?_
            rw [gd_of h4, bI_eq h63, if_neg h34, if_neg hbr, if_neg h102, if_neg h110, if_pos h116]
            exact (by exact hX2 : _ = X).trans hQ
          · rw [if_neg h116]
            have h79 := c79 (d := d - 1) (by omega) ok hI h4 hX hR (by omega)
            have step : ∀ X : RM, (bV (cl (d - 1) 79 [pR T, pR r] m) fun m2 => some (.inl none, m2)) = X → ∀ Q, X = some Q → cl d 76 [pR T, pR r] m = some Q := by
              intro X hX2 Q hQ
              refine q76 (by omega) ok.1 _ ?_
              rw [gd_of h4, bI_eq h63, if_neg h34, if_neg hbr, if_neg h102, if_neg h110, if_neg h116, hX2]; exact hQ
            cases hs : sNm t e i with
            | inl p0 =>
              refine ⟨fun F j hF => (by cases hF), fun p hp => ?_⟩
              cases hp
              obtain ⟨m2, e2, hb⟩ := h79.2 p0 hs
              exact ⟨m2, step _ (bV_xq e2) _ rfl, hb⟩
            | inr w =>
              obtain ⟨v, j⟩ := w
              refine ⟨fun F j hF => ?_, fun p hp => (by cases hp)⟩
              cases hF
              obtain ⟨a1, a2, a3, a4, a5, m2, c2, e2, hx2, g2⟩ := h79.1 v j hs
              have h2 := h.fr (cl_FRM e2) hx2 (by rfl) (by rfl)
              refine ⟨(3, v, [], []), foN, rfl, rfl, ⟨⟨by show 3 ≤ 6; omega, a1, a2, fun u hu => absurd hu (by simp), fun u hu => absurd hu (by simp)⟩, trivial, fun _ => rfl, fun hq => absurd hq (show ¬ (3 : Nat) = 6 by decide), trivial, trivial⟩, a3, a4, ?_, m2, c2, step _ (bV_eq e2) _ rfl, hx2, h2.2.2.1, g2⟩
              show (((3 :: nuB v).length : Nat) : Int) ≤ _
              simp only [List.length_cons]; omega
theorem PVs_all : ∀ n, PVs T tp e r t n ∧ PEs T tp e r t n := by
  intro n
  induction n with
  | zero =>
    refine ⟨?_, ?_⟩
    · intro d dep m c i xs ob seen _ _ _ _ _ _ _ _ _ _
      exact ⟨fun F j hF => (by cases hF), fun p hp => (by cases hp)⟩
    · intro d dep m c i k0 pre F0 ob seen _ _ _ _ _ _ _ _ _ _
      exact ⟨fun F j hF => (by cases hF), fun p hp => (by cases hp)⟩
  | succ n ih => exact ⟨PVs_succ ih.2, PEs_succ ih.1 ih.2⟩
end
