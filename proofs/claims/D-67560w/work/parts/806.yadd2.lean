/-! the twin's patches: add -/
set_option maxRecDepth 100000
set_option maxHeartbeats 4000000
section
variable {d : Nat} {m : Mem} {M NT D n C : Int} {us : List Int} {tks : List (List Int)}
theorem VT.ds {v : Vl} (h : VT m M D v n us C) (h26 : vl m M 26 = v.1) : DS m M D v n us C := ⟨h.1, h.2.1, h.2.2.1, h.2.2.2.1, h.2.2.2.2.1, h.2.2.2.2.2.1, h.2.2.2.2.2.2, h26⟩
theorem c238 {v w : Vl} (hd : 4 ≤ d) (ok : OK m) (hT : TKS m M NT tks) (hDN : D ≠ NT) (hD : DS m M D v n us C) (hn : n ≤ 5000) (hsz : szF v.2.2 ≤ 100000) (hw : TNv (nv m D) us n w) (nw : (idV w).Nodup) (dis : ∀ j, j ∈ idV w → j ∉ idV v) (hL : ∀ tk, tk ∈ tks → us.length + tk.length ≤ 10000) : ADD (cl d 238 [pR M, pI w.1] m) M D m n us C (adZ tks w v) := by
  obtain ⟨hI, hM, h18, hTW, hU, hN, ndv, h26⟩ := hD
  have hT0 := hT
  obtain ⟨-, hNT, ⟨h22, l22⟩, ⟨h23, l23⟩, h24, hlen, nN, usN, CN, hwN, htk⟩ := hT
  have hMT : tg m M ≠ 13 ∧ tg m M < 100 := by omega
  have hwl : (w.1 : Int) < n := hw.1
  have hDM : D ≠ M := by intro q; rw [← q] at hM; have := hTW.1; omega
  have hcD := hTW.2.2.2.2.2.2.1
  rcases List.eq_nil_or_concat tks with rfl | ⟨init, tk, rfl⟩
  · -- at the root
    show ADD _ M D m n us C (some w)
    refine ⟨mst m M 26 w.1, us, q238 (by omega) ok.1 _ (by rw [gd_of hM, nm_eq, h24, if_pos (show ((([] : List (List Int)).length : Nat) : Int) = 0 from rfl)]), ⟨hI.mT hMT.1, hM, by rw [vl_mst, if_neg (by omega)]; exact h18, hTW.mT hMT, hU, ?_, nw, by rw [vl_mst, if_pos ⟨rfl, rfl⟩]⟩, ok, fun t' _ n' us' C' h => ⟨h.mT hMT, fun f j f0 f1 => nv_mT hMT h (Or.inl ⟨f0, f1⟩), uC_mT hMT.1 h⟩, ?_, ⟨[], by rw [List.append_nil]⟩, by omega, by rw [uC_mT hMT.1 hTW]; omega⟩
    · exact TN.keep0 hw (fun f j f0 f1 _ => nv_mT hMT hTW (Or.inl ⟨f0, f1⟩)) (fun f f0 f1 => nv_mT hMT hTW (Or.inl ⟨f0, by omega⟩))
    · unfold tC; rw [uC_mT hMT.1 hTW]; exact ⟨by omega, by show nx m - nx m ≤ _; omega, by show sl m - sl m ≤ _; omega⟩
  · rw [List.concat_eq_append] at *
    have hl1 : (init ++ [tk]).length = init.length + 1 := by simp
    have hgo := c232 (d := d - 1) (M := M) (NT := NT) (D := D) (nn := init.length) (by omega) ok hT0 h18 hTW (by omega) (by omega) hN hsz
    rw [List.take_left] at hgo
    have htk1 := htk init.length (by omega)
    have etk : (init ++ [tk])[init.length]'(by omega) = tk := by simp
    rw [etk] at htk1
    obtain ⟨k1, k2, k3⟩ := htk1
    rw [adZ_app]
    have ew : w32 (((init ++ [tk]).length : Int) - 1) = init.length := by rw [w32_of (by omega) (by omega)]; omega
    have l0 := hTW.ld (f := 0) ⟨by decide, by decide⟩ (by decide)
    cases hz : goZ init [] v with
    | none =>
      rw [hz] at hgo
      refine ⟨m, us, q238 (by omega) ok.1 _ ?_, hI, hTW, DX.refl ok⟩
      rw [gd_of hM, nm_eq, h24, if_neg (by omega), h26, ew, bI_eq hgo, h24, ew, nm_eq, if_pos (by decide)]
    | some p =>
      obtain ⟨kz, u⟩ := p
      have hp : plug kz u = v := goZ_plug init [] v kz u hz
      rw [hz] at hgo
      have hgo : cl (d - 1) 232 [pR M, pI v.1, pI init.length] m = some (.inl (some (pI (u.1 : Int))), m) := hgo
      subst hp
      have hNu := TNv.sub kz u hN
      obtain ⟨ndu, subu⟩ := idV_sub kz u ndv
      have hul : (u.1 : Int) < n := hNu.1
      have hk0 : vl m (vl m D 0) u.1 = kT u.2.1.1 := hNu.2.1
      have dw : ∀ j, j ∈ idV w → j ∉ idV u := fun j hj q => dis j hj (subu j q)
      dsimp only
      have pre : ∀ X : RM, (gd ((0 : Int) ≤ u.1 ∧ (u.1 : Int) < ln m (vl m D 0)) <| nm (vl m (vl m D 0) u.1) fun v12 => if v12 = 6 then (nm (vl m M 22) fun v13 => gd (tg m v13 = 186101) <| gd ((0 : Int) ≤ init.length ∧ (init.length : Int) < ln m v13) <| nm (vl m M 23) fun v14 => gd (tg m v14 = 186101) <| gd ((0 : Int) ≤ init.length ∧ (init.length : Int) < ln m v14) <| bI (cl (d - 1) 288 [pR D, pI u.1, pR (vl m M 25), pI (vl m v13 init.length), pI (vl m v14 init.length)] m) fun v3 m3 => nm (vl m3 M 18) fun v15 => nm (vl m3 M 22) fun v16 => gd (tg m3 v16 = 186101) <| gd ((0 : Int) ≤ init.length ∧ (init.length : Int) < ln m3 v16) <| nm (vl m3 M 23) fun v17 => gd (tg m3 v17 = 186101) <| gd ((0 : Int) ≤ init.length ∧ (init.length : Int) < ln m3 v17) <| gd (tg m3 v15 = 13) <| bV (cl (d - 1) 293 [pR v15, pI w.1, pR (vl m3 M 25), pI (vl m3 v16 init.length), pI (vl m3 v17 init.length)] m3) fun m4 => if v3 < 0 then (nm (vl m4 M 18) fun v18 => gd (tg m4 v18 = 13) <| bI (cl (d - 1) 295 [pR v18, pI u.1] m4) fun v5 m5 => bV (cl (d - 1) 290 [pR v18, pI u.1, pI v5, pI w.1] m5) fun m6 => some (.inl (some (pI 1)), m6)) else bV (cl (d - 1) 239 [pR M, pI v3, pI w.1] m4) fun m7 => some (.inl (some (pI 1)), m7)) else if v12 = 5 then (bI (cl (d - 1) 291 [pR D, pI u.1] m) fun v2 m2 => nm (vl m2 M 23) fun v19 => gd (tg m2 v19 = 186101) <| gd ((0 : Int) ≤ init.length ∧ (init.length : Int) < ln m2 v19) <| if (vl m2 v19 init.length) = 1 then (nm (vl m2 M 25) fun v20 => gd (tg m2 v20 = 13) <| nm (vl m2 v20 11) fun v21 => nm (vl m2 M 22) fun v22 => gd (tg m2 v22 = 186101) <| gd ((0 : Int) ≤ init.length ∧ (init.length : Int) < ln m2 v22) <| nm (vl m2 v22 init.length) fun v23 => gd (tg m2 v21 = 284104 ∨ tg m2 v21 = 288104) <| gd ((0 : Int) ≤ v23 ∧ v23 < ln m2 v21) <| if (vl m2 v21 v23) = 45 then (rn d 238 199 [pR M, pI w.1, pI u.1, pI init.length, pI v2, pU, pU, pU] [pI 1] m2) else rn d 238 199 [pR M, pI w.1, pI u.1, pI init.length, pI v2, pU, pU, pU] [pI 0] m2) else rn d 238 199 [pR M, pI w.1, pI u.1, pI init.length, pI v2, pU, pU, pU] [pI 0] m2) else some (.inl (some (pI 0)), m)) = X → ∀ Q, X = some Q → cl d 238 [pR M, pI w.1] m = some Q := by
        intro X hX Q hQ
        refine q238 (by omega) ok.1 _ ?_
        rw [gd_of hM, nm_eq, h24, if_neg (by omega), h26, ew, bI_eq hgo, h24, ew, nm_eq, if_neg (by omega), nm_eq, h18, gd_of hTW.1, nm_eq, gd_of l0.1]
        exact (by exact hX : _ = X).trans hQ
      by_cases h6 : u.2.1.1 = 6
      · -- an object
        have ek : kT u.2.1.1 = 6 := by rw [h6]; rfl
        rw [ek] at hk0
        have e288 := c288 (d := d - 1) (s := vl m (vl m M 22) init.length) (by omega) hTW hwN ok k2 hNu h6
        have hwn := hw.1
        obtain ⟨m4, e293, y4, g4⟩ := c293 (d := d - 1) (x := w.1) (s := vl m (vl m M 22) init.length) (ks := tk) (t' := NT) (by omega) ⟨by omega, hwn⟩ hTW hI ok hU k3 (by have := hL tk (by simp); omega) (Or.inl ⟨Ne.symm hDN, _, _, _, hwN, k2⟩)
        have f4 := cl_FRM e293
        have ok4 := ok.fr f4
        have w4 := y4.1
        have M4 : tg m4 M = 11 := by rw [tg_of f4 ok.1 (by omega)]; exact hM
        have v418 : vl m4 M 18 = D := by rw [vl_of f4 ok.1 hM (by decide) (by rfl)]; exact h18
        have v426 : vl m4 M 26 = (plug kz u).1 := by rw [vl_of f4 ok.1 hM (by decide) (by rfl)]; exact h26
        have hN4 : TNv (nv m4 D) (us ++ tk) n (plug kz u) := by
          refine TNv.eqg (g := up (up (nv m D) 6 w.1 us.length) 7 w.1 tk.length) (TNv.nam hN (fun q => dis w.1 (by unfold idV; simp) (by unfold idV; simp [q]))) (fun f j f0 f1 => g4 f j f0 f1)
        have hw4 : TNv (nv m4 D) (us ++ tk) n w := by
          refine TNv.eqg (g := up (up (nv m D) 6 w.1 us.length) 7 w.1 tk.length) (TNv.nam hw (fun q => (List.nodup_cons.mp nw).1 q)) (fun f j f0 f1 => g4 f j f0 f1)
        have hnm4 : nv m4 D 7 w.1 = tk.length ∧ At (us ++ tk) (nv m4 D 6 w.1) tk := by
          rw [g4 7 _ (by decide) (by decide), g4 6 _ (by decide) (by decide), up_eq, up_ne _ _ _ _ _ _ (by omega), up_eq]
          exact ⟨rfl, At.end⟩
        have hN4u := TNv.sub kz u hN4
        have x4 := DX.yt ok4 y4 hn (by have := hL tk (by simp); rw [List.length_append]; omega)
        have V4 : VT m4 M D (plug kz u) n (us ++ tk) C := ⟨y4.2.1.1, M4, v418, w4, y4.2.2.2.2.2.2.2, hN4, ndv⟩
        unfold ad1
        rw [if_pos h6]
        have st1 : ∀ Q, (if fnI tk u.2.2 < 0 then (nm (vl m4 M 18) fun v18 => gd (tg m4 v18 = 13) <| bI (cl (d - 1) 295 [pR v18, pI u.1] m4) fun v5 m5 => bV (cl (d - 1) 290 [pR v18, pI u.1, pI v5, pI w.1] m5) fun m6 => some (.inl (some (pI 1)), m6)) else bV (cl (d - 1) 239 [pR M, pI (fnI tk u.2.2), pI w.1] m4) fun m7 => some (.inl (some (pI 1)), m7)) = some Q → cl d 238 [pR M, pI w.1] m = some Q := by
          intro Q hQ
          refine pre _ ?_ Q hQ
          rw [gd_of ⟨by omega, by omega⟩, nm_eq, hk0, if_pos rfl, nm_eq, gd_of h22, gd_of ⟨by omega, by omega⟩, nm_eq, gd_of h23, gd_of ⟨by omega, by omega⟩, hNT, k1, bI_eq e288, nm_eq, nm_eq, gd_of h22, gd_of ⟨by omega, by omega⟩, nm_eq, gd_of h23, gd_of ⟨by omega, by omega⟩, h18, gd_of hTW.1, hNT, k1, bV_eq e293]
        cases hs : spN tk u.2.2 with
        | some x =>
          have ef := (fnI_sp (k := tk) u.2.2).1 x hs
          rw [ef] at st1
          obtain ⟨s1, s2, s3⟩ := spN_eq hs
          obtain ⟨ui, ud, ul⟩ := u
          dsimp only at s1 h6
          subst s1
          obtain ⟨m7, e239, V7, x7, v726⟩ := t239 (d := d - 1) (w := w) (nm := x.2.2.1.2.2.2) (by omega) ok4 V4 hw4 nw dis (fun _ => by rw [s2]; exact hnm4)
          exact ⟨m7, us ++ tk, st1 _ (by rw [if_neg (by omega), bV_eq e239]), V7.ds (by rw [v726, v426]; exact congrArg (fun z : Nat => (z : Int)) (plug_root kz _ _ _ _ _).symm), x4.trans x7⟩
        | none =>
          have ef := (fnI_sp (k := tk) u.2.2).2 hs
          rw [ef] at st1
          obtain ⟨ui, ud, ul⟩ := u
          dsimp only at h6 hs
          have e295 := c295 (d := d - 1) w4 ok4 hN4u
          have V4' : VT m4 M D (plug kz (ui, ud, fapp ul foN)) n (us ++ tk) C := by rw [fapp_nil]; exact V4
          obtain ⟨m6, e290, V6, x6, v626⟩ := t290 (d := d - 1) (w := w) (nm := tk) ok4 V4' hw4 nw (by rw [fapp_nil]; exact dis) (fun _ => hnm4)
          exact ⟨m6, us ++ tk, st1 _ (by rw [if_pos (by decide), nm_eq, v418, gd_of w4.1, bI_eq e295, bV_eq e290]), V6.ds (by rw [v626, v426]; exact congrArg (fun z : Nat => (z : Int)) (plug_root kz _ _ _ _ _).symm), x4.trans x6⟩
      · have ek6 : kT u.2.1.1 ≠ 6 := fun q => h6 (by unfold kT at q; split at q; omega; split at q; omega; omega)
        unfold ad1
        rw [if_neg h6]
        by_cases h5 : u.2.1.1 = 5
        · have ek : kT u.2.1.1 = 5 := by rw [h5]; rfl
          rw [if_pos h5]
          have hszu : ctI u.2.2 ≤ 100000 := by
            rw [ctI_cnt2]
            have h1 := cnt_sz u.2.2
            have h2 : szF u.2.2 ≤ szF (plug kz u).2.2 := sz_plug kz u
            omega
          have e291 := c291 (d := d - 1) hTW ok hNu hszu
          rw [ctI_cnt2] at e291 hszu
          obtain ⟨q0, q1, q2, q3, q4⟩ := hwN.uni k2
          have t11 := hwN.2.2.2.1
          have e233 := c233 (d := d - 1) (by omega) ok hT0 (k := init.length) (by omega)
          rw [etk] at e233
          -- the index
          have st1 : ∀ Q, rn d 238 217 [pR M, pI w.1, pI u.1, pI init.length, pI (cntF u.2.2), pI (if tk = [45] then 1 else 0), pU, pU] [pL (if tk = [45] then (cntF u.2.2 : Int) else ix9 tk)] m = some Q → cl d 238 [pR M, pI w.1] m = some Q := by
            intro Q hQ
            refine pre _ ?_ Q hQ
            rw [hQ]
            rw [gd_of ⟨by omega, by omega⟩, nm_eq, hk0, ek, if_neg (by decide), if_pos rfl, bI_eq e291, nm_eq, gd_of h23, gd_of ⟨by omega, by omega⟩, k1]
            have no : tk ≠ [45] → rn d 238 199 [pR M, pI w.1, pI u.1, pI init.length, pI (cntF u.2.2), pU, pU, pU] [pI 0] m = some Q := fun hne => by
              rw [if_neg hne, if_neg hne] at hQ
              exact q238_199 (by omega) ok.1 _ (by rw [if_pos rfl, gd_of hM, bL_eq e233]; exact hQ)
            by_cases h1 : (tk.length : Int) = 1
            · rw [if_pos h1, nm_eq, hNT, gd_of hwN.1, nm_eq, nm_eq, gd_of h22, gd_of ⟨by omega, by omega⟩, nm_eq, gd_of t11, gd_of ⟨by omega, by omega⟩]
              have hx := q4 0 (by omega) (by omega)
              rw [Int.add_zero] at hx
              obtain ⟨c, rfl⟩ : ∃ c, tk = [c] := by
                match tk, h1 with
                | [c], _ => exact ⟨c, rfl⟩
              rw [hx, gi_zero]
              by_cases hc : c = 45
              · subst hc
                rw [if_pos rfl]
                rw [if_pos rfl, if_pos rfl] at hQ
                exact q238_199 (by omega) ok.1 _ (by rw [if_neg (by decide)]; exact hQ)
              · rw [if_neg hc]
                exact no (fun q => hc (by cases q; rfl))
            · rw [if_neg h1]
              exact no (fun q => h1 (by rw [q]; rfl))
          obtain ⟨ui, ud, ul⟩ := u
          dsimp only at *
          have key : (∃ i : Nat, i ≤ cntF ul ∧ (if tk = [45] then (cntF ul : Int) else ix9 tk) = i ∧ (match (if tk = [45] then some (cntF ul) else ixT tk) with
              | none => none
              | some i => if i ≤ cntF ul then some (amg (cutI i ul).1 w [] (cutI i ul).2) else none) = some (amg (cutI i ul).1 w [] (cutI i ul).2)) ∨ (((if tk = [45] then (cntF ul : Int) else ix9 tk) < 0 ∨ (cntF ul : Int) < (if tk = [45] then (cntF ul : Int) else ix9 tk)) ∧ (match (if tk = [45] then some (cntF ul) else ixT tk) with
              | none => none
              | some i => if i ≤ cntF ul then some (amg (cutI i ul).1 w [] (cutI i ul).2) else none) = none) := by
            by_cases h45 : tk = [45]
            · rw [if_pos h45, if_pos h45]
              exact Or.inl ⟨cntF ul, Nat.le_refl _, rfl, by dsimp only; rw [if_pos (Nat.le_refl _)]⟩
            · rw [if_neg h45, if_neg h45]
              unfold ix9
              cases hix : ixT tk with
              | none =>
                refine Or.inr ⟨Or.inl ?_, rfl⟩
                split <;> decide
              | some i =>
                dsimp only
                by_cases h9 : 9 < tk.length
                · rw [if_pos h9]
                  have := ixT_big hix h9
                  exact Or.inr ⟨Or.inl (by decide), by rw [if_neg (by omega)]⟩
                · rw [if_neg h9]
                  by_cases hi : i ≤ cntF ul
                  · exact Or.inl ⟨i, hi, rfl, by rw [if_pos hi]⟩
                  · exact Or.inr ⟨Or.inr (by omega), by rw [if_neg hi]⟩
          generalize (if tk = [45] then (cntF ul : Int) else ix9 tk) = iv at key st1
          have trA : ∀ x y : Option Fo, x = y → ADD (cl d 238 [pR M, pI w.1] m) M D m n us C (Option.map (fun l => plug kz (ui, ud, l)) y) → ADD (cl d 238 [pR M, pI w.1] m) M D m n us C (Option.map (fun l => plug kz (ui, ud, l)) x) := fun x y e h => by rw [e]; exact h
          rcases key with ⟨i, hi, hiv, hsp⟩ | ⟨hiv, hsp⟩
          · refine trA _ _ hsp ?_
            subst hiv
            have hwn := hw.1
            have hcut := (cutI_eq i ul).1
            have hls := lsI_cut i ul (-1) hi
            have e6 : (ud.1 == 6) = false := by rw [h5]; rfl
            have V0 : VT m M D (plug kz (ui, ud, fapp (cutI i ul).1 (cutI i ul).2)) n us C := by rw [← hcut]; exact ⟨hI, hM, h18, hTW, hU, hN, ndv⟩
            obtain ⟨m6, e290, V6, x6, v626⟩ := t290 (d := d - 1) (w := w) (nm := []) ok V0 hw nw (by rw [← hcut]; exact dis) (fun q => by rw [e6] at q; cases q)
            have st2 : rn d 238 217 [pR M, pI w.1, pI ui, pI init.length, pI (cntF ul), pI (if tk = [45] then 1 else 0), pU, pU] [pL (i : Int)] m = some (.inl (some (pI 1)), m6) := by
              refine q238_217 (by omega) ok.1 _ ?_
              rw [if_neg (by omega), if_neg (by omega), gd_of hM, nm_eq, h18]
              by_cases h0 : i = 0
              · rw [if_pos h0] at hls
                rw [hls] at e290
                rw [if_pos (by omega), gd_of hTW.1, bV_eq e290]
              · rw [if_neg h0] at hls
                rw [hls] at e290
                have e234 := c234 (d := d - 1) (i := (i : Int) - 1) hM h18 ok hTW hNu (by omega) (by omega)
                rw [if_neg (by omega), (w64_of (by omega) (by omega) : w64 ((i : Int) - 1) = (i : Int) - 1), bI_eq e234, gd_of hTW.1, bV_eq e290]
            exact ⟨m6, us, st1 _ st2, V6.ds (by rw [v626, h26]; exact congrArg (fun z : Nat => (z : Int)) (plug_root kz _ _ _ _ _).symm), x6⟩
          · refine trA _ _ hsp ?_
            refine ⟨m, us, st1 _ (q238_217 (by omega) ok.1 _ ?_), hI, hTW, DX.refl ok⟩
            rcases hiv with h | h
            · rw [if_pos h]
            · by_cases h0 : iv < 0
              · rw [if_pos h0]
              · rw [if_neg h0, if_pos h]
        · have ek5 : kT u.2.1.1 ≠ 5 := fun q => h5 (by unfold kT at q; split at q; omega; split at q; omega; omega)
          rw [if_neg h5]
          refine ⟨m, us, pre _ ?_ _ rfl, hI, hTW, DX.refl ok⟩
          rw [gd_of ⟨by omega, by omega⟩, nm_eq, hk0, if_neg ek6, if_neg ek5]
end
