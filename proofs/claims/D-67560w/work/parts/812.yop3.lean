/-! the twin's patches: one operation that replaces, removes, moves or copies -/
set_option maxRecDepth 100000
set_option maxHeartbeats 4000000
section
variable {d : Nat} {m : Mem} {M D T NT nT CT CN C : Int} {us uT : List Int} {o v : Vl} {n : Nat} {tks : List (List Int)}
theorem OPS.base (h : OPS m M D T NT nT CT CN uT o v n us C tks) : OX D NT CN m C m C := by
  obtain ⟨⟨ok, -⟩, hDS, -, ⟨nn, un, hNTw⟩, ⟨n1, n2, n3⟩, -⟩ := h
  exact OX.dx (DX.refl (us := us) ok) hDS.1 n2 hNTw
/-- where the tokens lead -/
theorem op_go (hd : 4 ≤ d) (h : OPS m M D T NT nT CT CN uT o v n us C tks) : cl d 232 [pR M, pI (vl m M 26), pI (vl m M 24)] m = some (.inl (some (pI (goI (goZ tks [] v)))), m) ∧ (∀ kz w, goZ tks [] v = some (kz, w) → plug kz w = v ∧ TNv (nv m D) us n w ∧ wfF (foC w.2.1 w.2.2 foN) ∧ w.2.1.2.2.2 = [] ∧ szF w.2.2 ≤ szF v.2.2 ∧ dpV w.2.1 w.2.2 ≤ 32 ∧ kz.length = tks.length ∧ (kz = [] ↔ w.1 = v.1) ∧ okK kz ∧ okN kz) := by
  obtain ⟨⟨ok, hM, h19, hTW, hN, hS⟩, ⟨hI, -, h18, hDW, hU, hNv, ndv, h26⟩, hTK, -, -, ⟨b1, b2, b3⟩, -, hdv, hwv, hvn⟩ := h
  have e232 := c232 (d := d) (nn := tks.length) (by omega) ok hTK h18 hDW (by omega) (Nat.le_refl _) hNv (by omega)
  rw [List.take_length] at e232
  rw [h26, hTK.2.2.2.2.1]
  refine ⟨e232, fun kz w hz => ?_⟩
  have hp : plug kz w = v := goZ_plug tks [] v kz w hz
  obtain ⟨kn, wn⟩ := goZ_nm tks [] v kz w (fun f hf => absurd hf (by simp)) hvn hz
  have hok := goZ_ok tks [] v kz w (fun f hf => absurd hf (by simp)) hz
  have hl := goZ_len tks [] v kz w hz
  have hd1 := dp_ge kz w hok
  rw [hp] at hd1
  have hs := sz_plug kz w
  rw [hp] at hs
  refine ⟨hp, TNv.sub kz w (by rw [hp]; exact hNv), wf_sub kz w kn wn (by rw [hp]; exact hwv), wn, hs, by omega, by simpa using hl, ⟨fun q => ?_, fun q => ?_⟩, hok, kn⟩
  · subst q; rw [← hp]; rfl
  · rcases Classical.em (kz = []) with e | e
    · exact e
    · exact absurd (by rw [hp]; exact q) (root_ne e (by rw [hp]; exact ndv))
/-- replacing -/
theorem op_rep {a2 a3 a7 : Int} (hd : 60 ≤ d) (h : OPS m M D T NT nT CT CN uT o v n us C tks) (h6 : o.2.1.1 = 6) (hw : wfF o.2.2) (hdp : dpF o.2.2 ≤ 32) (hpr : szF o.2.2 + unF true o.2.2 ≤ 1300) : OPR (rn d 227 107 [pR M, pI o.1, pI a2, pI a3, pI 0, pI 1, pI 0, pI a7, pU, pU, pU] [] m) m M D NT CN C (match fndF (erF o.2.2) wVal with
    | none => none
    | some (d', l') => rpZ tks (0, noN d', l') (erV v)) := by
  have hv := opv (d := d - 1) (by omega) h h6 hw hdp hpr
  have x0 := h.base
  obtain ⟨e232, hgo⟩ := op_go (d := d - 1) (by omega) h
  obtain ⟨⟨ok, hM, h19, hTW, hN, hS⟩, hDS, hTK, hNT, ⟨n1, n2, n3⟩, ⟨b1, b2, b3⟩, hL, hdv, hwv, hvn⟩ := h
  obtain ⟨nn, un, hNTw⟩ := hNT
  have hDS0 := hDS
  obtain ⟨hI, -, h18, hDW, hU, hNv, ndv, h26⟩ := hDS
  rw [fndF_er]
  rcases hv with ⟨a1, i, i0, e229⟩ | ⟨i, d', l', a1, e229, hNi, hwi, hdi, hsi⟩
  · rw [a1]
    exact ⟨m, n, us, C, q227_107 (by omega) ok.1 _ (by rw [gd_of hM, bI_eq e229, if_pos i0]), hDW, x0⟩
  · rw [a1]
    dsimp only [Option.map_some]
    have eg : goZ tks [] (erV v) = (goZ tks [] v).map (fun p => (p.1.map erFr, erV p.2)) := goZ_er tks [] v
    unfold rpZ
    rw [eg]
    cases hz : goZ tks [] v with
    | none =>
      rw [hz] at e232
      exact ⟨m, n, us, C, q227_107 (by omega) ok.1 _ (by rw [gd_of hM, bI_eq e229, if_neg (by omega), if_pos rfl, bI_eq e232, if_pos rfl, if_pos (by decide)]), hDW, x0⟩
    | some p =>
      obtain ⟨kz, w⟩ := p
      rw [hz] at e232
      obtain ⟨hp, hNw, hww, wn, hsw, hdw, hkl, hroot, hok, hkn⟩ := hgo kz w hz
      have e232 : cl (d - 1) 232 [pR M, pI (vl m M 26), pI (vl m M 24)] m = some (.inl (some (pI (w.1 : Int))), m) := e232
      obtain ⟨m1, lD, n', us', C', e292, hDS1, x1, el, hN1, nd1, dis1, en, eu⟩ := t292 (d := d - 1) (t' := T) (x' := i) (by have := hI_dv hwi hdi; omega) ok hDS0 hwi (Or.inl ⟨Ne.symm n1, _, _, _, hTW, hNi⟩) (fun q => absurd q.symm n1) (by omega) (by omega)
      have f1 := cl_FRM e292
      have ok1 := x1.1
      obtain ⟨hI1, hM1, h181, hDW1, hU1, hNv1, ndv1, h261⟩ := hDS1
      have X1 := OX.dx x1 hI1 n2 hNTw
      have spec : ∀ z : Vl, z = plug kz (n, noN d', lD) → erV z = plug (kz.map erFr) (0, noN d', erF l') := fun z hz => by
        rw [hz, plug_er]
        show plug _ (0, noN d', erF lD) = _
        rw [el]
      have run : ∀ Q, (if (w.1 : Int) = (plug kz w).1 then (some (.inl (some (pI 1)), (mst m1 M 26 n))) else (nm (vl m1 M 18) fun v6 => gd (tg m1 v6 = 13) <| nm (vl m1 v6 6) fun v7 => gd (tg m1 v7 = 284101 ∨ tg m1 v7 = 287101) <| gd ((0 : Int) ≤ w.1 ∧ (w.1 : Int) < ln m1 v7) <| gd ((0 : Int) ≤ n ∧ (n : Int) < ln m1 v7) <| nm (vl m1 v6 7) fun v8 => gd (tg m1 v8 = 284101 ∨ tg m1 v8 = 287101) <| gd ((0 : Int) ≤ w.1 ∧ (w.1 : Int) < ln m1 v8) <| gd ((0 : Int) ≤ n ∧ (n : Int) < ln m1 v8) <| bV (cl (d - 1) 239 [pR M, pI w.1, pI n] (mst (mst m1 v7 n (vl m1 v7 w.1)) v8 n (vl (mst m1 v7 n (vl m1 v7 w.1)) v8 w.1))) fun m2 => some (.inl (some (pI 1)), m2))) = some Q → rn d 227 107 [pR M, pI o.1, pI a2, pI a3, pI 0, pI 1, pI 0, pI a7, pU, pU, pU] [] m = some Q := by
        intro Q hQ
        refine q227_107 (by omega) ok.1 _ ?_
        rw [gd_of hM, bI_eq e229, if_neg (by omega), if_pos rfl, bI_eq e232, if_pos rfl, if_neg (by omega)]
        refine q227_159 (by omega) ok.1 _ ?_
        rw [if_pos rfl, gd_of hM, nm_eq, h18, gd_of hDW.1, h19, bI_eq e292, if_pos rfl, h261, ← hp]
        exact hQ
      have hwn1 : (n : Int) < n' := hN1.1
      have hMT1 : tg m1 M ≠ 13 ∧ tg m1 M < 100 := by omega
      dsimp only [Option.map_some]
      cases kz with
      | nil =>
        have hwv0 : w = v := hp
        refine ⟨mst m1 M 26 n, (n, noN d', lD), n', us', C', run _ (by rw [if_pos (by rfl)]), spec _ rfl, ⟨hI1.mT hMT1.1, hM1, by rw [vl_mst, if_neg (by omega)]; exact h181, hDW1.mT hMT1, hU1, hN1.mT hMT1 hDW1, nd1, by rw [vl_mst, if_pos ⟨rfl, rfl⟩]⟩, X1.trans (OX.dx (us := us') (us' := us') ⟨ok1, fun t' _ n' us' C' h => ⟨h.mT hMT1, fun f j f0 f1 => nv_mT hMT1 h (Or.inl ⟨f0, f1⟩), uC_mT hMT1.1 h⟩, ?_, ⟨[], by rw [List.append_nil]⟩, by omega, by rw [uC_mT hMT1.1 hDW1]; omega⟩ (hI1.mT hMT1.1) n2 (x1.2.1 NT (Ne.symm n2) nn un CN hNTw).1)⟩
        unfold tC; rw [uC_mT hMT1.1 hDW1]; exact ⟨by omega, by show nx m1 - nx m1 ≤ _; omega, by show sl m1 - sl m1 ≤ _; omega⟩
      | cons f k =>
        have hne : ¬ ((w.1 : Int) = (plug (f :: k) w).1) := fun q => by
          have : w.1 = v.1 := by rw [← hp]; omega
          exact absurd (hroot.mpr this) (by simp)
        have hcD := hDW1.2.2.2.2.2.2.1
        have hNw1 : TNv (nv m1 D) us' n' w := TNv.sub (f :: k) w (by rw [hp]; exact hNv1)
        have hwl1 : (w.1 : Int) < n' := hNw1.1
        have hole := TNv.hole (f := f) (u := w) (TNv.sub k (f.1, f.2.1, amg f.2.2.1 w f.2.2.2.1 f.2.2.2.2) (by show TNv _ _ _ (plug (f :: k) w); rw [hp]; exact hNv1))
        obtain ⟨c1, c2, c3, c4⟩ := hDW1.put (f := 6) (i := n) (v := nv m1 D 6 w.1) (TG.refl hI1 ok1) ⟨by decide, by decide⟩ rfl
        obtain ⟨d1, d2, d3, d4⟩ := c1.put (f := 7) (i := n) (v := nv (mst m1 (vl m1 D 6) n (nv m1 D 6 w.1)) D 7 w.1) c2 ⟨by decide, by decide⟩ (c4 7).symm
        have l6 := hDW1.ld (f := 6) ⟨by decide, by decide⟩ (by decide)
        have l7 := hDW1.ld (f := 7) ⟨by decide, by decide⟩ (by decide)
        have g7 : nv (mst m1 (vl m1 D 6) n (nv m1 D 6 w.1)) D 7 w.1 = nv m1 D 7 w.1 := by rw [c2.2.2.2 7 w.1 (by decide) (by decide), up_ne _ _ _ _ _ _ (by omega)]
        rw [g7] at d1 d2 d3 d4
        generalize hm2 : mst (mst m1 (vl m1 D 6) n (nv m1 D 6 w.1)) (vl m1 D 7) n (nv m1 D 7 w.1) = m2 at *
        have hm2t : ∀ a, tg m2 a = tg m1 a := fun a => by rw [← hm2]; rfl
        have nM6 : vl m1 D 6 ≠ M := by intro q; have := l6.1; rw [q] at this; omega
        have nM7 : vl m1 D 7 ≠ M := by intro q; have := l7.1; rw [q] at this; omega
        have vM2 : ∀ j, vl m2 M j = vl m1 M j := fun j => by rw [← hm2, vl_mst, if_neg (by omega), vl_mst, if_neg (by omega)]
        have ok2 : OK m2 := by rw [← hm2]; exact ok1
        have nin : n ∉ idV v := dis1 n (by unfold idV; simp)
        have hNv2 : TNv (nv m2 D) us' n' v := by
          have := TNv.eqg (TNv.nam (vs := []) (i := n) (a := nv m1 D 6 w.1) (b := nv m1 D 7 w.1) hNv1 (fun q => nin (by unfold idV; simp [q]))) (fun f j f0 f1 => d2.2.2.2 f j f0 f1)
          rwa [List.append_nil] at this
        have hN2 : TNv (nv m2 D) us' n' (n, noN d', lD) := by
          have := TNv.eqg (TNv.nam (vs := []) (i := n) (a := nv m1 D 6 w.1) (b := nv m1 D 7 w.1) hN1 (fun q => (List.nodup_cons.mp nd1).1 q)) (fun f j f0 f1 => d2.2.2.2 f j f0 f1)
          rwa [List.append_nil] at this
        have V2 : VT m2 M D (plug k (f.1, f.2.1, fapp f.2.2.1 (.inner w.1 (wiN w.2.1 f.2.2.2.1) () w.2.2 f.2.2.2.2))) n' us' C' := by
          have e : plug k (f.1, f.2.1, fapp f.2.2.1 (.inner w.1 (wiN w.2.1 f.2.2.2.1) () w.2.2 f.2.2.2.2)) = v := hp
          rw [e]
          exact ⟨d2.1, by rw [hm2t]; exact hM1, by rw [vM2]; exact h181, d1, hU1, hNv2, ndv1⟩
        have edp : plug k (f.1, f.2.1, fapp f.2.2.1 (.inner w.1 (wiN w.2.1 f.2.2.2.1) () w.2.2 f.2.2.2.2)) = v := hp
        obtain ⟨m3, e239, V3, x3, v263⟩ := t239 (d := d - 1) (w := (n, noN d', lD)) (nm := f.2.2.2.1) (by omega) ok2 V2 hN2 nd1 (by rw [edp]; exact dis1) (fun h6 => by
          have := hole.2.2 h6
          rw [d2.2.2.2 7 n (by decide) (by decide), d2.2.2.2 6 n (by decide) (by decide), up_eq, up_ne _ _ _ _ _ _ (by omega), up_eq]
          exact this)
        have DX2 : DX D m1 us' C' m2 us' C' := DX.tg (n := n') ok2 d2 (by rw [d3, c3]) (by rw [← hm2]; rfl) (by rw [← hm2]; rfl)
        have hNT1 := (x1.2.1 NT (Ne.symm n2) nn un CN hNTw).1
        refine ⟨m3, plug k (f.1, f.2.1, amg f.2.2.1 (n, noN d', lD) f.2.2.2.1 f.2.2.2.2), n', us', C', run _ ?_, spec _ rfl, V3.ds ?_, X1.trans (OX.dx (DX2.trans x3) V3.1 n2 hNT1)⟩
        · rw [if_neg hne, nm_eq, h181, gd_of hDW1.1, nm_eq, gd_of l6.1, gd_of ⟨by omega, by omega⟩, gd_of ⟨by omega, by omega⟩, nm_eq, gd_of l7.1, gd_of ⟨by omega, by omega⟩, gd_of ⟨by omega, by omega⟩]
          have e7 : vl (mst m1 (vl m1 D 6) n (vl m1 (vl m1 D 6) w.1)) (vl m1 D 7) w.1 = nv m1 D 7 w.1 := by
            have c47 : vl (mst m1 (vl m1 D 6) n (vl m1 (vl m1 D 6) w.1)) D 7 = vl m1 D 7 := c4 7
            have g7' : vl (mst m1 (vl m1 D 6) n (vl m1 (vl m1 D 6) w.1)) (vl (mst m1 (vl m1 D 6) n (vl m1 (vl m1 D 6) w.1)) D 7) w.1 = nv m1 D 7 w.1 := g7
            rw [c47] at g7'
            exact g7'
          rw [e7]
          have hm2' : mst (mst m1 (vl m1 D 6) n (vl m1 (vl m1 D 6) w.1)) (vl m1 D 7) n (nv m1 D 7 w.1) = m2 := hm2
          rw [hm2']
          have e239 : cl (d - 1) 239 [pR M, pI w.1, pI n] m2 = some (.inl none, m3) := e239
          rw [bV_eq e239]
        · rw [v263, vM2, h261, ← hp]
          show ((plug k (f.1, f.2.1, amg f.2.2.1 w f.2.2.2.1 f.2.2.2.2)).1 : Int) = _
          exact congrArg (fun z : Nat => (z : Int)) (plug_root k _ _ _ _ _)
end
