/-! the twin's patches: moving and copying; an operation, whole -/
set_option maxRecDepth 100000
set_option maxHeartbeats 4000000
section
variable {d : Nat} {m m1 : Mem} {M D T NT nT CT CN C : Int} {us uT : List Int} {o v : Vl} {n : Nat} {tks : List (List Int)}
theorem DS.pt (h : DS m M D v n us C) (p : PT0 NT m m1) (hne : D ≠ NT) (hf : FRM (eM 230) m m1) (ok : OK m) : DS m1 M D v n us C := by
  obtain ⟨hI, hM, h18, hTW, hU, hN, ndv, h26⟩ := h
  obtain ⟨a1, a2, a3, -⟩ := p
  obtain ⟨b1, b2, -⟩ := a3 D hne _ _ _ hTW
  exact ⟨a2, by rw [tg_of hf ok.1 (by omega)]; exact hM, by rw [vl_of hf ok.1 hM (by decide) (by rfl)]; exact h18, b1, hU, TNv.eqg hN b2, ndv, by rw [vl_of hf ok.1 hM (by decide) (by rfl)]; exact h26⟩
theorem OT.pt (h : OT m M T nT CT uT o) (p : PT0 NT m m1) (hne : T ≠ NT) (hf : FRM (eM 230) m m1) : OT m1 M T nT CT uT o := by
  obtain ⟨b1, b2, -⟩ := p.2.2.1 T hne _ _ _ h.2.2.2.1
  exact h.step hf (by rfl) (by rfl) ⟨b1, b2⟩
theorem ptr_tkl {us : List Int} (hl : (uts us).length ≤ 1400) (h : ptr us = some tks) : ∀ tk, tk ∈ tks → tk.length ≤ 3000 := by
  intro tk htk
  have hu := ptr_up h
  have h1 : ∀ (L : List (List Int)), tk ∈ L → (uts tk).length ≤ (tkB L).length := by
    intro L
    induction L with
    | nil => intro h; cases h
    | cons a L ih =>
      intro h
      have e : tkB (a :: L) = nmB a ++ tkB L := rfl
      rw [e, List.length_append, nmB_len]
      rcases List.mem_cons.mp h with q | q
      · rw [q]; omega
      · have := ih q; omega
  have h2 := h1 tks htk
  have h3 := uts_ge tk
  omega
theorem ptr_nil {us : List Int} (h : ptr us = some []) : us = [] := by
  cases us with
  | nil => rfl
  | cons c r =>
    unfold ptr at h
    dsimp only at h
    split at h
    · obtain ⟨t0, t1, e, -⟩ := pTk_hd _ _ _ _ (Nat.le_refl _) h
      cases e
    · cases h
theorem ptr_sl {us : List Int} {ts : List (List Int)} (h : ptr us = some ts) (hne : us ≠ []) : [47] <+: us := by
  cases us with
  | nil => exact absurd rfl hne
  | cons c r =>
    unfold ptr at h
    dsimp only at h
    split at h
    · rename_i e; exact ⟨r, by rw [e]; rfl⟩
    · cases h
/-- a pointer read again, and the value comes in -/
theorem op_in {x y : Nat} {xd : ND} {xl : Fo} {w : Vl} {a2 a4 a5 a6 a7 a8 a9 : Int} (hd : 30 ≤ d) (hO : OT m M T nT CT uT o) (hV : DS m M D v n us C) (hNT : NTS m M NT CN) (ne : D ≠ T ∧ D ≠ NT ∧ T ≠ NT) (hX : TN (nv m T) uT nT x xd xl) (wx : wfU xd.2.2.1) (lx : (uts xd.2.2.1).length ≤ 1290) (hpt : ptr xd.2.2.1 = some tks) (b1 : n ≤ 5000) (b2 : us.length ≤ 7000) (b3 : szF v.2.2 ≤ 100000) (hw : TNv (nv m D) us n w) (nw : (idV w).Nodup) (dis : ∀ j, j ∈ idV w → j ∉ idV v) : OPR (rn d 227 452 [pR M, pI o.1, pI a2, pI x, pI a4, pI a5, pI a6, pI a7, pI a8, pI a9, pI w.1] [] m) m M D NT CN C ((adZ tks w v).map erV) := by
  obtain ⟨ok, hM, h19, hTW, hN, hS⟩ := hO
  obtain ⟨n25, n22, n23, nne, nn, un, hNTw⟩ := hNT
  have hge := uts_ge xd.2.2.1
  obtain ⟨m1, e230, hSK, hl16, p1⟩ := (c230 (d := d - 1) (by omega) ok hV.1 hM h19 n25 n22 n23 nne ne.2.2 hTW hX wx (by omega) hNTw).1 tks hpt
  have f1 := cl_FRM e230
  have hV1 := hV.pt p1 ne.2.1 f1 ok
  have hw1 : TNv (nv m1 D) us n w := TNv.eqg hw (p1.2.2.1 D ne.2.1 _ _ _ hV.2.2.2.1).2.1
  have hA := c238 (d := d - 1) (w := w) (by omega) p1.1 (hSK.tks hl16) ne.2.1 hV1 (by omega) b3 hw1 nw dis (fun tk ht => by have := ptr_tkl (by omega) hpt tk ht; omega)
  have hNT1 : ∃ nn un, TW m1 NT nn un CN := ⟨_, _, hSK.2.2.2.2.2.2.1⟩
  refine OPR.pre (hA.opr ne.2.1 hNT1 hV1.1) (OX.pt p1 ne.2.1 hV.2.2.2.1 hNT1) (fun Q hQ => ?_)
  refine q227_452 (by omega) ok.1 _ ?_
  have hQ1 : ∃ z m2, Q = (.inl (some (pI z)), m2) ∧ (z = 0 ∨ z = 1) := by
    cases hr : adZ tks w v with
    | some v' =>
      rw [hr] at hA
      obtain ⟨m', us', a1, -⟩ := hA
      rw [hQ] at a1; cases a1; exact ⟨1, _, rfl, Or.inr rfl⟩
    | none =>
      rw [hr] at hA
      obtain ⟨m', us', a1, -⟩ := hA
      rw [hQ] at a1; cases a1; exact ⟨0, _, rfl, Or.inl rfl⟩
  obtain ⟨z, m2, rfl, hz⟩ := hQ1
  rw [gd_of hM, bI_eq e230, bI_eq hQ, gd_of hz]
/-- moving and copying -/
theorem op_mc {a2 a4 a5 a6 : Int} {x : Nat} {xd : ND} {xl : Fo} {mv : Bool} (hd : 60 ≤ d) (h : OPS m M D T NT nT CT CN uT o v n us C tks) (hNT : NTS m M NT CN) (h6 : o.2.1.1 = 6) (hw : wfF o.2.2) (hcn : ∀ d' l', fndF o.2.2 wFrom = some (d', l') → d'.1 = 4 → (uts d'.2.2.1).length ≤ 1290 ∧ wfU d'.2.2.1) (hX : TN (nv m T) uT nT x xd xl) (wx : wfU xd.2.2.1) (lx : (uts xd.2.2.1).length ≤ 1290) (hpt : ptr xd.2.2.1 = some tks) : OPR (rn d 227 344 [pR M, pI o.1, pI a2, pI x, pI a4, pI a5, pI a6, pI (b2i mv), pU, pU, pU] [] m) m M D NT CN C (match strM o.2.2 wFrom with
    | none => none
    | some fr => trS mv xd.2.2.1 fr (erV v)) := by
  have x0 := h.base
  obtain ⟨⟨ok, hM, h19, hTW, hN, hS⟩, hDS, hTK, -, ⟨n1, n2, n3⟩, ⟨b1, b2, b3⟩, hL, hdv, hwv, hvn⟩ := h
  have hO : OT m M T nT CT uT o := ⟨ok, hM, h19, hTW, hN, hS⟩
  have c228h := c228 (d := d - 1) (a := 78) (cs := wFrom) (by omega) hM h19 ok hTW hN h6 hw hS.2.2.2.2.2
  cases hf : strM o.2.2 wFrom with
  | none =>
    exact ⟨m, n, us, C, q227_344 (by omega) ok.1 _ (by rw [gd_of hM, bI_eq (c228h.1 hf), if_pos (by decide)]), hDS.2.2.2.1, x0⟩
  | some fr =>
    obtain ⟨i, d', l', e1, e4, hNi, hwi, e228⟩ := c228h.2 fr hf
    obtain ⟨fd, fl, ff1, ff2, ff3⟩ := strM_some hf
    have hfr : (uts d'.2.2.1).length ≤ 1290 ∧ wfU d'.2.2.1 := by
      have := hcn fd fl ff1 ff2
      rw [← ff3] at this; rw [e1]; exact this
    have hge := uts_ge d'.2.2.1
    obtain ⟨n25, n22, n23, nne, nn, un, hNTw⟩ := hNT
    have c230h := c230 (d := d - 1) (by omega) ok hDS.1 hM h19 n25 n22 n23 nne n3 hTW hNi hfr.2 (by omega) hNTw
    dsimp only
    unfold trS
    rw [hpt]
    dsimp only
    rw [e1] at c230h
    cases hpf : ptr fr with
    | none =>
      obtain ⟨m1, L1, e230, hSK, p1⟩ := c230h.2 hpf
      exact ⟨m1, n, us, C, q227_344 (by omega) ok.1 _ (by rw [gd_of hM, bI_eq e228, if_neg (by omega), bI_eq e230, if_pos rfl]), (p1.2.2.1 D n2 _ _ _ hDS.2.2.2.1).1, OX.pt p1 n2 hDS.2.2.2.1 ⟨_, _, hSK.2.2.2.2.2.2.1⟩⟩
    | some ftk =>
      obtain ⟨m1, e230, hSK, hl16, p1⟩ := c230h.1 ftk hpf
      have f1 := cl_FRM e230
      have hDS1 := hDS.pt p1 n2 f1 ok
      have hO1 := hO.pt p1 n3 f1
      have hX1 := OX.pt (D := D) (CN := CN) p1 n2 hDS.2.2.2.1 ⟨_, _, hSK.2.2.2.2.2.2.1⟩
      have hfl : (uts fr).length ≤ 1290 := by rw [← e1]; exact hfr.1
      have hP1 : OPS m1 M D T NT nT CT CN uT o v n us C ftk := ⟨hO1, hDS1, hSK.tks hl16, ⟨_, _, hSK.2.2.2.2.2.2.1⟩, ⟨n1, n2, n3⟩, ⟨b1, b2, b3⟩, ptr_tkl (by omega) hpf, hdv, hwv, hvn⟩
      obtain ⟨e232, hgo⟩ := op_go (d := d - 1) (by omega) hP1
      obtain ⟨ok1, hM1, h191, hTW1, hN1, hS1⟩ := hO1
      have eg : goZ ftk [] (erV v) = (goZ ftk [] v).map (fun p => (p.1.map erFr, erV p.2)) := goZ_er ftk [] v
      dsimp only
      rw [eg]
      have st1 : ∀ Q, (bI (cl (d - 1) 232 [pR M, pI (vl m1 M 26), pI (vl m1 M 24)] m1) fun v3 m3 => if v3 < 0 then (some (.inl (some (pI 0)), m3)) else if b2i mv = 0 then (rn d 227 406 [pR M, pI o.1, pI a2, pI x, pI a4, pI a5, pI a6, pI (b2i mv), pI i, pI v3, pU] [] m3) else bI (cl (d - 1) 240 [pR M, pI x, pI i] m3) fun v4 m4 => if v4 = 0 then (rn d 227 406 [pR M, pI o.1, pI a2, pI x, pI a4, pI a5, pI a6, pI (b2i mv), pI i, pI v3, pU] [] m4) else some (.inl (some (pI 0)), m4)) = some Q → rn d 227 344 [pR M, pI o.1, pI a2, pI x, pI a4, pI a5, pI a6, pI (b2i mv), pU, pU, pU] [] m = some Q := by
        intro Q hQ
        refine q227_344 (by omega) ok.1 _ ?_
        rw [gd_of hM, bI_eq e228, if_neg (by omega), bI_eq e230, if_neg (by decide)]
        exact hQ
      cases hz : goZ ftk [] v with
      | none =>
        rw [hz] at e232
        exact ⟨m1, n, us, C, st1 _ (by rw [bI_eq e232, if_pos (by decide)]), hDS1.2.2.2.1, hX1⟩
      | some p =>
        obtain ⟨kz, w⟩ := p
        rw [hz] at e232
        obtain ⟨hp, hNw, hww, wn, hsw, hdw, hkl, hroot, hok, hkn⟩ := hgo kz w hz
        have e232 : cl (d - 1) 232 [pR M, pI (vl m1 M 26), pI (vl m1 M 24)] m1 = some (.inl (some (pI (w.1 : Int))), m1) := e232
        dsimp only [Option.map_some]
        have hpT := p1.2.2.1 T n3 _ _ _ hTW
        have hX1' : TN (nv m1 T) uT nT x xd xl := TN.keep0 hX (fun f j f0 f1 _ => hpT.2.1 f j f0 f1) (fun f f0 f1 => hpT.2.1 f x f0 (by omega))
        have hNi1 : TN (nv m1 T) uT nT i d' l' := TN.keep0 hNi (fun f j f0 f1 _ => hpT.2.1 f j f0 f1) (fun f f0 f1 => hpT.2.1 f i f0 (by omega))
        -- the copy
        have hltw : w.1 < n ∧ ∀ j, j ∈ idF w.2.2 → j < n := ⟨by have := hNw.1; omega, fun j hj => by have := hNw.lt j hj; omega⟩
        have hszw : 1 + szF w.2.2 + w.2.1.2.2.1.length + unF (w.2.1.1 == 6) w.2.2 ≤ 3000 := by
          have h1 := szV_plug kz w
          rw [hp] at h1
          have h2 := b3.2
          have h3 : szV w = 1 + szF w.2.2 + w.2.1.2.2.1.length + unF (w.2.1.1 == 6) w.2.2 := rfl
          omega
        obtain ⟨m2, lD, n', us', C', e292, hDS2, x2, el, hN2, nd2, dis2, en, eu⟩ := t292 (d := d - 1) (t' := D) (x' := w.1) (by have := hI_dv hww hdw; omega) ok1 hDS1 hww (Or.inr ⟨rfl, hNw⟩) (fun _ => hltw) (by omega) (by omega)
        have f2 := cl_FRM e292
        have ok2 := x2.1
        have hT2 := x2.2.1 T (Ne.symm n1) _ _ _ hTW1
        have hO2 : OT m2 M T nT CT uT o := OT.step ⟨ok1, hM1, h191, hTW1, hN1, hS1⟩ f2 (by rfl) (by rfl) ⟨hT2.1, hT2.2.1⟩
        have hN21 := x2.2.1 NT (Ne.symm n2) _ _ _ hSK.2.2.2.2.2.2.1
        have hNT2 : NTS m2 M NT CN := hSK.nts.step ok1 hM1 f2 (by rfl) ⟨_, _, hN21.1⟩
        have hX2 : TN (nv m2 T) uT nT x xd xl := TN.keep0 hX1' (fun f j f0 f1 _ => hT2.2.1 f j f0 f1) (fun f f0 f1 => hT2.2.1 f x f0 (by omega))
        have X12 := hX1.trans (OX.dx x2 hDS2.1 n2 hSK.2.2.2.2.2.2.1)
        have hM2 := hO2.2.1
        have h182 := hDS2.2.2.1
        have ew : erV ((n, noN w.2.1, lD) : Vl) = erV w := by
          obtain ⟨wi, ⟨w1, w2, w3, w4⟩, wl⟩ := w
          have wn : w4 = [] := wn
          subst wn
          show ((0, noN (w1, w2, w3, []), erF lD) : Vl) = (0, (w1, w2, w3, []), erF wl)
          rw [el]
        have run423 : ∀ Q, (if b2i mv = 0 then (rn d 227 452 [pR M, pI o.1, pI a2, pI x, pI a4, pI a5, pI a6, pI (b2i mv), pI i, pI w.1, pI n] [] m2) else (bV (cl (d - 1) 294 [pR D, pI w.1] m2) fun m3 => rn d 227 452 [pR M, pI o.1, pI a2, pI x, pI a4, pI a5, pI a6, pI (b2i mv), pI i, pI w.1, pI n] [] m3)) = some Q → rn d 227 423 [pR M, pI o.1, pI a2, pI x, pI a4, pI a5, pI a6, pI (b2i mv), pI i, pI w.1, pU] [] m1 = some Q := by
          intro Q hQ
          refine q227_423 (by omega) ok1.1 _ ?_
          rw [gd_of hM1, nm_eq, hDS1.2.2.1, gd_of hDS1.2.2.2.1.1, bI_eq e292]
          cases mv with
          | false => rw [if_pos (by rfl)] at hQ ⊢; exact hQ
          | true => rw [if_neg (by decide)] at hQ ⊢; rw [nm_eq, h182, gd_of hDS2.2.2.2.1.1]; exact hQ
        cases mv with
        | false =>
          rw [if_pos rfl]
          have hI := op_in (d := d) (a2 := a2) (a4 := a4) (a5 := a5) (a6 := a6) (a7 := 0) (a8 := i) (a9 := w.1) (y := 0) (w := (n, noN w.2.1, lD)) (by omega) hO2 hDS2 hNT2 ⟨n1, n2, n3⟩ hX2 wx lx hpt (by omega) (by omega) (by omega) hN2 nd2 dis2
          rw [← adZ_er, ew] at hI
          refine OPR.pre hI X12 (fun Q hQ => st1 Q ?_)
          rw [bI_eq e232, if_neg (by omega), if_pos (by rfl)]
          refine q227_406 (by omega) ok1.1 _ ?_
          rw [if_pos (by rfl)]
          exact run423 Q (by rw [if_pos (by rfl)]; exact hQ)
        | true =>
          rw [if_neg (by decide)]
          have e240 := c240 (d := d - 1) (x := x) (y := i) hM1 h191 ok1 hTW1 hX1' hNi1
          have e241 := c241 (d := d - 1) (x := x) (y := i) hM1 h191 ok1 hTW1 hX1' hNi1
          rw [e1] at e240 e241
          by_cases hpe : xd.2.2.1 = fr
          · rw [if_pos hpe]
            have npre : ¬ (fr ++ [47] <+: xd.2.2.1) := fun q => (pref_conv q).2 hpe
            rw [if_neg npre] at e240
            rw [if_pos hpe] at e241
            refine ⟨m1, v, n, us, C, st1 _ ?_, rfl, hDS1, hX1⟩
            rw [bI_eq e232, if_neg (by omega), if_neg (by decide), bI_eq e240, if_pos rfl]
            exact q227_406 (by omega) ok1.1 _ (by rw [if_neg (by decide), gd_of hM1, bI_eq e241, if_neg (by decide)])
          · rw [if_neg hpe]
            rw [if_neg hpe] at e241
            by_cases hpp : fr ++ [47] <+: xd.2.2.1
            · rw [if_pos hpp]
              rw [if_pos hpp] at e240
              refine ⟨m1, n, us, C, st1 _ ?_, hDS1.2.2.2.1, hX1⟩
              rw [bI_eq e232, if_neg (by omega), if_neg (by decide), bI_eq e240, if_neg (by decide)]
            · rw [if_neg hpp]
              rw [if_neg hpp] at e240
              have to423 : ∀ Q, rn d 227 423 [pR M, pI o.1, pI a2, pI x, pI a4, pI a5, pI a6, pI (b2i true), pI i, pI w.1, pU] [] m1 = some Q → rn d 227 344 [pR M, pI o.1, pI a2, pI x, pI a4, pI a5, pI a6, pI (b2i true), pU, pU, pU] [] m = some Q := fun Q hQ => st1 Q (by
                rw [bI_eq e232, if_neg (by omega), if_neg (by decide), bI_eq e240, if_pos rfl]
                exact q227_406 (by omega) ok1.1 _ (by rw [if_neg (by decide), gd_of hM1, bI_eq e241, if_pos rfl]; exact hQ))
              cases kz with
              | nil =>
                -- not from the root
                exfalso
                have hft : ftk = [] := by
                  have : ftk.length = 0 := by simpa using hkl.symm
                  exact List.length_eq_zero_iff.mp this
                rw [hft] at hpf
                have hfn := ptr_nil hpf
                rw [hfn] at hpe hpp
                exact hpp (ptr_sl hpt hpe)
              | cons f k =>
                have erm : rmZ ftk (erV v) = (rmZ ftk v).map erV := rmZ_er ftk v
                have hrm : rmZ ftk v = some (plug k (f.1, f.2.1, fapp f.2.2.1 f.2.2.2.2)) := by unfold rmZ; rw [hz]
                rw [erm, hrm]
                dsimp only [Option.map_some]
                have V2 : VT m2 M D (plug k (f.1, f.2.1, fapp f.2.2.1 (.inner w.1 (wiN w.2.1 f.2.2.2.1) () w.2.2 f.2.2.2.2))) n' us' C' := by
                  have e : plug k (f.1, f.2.1, fapp f.2.2.1 (.inner w.1 (wiN w.2.1 f.2.2.2.1) () w.2.2 f.2.2.2.2)) = v := hp
                  rw [e]; exact hDS2.vt
                have edp : plug k (f.1, f.2.1, fapp f.2.2.1 (.inner w.1 (wiN w.2.1 f.2.2.2.1) () w.2.2 f.2.2.2.2)) = v := hp
                obtain ⟨m3, e294, V3, x3, v263, kw3⟩ := t294 (d := d - 1) ok2 V2
                have f3 := cl_FRM e294
                have hT3 := x3.2.1 T (Ne.symm n1) _ _ _ hT2.1
                have hO3 : OT m3 M T nT CT uT o := hO2.step f3 (by rfl) (by rfl) ⟨hT3.1, hT3.2.1⟩
                have hN31 := x3.2.1 NT (Ne.symm n2) _ _ _ hN21.1
                have hNT3 : NTS m3 M NT CN := hNT2.step ok2 hM2 f3 (by rfl) ⟨_, _, hN31.1⟩
                have hX3 : TN (nv m3 T) uT nT x xd xl := TN.keep0 hX2 (fun f j f0 f1 _ => hT3.2.1 f j f0 f1) (fun f f0 f1 => hT3.2.1 f x f0 (by omega))
                have hDS3 : DS m3 M D (plug k (f.1, f.2.1, fapp f.2.2.1 f.2.2.2.2)) n' us' C' := V3.ds (by rw [v263, hDS2.2.2.2.2.2.2.2, ← hp]; show ((plug k (f.1, f.2.1, amg f.2.2.1 w f.2.2.2.1 f.2.2.2.2)).1 : Int) = _; exact congrArg (fun z : Nat => (z : Int)) (plug_root k _ _ _ _ _))
                have hsz3 : szF (plug k (f.1, f.2.1, fapp f.2.2.1 f.2.2.2.2)).2.2 ≤ 100000 := by
                  have h1 := sz_mono k (f.1, f.2.1, amg f.2.2.1 w f.2.2.2.1 f.2.2.2.2) (f.1, f.2.1, fapp f.2.2.1 f.2.2.2.2) (by dsimp only; rw [sz_fapp, sz_amg]; omega)
                  have e : (plug k (f.1, f.2.1, amg f.2.2.1 w f.2.2.2.1 f.2.2.2.2)) = v := hp
                  rw [e] at h1
                  omega
                have hI := op_in (d := d) (a2 := a2) (a4 := a4) (a5 := a5) (a6 := a6) (a7 := 1) (a8 := i) (a9 := w.1) (y := 0) (w := (n, noN w.2.1, lD)) (by omega) hO3 hDS3 hNT3 ⟨n1, n2, n3⟩ hX3 wx lx hpt (by omega) (by omega) hsz3 (kw3 _ hN2 (by rw [edp]; exact dis2)) nd2 (fun j hj q => dis2 j hj (by rw [← edp]; exact (TNv.rm (kz := k) V2.2.2.2.2.2.1 V2.2.2.2.2.2.2).2.2 j q))
                rw [← adZ_er, ew] at hI
                refine OPR.pre hI (X12.trans (OX.dx x3 V3.1 n2 hN21.1)) (fun Q hQ => to423 Q (run423 Q ?_))
                rw [if_neg (by decide), bV_eq e294]
                exact hQ
end
