/-! the twin's patches: an operation, from its beginning -/
set_option maxRecDepth 100000
set_option maxHeartbeats 4000000
section
variable {d : Nat} {m : Mem} {M D T NT nT CT CN C : Int} {us uT : List Int} {o v : Vl} {n : Nat}
theorem c227 (hd : 80 ≤ d) (hO : OT m M T nT CT uT o) (hDS : DS m M D v n us C) (hNT : NTS m M NT CN) (ne : D ≠ T ∧ D ≠ NT ∧ T ≠ NT) (hb : n ≤ 2000 ∧ us.length ≤ 4000 ∧ szF v.2.2 ≤ 3000 ∧ szV v ≤ 3000) (hdv : dpV v.2.1 v.2.2 ≤ 32) (hwv : wfF (foC v.2.1 v.2.2 foN)) (hvn : v.2.1.2.2.2 = []) (ho : wfF (foC o.2.1 o.2.2 foN)) (hdo : dpF o.2.2 ≤ 32) (hpr : szF o.2.2 + unF (o.2.1.1 == 6) o.2.2 ≤ 1300) (hpl : (prF (o.2.1.1 == 6) true o.2.2).length ≤ 1290) : OPR (cl d 227 [pR M, pI o.1] m) m M D NT CN C (pSt (erV o) (erV v)) := by
  have hO0 := hO
  obtain ⟨ok, hM, h19, hTW, hN, hS⟩ := hO
  have hNT0 := hNT
  obtain ⟨n25, n22, n23, nne, nn, un, hNTw⟩ := hNT
  have x0 : OX D NT CN m C m C := OX.dx (DX.refl (us := us) ok) hDS.1 ne.2.1 hNTw
  have hcT := hTW.2.2.2.2.2.2.1
  have hon : (o.1 : Int) < nT := hN.1
  have l0 := hTW.ld (f := 0) ⟨by decide, by decide⟩ (by decide)
  have hk0 : vl m (vl m T 0) o.1 = kT o.2.1.1 := hN.2.1
  by_cases h6 : o.2.1.1 = 6
  · have ek : kT o.2.1.1 = 6 := by rw [h6]; rfl
    have e6 : (o.2.1.1 == 6) = true := by rw [h6]; rfl
    rw [ek] at hk0
    rw [e6] at hpr hpl
    have hw := ho.2.2.2.2.1
    have c1 := c228 (d := d - 1) (a := 60) (cs := wOp) (by omega) hM h19 ok hTW hN h6 hw hS.1.1
    have c2 := c228 (d := d - 1) (a := 62) (cs := wPath) (by omega) hM h19 ok hTW hN h6 hw hS.1.2.1
    have hN0 : ∃ z, cl (d - 1) 228 [pR M, pI o.1, pR 62] m = some (.inl (some (pI z)), m) ∧ (strM o.2.2 wPath = none → z < 0) := by
      cases h2 : strM o.2.2 wPath with
      | none => exact ⟨-1, c2.1 h2, fun _ => by decide⟩
      | some p => obtain ⟨i, d', l', -, -, -, -, e⟩ := c2.2 p h2; exact ⟨i, e, fun q => (by cases q)⟩
    obtain ⟨z2, e2, hz2⟩ := hN0
    have se1 : strM (erV o).2.2 wOp = strM o.2.2 wOp := strM_er _ _
    have se2 : strM (erV o).2.2 wPath = strM o.2.2 wPath := strM_er _ _
    have se3 : strM (erV o).2.2 wFrom = strM o.2.2 wFrom := strM_er _ _
    have st0 : ∀ (z1 : Int), cl (d - 1) 228 [pR M, pI o.1, pR 60] m = some (.inl (some (pI z1)), m) → ∀ X : RM, (if z1 < 0 then (some (.inl (some (pI 0)), m)) else if z2 < 0 then (some (.inl (some (pI 0)), m)) else bI (cl (d - 1) 230 [pR M, pI z2] m) fun v3 m3 => if v3 = 0 then (some (.inl (some (pI 0)), m3)) else bI (cl (d - 1) 231 [pR M, pI z1, pR 64] m3) fun v4 m4 => bI (cl (d - 1) 231 [pR M, pI z1, pR 66] m4) fun v5 m5 => bI (cl (d - 1) 231 [pR M, pI z1, pR 68] m5) fun v6 m6 => bI (cl (d - 1) 231 [pR M, pI z1, pR 70] m6) fun v7 m7 => if v4 = 0 then (if v5 = 0 then (if v6 = 0 then (bI (cl (d - 1) 231 [pR M, pI z1, pR 74] m7) fun v8 m8 => if v8 = 0 then (if v7 = 0 then (bI (cl (d - 1) 231 [pR M, pI z1, pR 76] m8) fun v9 m9 => if v9 = 0 then (some (.inl (some (pI 0)), m9)) else rn d 227 344 [pR M, pI o.1, pI z1, pI z2, pI v4, pI v5, pI v6, pI v7, pU, pU, pU] [] m9) else rn d 227 344 [pR M, pI o.1, pI z1, pI z2, pI v4, pI v5, pI v6, pI v7, pU, pU, pU] [] m8) else bI (cl (d - 1) 232 [pR M, pI (vl m8 M 26), pI (vl m8 M 24)] m8) fun v10 m10 => if v10 < 0 then (some (.inl (some (pI 0)), m10)) else if v10 = (vl m10 M 26) then (some (.inl (some (pI 0)), m10)) else Jvm.Pilot.CPathStoreLaw_law_r3608_0f1887.nm (vl m10 M 18) fun v14 => gd (tg m10 v14 = 13) <| bV (cl (d - 1) 294 [pR v14, pI v10] m10) fun m11 => some (.inl (some (pI 1)), m11)) else rn d 227 107 [pR M, pI o.1, pI z1, pI z2, pI v4, pI v5, pI v6, pI v7, pU, pU, pU] [] m7) else rn d 227 107 [pR M, pI o.1, pI z1, pI z2, pI v4, pI v5, pI v6, pI v7, pU, pU, pU] [] m7) else rn d 227 107 [pR M, pI o.1, pI z1, pI z2, pI v4, pI v5, pI v6, pI v7, pU, pU, pU] [] m7) = X → ∀ Q, X = some Q → cl d 227 [pR M, pI o.1] m = some Q := by
      intro z1 e1 X hX Q hQ
      refine q227 (by omega) ok.1 _ ?_
      rw [gd_of hM, nm_eq, h19, gd_of hTW.1, nm_eq, gd_of l0.1, gd_of ⟨by omega, by omega⟩, hk0, if_pos rfl, bI_eq e1, bI_eq e2]
      exact (by exact hX : _ = X).trans hQ
    cases h1 : strM o.2.2 wOp with
    | none =>
      have : pSt (erV o) (erV v) = none := by unfold pSt; rw [if_neg (by show ¬ o.2.1.1 ≠ 6; omega), se1, h1]
      rw [this]
      exact ⟨m, n, us, C, st0 _ (c1.1 h1) _ (by rw [if_pos (by decide)]) _ rfl, hDS.2.2.2.1, x0⟩
    | some op =>
      obtain ⟨i1, d1, l1, o1, o4, hN1, hw1, e1⟩ := c1.2 op h1
      cases h2 : strM o.2.2 wPath with
      | none =>
        have : pSt (erV o) (erV v) = none := by unfold pSt; rw [if_neg (by show ¬ o.2.1.1 ≠ 6; omega), se1, h1, se2, h2]
        rw [this]
        exact ⟨m, n, us, C, st0 _ e1 _ (by rw [if_neg (by omega), if_pos (hz2 h2)]) _ rfl, hDS.2.2.2.1, x0⟩
      | some path =>
        obtain ⟨i2, d2, l2, p1, p4, hN2, hw2, e2'⟩ := c2.2 path h2
        obtain rfl : z2 = (i2 : Int) := by rw [e2] at e2'; cases e2'; rfl
        have psz : ∀ {k : List Int} {s : List Int}, strM o.2.2 k = some s → (uts s).length ≤ 1290 ∧ wfU s := fun {k s} hs => by
          obtain ⟨fd, fl, ff1, ff2, ff3⟩ := strM_some hs
          have q1 := fnd_pr1 (ob := true) (fst := true) ff1
          rw [prV_4 ff2] at q1
          have q2 := uts_prS fd.2.2.1
          have q3 : wfU fd.2.2.1 := by
            have key : ∀ {F : Fo}, wfF F → fndF F k = some (fd, fl) → wfU fd.2.2.1 := by
              intro F
              induction F with
              | leaf => intro _ h; cases h
              | inner n0 d0 u0 l0 r0 _ ih =>
                intro hw h
                unfold fndF at h
                split at h
                · cases h; exact hw.1.2.2.2.1
                · exact ih hw.2.2.2.2.2 h
            exact key hw ff1
          rw [ff3]; exact ⟨by omega, q3⟩
        obtain ⟨lp, wp⟩ := psz h2
        have hge := uts_ge path
        have c230h := c230 (d := d - 1) (by omega) ok hDS.1 hM h19 n25 n22 n23 nne ne.2.2 hTW hN2 (by rw [p1]; exact wp) (by rw [p1]; omega) hNTw
        rw [p1] at c230h
        rw [pSt_eq (o := erV o) (v := erV v) h6 (se1.trans h1) (se2.trans h2)]
        cases hpt : ptr path with
        | none =>
          obtain ⟨m1, L1, e230, hSK, q1⟩ := c230h.2 hpt
          have hnone : (if op = wAdd then (match fndF (erV o).2.2 wVal with
              | none => none
              | some (d, l) => match (none : Option (List (List Int))) with
                | none => none
                | some tks => adZ tks (0, noN d, l) (erV v))
            else if op = wRem then (match (none : Option (List (List Int))) with
                | none => none
                | some tks => rmZ tks (erV v))
            else if op = wRep then (match fndF (erV o).2.2 wVal with
              | none => none
              | some (d, l) => match (none : Option (List (List Int))) with
                | none => none
                | some tks => rpZ tks (0, noN d, l) (erV v))
            else if op = wTst then (match fndF (erV o).2.2 wVal with
              | none => none
              | some (d, l) => match (none : Option (List (List Int))) with
                | none => none
                | some tks => match goZ tks [] (erV v) with
                  | none => none
                  | some (_, w) => if smV w.2.1 w.2.2 d l then some (erV v) else none)
            else if op = wMov ∨ op = wCop then (match strM (erV o).2.2 wFrom with
              | none => none
              | some fr => trS (decide (op = wMov)) path fr (erV v))
            else none) = none := by
            split
            · cases fndF (erV o).2.2 wVal <;> rfl
            · split
              · rfl
              · split
                · cases fndF (erV o).2.2 wVal <;> rfl
                · split
                  · cases fndF (erV o).2.2 wVal <;> rfl
                  · split
                    · cases strM (erV o).2.2 wFrom with
                      | none => rfl
                      | some fr => unfold trS; rw [hpt]
                    · rfl
          have trO : ∀ x y : Option Vl, x = y → OPR (cl d 227 [pR M, pI o.1] m) m M D NT CN C y → OPR (cl d 227 [pR M, pI o.1] m) m M D NT CN C x := fun x y e h => by rw [e]; exact h
          refine trO _ _ hnone ?_
          exact ⟨m1, n, us, C, st0 _ e1 _ (by rw [if_neg (by omega), if_neg (by omega), bI_eq e230, if_pos rfl]) _ rfl, (q1.2.2.1 D ne.2.1 _ _ _ hDS.2.2.2.1).1, OX.pt q1 ne.2.1 hDS.2.2.2.1 ⟨_, _, hSK.2.2.2.2.2.2.1⟩⟩
        | some tks =>
          obtain ⟨m1, e230, hSK, hl16, q1⟩ := c230h.1 tks hpt
          have f1 := cl_FRM e230
          have hDS1 := hDS.pt q1 ne.2.1 f1 ok
          have hO1 := hO0.pt q1 ne.2.2 f1
          have hX1 := OX.pt (D := D) (CN := CN) q1 ne.2.1 hDS.2.2.2.1 ⟨_, _, hSK.2.2.2.2.2.2.1⟩
          have hNT1 := hSK.nts
          have hP1 : OPS m1 M D T NT nT CT CN uT o v n us C tks := ⟨hO1, hDS1, hSK.tks hl16, ⟨_, _, hSK.2.2.2.2.2.2.1⟩, ne, ⟨hb.1, hb.2.1, hb.2.2⟩, ptr_tkl (by omega) hpt, hdv, hwv, hvn⟩
          obtain ⟨ok1, hM1, h191, hTW1, hNo1, hS1⟩ := hO1
          have hpT := q1.2.2.1 T ne.2.2 _ _ _ hTW
          have hN11 : TN (nv m1 T) uT nT i1 d1 l1 := TN.keep0 hN1 (fun f j f0 f1 _ => hpT.2.1 f j f0 f1) (fun f f0 f1 => hpT.2.1 f i1 f0 (by omega))
          have hN21 : TN (nv m1 T) uT nT i2 d2 l2 := TN.keep0 hN2 (fun f j f0 f1 _ => hpT.2.1 f j f0 f1) (fun f f0 f1 => hpT.2.1 f i2 f0 (by omega))
          have is : ∀ (a : Int) (cs : List Int), SC m1 a cs → cl (d - 1) 231 [pR M, pI i1, pR a] m1 = some (.inl (some (pI (if op = cs then 1 else 0))), m1) := fun a cs hs => by
            have := c231 (d := d - 1) (x := i1) (by omega) hM1 h191 ok1 hTW1 hN11 hs
            rw [o1] at this; exact this
          have y1 := is 64 wAdd hS1.1.2.2.1
          have y2 := is 66 wRep hS1.1.2.2.2.1
          have y3 := is 68 wTst hS1.1.2.2.2.2
          have y4 := is 70 wMov hS1.2.1
          have y5 := is 74 wRem hS1.2.2.2.1
          have y6 := is 76 wCop hS1.2.2.2.2.1
          dsimp only
          by_cases b1 : op = wAdd
          · subst b1
            rw [if_pos rfl] at y1
            rw [if_neg (by decide)] at y2 y3 y4
            rw [if_pos rfl]
            refine OPR.pre (op_add (d := d) (a2 := i1) (a3 := i2) (a7 := 0) (by omega) hP1 h6 hw hdo hpr) hX1 (fun Q hQ => st0 _ e1 _ ?_ Q hQ)
            rw [if_neg (by omega), if_neg (by omega), bI_eq e230, if_neg (by decide), bI_eq y1, bI_eq y2, bI_eq y3, bI_eq y4, if_neg (by decide)]
          · rw [if_neg b1]
            rw [if_neg b1] at y1
            by_cases b2 : op = wRem
            · subst b2
              rw [if_neg (by decide)] at y2 y3 y4
              rw [if_pos rfl] at y5 ⊢
              obtain ⟨e232, hgo⟩ := op_go (d := d - 1) (by omega) hP1
              have erm : rmZ tks (erV v) = (rmZ tks v).map erV := rmZ_er tks v
              rw [erm]
              have run : ∀ Q, (if goI (goZ tks [] v) < 0 then (some (.inl (some (pI 0)), m1)) else if goI (goZ tks [] v) = (vl m1 M 26) then (some (.inl (some (pI 0)), m1)) else (bV (cl (d - 1) 294 [pR D, pI (goI (goZ tks [] v))] m1) fun m11 => some (.inl (some (pI 1)), m11))) = some Q → cl d 227 [pR M, pI o.1] m = some Q := by
                intro Q hQ
                refine st0 _ e1 _ ?_ Q hQ
                rw [if_neg (by omega), if_neg (by omega), bI_eq e230, if_neg (by decide), bI_eq y1, bI_eq y2, bI_eq y3, bI_eq y4, if_pos rfl, if_pos rfl, if_pos rfl, bI_eq y5, if_neg (by decide), bI_eq e232]
                by_cases g1 : goI (goZ tks [] v) < 0
                · rw [if_pos g1, if_pos g1]
                · rw [if_neg g1, if_neg g1]
                  by_cases g2 : goI (goZ tks [] v) = vl m1 M 26
                  · rw [if_pos g2, if_pos g2]
                  · rw [if_neg g2, if_neg g2, nm_eq, hDS1.2.2.1, gd_of hDS1.2.2.2.1.1]
              cases hz : goZ tks [] v with
              | none =>
                have e : rmZ tks v = none := by unfold rmZ; rw [hz]
                rw [e]
                exact ⟨m1, n, us, C, run _ (by rw [hz, if_pos (by decide)]), hDS1.2.2.2.1, hX1⟩
              | some p =>
                obtain ⟨kz, w⟩ := p
                obtain ⟨hp, hNw, hww, wn, hsw, hdw, hkl, hroot, hok, hkn⟩ := hgo kz w hz
                rw [hz] at run
                have run2 : ∀ Q, (if (w.1 : Int) < 0 then (some (.inl (some (pI 0)), m1)) else if (w.1 : Int) = (vl m1 M 26) then (some (.inl (some (pI 0)), m1)) else (bV (cl (d - 1) 294 [pR D, pI w.1] m1) fun m11 => some (.inl (some (pI 1)), m11))) = some Q → cl d 227 [pR M, pI o.1] m = some Q := run
                have h261 := hDS1.2.2.2.2.2.2.2
                cases kz with
                | nil =>
                  have e : rmZ tks v = none := by unfold rmZ; rw [hz]
                  rw [e]
                  have := hroot.mp rfl
                  exact ⟨m1, n, us, C, run2 _ (by rw [if_neg (by omega), if_pos (by rw [h261, this])]), hDS1.2.2.2.1, hX1⟩
                | cons f k =>
                  have e : rmZ tks v = some (plug k (f.1, f.2.1, fapp f.2.2.1 f.2.2.2.2)) := by unfold rmZ; rw [hz]
                  rw [e]
                  have hne : ¬ ((w.1 : Int) = v.1) := fun q => absurd (hroot.mpr (by omega)) (by simp)
                  have V1 : VT m1 M D (plug k (f.1, f.2.1, fapp f.2.2.1 (.inner w.1 (wiN w.2.1 f.2.2.2.1) () w.2.2 f.2.2.2.2))) n us C := by
                    have e : plug k (f.1, f.2.1, fapp f.2.2.1 (.inner w.1 (wiN w.2.1 f.2.2.2.1) () w.2.2 f.2.2.2.2)) = v := hp
                    rw [e]; exact hDS1.vt
                  obtain ⟨m3, e294, V3, x3, v263, -⟩ := t294 (d := d - 1) ok1 V1
                  exact ⟨m3, plug k (f.1, f.2.1, fapp f.2.2.1 f.2.2.2.2), n, us, C, run2 _ (by rw [if_neg (by omega), if_neg (by rw [h261]; exact hne), bV_eq e294]), rfl, V3.ds (by rw [v263, h261, ← hp]; show ((plug k (f.1, f.2.1, amg f.2.2.1 w f.2.2.2.1 f.2.2.2.2)).1 : Int) = _; exact congrArg (fun z : Nat => (z : Int)) (plug_root k _ _ _ _ _)), hX1.trans (OX.dx x3 V3.1 ne.2.1 hSK.2.2.2.2.2.2.1)⟩
            · rw [if_neg b2]
              rw [if_neg b2] at y5
              by_cases b3 : op = wRep
              · subst b3
                rw [if_pos rfl] at y2 ⊢
                rw [if_neg (by decide)] at y3 y4
                refine OPR.pre (op_rep (d := d) (a2 := i1) (a3 := i2) (a7 := 0) (by omega) hP1 h6 hw hdo hpr) hX1 (fun Q hQ => st0 _ e1 _ ?_ Q hQ)
                rw [if_neg (by omega), if_neg (by omega), bI_eq e230, if_neg (by decide), bI_eq y1, bI_eq y2, bI_eq y3, bI_eq y4, if_pos rfl, if_neg (by decide)]
              · rw [if_neg b3]
                rw [if_neg b3] at y2
                by_cases b4 : op = wTst
                · subst b4
                  rw [if_pos rfl] at y3 ⊢
                  rw [if_neg (by decide)] at y4
                  refine OPR.pre (op_tst (d := d) (a2 := i1) (a3 := i2) (a7 := 0) (by omega) hP1 h6 hw hdo hpr) hX1 (fun Q hQ => st0 _ e1 _ ?_ Q hQ)
                  rw [if_neg (by omega), if_neg (by omega), bI_eq e230, if_neg (by decide), bI_eq y1, bI_eq y2, bI_eq y3, bI_eq y4, if_pos rfl, if_pos rfl, if_neg (by decide)]
                · rw [if_neg b4]
                  rw [if_neg b4] at y3
                  rw [se3]
                  by_cases b5 : op = wMov ∨ op = wCop
                  · rw [if_pos b5]
                    have hI := op_mc (d := d) (a2 := i1) (a4 := 0) (a5 := 0) (a6 := 0) (mv := decide (op = wMov)) (by omega) hP1 hNT1 h6 hw (fun d' l' hf h4 => by
                      have : strM o.2.2 wFrom = some d'.2.2.1 := by unfold strM; rw [hf]; dsimp only; rw [if_pos h4]
                      exact psz this) hN21 (by rw [p1]; exact wp) (by rw [p1]; exact lp) (by rw [p1]; exact hpt)
                    rw [p1] at hI
                    refine OPR.pre hI hX1 (fun Q hQ => st0 _ e1 _ ?_ Q hQ)
                    rw [if_neg (by omega), if_neg (by omega), bI_eq e230, if_neg (by decide), bI_eq y1, bI_eq y2, bI_eq y3, bI_eq y4, if_pos rfl, if_pos rfl, if_pos rfl, bI_eq y5, if_pos rfl]
                    by_cases b6 : op = wMov
                    · rw [if_pos b6, if_neg (by decide), decide_eq_true b6]; rfl
                    · have b7 : op = wCop := by rcases b5 with q | q; exact absurd q b6; exact q
                      rw [if_neg b6, if_pos rfl, bI_eq y6, if_pos b7, if_neg (by decide), decide_eq_false b6]; rfl
                  · rw [if_neg b5]
                    have b6 : op ≠ wMov := fun q => b5 (Or.inl q)
                    have b7 : op ≠ wCop := fun q => b5 (Or.inr q)
                    refine ⟨m1, n, us, C, st0 _ e1 _ ?_ _ rfl, hDS1.2.2.2.1, hX1⟩
                    rw [if_neg b6] at y4
                    rw [if_neg b7] at y6
                    rw [if_neg (by omega), if_neg (by omega), bI_eq e230, if_neg (by decide), bI_eq y1, bI_eq y2, bI_eq y3, bI_eq y4, if_pos rfl, if_pos rfl, if_pos rfl, bI_eq y5, if_pos rfl, if_pos rfl, bI_eq y6, if_pos rfl]
  · have : pSt (erV o) (erV v) = none := by unfold pSt; rw [if_pos (show (erV o).2.1.1 ≠ 6 from h6)]
    rw [this]
    have ek6 : kT o.2.1.1 ≠ 6 := fun q => h6 (by unfold kT at q; split at q; omega; split at q; omega; omega)
    exact ⟨m, n, us, C, q227 (by omega) ok.1 _ (by rw [gd_of hM, nm_eq, h19, gd_of hTW.1, nm_eq, gd_of l0.1, gd_of ⟨by omega, by omega⟩, hk0, if_neg ek6]), hDS.2.2.2.1, x0⟩
end
