/-! the twin: patching, the whole call -/
set_option maxRecDepth 100000
set_option maxHeartbeats 4000000
theorem kT_5i {k : Nat} : kT k = 5 ↔ k = 5 := by
  unfold kT
  split
  · rename_i h; subst h; decide
  · split
    · rename_i h; subst h; decide
    · omega
section
variable {d n : Nat} {m m1 : Mem} {M : Int} {B : Int → Int} {s : St} {c : Int → Int} {K : Int} {f : Int → Option PV}
/-- the tape is taken and read into the tree of what is told -/
theorem ytk (hd : 78 ≤ d) (h : TWt m M B s c K) (hq : STq n s) (hs : s.tp = []) {tp : List Int} (hl : (tp.length : Int) ≤ 1280) (hb : ∀ b ∈ tp, -128 ≤ b ∧ b < 128) (ht : ∀ j : Int, 0 ≤ j → j < tp.length → vl m (B 0) j = gi tp j) :
    (∀ F, sRdT tp = some (.inr F) → ∃ nd l, F = foC nd (erF l) foN ∧ ∃ m' c', cl d 196 [pR M, pR (B 0), pI tp.length, pR (B 19)] m = some (.inl (some (pI 0)), m') ∧ TWt m' M B s c' K ∧ THo m' (B 19) nd l tp.length ∧ TV (B 19) 0 m m' ∧ GR m m' (pcT c K) (pcT c' K)) ∧
    (∀ p, sRdT tp = some (.inl p) → ∃ m' c', cl d 196 [pR M, pR (B 0), pI tp.length, pR (B 19)] m = some (.inl (some (pI (-1))), m') ∧ vl m' M 14 = p ∧ TWt m' M B s c' K ∧ TV (B 19) 0 m m' ∧ GR m m' (pcT c K) (pcT c' K)) := by
  have y := h.y
  exact yrd (d := d) (f := 19) (a := B 0) (e := tp.length) (t := gtp tp) (N := 2 * tp.length + 10) (Or.inr rfl) (by omega) h (Or.inl y.b0.1) ⟨by omega, by rw [y.b0.2]; omega, by rw [y.b0.2]; decide⟩ (by omega) (fun j j0 j1 => ht j j0 j1) (fun j j0 j1 => hb _ (by
    unfold gtp gi
    rw [List.getD_eq_getElem?_getD, List.getElem?_eq_getElem (show j.toNat < tp.length by omega)]
    exact List.getElem_mem _))
/-- the end of a patch -/
theorem c226_end {id n0 a3 a4 kk : Int} {z7 : PV} {v : ND × Fo} (hd : 4 ≤ d) (h7 : cat z7 = 1) (h : TWt m M B s c K) (hW : WRK m M B (prV v.1 v.2)) (hw : wfF (foC v.1 v.2 foN)) (hD : DCK n s.now) (hn : n ≤ 64) : ∃ m', TWt m' M B (s.com (insL id v s.now)) c K ∧ vl m' M 4 = (if s.ct < 0 then 0 else 2) ∧ (nx m' = nx m ∧ sl m' = sl m) ∧ rn d 226 201 [pR M, pI id, pI n0, pI a3, pI a4, pI kk, pI (-1), z7] [] m = some (.inl (some (pI (if s.ct < 0 then ((prV v.1 v.2).length : Int) else 0))), m') := by
  have hz := h.tz
  have y := h.y
  have sv := h.sv.1
  have f8 : vl m M 8 = B 8 := y.f (by unfold qf; omega)
  have f20 : vl m M 20 = B 20 := y.f (by unfold qf; omega)
  have ins : prtD (insL id v s.now) = insL id (prV v.1 v.2) (prtD s.now) := insL_mp
  have st : ∀ Z, (if (if s.ct < 0 ∨ s.ct = 3 then (1 : Int) else 0) = 0 then (rn d 226 410 [pR M, pI id, pI n0, pI a3, pI a4, pI kk, pI (-1), z7] [] m) else bV (cl (d - 1) 279 [pR (B 8), pI id, pR (B 20), pI (prV v.1 v.2).length] m) fun m2 => rn d 226 410 [pR M, pI id, pI n0, pI a3, pI a4, pI kk, pI (-1), z7] [] m2) = some Z → rn d 226 201 [pR M, pI id, pI n0, pI a3, pI a4, pI kk, pI (-1), z7] [] m = some Z := fun Z hZ => by
    refine q226_201 (by omega) hz h7 _ ?_
    rw [if_pos (by decide), gd_of y.tm, bI_eq (c215 h), nm_eq, f8, gd_of sv.1.1, f20, hW.1]
    exact hZ
  obtain ⟨m6, k1, k2, k3, k4⟩ : ∃ m6, (∀ Z : Rs × Mem, rn d 226 410 [pR M, pI id, pI n0, pI a3, pI a4, pI kk, pI (-1), z7] [] m6 = some Z → rn d 226 201 [pR M, pI id, pI n0, pI a3, pI a4, pI kk, pI (-1), z7] [] m = some Z) ∧ TWt m6 M B (s.tp, s.res, s.pl, s.dk, s.ct, (if s.ct < 0 ∨ s.ct = 3 then insL id v s.now else s.now), s.rd, s.ix) c K ∧ (nx m6 = nx m ∧ sl m6 = sl m) ∧ vl m6 M 21 = (prV v.1 v.2).length := by
    by_cases z : s.ct < 0 ∨ s.ct = 3
    · have dl := hD.2.1
      obtain ⟨m6, x1, x2, x3, x4⟩ := c279 (d := d - 1) (id := id) (arr := B 20) (ys := prV v.1 v.2) (by omega) hz sv (srt_mp.mpr hD.1) hW.2.1 (prV_asc hw).by ⟨Or.inl y.b20.1, by rw [y.b20.2]; exact hW.2.1⟩ hW.2.2 (fun z => by have := stS_tg sv.1 _ z; rw [y.b20.1] at this; unfold stA at this; omega) (fun _ => by rw [prtD_len]; omega)
      refine ⟨m6, fun Z hZ => st Z (by rw [if_pos z, if_neg (by decide), bV_eq x1]; exact hZ), ?_, ⟨x2.1, x2.2.1⟩, ?_⟩
      · rw [if_pos z]
        exact h.nowc (D' := insL id v s.now) x2 x3 (by rw [ins]; exact x4) rfl
      · rw [x2.2.2.2 M 21 (fun z => by have := stS_tg sv.1 _ z; rw [y.tm] at this; unfold stA at this; omega)]; exact hW.1
    · exact ⟨m, fun Z hZ => st Z (by rw [if_neg z, if_pos rfl]; exact hZ), by rw [if_neg z]; exact h, ⟨rfl, rfl⟩, hW.1⟩
  obtain ⟨m7, z1, z2, z3, z4, z5⟩ := c216 (d := d - 1) (D := insL id v s.now) (by omega) k2
  have y6 := k2.y
  refine ⟨m7, z2, z3, ⟨by rw [z4, k3.1], by rw [z5, k3.2]⟩, k1 _ (q226_410 (by omega) k2.tz h7 _ ?_)⟩
  rw [gd_of y6.tm, bI_eq z1]
  by_cases hc : s.ct < 0
  · rw [if_pos hc, if_pos hc, if_neg (by decide), vl_of (cl_FRM z1) k2.tz y6.tm (by decide) (by decide +kernel), k4]
  · rw [if_neg hc, if_neg hc, if_pos rfl]
/-- a document is patched -/
theorem c226 {id : Int} (hd : 125 ≤ d) (h : TWt m M B s c K) (hq : STq n s) (hn : n ≤ 64) : TWi m M B c K (cl d 226 [pR M, pI id] m) (oPatch s id) vI := by
  have hz := h.tz
  have y := h.y
  have h0 := h.cd (v := 0)
  have y0 := h0.y
  have e194 := c194 (d := d - 1) (id := id) hz
  unfold oPatch
  by_cases q : 0 ≤ id ∧ id < 10000
  · rw [if_neg (fun z => z q)]
    rw [if_pos q] at e194
    have h1 := h0.tape0
    have y1 := h1.y
    have st : ∀ Z, (if b2i s.dk = 0 then (rn d 226 32 [pR M, pI id, pI s.tp.length, pU, pU, pU, pU, pU] [pI 1, pR M] (mst (mst m M 4 0) M 1 0)) else rn d 226 32 [pR M, pI id, pI s.tp.length, pU, pU, pU, pU, pU] [pI 0, pR M] (mst (mst m M 4 0) M 1 0)) = some Z → cl d 226 [pR M, pI id] m = some Z := fun Z hZ => by
      refine q226 (by omega) hz _ ?_
      rw [bI_eq e194, gd_of y.tm, bI_eq (c188_1 hz y.tm), if_neg (by decide), bI_eq (c195 h0), h1.fl.1]
      exact hZ
    cases hdk : s.dk with
    | true =>
      rw [if_pos rfl]
      refine TWi.no (v := 0) h1 (st _ ?_) (by decide) ⟨rfl, rfl⟩
      rw [hdk, if_neg (by decide)]
      exact q226_32 (by omega) h1.tz _ (by rw [gd_of y1.tm, bI_eq (c188_0 h1.tz y1.tm), if_pos rfl])
    | false =>
      rw [if_neg (by decide)]
      have h2 := (h1.cd (v := 0)).place (p := -1)
      have f0 : vl (mst (mst (mst m M 4 0) M 1 0) M 4 0) M 0 = B 0 := (h1.cd (v := 0)).y.f (Or.inl rfl)
      have f19 : vl (mst (mst (mst m M 4 0) M 1 0) M 4 0) M 19 = B 19 := (h1.cd (v := 0)).y.f (by unfold qf; omega)
      obtain ⟨k1, k2⟩ := ytk (d := d - 1) (n := n) (by omega) h2 ⟨⟨by show 0 ≤ _; omega, fun b hb => by cases hb⟩, hq.2.1, hq.2.2.1, hq.2.2.2.1, hq.2.2.2.2.1, hq.2.2.2.2.2⟩ rfl h.tp.2.1 hq.1.2 (fun j j0 j1 => by
        have nb := y.ba.2.1
        rw [vl_mst, if_neg (fun z => nb z.1), vl_mst, if_neg (fun z => nb z.1), vl_mst, if_neg (fun z => nb z.1), vl_mst, if_neg (fun z => nb z.1)]
        exact h.tp.2.2 j j0 j1)
      have n2 : nx (mst (mst (mst (mst m M 4 0) M 1 0) M 4 0) M 5 (-1)) = nx m ∧ sl (mst (mst (mst (mst m M 4 0) M 1 0) M 4 0) M 5 (-1)) = sl m := ⟨rfl, rfl⟩
      have st2 : ∀ Z, (bI (cl (d - 1) 196 [pR M, pR (B 0), pI s.tp.length, pR (B 19)] (mst (mst (mst (mst m M 4 0) M 1 0) M 4 0) M 5 (-1))) fun v2 m2 => if v2 < 0 then (some (.inl (some (pI 0)), (mst (mst m2 M 5 (vl m2 M 14)) M 4 3))) else nm (vl m2 M 8) fun v4 => gd (tg m2 v4 = 12) <| bI (cl (d - 1) 278 [pR v4, pI id] m2) fun v3 m3 => if v3 < 0 then (rn d 226 100 [pR M, pI id, pI s.tp.length, pI v2, pI v3, pU, pU, pU] [pI 0, pR M] m3) else rn d 226 100 [pR M, pI id, pI s.tp.length, pI v2, pI v3, pU, pU, pU] [pI 1, pR M] m3) = some Z → cl d 226 [pR M, pI id] m = some Z := fun Z hZ => st _ (by
        rw [hdk, if_pos (show b2i false = 0 from rfl)]
        refine q226_32 (by omega) h1.tz _ ?_
        rw [gd_of y1.tm, bI_eq (c188_1 h1.tz y1.tm), if_neg (by decide), gd_of (h1.cd (v := 0)).y.tm, f0, f19]
        exact hZ)
      cases hR : sRdT s.tp with
      | none => exact absurd hR (sRdT_some _)
      | some r =>
        cases r with
        | inl p =>
          obtain ⟨m3, c3, e1, e2, e3, -, e5⟩ := k2 p hR
          refine ⟨mst (mst m3 M 5 p) M 4 3, c3, K, 0, st2 _ (by rw [bI_eq e1, if_pos (by decide), e2]), by rw [vl_mst, if_pos ⟨rfl, rfl⟩], fun z => absurd z (by simp), (e3.place (p := p)).cd, ?_⟩
          have e6 : nx (mst (mst m3 M 5 p) M 4 3) = nx m3 ∧ sl (mst (mst m3 M 5 p) M 4 3) = sl m3 := ⟨rfl, rfl⟩
          unfold CTT; unfold GR at e5; omega
        | inr F =>
          obtain ⟨nd, l, rfl, m3, c3, e1, h3, ho, -, gr3⟩ := k1 F hR
          obtain ⟨hw, hdp, hnm, hcn⟩ := rd_ok (t := gtp s.tp) (e := s.tp.length) (n := 2 * s.tp.length + 10) hR
          have hle := sRd_le (t := gtp s.tp) (e := s.tp.length) (n := 2 * s.tp.length + 10) hR (by omega)
          rw [prV_er] at hle
          have h3tp := h.tp.2.1
          obtain ⟨nT, us, CT, tw, tn, nl, -, -, -, -, -⟩ := ho
          have y3 := h3.y
          have sv3 := h3.sv.1
          have ctt : ∀ m5 c5, nx m5 = nx m3 ∧ sl m5 = sl m3 ∧ c5 = c3 → CTT m (pcT c K) m5 (pcT c5 K) := fun m5 c5 h5 => by
            obtain ⟨q1, q2, q3⟩ := h5
            rw [q3]
            unfold CTT; unfold GR at gr3; omega
          obtain ⟨g1, g2⟩ := c278_D (d := d - 1) (id := id) h3.tz sv3
          have f8 : vl m3 M 8 = B 8 := y3.f (by unfold qf; omega)
          show TWi m M B c K _ (match lkL id s.now with
            | none => (4, 0, (s.wtp []).wpl (-1))
            | some v => if nd.1 ≠ 5 then (5, 0, (s.wtp []).wpl (-1)) else match pRn (erF l) (0, v.1, v.2) 0 with
              | .inr (some k) => (5, 0, (s.wtp []).wpl k)
              | .inr none => (6, 0, (s.wtp []).wpl (-1))
              | .inl v' => if s.ct < 0 then (0, (prV v'.2.1 v'.2.2).length, ((s.wtp []).wpl (-1)).com (insL id v'.2 s.now)) else (2, 0, ((s.wtp []).wpl (-1)).com (insL id v'.2 s.now))) vI
          cases hl : lkL id s.now with
          | none =>
            refine ⟨mst m3 M 4 4, c3, K, 0, st2 _ ?_, by rw [vl_mst, if_pos ⟨rfl, rfl⟩], fun z => absurd z (by simp), h3.cd, ctt _ _ ⟨rfl, rfl, rfl⟩⟩
            rw [bI_eq e1, if_neg (by decide), nm_eq, f8, gd_of sv3.1.1, bI_eq (g1 hl), if_pos (by decide)]
            exact q226_100 (by omega) h3.tz _ (by rw [gd_of y3.tm, bI_eq (c188_0 h3.tz y3.tm), if_pos rfl])
          | some v =>
            obtain ⟨Ah, C, x1, x2, x3⟩ := g2 v hl
            have h4 := h3.cd (v := 0)
            have y4 := h4.y
            have hT4 : TLD (mst m3 M 4 0) (B 19) nT CT us (nv m3 (B 19)) := TLD.mf ⟨tw, fun _ _ _ _ => rfl⟩ y3.tm h3.tz
            have l0 := hT4.1.ld (f := 0) ⟨by decide, by decide⟩ (by decide)
            have hc := hT4.1.2.2.2.2.2.2.1
            have ek : vl (mst m3 M 4 0) (vl (mst m3 M 4 0) (B 19) 0) 0 = kT nd.1 := by
              have := hT4.2 0 0 (by decide) (by decide)
              rw [show nv m3 (B 19) 0 0 = kT nd.1 from tn.2.1] at this
              exact this
            have f19' : vl (mst m3 M 4 0) M 19 = B 19 := y4.f (by unfold qf; omega)
            have n0' : (0 : Int) < nT := tn.1
            have st3 : ∀ Z, (if kT nd.1 = 5 then (rn d 226 126 [pR M, pI id, pI s.tp.length, pI 0, pI Ah.length, pU, pU, pU] [pI 1, pR M] (mst m3 M 4 0)) else rn d 226 126 [pR M, pI id, pI s.tp.length, pI 0, pI Ah.length, pU, pU, pU] [pI 0, pR M] (mst m3 M 4 0)) = some Z → cl d 226 [pR M, pI id] m = some Z := fun Z hZ => st2 _ (by
              rw [bI_eq e1, if_neg (by decide), nm_eq, f8, gd_of sv3.1.1, bI_eq x3, if_neg (by omega)]
              refine q226_100 (by omega) h3.tz _ ?_
              rw [gd_of y3.tm, bI_eq (c188_1 h3.tz y3.tm), if_neg (by decide), gd_of y4.tm, nm_eq, f19', gd_of hT4.1.1, nm_eq, gd_of l0.1, gd_of ⟨by decide, by rw [l0.2]; omega⟩, ek]
              exact hZ)
            dsimp only
            by_cases h5 : nd.1 = 5
            · rw [if_neg (fun z => z h5)]
              have h5' := h4.cd (v := 0)
              have y5 := h5'.y
              have sv5 := h5'.sv.1
              have f8' : vl (mst (mst m3 M 4 0) M 4 0) M 8 = B 8 := y5.f (by unfold qf; omega)
              rw [x1] at sv5
              obtain ⟨A1, A2, A3, A4⟩ := sv5
              have en := (EnL.app.mp A4).2
              rw [Int.zero_add] at en
              have en := en.1
              rw [List.length_append, List.length_cons] at A3
              push_cast at A3
              have ai : 0 ≤ (Ah.length : Int) ∧ (Ah.length : Int) < 100 := by omega
              have hk := hq.2.2.2.1.lk hl
              obtain ⟨⟨hG, hE⟩, hd32, hp480⟩ := hk
              have h6 : TWt (mst (mst (mst m3 M 4 0) M 4 0) M 21 (prV v.1 v.2).length) M B ((s.wtp []).wpl (-1)) c3 K := h5'.mf (by unfold uf; omega)
              have y6 := h6.y
              have S6 : SFr (fun a j => a = M ∧ j = 21) (mst (mst m3 M 4 0) M 4 0) (mst (mst (mst m3 M 4 0) M 4 0) M 21 (prV v.1 v.2).length) := SFr.mst
              have nst : ∀ a, stA (tg (mst (mst m3 M 4 0) M 4 0) a) → a ≠ M := fun a ha z => by rw [z, y5.tm] at ha; unfold stA at ha; omega
              have n12 : B 8 ≠ M := fun z => by have := A1.1; rw [z, y5.tm] at this; omega
              have hT6 := (hT4.mf (f := 4) (v := 0) y4.tm h4.tz).mf (f := 21) (v := (prV v.1 v.2).length) y5.tm h5'.tz
              obtain ⟨m7, j1, j2, j3, -⟩ := c226_152 (d := d) (M := M) (B := B) (a1 := id) (a2 := s.tp.length) (a3 := 0) (a4 := Ah.length) (x := (id, prV v.1 v.2)) (t := 0) ai ⟨by decide, n0'⟩ (by show ((prV v.1 v.2).length : Int) ≤ 480; omega) _ (mst (mst (mst m3 M 4 0) M 4 0) M 21 (prV v.1 v.2).length) 0 rfl (by decide) (by show (0 : Int) ≤ ((prV v.1 v.2).length : Nat); omega) h6.tz y6 ((A1.sf S6 h5'.tz ⟨fun f _ _ z => n12 z.1, fun a _ ha z => nst a ha z.1⟩).1) (en.sf A1 ai S6 h5'.tz ⟨fun f _ _ z => n12 z.1, fun a _ ha z => nst a ha z.1⟩) (by rw [vl_mst, if_pos ⟨rfl, rfl⟩]) hT6
              have h7 := h6.wrk j2
              have hT7 := hT6.nc j2 h6.tz fun a z => by rw [z]; exact y6.b20.1
              have hW7 : WRK m7 M B (prV v.1 v.2) := ⟨by rw [j2.2.2.2 M 21 (fun z => y6.ba.2.2.2.2.1 z.symm), vl_mst, if_pos ⟨rfl, rfl⟩], by omega, fun j j0 j1 => j3 j j0 j1⟩
              have n7 : nx m7 = nx m3 ∧ sl m7 = sl m3 := ⟨j2.1, j2.2.1⟩
              have st4 : ∀ {Z : Rs × Mem}, rn d 226 201 [pR M, pI id, pI s.tp.length, pI 0, pI Ah.length, pI 0, pI (hdI l), pU] [] m7 = some Z → cl d 226 [pR M, pI id] m = some Z := fun {Z} hZ => st3 _ (by
                rw [if_pos (kT_5i.mpr h5)]
                refine q226_126 (by omega) h4.tz _ ?_
                rw [gd_of y4.tm, bI_eq (c188_1 h4.tz y4.tm), if_neg (by decide), gd_of y5.tm, nm_eq, f8', gd_of A1.1, nm_eq, gd_of A1.2.2.1.1, gd_of ⟨ai.1, by rw [A1.2.2.1.2]; exact ai.2⟩, en.2.1]
                refine j1 ?_
                rw [show nv m3 (B 19) 4 0 = hdI l from tn.2.2.2.2.1]
                exact hZ)
              have tf : TF (nv m3 (B 19)) us nT ((0 : Nat) : Int) false l := by
                have := tn.2.2.2.2.2
                rw [h5] at this
                exact this
              have hcl : cnF false (erF l) := by
                have := hcn.2.2.1
                rw [h5] at this
                exact this
              have hdl : dpF l ≤ 32 := by
                have : dpV nd l = 1 + dpF l := by unfold dpV; rw [if_neg (by omega)]
                omega
              have hpl : (prF false false l).length ≤ 1280 := by
                have hh := prF_prV hw
                rw [h5] at hh
                have hh : (prF false true l).length ≤ (prV nd l).length := hh
                have h2' : (prV nd l).length = (prF false true l).length + 2 := by
                  unfold prV prD
                  rw [h5, if_neg (by decide), if_neg (by decide), if_neg (by decide), if_neg (by decide), if_neg (by decide), if_pos rfl]
                  simp only [List.length_cons, List.length_append, List.length_nil]
                  rfl
                cases l with
                | leaf => rw [show prF false false (.leaf : Fo) = [] from prF_leaf _ _]; exact Nat.zero_le _
                | inner a1 a2 a3 a4 a5 =>
                  rw [prF_false (by intro z; cases z), List.length_cons]
                  omega
              have hsz : szF l ≤ 1280 := by
                have := prF_len (erF l) false true (wfF_er l |>.mpr hw.2.2.2.2.1) hcl
                rw [szF_er, unF_er, prF_er] at this
                have hh := prF_prV hw
                rw [h5] at hh
                have hh : (prF false true l).length ≤ (prV nd l).length := hh
                omega
              have lp := c226_201 (d := d) (id := id) (n0 := s.tp.length) (a3 := 0) (a4 := Ah.length) (by omega) l m7 c3 ((0 : Nat), v.1, v.2) 0 pU rfl tf hw.2.2.2.2.1 hcl hdl hpl (by omega) h7 hW7 hT7 hG hE hd32 hp480
              revert lp
              cases pRn (erF l) (0, v.1, v.2) 0 with
              | inr o =>
                cases o with
                | none =>
                  rintro ⟨m', c', r1, r2, r3, r4⟩
                  refine ⟨m', c', K, 0, st4 r1, r3, fun z => absurd z (by simp), r2, ?_⟩
                  unfold CTT; unfold GR at gr3 r4; omega
                | some j =>
                  rintro ⟨m', c', r1, r2, r3, r4⟩
                  refine ⟨m', c', K, 0, st4 r1, r3, fun z => absurd z (by simp), r2, ?_⟩
                  unfold CTT; unfold GR at gr3 r4; omega
              | inl v' =>
                rintro ⟨m', c', z7, kk, r1, r2, r3, r4, ⟨r5, r6, r7, r8⟩, r9⟩
                obtain ⟨m8, p1, p2, p3, p4⟩ := c226_end (d := d) (n := n) (id := id) (n0 := s.tp.length) (a3 := 0) (a4 := Ah.length) (kk := kk) (v := v'.2) (by omega) r1 r3 r4 r5.2.2.1 hq.2.2.2.1 hn
                have ctt8 : CTT m (pcT c K) m8 (pcT c' K) := by unfold CTT; unfold GR at gr3 r9; omega
                show TWi m M B c K _ (if s.ct < 0 then _ else _) vI
                by_cases hc : s.ct < 0
                · rw [if_pos (show ((s.wtp []).wpl (-1)).ct < 0 from hc)] at p2 p4
                  rw [if_pos hc]
                  exact ⟨m8, c', K, _, st4 (r2 p4), p2, fun _ => rfl, p1, ctt8⟩
                · rw [if_neg (show ¬ ((s.wtp []).wpl (-1)).ct < 0 from hc)] at p2 p4
                  rw [if_neg hc]
                  exact ⟨m8, c', K, 0, st4 (r2 p4), p2, fun z => absurd z (by simp), p1, ctt8⟩
            · rw [if_pos h5]
              refine ⟨mst (mst m3 M 4 0) M 4 5, c3, K, 0, st3 _ ?_, by rw [vl_mst, if_pos ⟨rfl, rfl⟩], fun z => absurd z (by simp), h4.cd, ctt _ _ ⟨rfl, rfl, rfl⟩⟩
              rw [if_neg (fun z => h5 (kT_5i.mp z))]
              exact q226_126 (by omega) h4.tz _ (by rw [gd_of y4.tm, bI_eq (c188_0 h4.tz y4.tm), if_pos rfl])
  · rw [if_pos q]
    rw [if_neg q] at e194
    exact TWi.no (v := 0) h (q226 (by omega) hz _ (by rw [bI_eq e194, gd_of y.tm, bI_eq (c188_0 hz y.tm), if_pos rfl])) (by decide) ⟨rfl, rfl⟩
end
