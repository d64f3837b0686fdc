/-! the twin: a document is patched -/
set_option maxRecDepth 100000
set_option maxHeartbeats 4000000
theorem TW.capq {m : Mem} {t n n' C C' : Int} {us us' : List Int} (h : TW m t n us C) (h' : TW m t n' us' C') : C = C' := ((h.2.1 0 (by decide) (by decide) (by decide)).2).symm.trans (h'.2.1 0 (by decide) (by decide) (by decide)).2
section
variable {d n : Nat} {m m1 : Mem} {M : Int} {B : Int → Int} {s : St} {c : Int → Int} {K : Int} {f : Int → Option PV}
theorem TLD.ox {D NT CN C C' t n CT : Int} {us : List Int} {g : RF} (h : TLD m t n CT us g) (o : OX D NT CN m C m1 C') (h1 : t ≠ D) (h2 : t ≠ NT) : TLD m1 t n CT us g := ⟨(o.2.2.1 t h1 h2 n us CT h.1).1, fun f j f0 f1 => by rw [(o.2.2.1 t h1 h2 n us CT h.1).2.1 f j f0 f1]; exact h.2 f j f0 f1⟩
/-- a value, from its tree, at any node -/
theorem ypx {t n C : Int} {us : List Int} {x : Nat} {nd : ND} {l : Fo} (hd : hI l + 20 ≤ d) (h : TWt m M B s c K) (tw : TW m t n us C) (tn : TN (nv m t) us n x nd l) (nl : (idF l).Nodup) (hw : wfF (foC nd l foN)) : ∃ mb m', cl d 209 [pR M] m = some (.inl none, mb) ∧ TWt mb M B s c K ∧ (∀ f, f ≠ 16 → f ≠ 17 → vl mb M f = vl m M f) ∧ cl d 210 [pR M, pR t, pI x] mb = some (.inl none, m') ∧ WK m' M (prV nd l) ∧ TWt m' M B s c K ∧ WF M m m' ∧ WK mb M [] ∧ WF M m mb ∧ WF M mb m' := by
  obtain ⟨b1, b2, b3, b4⟩ := h.beg (d := d)
  obtain ⟨w1, w2⟩ := TW.beg h tw
  have tn' : TN (nv (mst (mst m M 16 0) M 17 0) t) us n x nd l := tn.keep0 (fun f j f0 f1 _ => w2 f j f0 f1) (fun f f0 f1 => w2 f _ f0 (by omega))
  obtain ⟨m', e1, e2, e3⟩ := c210 (d := d) (M := M) (x := x) (by omega) hw (b4.wps w1) b2 tn' nl
  rw [List.nil_append] at e2
  exact ⟨_, m', b1, b4, fun f h16 h17 => by rw [vl_mst, if_neg (fun z => h17 z.2), vl_mst, if_neg (fun z => h16 z.2)], e1, e2, b4.wf b2 e3, b3.tr (by rw [vl_mst, if_neg (by omega), vl_mst, if_neg (by omega)]) e3, b2, b3, e3⟩
/-- steps of a patch, one after another -/
theorem c226_201 {id n0 a3 a4 : Int} {nT CT : Int} {us : List Int} {g : RF} {p : Int} (hd : 120 ≤ d) : ∀ (R : Fo) (m : Mem) (c : Int → Int) (w : Vl) (k : Nat) (z7 : PV), cat z7 = 1 → TF g us nT p false R → wfF R → cnF false (erF R) → dpF R ≤ 32 → (prF false false R).length ≤ 1280 → k + szF R ≤ 5000 → TWt m M B s c K → WRK m M B (prV w.2.1 w.2.2) → TLD m (B 19) nT CT us g → GV w → erF w.2.2 = w.2.2 → dpV w.2.1 w.2.2 ≤ 32 → (prV w.2.1 w.2.2).length ≤ 480 →
    match pRn (erF R) w k with
    | .inl w' => ∃ m' c' z7' kk, cat z7' = 1 ∧ (∀ {Z : Rs × Mem}, rn d 226 201 [pR M, pI id, pI n0, pI a3, pI a4, pI kk, pI (-1), z7'] [] m' = some Z → rn d 226 201 [pR M, pI id, pI n0, pI a3, pI a4, pI k, pI (hdI R), z7] [] m = some Z) ∧ TWt m' M B s c' K ∧ WRK m' M B (prV w'.2.1 w'.2.2) ∧ (GV w' ∧ erF w'.2.2 = w'.2.2 ∧ dpV w'.2.1 w'.2.2 ≤ 32 ∧ (prV w'.2.1 w'.2.2).length ≤ 480) ∧ GR m m' (pcT c K) (pcT c' K)
    | .inr (some j) => ∃ m' c', rn d 226 201 [pR M, pI id, pI n0, pI a3, pI a4, pI k, pI (hdI R), z7] [] m = some (.inl (some (pI 0)), m') ∧ TWt m' M B (s.wpl j) c' K ∧ vl m' M 4 = 5 ∧ GR m m' (pcT c K) (pcT c' K)
    | .inr none => ∃ m' c', rn d 226 201 [pR M, pI id, pI n0, pI a3, pI a4, pI k, pI (hdI R), z7] [] m = some (.inl (some (pI 0)), m') ∧ TWt m' M B s c' K ∧ vl m' M 4 = 6 ∧ GR m m' (pcT c K) (pcT c' K) := by
  intro R
  induction R with
  | leaf =>
    intro m c w k z7 h7 _ _ _ _ _ _ h hW hT hG hE hdp hpl
    exact ⟨m, c, z7, k, h7, fun hZ => hZ, h, hW, ⟨hG, hE, hdp, hpl⟩, GR.refl⟩
  | inner i od u ol r ihl ihr =>
    intro m c w k z7 h7 hF hwf hcn hdR hpR hk h hW hT hG hE hdp hpl
    obtain ⟨t1, t2, t3, t4, t5, t6, t7, t8, t9, t10⟩ := hF
    obtain ⟨v1, v2, v3, v4, v5, v6⟩ := hwf
    obtain ⟨x1, x2, x3, x4⟩ := hcn
    have hdo : (if od.1 < 5 then 0 else 1 + dpF ol) ≤ 32 ∧ dpF r ≤ 32 := by
      have hdR : max (if od.1 < 5 then 0 else 1 + dpF ol) (dpF r) ≤ 32 := hdR
      omega
    have hdl : dpF ol ≤ 32 := by
      rcases Nat.lt_or_ge od.1 5 with q | q
      · rw [v3 q]; exact Nat.zero_le _
      · have := hdo.1; rw [if_neg (by omega)] at this; omega
    rw [prF_inner] at hpR
    simp only [List.length_append] at hpR
    have wo : wfF (foC (noN od) ol foN) := ⟨⟨v1.1, v1.2.1, v1.2.2.1, v1.2.2.2.1, fun x hx => by cases hx⟩, v2, v3, v4, v5, trivial⟩
    have cno : cnF false (foC (noN od) (erF ol) foN) := ⟨rfl, ⟨x2.1, x2.2.1, fun _ => rfl, trivial⟩, x3, trivial⟩
    have go : GV (0, noN od, erF ol) := ⟨rfl, rfl, wfV_er.mpr wo, cno⟩
    have pl1 : (prF ((noN od).1 == 6) true ol).length ≤ (prV od ol).length := prF_prV (d := noN od) wo
    have hsz : szF ol + unF ((noN od).1 == 6) ol ≤ (prF ((noN od).1 == 6) true ol).length := by
      have := prF_len (erF ol) ((noN od).1 == 6) true (wfF_er ol |>.mpr v5) x3
      rw [szF_er, unF_er, prF_er] at this
      exact this
    have hkr : szF (.inner i od u ol r : Fo) = 1 + szF ol + szF r := rfl
    rw [hkr] at hk
    have y := h.y
    have hz := h.tz
    obtain ⟨n1, n2, n3, n4, n5, n6, n7, n8, n9, n10⟩ := y.ne
    -- the text is read
    obtain ⟨g1, g2, g3, g4⟩ := hG
    have as := prV_asc g3
    have lw := hW.2.1
    have srd : sRd (fun j => gi (prV w.2.1 w.2.2) j) (prV w.2.1 w.2.2).length (2 * (prV w.2.1 w.2.2).length + 10) = some (.inr (foC w.2.1 w.2.2 foN)) := sRd_pr g3 g4 hdp rfl (AtT.of (fun _ _ _ => rfl) as) (by omega)
    obtain ⟨k1, -⟩ := yrd (d := d - 1) (f := 18) (a := B 20) (e := (prV w.2.1 w.2.2).length) (t := fun j => gi (prV w.2.1 w.2.2) j) (N := 2 * (prV w.2.1 w.2.2).length + 10) (Or.inl rfl) (by omega) h (Or.inl y.b20.1) ⟨by omega, by rw [y.b20.2]; omega, by rw [y.b20.2]; decide⟩ (by omega) (fun j j0 j1 => hW.2.2 j j0 j1) (fun j j0 j1 => as.by _ (by
      show gi _ _ ∈ _
      unfold gi
      rw [List.getD_eq_getElem?_getD, List.getElem?_eq_getElem (show j.toNat < (prV w.2.1 w.2.2).length by omega)]
      exact List.getElem_mem _))
    obtain ⟨nd, l, e0, m1, c1, e1, h1, ⟨nD, uD, CD, tw, tn, nl, il, ⟨sz1, sz2⟩, -, wD, cD⟩, tv1, gr1⟩ := k1 _ srd
    injection e0 with _ e01 _ e02 _
    have y1 := h1.y
    have hT1 := hT.tv tv1 n1.symm
    have hW1 := hW.cl y hz e1 (by decide +kernel)
    -- its root
    have h2 : TWt (mst m1 M 26 0) M B s c1 K := h1.mf (by unfold uf; omega)
    have y2 := h2.y
    have hT2 := hT1.mf (f := 26) (v := 0) y1.tm h1.tz
    have hW2 := hW1.mf (f := 26) (v := 0) y1 h1.tz (by decide)
    have tw2 : TLD (mst m1 M 26 0) (B 18) nD CD uD (nv m1 (B 18)) := TLD.mf ⟨tw, fun _ _ _ _ => rfl⟩ y1.tm h1.tz
    have tn2 : TNv (nv (mst m1 M 26 0) (B 18)) uD nD ((0 : Nat), nd, l) := TN.keep0 tn (fun f j f0 f1 _ => tw2.2 f j f0 f1) (fun f f0 f1 => tw2.2 f _ f0 (by omega))
    have hDS : DS (mst m1 M 26 0) M (B 18) ((0 : Nat), nd, l) nD uD CD := ⟨h2.1.2.1, y2.tm, y2.f (by unfold qf; omega), tw2.1, wD, tn2, List.nodup_cons.mpr ⟨fun z => absurd (il 0 z) (by decide), nl⟩, by rw [vl_mst, if_pos ⟨rfl, rfl⟩]; rfl⟩
    have tno : TNv (nv (mst m1 M 26 0) (B 19)) us nT (i, noN od, ol) := TN.keep0 (g := g) ⟨t1, t2, t3, t4, t7, t9⟩ (fun f j f0 f1 _ => hT2.2 f j f0 f1) (fun f f0 f1 => hT2.2 f _ f0 (by omega))
    have hOT : OT (mst m1 M 26 0) M (B 19) nT CT us (i, noN od, ol) := ⟨h2.ok, y2.tm, y2.f (by unfold qf; omega), hT2.1, tno, h2.1.2.2.2.osc⟩
    obtain ⟨⟨r1, r2, ⟨nn, un, CN, q1, q2, q3, q4⟩, r4⟩, r5⟩ := h2.tr
    obtain ⟨pD, oD, CD', p1, p2, p3, p4⟩ := r1
    have ecd : CD' = CD := p1.capq tw2.1
    rw [ecd] at p2 p3
    have hNTS : NTS (mst m1 M 26 0) M (B 25) CN := ⟨y2.f (by unfold qf; omega), by rw [y2.f (by unfold qf; omega)]; exact y2.b22, by rw [y2.f (by unfold qf; omega)]; exact y2.b23, by rw [y2.f (by unfold qf; omega), y2.f (by unfold qf; omega)]; exact y2.n22, nn, un, q1⟩
    have wl : wfF (foC nd l foN) := by rw [← wfV_er, ← e01, ← e02]; exact g3
    have psz := prV_sz g3 g4
    rw [e01, e02, szF_er, unF_er] at psz
    have hpl' := hpl
    rw [e01, e02] at hpl'
    have dpl : dpV nd l ≤ 32 := by rw [← dpV_er, ← e01, ← e02]; exact hdp
    have g2' : nd.2.2.2 = [] := by rw [← e01]; exact g2
    have ew : erV ((0 : Nat), nd, l) = w := by
      obtain ⟨w0, w1, w2⟩ := w
      have g1 : w0 = 0 := g1
      have e01 : w1 = nd := e01
      have e02 : w2 = erF l := e02
      rw [g1, e01, e02]; rfl
    have op := c227 (d := d - 1) (by omega) hOT hDS hNTS ⟨n1, n2, n5⟩ ⟨by omega, by omega, by show szF l ≤ 3000; omega, by show 1 + szF l + nd.2.2.1.length + unF (nd.1 == 6) l ≤ 3000; omega⟩ dpl wl g2' wo hdl (show szF ol + unF ((noN od).1 == 6) ol ≤ 1300 by omega) (show (prF ((noN od).1 == 6) true ol).length ≤ 1290 by omega)
    rw [ew, show erV (i, noN od, ol) = ((0 : Nat), noN od, erF ol) from rfl] at op
    have st : ∀ Z, (bI (cl (d - 1) 227 [pR M, pI (i : Int)] (mst m1 M 26 0)) fun v4 m4 => if v4 = 0 then (some (.inl (some (pI 0)), (mst (mst m4 M 5 (k : Int)) M 4 5))) else nm (vl m4 M 18) fun v7 => gd (tg m4 v7 = 13) <| bI (cl (d - 1) 296 [pR v7, pI (vl m4 M 26)] m4) fun v5 m5 => if 32 < v5 then (rn d 226 270 [pR M, pI id, pI n0, pI a3, pI a4, pI (k : Int), pI (i : Int), z7] [pI 0, pR M] m5) else rn d 226 270 [pR M, pI id, pI n0, pI a3, pI a4, pI (k : Int), pI (i : Int), z7] [pI 1, pR M] m5) = some Z → rn d 226 201 [pR M, pI id, pI n0, pI a3, pI a4, pI (k : Int), pI (hdI (.inner i od u ol r)), z7] [] m = some Z := fun Z hZ => by
      show rn d 226 201 [pR M, pI id, pI n0, pI a3, pI a4, pI (k : Int), pI (i : Int), z7] [] m = some Z
      refine q226_201 (by omega) hz h7 _ ?_
      rw [if_neg (by omega), gd_of y.tm, y.f (f := 20) (by unfold qf; omega), hW.1, y.f (f := 18) (by unfold qf; omega), bI_eq e1]
      exact hZ
    show match (match pSt (0, noN od, erF ol) w with
      | none => Sum.inr (some k)
      | some v' => if 32 < dpV v'.2.1 v'.2.2 then Sum.inr none else if 480 < (prV v'.2.1 v'.2.2).length then Sum.inr none else pRn (erF r) v' (k + 1)) with
      | .inl w' => _
      | .inr (some j) => _
      | .inr none => _
    cases hp : pSt (0, noN od, erF ol) w with
    | none =>
      rw [hp] at op
      obtain ⟨m3, n', us', C', f1, f2, f3⟩ := op
      obtain ⟨c3, h3, gr3⟩ := h2.ox f1 ⟨p2, p3, p4⟩ q1 ⟨q2, q3, q4⟩ f3 f2
      refine ⟨mst (mst m3 M 5 (k : Int)) M 4 5, c3, st _ (by rw [bI_eq f1, if_pos rfl]), (h3.place (p := (k : Int))).cd, by rw [vl_mst, if_pos ⟨rfl, rfl⟩], gr1.trans gr3⟩
    | some v' =>
      rw [hp] at op
      obtain ⟨m3, v'', n', us', C', f1, f2, f3, f4⟩ := op
      obtain ⟨d1, d2⟩ := dpS (o := (0, noN od, erF ol)) ⟨g1, g2, g3, g4⟩ go hdp (by rw [show ((0 : Nat), noN od, erF ol).2.2 = erF ol from rfl, dpF_er]; exact hdl) hp
      obtain ⟨s1, s2, s3, s4, s5, s6, s7, s8⟩ := f3
      obtain ⟨c3, h3, gr3⟩ := h2.ox f1 ⟨p2, p3, p4⟩ q1 ⟨q2, q3, q4⟩ f4 s4
      have y3 := h3.y
      have hT3 := hT2.ox f4 n1.symm n5
      have hW3 := hW2.cl y2 h2.tz f1 (by decide +kernel)
      have ev1 : v'.2.1 = v''.2.1 := by rw [← f2]; rfl
      have ev2 : v'.2.2 = erF v''.2.2 := by rw [← f2]; rfl
      have w3 : wfF (foC v''.2.1 v''.2.2 foN) := by rw [← wfV_er, ← ev1, ← ev2]; exact d2.2.2.1
      have ed : dpV v'.2.1 v'.2.2 = dpV v''.2.1 v''.2.2 := by rw [ev1, ev2, dpV_er]
      have ep : prV v'.2.1 v'.2.2 = prV v''.2.1 v''.2.2 := by rw [ev1, ev2, prV_er]
      have hI3 := hI_dq w3
      have e296 := c296 (d := d - 1) s4 h3.ok s6 w3 (by omega) (by
        have hh := hI_dp w3.2.2.2.2.1
        rcases Nat.lt_or_ge v''.2.1.1 5 with q | q
        · rw [w3.2.2.1 q]; exact Nat.zero_le _
        · have : dpV v''.2.1 v''.2.2 = 1 + dpF v''.2.2 := by unfold dpV; rw [if_neg (by omega)]
          omega)
      have st2 : ∀ Z, (if 32 < (dpV v''.2.1 v''.2.2 : Int) then (rn d 226 270 [pR M, pI id, pI n0, pI a3, pI a4, pI (k : Int), pI (i : Int), z7] [pI 0, pR M] m3) else rn d 226 270 [pR M, pI id, pI n0, pI a3, pI a4, pI (k : Int), pI (i : Int), z7] [pI 1, pR M] m3) = some Z → rn d 226 201 [pR M, pI id, pI n0, pI a3, pI a4, pI (k : Int), pI (hdI (.inner i od u ol r)), z7] [] m = some Z := fun Z hZ => st _ (by
        rw [bI_eq f1, if_neg (by decide), nm_eq, s3, gd_of s4.1, s8, bI_eq e296]
        exact hZ)
      dsimp only
      by_cases z1 : 32 < dpV v'.2.1 v'.2.2
      · rw [if_pos z1]
        refine ⟨mst m3 M 4 6, c3, st2 _ ?_, h3.cd, by rw [vl_mst, if_pos ⟨rfl, rfl⟩], gr1.trans gr3⟩
        rw [if_pos (by omega)]
        exact q226_270 (by omega) h3.tz h7 _ (by rw [gd_of y3.tm, bI_eq (c188_0 h3.tz y3.tm), if_pos rfl])
      · rw [if_neg z1]
        have h4 := h3.cd (v := 0)
        have y4 := h4.y
        have tw4 : TLD (mst m3 M 4 0) (B 18) n' C' us' (nv m3 (B 18)) := TLD.mf ⟨s4, fun _ _ _ _ => rfl⟩ y3.tm h3.tz
        have tn4 : TN (nv (mst m3 M 4 0) (B 18)) us' n' v''.1 v''.2.1 v''.2.2 := TN.keep0 s6 (fun f j f0 f1 _ => tw4.2 f j f0 f1) (fun f f0 f1 => tw4.2 f _ f0 (by omega))
        have hT4 := hT3.mf (f := 4) (v := 0) y3.tm h3.tz
        obtain ⟨mb, m6, b1, b2, b3, b4, b5, b6, b7, b8, b9, b10⟩ := ypx (d := d - 1) (by omega) h4 tw4.1 tn4 (List.nodup_cons.mp s7).2 w3
        have yb := b2.y
        have y6 := b6.y
        have hTb := (hT4.sf (SFr.wf b9) h4.tz ⟨fun f _ _ z => by
          rcases z with z | z
          · rw [y4.f (by unfold qf; omega)] at z; have := hT4.1.1; rw [z] at this; have := y4.b15.1; omega
          · have := hT4.1.1; rw [z.1] at this; have := y4.tm; omega, fun a j ha z => by
          rcases z with z | z
          · rw [y4.f (by unfold qf; omega)] at z; rw [z, y4.b15.1] at ha; unfold trA at ha; omega
          · rw [z.1, y4.tm] at ha; unfold trA at ha; omega⟩)
        have hT6 := hTb.wf b8 b10
        have st3 : ∀ Z, (if (vl m6 M 17) = 0 then (if 480 < (vl m6 M 16) then (rn d 226 319 [pR M, pI id, pI n0, pI a3, pI a4, pI (k : Int), pI (i : Int), z7] [pI 0, pR M] m6) else rn d 226 319 [pR M, pI id, pI n0, pI a3, pI a4, pI (k : Int), pI (i : Int), z7] [pI 1, pR M] m6) else rn d 226 319 [pR M, pI id, pI n0, pI a3, pI a4, pI (k : Int), pI (i : Int), z7] [pI 0, pR M] m6) = some Z → rn d 226 201 [pR M, pI id, pI n0, pI a3, pI a4, pI (k : Int), pI (hdI (.inner i od u ol r)), z7] [] m = some Z := fun Z hZ => st2 _ (by
          rw [if_neg (by omega)]
          refine q226_270 (by omega) h3.tz h7 _ ?_
          rw [gd_of y3.tm, bI_eq (c188_1 h3.tz y3.tm), if_neg (by decide), gd_of y4.tm, bV_eq b1, yb.f (by unfold qf; omega), b3 26 (by decide) (by decide), vl_mst, if_neg (by omega), s8, bV_eq b4]
          exact hZ)
        have no : ∀ {Z : Rs × Mem}, Z = (.inl (some (pI 0)), mst m6 M 4 6) → rn d 226 319 [pR M, pI id, pI n0, pI a3, pI a4, pI (k : Int), pI (i : Int), z7] [pI 0, pR M] m6 = some Z := fun hZ => by
          rw [hZ]
          exact q226_319 (by omega) b6.tz h7 _ (by rw [gd_of y6.tm, bI_eq (c188_0 b6.tz y6.tm), if_pos rfl])
        have gr6 : GR m m6 (pcT c K) (pcT c3 K) := (gr1.trans gr3).trans (by unfold GR; have := b7.1; have := b7.2.1; have e1 : nx (mst m3 M 4 0) = nx m3 := rfl; have e2 : sl (mst m3 M 4 0) = sl m3 := rfl; omega)
        by_cases z2 : 480 < (prV v'.2.1 v'.2.2).length
        · rw [if_pos z2]
          rw [ep] at z2
          refine ⟨mst m6 M 4 6, c3, st3 _ ?_, b6.cd, by rw [vl_mst, if_pos ⟨rfl, rfl⟩], gr6⟩
          by_cases ho : 32768 < ((prV v''.2.1 v''.2.2).length : Int)
          · rw [b5.ovr ho, if_neg (by decide)]; exact no rfl
          · obtain ⟨u1, u2, -⟩ := b5.len (by omega)
            rw [u1, if_pos rfl, u2, if_pos (by omega)]; exact no rfl
        · rw [if_neg z2]
          rw [ep] at z2
          obtain ⟨u1, u2, u3⟩ := b5.len (by omega)
          have h7' := b6.cd (v := 0)
          have y7 := h7'.y
          have e716 : vl (mst m6 M 4 0) M 16 = (prV v''.2.1 v''.2.2).length := by rw [vl_mst, if_neg (by omega)]; exact u2
          have h8 : TWt (mst (mst m6 M 4 0) M 21 (prV v''.2.1 v''.2.2).length) M B s c3 K := h7'.mf (by unfold uf; omega)
          have y8 := h8.y
          have hT8 := (hT6.mf (f := 4) (v := 0) y6.tm b6.tz).mf (f := 21) (v := (prV v''.2.1 v''.2.2).length) y7.tm h7'.tz
          have f15 : vl m6 M 15 = B 15 := y6.f (by unfold qf; omega)
          have nb := y8.ba
          obtain ⟨m9, z7', hz7, j1, j2, j3, -⟩ := c226_340 (d := d) (t := 0) (a1 := id) (a2 := n0) (a3 := a3) (a4 := a4) (a5 := (k : Int)) (a6 := (i : Int)) (ys := prV v''.2.1 v''.2.2) ⟨by omega, t1⟩ (by omega) (prV_asc w3).by ⟨by omega, by omega⟩ _ (mst (mst m6 M 4 0) M 21 (prV v''.2.1 v''.2.2).length) 0 rfl (by decide) (by omega) h8.tz y8 (by rw [vl_mst, if_neg (by omega)]; exact e716) (fun j j0 j1 => by rw [vl_mst, if_neg (fun z => nb.2.2.2.1 z.1), vl_mst, if_neg (fun z => nb.2.2.2.1 z.1), ← f15]; exact u3 j j0 j1) hT8
          have h9 := h8.wrk j2
          have hT9 := hT8.nc j2 h8.tz fun a z => by rw [z]; exact y8.b20.1
          have hW9 : WRK m9 M B (prV v'.2.1 v'.2.2) := by
            rw [ep]
            exact ⟨by rw [j2.2.2.2 M 21 (fun z => nb.2.2.2.2.1 z.symm), vl_mst, if_pos ⟨rfl, rfl⟩], by omega, fun j j0 j1 => j3 j j0 j1⟩
          have gr9 : GR m m9 (pcT c K) (pcT c3 K) := gr6.trans (by unfold GR; have := j2.1; have := j2.2.1; have e1 : nx (mst (mst m6 M 4 0) M 21 (prV v''.2.1 v''.2.2).length) = nx m6 := rfl; have e2 : sl (mst (mst m6 M 4 0) M 21 (prV v''.2.1 v''.2.2).length) = sl m6 := rfl; omega)
          have st4 : ∀ {Z : Rs × Mem}, rn d 226 201 [pR M, pI id, pI n0, pI a3, pI a4, pI ((k : Int) + 1), pI (hdI r), z7'] [] m9 = some Z → rn d 226 201 [pR M, pI id, pI n0, pI a3, pI a4, pI (k : Int), pI (hdI (.inner i od u ol r)), z7] [] m = some Z := fun {Z} hZ => st3 _ (by
            rw [u1, if_pos rfl, u2, if_neg (by omega)]
            refine q226_319 (by omega) b6.tz h7 _ ?_
            rw [gd_of y6.tm, bI_eq (c188_1 b6.tz y6.tm), if_neg (by decide), gd_of y7.tm, e716]
            refine j1 ?_
            rw [t8]
            exact hZ)
          have rec' := ihr m9 c3 v' (k + 1) z7' hz7 t10 v6 x4 hdo.2 (by omega) (by omega) h9 hW9 hT9 d2 (by rw [ev2, erF_idem]) (by omega) (by rw [ep]; omega)
          push_cast at rec'
          revert rec'
          cases pRn (erF r) v' (k + 1) with
          | inl w' =>
            rintro ⟨m', c', z', kk, r1, r2, r3, r4, r5, r6⟩
            exact ⟨m', c', z', kk, r1, fun hZ => st4 (r2 hZ), r3, r4, r5, gr9.trans r6⟩
          | inr o =>
            cases o with
            | none =>
              rintro ⟨m', c', r1, r2, r3, r4⟩
              exact ⟨m', c', st4 r1, r2, r3, gr9.trans r4⟩
            | some j =>
              rintro ⟨m', c', r1, r2, r3, r4⟩
              exact ⟨m', c', st4 r1, r2, r3, gr9.trans r4⟩
end
