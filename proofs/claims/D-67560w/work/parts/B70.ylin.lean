/-! the twin: the lines of a query -/
set_option maxRecDepth 100000
set_option maxHeartbeats 4000000
section
variable {d n : Nat} {m m1 : Mem} {M : Int} {B : Int → Int} {s : St} {c : Int → Int} {K : Int} {f : Int → Option PV}
/-- a version's store -/
theorem TWt.ver {r : Int} {D : DC} (h : TWt m M B s c K) (hr : -1 ≤ r ∧ r < 8) (hs : s.ver r = some D) : SVs m (vB B r) (prtD D) := by
  unfold St.ver at hs
  by_cases q : r < 0
  · rw [if_pos q] at hs
    cases hs
    rw [vB_n q]
    exact h.sv.1
  · rw [if_neg q] at hs
    obtain ⟨b1, b2, L, b3, b4⟩ := h.sv.2.1 r (by omega) hr.2
    rw [vB_p (by omega)]
    exact b4 D hs ▸ b3
/-- an entry of it -/
theorem SVs.en {t : Int} {D1 D2 : DC} {x : Int × ND × Fo} (h : SVs m t (prtD (D1 ++ x :: D2))) : SA m t ∧ (D1.length : Int) < 100 ∧ EnS m t D1.length (x.1, prV x.2.1 x.2.2) ∧ vl m t 3 = ((D1 ++ x :: D2).length : Int) := by
  obtain ⟨a1, a2, a3, a4⟩ := h
  have e : prtD (D1 ++ x :: D2) = prtD D1 ++ (x.1, prV x.2.1 x.2.2) :: prtD D2 := by unfold prtD mpL; rw [List.map_append]; rfl
  rw [prtD_len] at a2 a3
  rw [e] at a4
  have en := (EnL.app.mp a4).2
  rw [Int.zero_add, prtD_len] at en
  rw [List.length_append, List.length_cons] at a3
  exact ⟨a1, by push_cast at a3; omega, en.1, a2⟩
/-- one line, then the next -/
theorem c242_177 {r n0 cc a7 : Int} {m0 : Mem} {out0 : List Int} {nD CD : Int} {ud : List Int} {gD : RF} {nd : ND} {l : Fo} {zs : List Int} {D1 D2 : DC} {x : Int × ND × Fo} (hd : 60 ≤ d) (hx : 0 ≤ x.1 ∧ x.1 < 10000) (hr : -1 ≤ r ∧ r < 8) (hs : s.ver r = some (D1 ++ x :: D2)) (h0 : TWt m0 M B s c K) (hk0 : WK m0 M out0) (tw : TW m0 (B 18) nD ud CD) (hg : ∀ f j, 0 ≤ f → f ≤ 9 → nv m0 (B 18) f j = gD f j) (hD : DM gD ud nD (0, 0, nd, l, 0)) (h8 : gD 8 ((0 : Nat) : Int) = -1) (hdp : dpV nd l ≤ 32) (hl : vl m0 M 33 = zs.length ∧ (zs.length : Int) ≤ 10000 ∧ ∀ j : Int, 0 ≤ j → j < zs.length → vl m0 (B 32) j = gi zs j) :
    ∀ (ys pre : List Nd) (m : Mem) (out : List Int) (a5 : Int), zs = pre.map idN ++ ys.map idN → (∀ y ∈ ys, chN (0, 0, nd, l, 0) y) → 0 ≤ a5 → a5 + ys.length ≤ 2000000 → WF M m0 m → WK m M out → TWt m M B s c K → ∃ m', (∀ {Z : Rs × Mem}, rn d 242 177 [pR M, pI r, pI n0, pR (vB B r), pI cc, pI (a5 + ys.length), pI D1.length, pI a7, pI zs.length] [] m' = some Z → rn d 242 177 [pR M, pI r, pI n0, pR (vB B r), pI cc, pI a5, pI D1.length, pI a7, pI pre.length] [] m = some Z) ∧ WF M m0 m' ∧ WK m' M (out ++ ys.flatMap (lnQ x.1)) ∧ TWt m' M B s c K := by
  intro ys
  induction ys with
  | nil =>
    intro pre m out a5 hz' _ _ _ w k h
    have : zs.length = pre.length := by rw [hz']; simp
    refine ⟨m, fun hZ => ?_, w, by rw [List.flatMap_nil, List.append_nil]; exact k, h⟩
    rw [this] at hZ
    have e : a5 + (([] : List Nd).length : Int) = a5 := by simp
    rw [e] at hZ
    exact hZ
  | cons y ys ih =>
    intro pre m out a5 hz' hc h5 hb5 w k h
    have yy := h.y
    have hz := h.tz
    have sv := h.ver hr hs
    obtain ⟨sa, i1, en, -⟩ := sv.en
    have hy := hc y List.mem_cons_self
    obtain ⟨q, t, rfl⟩ : ∃ q t, y = q :: t := by
      cases y with
      | nil => exact absurd hy id
      | cons q t => exact ⟨q, t, rfl⟩
    have dm := chN_dm hD t q hy
    have clen := chN_len hD t q hy
    have clen : t.length + dpV q.2.2.1 q.2.2.2.1 ≤ dpV nd l := clen
    have hI := hI_dq dm.2.1
    have f15 : ∀ {m : Mem}, TWt m M B s c K → vl m M 15 = B 15 := fun h => h.y.f (by unfold qf; omega)
    have f32 : ∀ {m : Mem}, TWt m M B s c K → vl m M 32 = B 32 := fun h => h.y.f (by unfold qf; omega)
    have nb := yy.ba
    have lt : (pre.length : Int) < zs.length := by rw [hz']; simp only [List.length_append, List.length_map, List.length_cons]; push_cast; omega
    have n32 : B 32 ≠ B 15 := fun z => by have := yy.b32.1; rw [z, yy.b15.1] at this; omega
    have n32' : B 32 ≠ M := fun z => by have := yy.b32.1; rw [z, yy.tm] at this; omega
    have lv : ∀ {m : Mem}, WF M m0 m → vl m (B 32) pre.length = q.2.1 := fun w => by
      rw [w.2.2.2 (B 32) _ (by rw [f15 h0]; exact n32) (fun z => n32' z.1), hl.2.2 _ (by omega) lt, hz']
      unfold gi
      rw [Int.toNat_natCast, List.getD_eq_getElem?_getD, List.getElem?_append_right (by simp), List.length_map, Nat.sub_self]
      rfl
    have l33 : vl m M 33 = zs.length := by rw [w.2.2.2 M 33 (by rw [f15 h0]; exact fun z => nb.2.2.2.1 z.symm) (by omega)]; exact hl.1
    have pd : ∀ {m : Mem}, TWt m M B s c K → WF M m0 m → PD m M (B 18) nD ud CD gD := fun h w => by
      obtain ⟨w1, w2⟩ := tw.wf hk0 w
      exact ⟨h.wps w1, h.y.f (by unfold qf; omega), fun f j f0 f1 => by rw [w2 f j f0 f1]; exact hg f j f0 f1⟩
    -- number, blank, path, blank, value, line feed
    obtain ⟨m3, e3, k3, w3⟩ := c213 (d := d - 1) (v := x.1) (by omega) h.ok k (by omega) (by omega)
    have h3 := h.wf k w3
    have W3 := w.tr (by rw [f15 h, f15 h0]) w3
    obtain ⟨m4, e4, k4, w4⟩ := c212 (d := d - 1) (b := 32) h3.tz k3
    have h4 := h3.wf k3 w4
    have W4 := W3.tr (by rw [f15 h3, f15 h0]) w4
    obtain ⟨m5, e5, k5, w5⟩ := c273 (rN := (0, 0, nd, l, 0)) hD h8 (q :: t) (d - 1) m4 _ (by rw [List.length_cons]; omega) hy (pd h4 W4) k4
    have h5' := h4.wf k4 w5
    have W5 := W4.tr (by rw [f15 h4, f15 h0]) w5
    obtain ⟨m6, e6, k6, w6⟩ := c212 (d := d - 1) (b := 32) h5'.tz k5
    have h6 := h5'.wf k5 w6
    have W6 := W5.tr (by rw [f15 h5', f15 h0]) w6
    have pd6 := pd h6 W6
    obtain ⟨m7, e7, k7, w7⟩ := c210 (d := d - 1) (M := M) (x := q.2.1) (nd := q.2.2.1) (l := q.2.2.2.1) (by omega) dm.2.1 pd6.1 k6 (dm.1.keep0 (fun f j f0 f1 _ => pd6.2.2 f j f0 f1) (fun f f0 f1 => pd6.2.2 f _ f0 (by omega))) dm.2.2.1
    have h7 := h6.wf k6 w7
    have W7 := W6.tr (by rw [f15 h6, f15 h0]) w7
    obtain ⟨m8, e8, k8, w8'⟩ := c212 (d := d - 1) (b := 10) h7.tz k7
    have h8' := h7.wf k7 w8'
    have W8 := W7.tr (by rw [f15 h7, f15 h0]) w8'
    have ek : (((((out ++ prN x.1) ++ [w8 32]) ++ prP (q :: t)) ++ [w8 32]) ++ prV q.2.2.1 q.2.2.2.1) ++ [w8 10] = out ++ lnQ x.1 (q :: t) := by
      show _ = out ++ (prN x.1 ++ (32 :: (prP (q :: t) ++ (32 :: (prV q.2.2.1 q.2.2.2.1 ++ [10])))))
      have a : w8 32 = 32 := by decide
      have b : w8 10 = 10 := by decide
      rw [a, b]
      simp only [List.append_assoc, List.cons_append, List.nil_append]
    rw [ek] at k8
    rw [List.length_cons] at hb5
    obtain ⟨m', p1, p2, p3, p4⟩ := ih (pre ++ [q :: t]) m8 (out ++ lnQ x.1 (q :: t)) (a5 + 1) (by rw [hz']; simp) (fun y hy => hc y (List.mem_cons_of_mem _ hy)) (by omega) (by push_cast at hb5; omega) W8 k8 h8'
    refine ⟨m', fun {Z} hZ => ?_, p2, by rw [List.flatMap_cons, ← List.append_assoc]; exact p3, p4⟩
    obtain ⟨sa1, sa2, sa3, sa4, sa5, sa6⟩ := sa
    refine q242_177 (by omega) hz _ ?_
    rw [gd_of yy.tm, l33, if_pos lt, gd_of sa1, nm_eq, gd_of sa2.1, gd_of ⟨by omega, by rw [sa2.2]; omega⟩, en.1, bV_eq e3, bV_eq e4, nm_eq, f32 h4, gd_of h4.y.b32.1, gd_of ⟨by omega, by rw [h4.y.b32.2]; omega⟩, lv W4, bV_eq (show cl (d - 1) 273 [pR M, pI (q.2.1 : Int)] m4 = some (.inl none, m5) from e5), bV_eq e6, nm_eq, f32 h6, gd_of h6.y.b32.1, gd_of ⟨by omega, by rw [h6.y.b32.2]; omega⟩, lv W6, pd6.2.1, bV_eq e7, bV_eq e8, (w32_of (by omega) (by omega) : w32 (a5 + 1) = a5 + 1), (w32_of (by omega) (by omega) : w32 ((pre.length : Int) + 1) = (pre.length : Int) + 1)]
    have e1 : ((pre ++ [q :: t]).length : Int) = (pre.length : Int) + 1 := by simp
    rw [e1] at p1
    refine p1 ?_
    rw [List.length_cons] at hZ
    push_cast at hZ
    rw [show a5 + 1 + (ys.length : Int) = a5 + ((ys.length : Int) + 1) by omega]
    exact hZ
/-- lines are of plain characters -/
theorem lnQ_asc {id : Int} {g : RF} {us : List Int} {n : Int} {rN : Nk} (h : DM g us n rN) {x : Nd} (hc : chN rN x) : asc (lnQ id x) := by
  cases x with
  | nil => exact absurd hc (fun z => z)
  | cons q t =>
    unfold lnQ
    exact asc_app (prN_asc _) (asc_cons (by decide) (asc_app (prP_asc (chN_nm h t q hc)) (asc_cons (by decide) (asc_app (prV_asc (chN_dm h t q hc).2.1) (asc_one (by decide))))))
theorem lnQs_er {id : Int} (ys : List Nd) : (ys.map eN).flatMap (lnQ id) = ys.flatMap (lnQ id) := by
  induction ys with
  | nil => rfl
  | cons y ys ih => rw [List.map_cons, List.flatMap_cons, List.flatMap_cons, ih, lnQ_er]
/-- a document as it is stored -/
theorem DKv.doc {v : ND × Fo} (h : DKv v) : DOC v.1 v.2 := ⟨h.1.1.2.2.1, h.2.1, h.2.2, by rw [h.1.2]; exact h.1.1.2.2.2⟩
/-- a stored document is read into the tree of documents -/
theorem yrs {t : Int} {D1 D2 : DC} {x : Int × ND × Fo} (hd : 76 ≤ d) (h : TWt m M B s c K) (hS : SVs m t (prtD (D1 ++ x :: D2))) (hv : DKv x.2) : ∃ nd l m' c', x.2.1 = nd ∧ x.2.2 = erF l ∧ DOC nd l ∧ cl d 196 [pR M, pR (vl m (vl m t 2) D1.length), pI (vl m (vl m t 1) D1.length), pR (B 18)] m = some (.inl (some (pI 0)), m') ∧ TWt m' M B s c' K ∧ THo m' (B 18) nd l 480 ∧ TV (B 18) 0 m m' ∧ GR m m' (pcT c K) (pcT c' K) := by
  obtain ⟨sa, i1, en, -⟩ := hS.en
  obtain ⟨e1, e2, e3, e4⟩ := en
  obtain ⟨a6, a7, a8⟩ := sa.2.2.2.2.2 D1.length (by omega) i1
  have as := prV_asc hv.doc.1
  have srd : sRd (fun j => gi (prV x.2.1 x.2.2) j) (prV x.2.1 x.2.2).length (2 * (prV x.2.1 x.2.2).length + 10) = some (.inr (foC x.2.1 x.2.2 foN)) := sRd_pr hv.doc.1 hv.1.1.2.2.2 hv.2.1 rfl (AtT.of (fun _ _ _ => rfl) as) (by omega)
  have hp := hv.2.2
  obtain ⟨k1, -⟩ := yrd (d := d) (f := 18) (a := vl m (vl m t 2) D1.length) (e := (prV x.2.1 x.2.2).length) (t := fun j => gi (prV x.2.1 x.2.2) j) (N := 2 * (prV x.2.1 x.2.2).length + 10) (Or.inl rfl) hd h (by rw [a6]; exact Or.inr (Or.inr a7)) ⟨by omega, by rw [a6, a8]; omega, by rw [a6, a8]; decide⟩ (by omega) (fun j j0 j1 => by rw [a6]; exact e4 j j0 j1) (fun j j0 j1 => as.by _ (by
    show gi _ _ ∈ _
    unfold gi
    rw [List.getD_eq_getElem?_getD, List.getElem?_eq_getElem (show j.toNat < (prV x.2.1 x.2.2).length by omega)]
    exact List.getElem_mem _))
  obtain ⟨nd, l, e0, m1, c1, f1, h1, ⟨nD, uD, CD, tw, tn, nl, il, ⟨sz1, sz2⟩, z8, wD, cD⟩, tv1, gr1⟩ := k1 _ srd
  injection e0 with _ e01 _ e02 _
  refine ⟨nd, l, m1, c1, e01, e02, ?_, by rw [e2]; exact f1, h1, ⟨nD, uD, CD, tw, tn, nl, il, ⟨by omega, by omega⟩, z8, wD, cD⟩, tv1, gr1⟩
  have := hv.doc
  rw [e01, e02] at this
  obtain ⟨g1, g2, g3, g4⟩ := this
  rw [erF_idem] at g4
  exact ⟨wfV_er.mp g1, by rw [dpV_er] at g2; exact g2, by rw [prV_er] at g3; exact g3, g4⟩
/-- all documents -/
theorem c242_99 {r n0 : Int} {g en : RF} {us : List Int} {k CS cc : Int} {L : Fo} {D0 : DC} (hd : 1910 ≤ d) (hr : -1 ≤ r ∧ r < 8) (hs : s.ver r = some D0) (hDC : DCK n D0) (hn : n ≤ 64) :
    ∀ (D2 D1 : DC) (m : Mem) (c : Int → Int) (w : Int) (out : List Int) (a5 : Nat) (z7 z8 : PV), D0 = D1 ++ D2 → cat z7 = 1 → cat z8 = 1 → TWt m M B s c K → QLD m M B g en us k K CS cc L → WK m M out → asc out → (out.length : Int) ≤ 32768 → vl m M 34 = w → vl m M 35 = 0 → 0 ≤ w → w ≤ 10000 → a5 ≤ 10000 * D1.length →
    match qAll L D2 w out a5 with
    | none => ∃ m' c', rn d 242 99 [pR M, pI r, pI n0, pR (vB B r), pI cc, pI a5, pI D1.length, z7, z8] [] m = some (.inl (some (pI 0)), m') ∧ TWt m' M B s c' K ∧ vl m' M 4 = 4 ∧ GR m m' (pcT c K) (pcT c' K)
    | some (out', k') => ∃ m' c' z7' z8', cat z7' = 1 ∧ cat z8' = 1 ∧ (∀ {Z : Rs × Mem}, rn d 242 99 [pR M, pI r, pI n0, pR (vB B r), pI cc, pI k', pI D0.length, z7', z8'] [] m' = some Z → rn d 242 99 [pR M, pI r, pI n0, pR (vB B r), pI cc, pI a5, pI D1.length, z7, z8] [] m = some Z) ∧ TWt m' M B s c' K ∧ WK m' M out' ∧ (asc out' ∧ (out'.length : Int) ≤ 32768) ∧ GR m m' (pcT c K) (pcT c' K) := by
  intro D2
  induction D2 with
  | nil =>
    intro D1 m c w out a5 z7 z8 hD h7 h8 h hL k0 as hl h34 h35 w0 w1 hb
    rw [List.append_nil] at hD
    exact ⟨m, c, z7, z8, h7, h8, fun {Z} hZ => by rw [← hD]; exact hZ, h, k0, ⟨as, hl⟩, GR.refl⟩
  | cons x D2 ih =>
    intro D1 m c w out a5 z7 z8 hD h7 h8 h hL k0 as hl h34 h35 w0 w1 hb
    rw [hD] at hs
    have hz := h.tz
    have y := h.y
    have sv := h.ver hr hs
    obtain ⟨sa, i1, en0, ln3⟩ := sv.en
    have hx := hDC.2.2 x (by rw [hD]; exact List.mem_append_right _ List.mem_cons_self)
    obtain ⟨nd, l, m1, c1, x1, x2, hdoc, e1, h1, ⟨nD, ud, CD, tw, tn, nl, il, -, z8', -, -⟩, tv1, gr1⟩ := yrs (d := d - 1) (by omega) h sv hx.2
    obtain ⟨n1, n2, n3, n4, n5, n6, n7, n8, n9, n10⟩ := y.ne
    have hL1 := hL.cl hz e1 (by decide +kernel) ((tv1.2.1 _ n3.symm _ _ _ hL.2.2.1.1).1)
    have k1 := k0.cl hz e1 (by decide +kernel)
    have f34 : vl m1 M 34 = w := by rw [vl_of (cl_FRM e1) hz y.tm (by decide) (by decide +kernel)]; exact h34
    have f35 : vl m1 M 35 = 0 := by rw [vl_of (cl_FRM e1) hz y.tm (by decide) (by decide +kernel)]; exact h35
    have y1 := h1.y
    have h2 : TWt (mst (mst m1 M 36 0) M 33 0) M B s c1 K := (h1.mf (by unfold uf; omega)).mf (by unfold uf; omega)
    have hL2 := (hL1.mf (f := 36) (v := 0) h1.tz ⟨by decide, by decide, by decide, by decide⟩).mf (f := 33) (v := 0) (by exact h1.tz) ⟨by decide, by decide, by decide, by decide⟩
    have k2 := (k1.mf (f := 36) (v := 0) ⟨by decide, by decide, by decide⟩).mf (f := 33) (v := 0) ⟨by decide, by decide, by decide⟩
    have td0 : TLD m1 (B 18) nD CD ud (nv m1 (B 18)) := ⟨tw, fun _ _ _ _ => rfl⟩
    have td : TLD (mst (mst m1 M 36 0) M 33 0) (B 18) nD CD ud (nv m1 (B 18)) := (td0.mf (f := 36) (v := 0) y1.tm h1.tz).mf (f := 33) (v := 0) y1.tm h1.tz
    have tn2 : TN (nv (mst (mst m1 M 36 0) M 33 0) (B 18)) ud nD 0 nd l := tn.keep0 (fun f j f0 f1 _ => td.2 f j f0 f1) (fun f f0 f1 => td.2 f _ f0 (by omega))
    obtain ⟨m3, c3, zs, e3, h3, hL3, td3, tv3, l3, gr3, a1, a2⟩ := yask (d := d - 1) (w := w) (by omega) h2 hL2 td.1 tn2 hdoc ⟨by rw [vl_mst, if_neg (by omega), vl_mst, if_pos ⟨rfl, rfl⟩], by rw [vl_mst, if_pos ⟨rfl, rfl⟩], by rw [vl_mst, if_neg (by omega), vl_mst, if_neg (by omega)]; exact f34, by rw [vl_mst, if_neg (by omega), vl_mst, if_neg (by omega)]; exact f35⟩ ⟨w0, w1⟩
    have k3 := k2.cl h2.tz e3 (by decide +kernel)
    have y3 := h3.y
    have gr13 : GR m m3 (pcT c K) (pcT c3 K) := gr1.trans (by
      have e1 : nx (mst (mst m1 M 36 0) M 33 0) = nx m1 := rfl
      have e2 : sl (mst (mst m1 M 36 0) M 33 0) = sl m1 := rfl
      unfold GR at gr3 ⊢; omega)
    have st : ∀ Z, (if (vl m3 M 35) = 0 then (bI (cl (d - 1) 188 [pR M, pI 1, pI 4] m3) fun v5 m5 => if v5 = 0 then (some (.inl (some (pI 0)), m5)) else rn d 242 177 [pR M, pI r, pI n0, pR (vB B r), pI cc, pI (a5 : Int), pI D1.length, pI 0, pI 0] [] m5) else bI (cl (d - 1) 188 [pR M, pI 0, pI 4] m3) fun v4 m4 => if v4 = 0 then (some (.inl (some (pI 0)), m4)) else rn d 242 177 [pR M, pI r, pI n0, pR (vB B r), pI cc, pI (a5 : Int), pI D1.length, pI 0, pI 0] [] m4) = some Z → rn d 242 99 [pR M, pI r, pI n0, pR (vB B r), pI cc, pI (a5 : Int), pI D1.length, z7, z8] [] m = some Z := fun Z hZ => by
      refine q242_99 (by omega) hz h7 h8 _ ?_
      have i2 : (D1.length : Int) < ((D1 ++ x :: D2).length : Int) := by rw [List.length_append, List.length_cons]; push_cast; omega
      rw [gd_of sa.1, ln3, if_pos i2, nm_eq, gd_of sa.2.2.2.2.1.1, gd_of ⟨by omega, by rw [sa.2.2.2.2.1.2]; exact i1⟩, nm_eq, gd_of sa.2.2.1.1, gd_of ⟨by omega, by rw [sa.2.2.1.2]; exact i1⟩, gd_of y.tm, y.f (by unfold qf; omega), bI_eq e1, bI_eq e3]
      exact hZ
    have ex : x.2 = (nd, erF l) := Prod.ext x1 x2
    show match (match qDoc L x.2 w with
      | none => none
      | some (xs, w') => if 32768 < (out ++ xs.flatMap (lnQ x.1)).length then none else qAll L D2 w' (out ++ xs.flatMap (lnQ x.1)) (a5 + xs.length)) with
      | none => _
      | some (out', k') => _
    rw [ex, deQ_er]
    cases hq : deQ L nd l w with
    | none =>
      refine ⟨mst m3 M 4 4, c3, st _ ?_, h3.cd, by rw [vl_mst, if_pos ⟨rfl, rfl⟩], gr13⟩
      rw [a1 hq, if_neg (by decide), bI_eq (c188_0 h3.tz y3.tm), if_pos rfl]
    | some yw =>
      obtain ⟨ys, w'⟩ := yw
      obtain ⟨ez, ⟨b35, b34, b0, b1⟩, hch⟩ := a2 ys w' hq
      have h4 := h3.cd (v := 0)
      have y4 := h4.y
      have k4 := k3.mf (f := 4) (v := 0) ⟨by decide, by decide, by decide⟩
      have td4 := td3.mf (f := 4) (v := 0) y3.tm h3.tz
      have hL4 := hL3.mf (f := 4) (v := 0) h3.tz ⟨by decide, by decide, by decide, by decide⟩
      have dm : DM (nv (mst (mst m1 M 36 0) M 33 0) (B 18)) ud nD (0, 0, nd, l, 0) := hdoc.dm tn2 nl
      have g8 : nv (mst (mst m1 M 36 0) M 33 0) (B 18) 8 ((0 : Nat) : Int) = -1 := by rw [td.2 8 _ (by decide) (by decide)]; exact z8'
      have n32 : B 32 ≠ M := fun z => by have := y3.b32.1; rw [z, y3.tm] at this; omega
      have lys : (ys.length : Int) = zs.length := by rw [ez, List.length_map]
      have hD1 : D1.length ≤ 64 := by have := hDC.2.1; rw [hD, List.length_append] at this; omega
      obtain ⟨m5, p1, p2, p3, p4⟩ := c242_177 (d := d) (n0 := n0) (cc := cc) (a7 := 0) (by omega) hx.1 hr hs h4 k4 td4.1 td4.2 dm g8 hdoc.2.1 ⟨by rw [vl_mst, if_neg (by omega)]; exact l3.1, l3.2.1, fun j j0 j1 => by rw [vl_mst, if_neg (fun z => n32 z.1)]; exact l3.2.2 j j0 j1⟩ ys [] (mst m3 M 4 0) out (a5 : Int) (by rw [ez]; rfl) hch (by omega) (by omega) WF.refl k4 h4
      have y5 := p4.y
      have nb := y4.ba
      have f15 : vl (mst m3 M 4 0) M 15 = B 15 := y4.f (by unfold qf; omega)
      have v5 : ∀ g, g ≠ 16 → g ≠ 17 → vl m5 M g = vl (mst m3 M 4 0) M g := fun g h16 h17 => p2.2.2.2 M g (by rw [f15]; exact fun z => nb.2.2.2.1 z.symm) (by omega)
      have f33 : vl m5 M 33 = zs.length := by rw [v5 33 (by decide) (by decide), vl_mst, if_neg (by omega)]; exact l3.1
      have as' : asc (out ++ ys.flatMap (lnQ x.1)) := asc_app as fun b hb => by
        obtain ⟨y', hy1, hy2⟩ := List.mem_flatMap.mp hb
        exact lnQ_asc dm (hch y' hy1) b hy2
      have gr5 : GR m m5 (pcT c K) (pcT c3 K) := gr13.trans (by
        have := p2.1; have := p2.2.1
        have e1 : nx (mst m3 M 4 0) = nx m3 := rfl
        have e2 : sl (mst m3 M 4 0) = sl m3 := rfl
        unfold GR; omega)
      have st2 : ∀ Z, (if (vl m5 M 17) = 0 then (bI (cl (d - 1) 188 [pR M, pI 1, pI 4] m5) fun v2 m2 => if v2 = 0 then (some (.inl (some (pI 0)), m2)) else rn d 242 99 [pR M, pI r, pI n0, pR (vB B r), pI cc, pI ((a5 : Int) + ys.length), pI ((D1.length : Int) + 1), pI 0, pI zs.length] [] m2) else bI (cl (d - 1) 188 [pR M, pI 0, pI 4] m5) fun v1 m1 => if v1 = 0 then (some (.inl (some (pI 0)), m1)) else rn d 242 99 [pR M, pI r, pI n0, pR (vB B r), pI cc, pI ((a5 : Int) + ys.length), pI ((D1.length : Int) + 1), pI 0, pI zs.length] [] m1) = some Z → rn d 242 99 [pR M, pI r, pI n0, pR (vB B r), pI cc, pI (a5 : Int), pI D1.length, z7, z8] [] m = some Z := fun Z hZ => st _ (by
        rw [b35, if_pos rfl, bI_eq (c188_1 h3.tz y3.tm), if_neg (by decide)]
        refine p1 ?_
        refine q242_177 (by omega) p4.tz _ ?_
        rw [gd_of y5.tm, f33, if_neg (by omega), (w32_of (by omega) (by omega) : w32 ((D1.length : Int) + 1) = (D1.length : Int) + 1)]
        exact hZ)
      dsimp only [Option.map]
      rw [lnQs_er, List.length_map]
      by_cases ho : 32768 < (out ++ ys.flatMap (lnQ x.1)).length
      · rw [if_pos ho]
        refine ⟨mst m5 M 4 4, c3, st2 _ ?_, p4.cd, by rw [vl_mst, if_pos ⟨rfl, rfl⟩], gr5⟩
        rw [p3.ovr (by omega), if_neg (by decide), bI_eq (c188_0 p4.tz y5.tm), if_pos rfl]
      · rw [if_neg ho]
        obtain ⟨u1, -, -⟩ := p3.len (by omega)
        have h6 := p4.cd (v := 0)
        have k6 := p3.mf (f := 4) (v := 0) ⟨by decide, by decide, by decide⟩
        have hL5 : QLD m5 M B g en us k K CS cc L := hL4.sf (SFr.wf p2) h4.tz ⟨fun z => by rw [f15] at z; omega, fun z => by rw [f15] at z; omega, fun z => by rw [f15] at z; omega, fun z => by rw [f15] at z; omega⟩ (fun a j ha z => by
          rcases z with z | z
          · rw [z, f15, y4.b15.1] at ha; unfold tq tl at ha; omega
          · rw [z.1, y4.tm] at ha; unfold tq tl at ha; omega) ((hL4.2.2.1.1.wf k4 p2).1)
        have hL6 := hL5.mf (f := 4) (v := 0) p4.tz ⟨by decide, by decide, by decide, by decide⟩
        have rec' := ih (D1 ++ [x]) (mst m5 M 4 0) c3 w' (out ++ ys.flatMap (lnQ x.1)) (a5 + ys.length) (pI 0) (pI zs.length) (by rw [hD]; simp) rfl rfl h6 hL6 k6 as' (by omega) (by rw [vl_mst, if_neg (by omega), v5 34 (by decide) (by decide), vl_mst, if_neg (by omega)]; exact b34) (by rw [vl_mst, if_neg (by omega), v5 35 (by decide) (by decide), vl_mst, if_neg (by omega)]; exact b35) b0 b1 (by rw [List.length_append]; simp only [List.length_cons, List.length_nil]; omega)
        have el : ((D1 ++ [x]).length : Int) = (D1.length : Int) + 1 := by simp
        rw [el] at rec'
        have st3 : ∀ {Z : Rs × Mem}, rn d 242 99 [pR M, pI r, pI n0, pR (vB B r), pI cc, pI ((a5 + ys.length : Nat) : Int), pI ((D1.length : Int) + 1), pI 0, pI zs.length] [] (mst m5 M 4 0) = some Z → rn d 242 99 [pR M, pI r, pI n0, pR (vB B r), pI cc, pI (a5 : Int), pI D1.length, z7, z8] [] m = some Z := fun {Z} hZ => st2 _ (by
          rw [u1, if_pos rfl, bI_eq (c188_1 p4.tz y5.tm), if_neg (by decide)]
          push_cast at hZ
          exact hZ)
        have ec : ((a5 : Int) + (ys.length : Int)) = ((a5 + ys.length : Nat) : Int) := by push_cast; rfl
        rw [ec]
        revert rec'
        cases qAll L D2 w' (out ++ ys.flatMap (lnQ x.1)) ((a5 + ys.length : Nat) : Int) with
        | none =>
          rintro ⟨m', c', r1, r2, r3, r4⟩
          exact ⟨m', c', st3 r1, r2, r3, gr5.trans r4⟩
        | some o =>
          obtain ⟨out', k'⟩ := o
          rintro ⟨m', c', z7', z8', r1, r2, r3, r4, r5, r6, r7⟩
          exact ⟨m', c', z7', z8', r1, r2, fun hZ => st3 (r3 hZ), r4, r5, r6, gr5.trans r7⟩
end
