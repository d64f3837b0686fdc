/-! the twin: documents are found by a value -/
set_option maxRecDepth 100000
set_option maxHeartbeats 4000000
theorem nq_103 : ¬ (tq 186103 ∨ tl 186103) := by unfold tq tl; omega
theorem nq_11 : ¬ (tq 11 ∨ tl 11) := by unfold tq tl; omega
section
variable {d n : Nat} {m m1 : Mem} {M : Int} {B : Int → Int} {s : St} {c : Int → Int} {K : Int} {f : Int → Option PV}
theorem TLD.tu {t t' n C : Int} {us : List Int} {g : RF} (h : TLD m t n C us g) (v : TU t' m m1) (hne : t ≠ t') : TLD m1 t n C us g := ⟨(v.2.1 t hne n us C h.1).1, fun f j f0 f1 => by rw [v.2.2 t f j n us C h.1 f0 f1]; exact h.2 f j f0 f1⟩
/-- the value that a query of one node finds, in the twin's tree -/
theorem chs_de {L : Fo} {nd : ND} {l : Fo} {ys : List Nd} {w' : Int} (h : deQ L nd l 0 = some (ys, w')) : chs L (nd, erF l) = vOne (ys.map eN) := by
  unfold chs
  rw [deQ_er, h]
  rfl
/-- all documents are compared -/
theorem c276_145 {a1 r n0 : Int} {g en : RF} {us : List Int} {k CS cc : Int} {L : Fo} {D0 : DC} {nT CT : Int} {uT : List Int} {gT : RF} {td : ND} {tl : Fo} (hd : 1910 ≤ d) (hr : -1 ≤ r ∧ r < 8) (hs : s.ver r = some D0) (hDC : DCK n D0) (hn : n ≤ 64) (hsg : sgF L = true) (hcn : cntF L ≤ 1300) (htn : TN gT uT nT 0 td tl) (htw : wfF (foC td tl foN)) (htd : dpV td tl ≤ 32) (hts : szF tl ≤ 100000) :
    ∀ (D2 D1 : DC) (m : Mem) (c : Int → Int) (out : List Int) (a7 : Nat) (z9 : PV), D0 = D1 ++ D2 → cat z9 = 1 → TWt m M B s c K → QLD m M B g en us k K CS cc L → TLD m (B 19) nT CT uT gT → WK m M out → asc out → out.length ≤ 20 * D1.length → a7 ≤ D1.length →
    ∃ m' c' z9', cat z9' = 1 ∧ (∀ {Z : Rs × Mem}, rn d 276 145 [pR M, pI a1, pI r, pI n0, pR (vB B r), pI 0, pI cc, pI ((a7 + (hits L (td, erF tl) D2).length : Nat) : Int), pI D0.length, z9'] [] m' = some Z → rn d 276 145 [pR M, pI a1, pI r, pI n0, pR (vB B r), pI 0, pI cc, pI a7, pI D1.length, z9] [] m = some Z) ∧ TWt m' M B s c' K ∧ WK m' M (out ++ (hits L (td, erF tl) D2).flatMap fun i => prN i ++ [10]) ∧ (asc (out ++ (hits L (td, erF tl) D2).flatMap fun i => prN i ++ [10]) ∧ (out ++ (hits L (td, erF tl) D2).flatMap fun i => prN i ++ [10]).length ≤ 20 * D0.length) ∧ GR m m' (pcT c K) (pcT c' K) := by
  intro D2
  induction D2 with
  | nil =>
    intro D1 m c out a7 z9 hD h9 h hL hT k0 as hl ha
    rw [List.append_nil] at hD
    have e : hits L (td, erF tl) [] = [] := rfl
    rw [e]
    refine ⟨m, c, z9, h9, fun {Z} hZ => by rw [← hD]; exact hZ, h, by rw [List.flatMap_nil, List.append_nil]; exact k0, ⟨by rw [List.flatMap_nil, List.append_nil]; exact as, by rw [List.flatMap_nil, List.append_nil, hD]; exact hl⟩, GR.refl⟩
  | cons x D2 ih =>
    intro D1 m c out a7 z9 hD h9 h hL hT k0 as hl ha
    have hs' := hs
    rw [hD] at hs'
    have hz := h.tz
    have y := h.y
    have sv := h.ver hr hs'
    obtain ⟨sa, i1, en0, ln3⟩ := sv.en
    have hx := hDC.2.2 x (by rw [hD]; exact List.mem_append_right _ List.mem_cons_self)
    obtain ⟨nd, l, m1, c1, x1, x2, hdoc, e1, h1, ⟨nD, ud, CD, tw, tn, nl, il, -, z8', -, -⟩, tv1, gr1⟩ := yrs (d := d - 1) (by omega) h sv hx.2
    obtain ⟨n1, n2, n3, n4, n5, n6, n7, n8, n9, n10⟩ := y.ne
    have hL1 := hL.cl hz e1 (by decide +kernel) ((tv1.2.1 _ n3.symm _ _ _ hL.2.2.1.1).1)
    have hT1 := hT.tv tv1 n1.symm
    have k1 := k0.cl hz e1 (by decide +kernel)
    have y1 := h1.y
    have h2 : TWt (mst (mst (mst (mst m1 M 36 0) M 33 0) M 34 0) M 35 0) M B s c1 K := (((h1.mf (by unfold uf; omega)).mf (by unfold uf; omega)).mf (by unfold uf; omega)).mf (by unfold uf; omega)
    have hL2 := (((hL1.mf (f := 36) (v := 0) h1.tz ⟨by decide, by decide, by decide, by decide⟩).mf (f := 33) (v := 0) h1.tz ⟨by decide, by decide, by decide, by decide⟩).mf (f := 34) (v := 0) h1.tz ⟨by decide, by decide, by decide, by decide⟩).mf (f := 35) (v := 0) h1.tz ⟨by decide, by decide, by decide, by decide⟩
    have k2 := (((k1.mf (f := 36) (v := 0) ⟨by decide, by decide, by decide⟩).mf (f := 33) (v := 0) ⟨by decide, by decide, by decide⟩).mf (f := 34) (v := 0) ⟨by decide, by decide, by decide⟩).mf (f := 35) (v := 0) ⟨by decide, by decide, by decide⟩
    have mf4 : ∀ {t n C : Int} {us : List Int} {g : RF}, TLD m1 t n C us g → TLD (mst (mst (mst (mst m1 M 36 0) M 33 0) M 34 0) M 35 0) t n C us g := fun ht => (((ht.mf (f := 36) (v := 0) y1.tm h1.tz).mf (f := 33) (v := 0) y1.tm h1.tz).mf (f := 34) (v := 0) y1.tm h1.tz).mf (f := 35) (v := 0) y1.tm h1.tz
    have td0 : TLD m1 (B 18) nD CD ud (nv m1 (B 18)) := ⟨tw, fun _ _ _ _ => rfl⟩
    have td2 := mf4 td0
    have hT2 := mf4 hT1
    have tn2 : TN (nv (mst (mst (mst (mst m1 M 36 0) M 33 0) M 34 0) M 35 0) (B 18)) ud nD 0 nd l := tn.keep0 (fun f j f0 f1 _ => td2.2 f j f0 f1) (fun f f0 f1 => td2.2 f _ f0 (by omega))
    have dm : DM (nv (mst (mst (mst (mst m1 M 36 0) M 33 0) M 34 0) M 35 0) (B 18)) ud nD (0, 0, nd, l, 0) := hdoc.dm tn2 nl
    obtain ⟨m3, c3, zs, e3, h3, hL3, td3, tv3, l3, gr3, a1', a2'⟩ := yask (d := d - 1) (w := 0) (by omega) h2 hL2 td2.1 tn2 hdoc ⟨by rw [vl_mst, if_neg (by omega), vl_mst, if_neg (by omega), vl_mst, if_neg (by omega), vl_mst, if_pos ⟨rfl, rfl⟩], by rw [vl_mst, if_neg (by omega), vl_mst, if_neg (by omega), vl_mst, if_pos ⟨rfl, rfl⟩], by rw [vl_mst, if_neg (by omega), vl_mst, if_pos ⟨rfl, rfl⟩], by rw [vl_mst, if_pos ⟨rfl, rfl⟩]⟩ (by decide)
    have k3 := k2.cl h2.tz e3 (by decide +kernel)
    have hT3 := hT2.tv tv3 n7
    have y3 := h3.y
    have hz3 := h3.tz
    have gr13 : GR m m3 (pcT c K) (pcT c3 K) := gr1.trans (by
      have e1 : nx (mst (mst (mst (mst m1 M 36 0) M 33 0) M 34 0) M 35 0) = nx m1 := rfl
      have e2 : sl (mst (mst (mst (mst m1 M 36 0) M 33 0) M 34 0) M 35 0) = sl m1 := rfl
      unfold GR at gr3 ⊢; omega)
    obtain ⟨ys, w', hqd, hy1⟩ : ∃ ys w', deQ L nd l 0 = some (ys, w') ∧ ys.length ≤ 1 := by
      obtain ⟨ys0, w0, q1, q2⟩ := sg_qDoc hsg hcn (nd, erF l)
      rw [deQ_er] at q1
      cases hh : deQ L nd l 0 with
      | none => rw [hh] at q1; cases q1
      | some z =>
        obtain ⟨ys, w'⟩ := z
        rw [hh] at q1
        have q1 : some (ys.map eN, w') = some (ys0, w0) := q1
        injection q1 with q1
        injection q1 with e1' e2'
        exact ⟨ys, w', rfl, by rw [← e1', List.length_map] at q2; exact q2⟩
    obtain ⟨ez, -, hch⟩ := a2' ys w' hqd
    have ec := chs_de hqd
    have ex : x.2 = (nd, erF l) := Prod.ext x1 x2
    have hD1 : D1.length ≤ 64 := by have := hDC.2.1; rw [hD, List.length_append] at this; omega
    have i2 : (D1.length : Int) < ((D1 ++ x :: D2).length : Int) := by rw [List.length_append, List.length_cons]; push_cast; omega
    have hcons : hits L (td, erF tl) (x :: D2) = (match chs L x.2 with
        | some u => if smV u.1 u.2 td (erF tl) then x.1 :: hits L (td, erF tl) D2 else hits L (td, erF tl) D2
        | none => hits L (td, erF tl) D2) := by
      unfold hits
      rw [List.filterMap_cons]
      cases chs L x.2 with
      | none => rfl
      | some u =>
        dsimp only
        by_cases z : smV u.1 u.2 td (erF tl) = true
        · rw [if_pos z, if_pos z]
        · rw [if_neg z, if_neg z]
    have st : ∀ Z, (if (vl m3 M 33) = 0 then (rn d 276 145 [pR M, pI a1, pI r, pI n0, pR (vB B r), pI 0, pI cc, pI (a7 : Int), pI ((D1.length : Int) + 1), pI 0] [] m3) else nm (vl m3 M 32) fun v9 => gd (tg m3 v9 = 186101) <| gd ((0 : Int) ≤ 0 ∧ 0 < ln m3 v9) <| bI (cl (d - 1) 235 [pR (vl m3 M 19), pI 0, pR (vl m3 M 18), pI (vl m3 v9 0)] m3) fun v4 m4 => if v4 = 0 then (rn d 276 145 [pR M, pI a1, pI r, pI n0, pR (vB B r), pI 0, pI cc, pI (a7 : Int), pI ((D1.length : Int) + 1), pI 0] [] m4) else nm (vl m4 (vB B r) 0) fun v10 => gd (tg m4 v10 = 278101) <| gd ((0 : Int) ≤ (D1.length : Int) ∧ (D1.length : Int) < ln m4 v10) <| bV (cl (d - 1) 213 [pR M, pL (vl m4 v10 D1.length)] m4) fun m5 => bV (cl (d - 1) 212 [pR M, pI 10] m5) fun m6 => rn d 276 145 [pR M, pI a1, pI r, pI n0, pR (vB B r), pI 0, pI cc, pI ((a7 : Int) + 1), pI ((D1.length : Int) + 1), pI 0] [] m6) = some Z → rn d 276 145 [pR M, pI a1, pI r, pI n0, pR (vB B r), pI 0, pI cc, pI (a7 : Int), pI D1.length, z9] [] m = some Z := fun Z hZ => by
      refine q276_145 (by omega) hz h9 _ ?_
      rw [gd_of sa.1, ln3, if_pos i2, nm_eq, gd_of sa.2.2.2.2.1.1, gd_of ⟨by omega, by rw [sa.2.2.2.2.1.2]; exact i1⟩, nm_eq, gd_of sa.2.2.1.1, gd_of ⟨by omega, by rw [sa.2.2.1.2]; exact i1⟩, gd_of y.tm, y.f (by unfold qf; omega), bI_eq e1, bI_eq e3, (w32_of (by omega) (by omega) : w32 ((D1.length : Int) + 1) = (D1.length : Int) + 1), (w32_of (by omega) (by omega) : w32 ((a7 : Int) + 1) = (a7 : Int) + 1)]
      exact hZ
    have el : ((D1 ++ [x]).length : Int) = (D1.length : Int) + 1 := by simp
    have el' : (D1 ++ [x]).length = D1.length + 1 := by simp
    -- not found here
    have skip : hits L (td, erF tl) (x :: D2) = hits L (td, erF tl) D2 → (∀ {Z : Rs × Mem}, rn d 276 145 [pR M, pI a1, pI r, pI n0, pR (vB B r), pI 0, pI cc, pI (a7 : Int), pI ((D1.length : Int) + 1), pI 0] [] m3 = some Z → rn d 276 145 [pR M, pI a1, pI r, pI n0, pR (vB B r), pI 0, pI cc, pI (a7 : Int), pI D1.length, z9] [] m = some Z) → (∃ m' c' z9', cat z9' = 1 ∧ (∀ {Z : Rs × Mem}, rn d 276 145 [pR M, pI a1, pI r, pI n0, pR (vB B r), pI 0, pI cc, pI ((a7 + (hits L (td, erF tl) (x :: D2)).length : Nat) : Int), pI D0.length, z9'] [] m' = some Z → rn d 276 145 [pR M, pI a1, pI r, pI n0, pR (vB B r), pI 0, pI cc, pI a7, pI D1.length, z9] [] m = some Z) ∧ TWt m' M B s c' K ∧ WK m' M (out ++ (hits L (td, erF tl) (x :: D2)).flatMap fun i => prN i ++ [10]) ∧ (asc (out ++ (hits L (td, erF tl) (x :: D2)).flatMap fun i => prN i ++ [10]) ∧ (out ++ (hits L (td, erF tl) (x :: D2)).flatMap fun i => prN i ++ [10]).length ≤ 20 * D0.length) ∧ GR m m' (pcT c K) (pcT c' K)) := fun eh hst => by
      obtain ⟨m', c', z9', r1, r2, r3, r4, r5, r6⟩ := ih (D1 ++ [x]) m3 c3 out a7 (pI 0) (by rw [hD]; simp) rfl h3 hL3 hT3 k3 as (by rw [el']; omega) (by rw [el']; omega)
      rw [el] at r2
      rw [← eh] at r2 r4 r5
      exact ⟨m', c', z9', r1, fun {Z} hZ => hst (r2 hZ), r3, r4, r5, gr13.trans r6⟩
    cases ys with
    | nil =>
      refine skip ?_ fun {Z} hZ => st Z ?_
      · rw [hcons, ex, ec]; rfl
      · have : vl m3 M 33 = 0 := by rw [l3.1, ez]; rfl
        rw [if_pos this]; exact hZ
    | cons yy ys' =>
      have : ys' = [] := by
        cases ys' with
        | nil => rfl
        | cons a b => simp at hy1
      subst this
      have hyc := hch yy List.mem_cons_self
      obtain ⟨q, t, rfl⟩ : ∃ q t, yy = q :: t := by
        cases yy with
        | nil => exact absurd hyc id
        | cons q t => exact ⟨q, t, rfl⟩
      have dq := chN_dm dm t q hyc
      have e33 : vl m3 M 33 = 1 := by rw [l3.1, ez]; rfl
      have f32 : vl m3 M 32 = B 32 := y3.f (by unfold qf; omega)
      have lv : vl m3 (B 32) 0 = q.2.1 := by
        rw [l3.2.2 0 (by decide) (by rw [ez]; show (0 : Int) < ((1 : Nat) : Int); decide), ez]; rfl
      have tnq : TN (nv m3 (B 18)) ud nD q.2.1 q.2.2.1 q.2.2.2.1 := dq.1.keep0 (fun f j f0 f1 _ => td3.2 f j f0 f1) (fun f f0 f1 => td3.2 f _ f0 (by omega))
      have tnt : TN (nv m3 (B 19)) uT nT 0 td tl := htn.keep0 (fun f j f0 f1 _ => hT3.2 f j f0 f1) (fun f f0 f1 => hT3.2 f _ f0 (by omega))
      have hIt := hI_dq htw
      have e235 := c235 (d := d - 1) (x := 0) (y := q.2.1) (by omega) h3.ok hT3.1 td3.1 tnt tnq htw dq.2.1 hts dq.2.2.2
      have e235 : cl (d - 1) 235 [pR (B 19), pI 0, pR (B 18), pI (q.2.1 : Int)] m3 = some (.inl (some (pI (b2i (smV td tl q.2.2.1 q.2.2.2.1)))), m3) := e235
      have esm : smV td tl q.2.2.1 q.2.2.2.1 = smV q.2.2.1 (erF q.2.2.2.1) td (erF tl) := by
        rw [smV_er]; exact smV_sym htw dq.2.1
      have ec' : chs L x.2 = some (q.2.2.1, erF q.2.2.2.1) := by rw [ex, ec]; rfl
      have st2 : ∀ Z, (if b2i (smV td tl q.2.2.1 q.2.2.2.1) = 0 then (rn d 276 145 [pR M, pI a1, pI r, pI n0, pR (vB B r), pI 0, pI cc, pI (a7 : Int), pI ((D1.length : Int) + 1), pI 0] [] m3) else nm (vl m3 (vB B r) 0) fun v10 => gd (tg m3 v10 = 278101) <| gd ((0 : Int) ≤ (D1.length : Int) ∧ (D1.length : Int) < ln m3 v10) <| bV (cl (d - 1) 213 [pR M, pL (vl m3 v10 D1.length)] m3) fun m5 => bV (cl (d - 1) 212 [pR M, pI 10] m5) fun m6 => rn d 276 145 [pR M, pI a1, pI r, pI n0, pR (vB B r), pI 0, pI cc, pI ((a7 : Int) + 1), pI ((D1.length : Int) + 1), pI 0] [] m6) = some Z → rn d 276 145 [pR M, pI a1, pI r, pI n0, pR (vB B r), pI 0, pI cc, pI (a7 : Int), pI D1.length, z9] [] m = some Z := fun Z hZ => st _ (by
        rw [if_neg (by omega), nm_eq, f32, gd_of y3.b32.1, gd_of ⟨by decide, by rw [y3.b32.2]; decide⟩, lv, y3.f (by unfold qf; omega), y3.f (by unfold qf; omega), bI_eq e235]
        exact hZ)
      cases hsm : smV td tl q.2.2.1 q.2.2.2.1 with
      | false =>
        refine skip ?_ fun {Z} hZ => st2 Z ?_
        · rw [hcons, ec']
          show (if smV q.2.2.1 (erF q.2.2.2.1) td (erF tl) = true then _ else _) = _
          rw [← esm, hsm, if_neg (by decide)]
        · rw [hsm, if_pos (show b2i false = 0 from rfl)]; exact hZ
      | true =>
        have eh : hits L (td, erF tl) (x :: D2) = x.1 :: hits L (td, erF tl) D2 := by
          rw [hcons, ec']
          show (if smV q.2.2.1 (erF q.2.2.2.1) td (erF tl) = true then _ else _) = _
          rw [← esm, hsm, if_pos rfl]
        have sv3 := h3.ver hr hs'
        obtain ⟨sa3, -, en3, -⟩ := sv3.en
        obtain ⟨m5, e5, k5, w5⟩ := c213 (d := d - 1) (v := x.1) (by omega) h3.ok k3 (by have := hx.1; omega) (by have := hx.1; omega)
        have h5 := h3.wf k3 w5
        obtain ⟨m6, e6, k6, w6⟩ := c212 (d := d - 1) (b := 10) h5.tz k5
        have h6 := h5.wf k5 w6
        have y5 := h5.y
        have f15 : vl m3 M 15 = B 15 := y3.f (by unfold qf; omega)
        have f15' : vl m5 M 15 = B 15 := y5.f (by unfold qf; omega)
        have w36 : WF M m3 m6 := w5.tr (by rw [f15, f15']) w6
        have ek : (out ++ prN x.1) ++ [w8 10] = out ++ (prN x.1 ++ [10]) := by
          rw [show w8 10 = 10 by decide, List.append_assoc]
        rw [ek] at k6
        have hT6 := (hT3.wf k3 w5).wf k5 w6
        have hL6 : QLD m6 M B g en us k K CS cc L := hL3.sf (SFr.wf w36) hz3 ⟨fun z => by rw [f15] at z; have := y3.ba.2.2.2.1; omega, fun z => by rw [f15] at z; have := y3.ba.2.2.2.1; omega, fun z => by rw [f15] at z; have := y3.ba.2.2.2.1; omega, fun z => by rw [f15] at z; have := y3.ba.2.2.2.1; omega⟩ (fun a j ha z => by
          rcases z with z | z
          · rw [z, f15, y3.b15.1] at ha; exact nq_103 ha
          · rw [z.1, y3.tm] at ha; exact nq_11 ha) (((hL3.2.2.1.1.wf k3 w5).1.wf k5 w6).1)
        have l19 := prN_l19 x.1
        have gr6 : GR m m6 (pcT c K) (pcT c3 K) := gr13.trans (by have := w36.1; have := w36.2.1; unfold GR; omega)
        obtain ⟨m', c', z9', r1, r2, r3, r4, r5, r6⟩ := ih (D1 ++ [x]) m6 c3 (out ++ (prN x.1 ++ [10])) (a7 + 1) (pI 0) (by rw [hD]; simp) rfl h6 hL6 hT6 k6 (asc_app as (asc_app (prN_asc _) (asc_one (by decide)))) (by rw [el']; simp only [List.length_append, List.length_cons, List.length_nil]; omega) (by rw [el']; omega)
        rw [el] at r2
        have ef : (out ++ (prN x.1 ++ [10])) ++ ((hits L (td, erF tl) D2).flatMap fun i => prN i ++ [10]) = out ++ ((hits L (td, erF tl) (x :: D2)).flatMap fun i => prN i ++ [10]) := by
          rw [eh, List.flatMap_cons, List.append_assoc]
        rw [ef] at r4 r5
        have en' : ((a7 + 1 + (hits L (td, erF tl) D2).length : Nat) : Int) = ((a7 + (hits L (td, erF tl) (x :: D2)).length : Nat) : Int) := by
          rw [eh, List.length_cons]; push_cast; omega
        rw [en'] at r2
        refine ⟨m', c', z9', r1, fun {Z} hZ => st2 Z ?_, r3, r4, r5, gr6.trans r6⟩
        have r2' := r2 hZ
        push_cast at r2'
        rw [hsm, if_neg (by decide), nm_eq, gd_of sa3.2.1.1, gd_of ⟨by omega, by rw [sa3.2.1.2]; exact i1⟩, en3.1, bV_eq e5, bV_eq e6]
        exact r2'
/-- documents are found -/
theorem c276 {k r : Int} (hd : 1920 ≤ d) (h : TWt m M B s c K) (hq : STq n s) (hn : n ≤ 64) : TWi m M B c K (cl d 276 [pR M, pI k, pI r] m) (oFind s k r) vI := by
  have hz := h.tz
  have y := h.y
  have h0 := h.cd (v := 0)
  have y0 := h0.y
  have n0 : TWi m M B c K (rn d 276 26 [pR M, pI k, pI r, pU, pU, pU, pU, pU, pU, pU] [pI 0, pR M] m) (1, 0, s) vI := TWi.no (v := 0) h (q276_26 (by omega) hz _ (by rw [gd_of y.tm, bI_eq (c188_0 hz y.tm), if_pos rfl])) (by decide) ⟨rfl, rfl⟩
  unfold oFind
  by_cases q : (0 ≤ k ∧ k < 4) ∧ -1 ≤ r ∧ r < 8
  · rw [if_neg (fun z => z q)]
    obtain ⟨qk, qr⟩ := q
    have h1 := h0.tape0
    have y1 := h1.y
    have st : ∀ Z, (bR (cl (d - 1) 219 [pR M, pI r] (mst (mst m M 4 0) M 1 0)) fun v3 m3 => if v3 = 0 then (some (.inl (some (pI 0)), m3)) else nm (vl m3 M 10) fun v4 => gd (tg m3 v4 = 186118) <| gd ((0 : Int) ≤ k ∧ k < ln m3 v4) <| if (vl m3 v4 k) = 0 then (rn d 276 67 [pR M, pI k, pI r, pI s.tp.length, pR v3, pU, pU, pU, pU, pU] [pI 0, pR M] m3) else rn d 276 67 [pR M, pI k, pI r, pI s.tp.length, pR v3, pU, pU, pU, pU, pU] [pI 1, pR M] m3) = some Z → cl d 276 [pR M, pI k, pI r] m = some Z := fun Z hZ => by
      refine q276 hz _ ?_
      rw [if_neg (by omega), if_neg (by omega), if_neg (by omega), if_neg (by omega)]
      refine q276_26 (by omega) hz _ ?_
      rw [gd_of y.tm, bI_eq (c188_1 hz y.tm), if_neg (by decide), gd_of y0.tm, bI_eq (c195 h0)]
      exact hZ
    have dead : s.dk = true ∨ (s.wtp []).ver r = none → TWi m M B c K (cl d 276 [pR M, pI k, pI r] m) (2, 0, s.wtp []) vI := fun hh => TWi.no (v := 0) h1 (st _ (by rw [bR_eq (c219_n (by omega) h1 qr hh), if_pos rfl])) (by decide) ⟨rfl, rfl⟩
    cases hdk : s.dk with
    | true => rw [if_pos rfl]; exact dead (Or.inl hdk)
    | false =>
      rw [if_neg (by decide)]
      cases hv : s.ver r with
      | none => exact dead (Or.inr hv)
      | some D =>
        obtain ⟨g1, g2, g3⟩ := c219_s (d := d - 1) (by omega) h1 qr hdk hv
        have h2' := h1.cd (v := 0)
        have y2' := h2'.y
        have f10 : vl (mst (mst (mst m M 4 0) M 1 0) M 4 0) M 10 = B 10 := y2'.f (by unfold qf; omega)
        have st1 : ∀ Z, (if (vl (mst (mst (mst m M 4 0) M 1 0) M 4 0) (B 10) k) = 0 then (rn d 276 67 [pR M, pI k, pI r, pI s.tp.length, pR (vB B r), pU, pU, pU, pU, pU] [pI 0, pR M] (mst (mst (mst m M 4 0) M 1 0) M 4 0)) else rn d 276 67 [pR M, pI k, pI r, pI s.tp.length, pR (vB B r), pU, pU, pU, pU, pU] [pI 1, pR M] (mst (mst (mst m M 4 0) M 1 0) M 4 0)) = some Z → cl d 276 [pR M, pI k, pI r] m = some Z := fun Z hZ => st _ (by
          rw [bR_eq g1, if_neg g3, nm_eq, f10, gd_of y2'.b10.1, gd_of ⟨qk.1, by rw [y2'.b10.2]; exact qk.2⟩]
          exact hZ)
        dsimp only
        cases hix : s.ix k with
        | none =>
          have e0 := (h2'.xy k qk.1 qk.2).1 hix
          refine TWi.no (v := 0) h2' (st1 _ ?_) (by decide) ⟨rfl, rfl⟩
          rw [if_pos e0]
          exact q276_67 (by omega) h2'.tz _ (by rw [gd_of y2'.tm, bI_eq (c188_0 h2'.tz y2'.tm), if_pos rfl])
        | some Q =>
          obtain ⟨tx0, b1', b2', -, -, bQ, bsg⟩ := (h2'.xy k qk.1 qk.2).2 Q hix
          have ne0 : vl (mst (mst (mst m M 4 0) M 1 0) M 4 0) (B 10) k ≠ 0 := fun z => by have := b1'.1; rw [z, h2'.ok.2.1] at this; omega
          have h3 := (h2'.cd (v := 0)).place (p := -1)
          have nb := y.ba.2.1
          obtain ⟨k1, k2⟩ := ytk (d := d - 1) (n := n) (by omega) h3 ⟨⟨by show 0 ≤ _; omega, fun b hb => by cases hb⟩, hq.2.1, hq.2.2.1, hq.2.2.2.1, hq.2.2.2.2.1, hq.2.2.2.2.2⟩ rfl h.tp.2.1 hq.1.2 (fun j j0 j1 => by
            rw [vl_mst, if_neg (fun z => nb z.1), vl_mst, if_neg (fun z => nb z.1), vl_mst, if_neg (fun z => nb z.1), vl_mst, if_neg (fun z => nb z.1), vl_mst, if_neg (fun z => nb z.1)]
            exact h.tp.2.2 j j0 j1)
          have f0 : vl (mst (mst (mst (mst m M 4 0) M 1 0) M 4 0) M 4 0) M 0 = B 0 := (h2'.cd (v := 0)).y.f (Or.inl rfl)
          have f19 : vl (mst (mst (mst (mst m M 4 0) M 1 0) M 4 0) M 4 0) M 19 = B 19 := (h2'.cd (v := 0)).y.f (by unfold qf; omega)
          have n3 : nx (mst (mst (mst (mst (mst m M 4 0) M 1 0) M 4 0) M 4 0) M 5 (-1)) = nx m ∧ sl (mst (mst (mst (mst (mst m M 4 0) M 1 0) M 4 0) M 4 0) M 5 (-1)) = sl m := ⟨rfl, rfl⟩
          have st2 : ∀ Z, (bI (cl (d - 1) 196 [pR M, pR (B 0), pI s.tp.length, pR (B 19)] (mst (mst (mst (mst (mst m M 4 0) M 1 0) M 4 0) M 4 0) M 5 (-1))) fun v2 m2 => if v2 < 0 then (some (.inl (some (pI 0)), (mst (mst m2 M 5 (vl m2 M 14)) M 4 3))) else nm (vl m2 M 10) fun v5 => gd (tg m2 v5 = 186118) <| gd ((0 : Int) ≤ k ∧ k < ln m2 v5) <| nm (vl m2 v5 k) fun v6 => gd (tg m2 v6 = 276103) <| bI (cl (d - 1) 243 [pR M, pR v6, pI (ln m2 v6)] m2) fun v3 m3 => bV (cl (d - 1) 209 [pR M] m3) fun m4 => rn d 276 145 [pR M, pI k, pI r, pI s.tp.length, pR (vB B r), pI v2, pI v3, pI 0, pI 0, pU] [] m4) = some Z → cl d 276 [pR M, pI k, pI r] m = some Z := fun Z hZ => st1 _ (by
            rw [if_neg ne0]
            refine q276_67 (by omega) h2'.tz _ ?_
            rw [gd_of y2'.tm, bI_eq (c188_1 h2'.tz y2'.tm), if_neg (by decide), gd_of (h2'.cd (v := 0)).y.tm, f0, f19]
            exact hZ)
          dsimp only
          cases hR : sRdT s.tp with
          | none => exact absurd hR (sRdT_some _)
          | some rr =>
            cases rr with
            | inl p =>
              obtain ⟨m4, c4, e1, e2, e3, -, e5⟩ := k2 p hR
              refine ⟨mst (mst m4 M 5 p) M 4 3, c4, K, 0, st2 _ (by rw [bI_eq e1, if_pos (by decide), e2]), by rw [vl_mst, if_pos ⟨rfl, rfl⟩], fun z => absurd z (by simp), (e3.place (p := p)).cd, ?_⟩
              have e6 : nx (mst (mst m4 M 5 p) M 4 3) = nx m4 ∧ sl (mst (mst m4 M 5 p) M 4 3) = sl m4 := ⟨rfl, rfl⟩
              unfold CTT; unfold GR at e5; omega
            | inr F =>
              obtain ⟨td, tl, rfl, m4, c4, e1, h4, ho, -, gr4⟩ := k1 F hR
              obtain ⟨hw, hdp, -, hcn⟩ := rd_ok (t := gtp s.tp) (e := s.tp.length) (n := 2 * s.tp.length + 10) hR
              have hle := sRd_le (t := gtp s.tp) (e := s.tp.length) (n := 2 * s.tp.length + 10) hR (by omega)
              rw [prV_er] at hle
              have h3tp := h.tp.2.1
              have hsz : szF tl ≤ 100000 := by
                have := prV_sz (wfV_er.mpr hw) hcn
                rw [szF_er, unF_er, prV_er] at this
                omega
              obtain ⟨nT, uT, CT, tw, tn, nl, -, -, -, -, -⟩ := ho
              have y4 := h4.y
              have hz4 := h4.tz
              have f10' : vl m4 M 10 = B 10 := y4.f (by unfold qf; omega)
              obtain ⟨tx, c1', c2', c3', c4', cQ, csg⟩ := (h4.xy k qk.1 qk.2).2 Q hix
              obtain ⟨k3, -⟩ := yqr (d := d - 1) (a := vl m4 (B 10) k) (e := tx.length) (t := gtp tx) (N := 8 * tx.length + 10) (by omega) h4 (Or.inr c1'.1) ⟨by omega, by rw [c1'.2]; omega, by rw [c1'.2]; omega⟩ c2' (fun j j0 j1 => c4' j j0 j1) (fun j j0 j1 => c3' _ (by
                unfold gtp gi
                rw [List.getD_eq_getElem?_getD, List.getElem?_eq_getElem (show j.toNat < tx.length by omega)]
                exact List.getElem_mem _))
              obtain ⟨m5, c5, K5, cc, us, kk, CS, e5, e6, h5, hL5, tu5, gr5⟩ := k3 Q cQ
              have y5 := h5.y
              obtain ⟨n1, n2, n3', n4, n5, n6, n7, n8, n9, n10⟩ := y4.ne
              have hT5 : TLD m5 (B 19) nT CT uT (nv m4 (B 19)) := TLD.tu ⟨tw, fun _ _ _ _ => rfl⟩ tu5 n6
              obtain ⟨b1, b2, b3, b4⟩ := h5.beg (d := d - 1)
              have hT6 := (hT5.mf (f := 16) (v := 0) y5.tm h5.tz).mf (f := 17) (v := 0) y5.tm h5.tz
              have hL6 := (hL5.mf (f := 16) (v := 0) h5.tz ⟨by decide, by decide, by decide, by decide⟩).mf (f := 17) (v := 0) h5.tz ⟨by decide, by decide, by decide, by decide⟩
              have hDC := hq.ver hv
              have hcq := sQu_cnt (t := gtp tx) (e := tx.length) (n := 8 * tx.length + 10) cQ
              obtain ⟨m6, c6, z9', r1, r2, r3, r4, ⟨r5, r6⟩, r7⟩ := c276_145 (d := d) (a1 := k) (r := r) (n0 := s.tp.length) (s := (s.wtp []).wpl (-1)) (by omega) qr hv hDC hn csg (by omega) tn hw hdp hsz D [] _ c5 [] 0 pU rfl rfl b4 hL6 hT6 b2 asc_nil (by simp) (by simp)
              rw [List.nil_append] at r4 r5 r6
              rw [Nat.zero_add] at r2
              have lD : D.length ≤ 64 := by have := hDC.2.1; omega
              obtain ⟨m7, x1, x2, x3, x4⟩ := c274 (d := d - 1) r3 r4 r5 (by omega)
              have y6 := r3.y
              have sv6 := r3.ver (r := r) qr (s := (s.wtp []).wpl (-1)) hv
              have ehd : hdV (foC td (erF tl) foN) = (td, erF tl) := rfl
              dsimp only
              rw [ehd]
              refine ⟨mst m7 M 4 0, c6, K5, (hits Q (td, erF tl) D).length, st2 _ ?_, by rw [vl_mst, if_pos ⟨rfl, rfl⟩], fun _ => rfl, x2.cd, ?_⟩
              · rw [bI_eq e1, if_neg (by decide), nm_eq, f10', gd_of y4.b10.1, gd_of ⟨qk.1, by rw [y4.b10.2]; exact qk.2⟩, nm_eq, gd_of c1'.1, c1'.2, bI_eq e5, bV_eq b1]
                refine r2 (q276_145 (by omega) r3.tz r1 _ ?_)
                rw [gd_of sv6.1.1, sv6.2.1, prtD_len, if_neg (by omega), gd_of y6.tm, bV_eq x1]
              · have e8 : nx (mst (mst m5 M 16 0) M 17 0) = nx m5 ∧ sl (mst (mst m5 M 16 0) M 17 0) = sl m5 := ⟨rfl, rfl⟩
                have e7 : nx (mst m7 M 4 0) = nx m7 ∧ sl (mst m7 M 4 0) = sl m7 := ⟨rfl, rfl⟩
                unfold CTT; unfold GR at gr4 gr5 r7; omega
  · rw [if_pos q]
    refine n0.pre fun Z hZ => q276 hz _ ?_
    by_cases q0 : k < 0
    · rw [if_pos q0]; exact hZ
    · rw [if_neg q0]
      by_cases q1 : 3 < k
      · rw [if_pos q1]; exact hZ
      · rw [if_neg q1]
        by_cases q2 : r < -1
        · rw [if_pos q2]; exact hZ
        · rw [if_neg q2, if_pos (by omega)]; exact hZ
end
