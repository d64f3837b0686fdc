/-! the component: documents are put, taken out -/
set_option maxRecDepth 100000
set_option maxHeartbeats 4000000
theorem cnF_er {ob : Bool} : ∀ {F : Fo}, cnF ob F → erF F = F := by
  intro F
  induction F generalizing ob with
  | leaf => intro _; rfl
  | inner i d u l r ihl ihr =>
    intro h
    obtain ⟨h1, h2, h3, h4⟩ := h
    subst h1
    show foC d (erF l) (erF r) = foC d l r
    rw [ihl h3, ihr h4]
/-- what is read may be kept -/
theorem rd_dok {tp : List Int} {F : Fo} (h : sRdT tp = some (.inr F)) (hw : wfF F) (hp : (prV (hdV F).1 (hdV F).2).length ≤ 480) : DKv (hdV F) ∧ F = foC (hdV F).1 (hdV F).2 foN := by
  obtain ⟨nd, l, rfl, e2, e3, e4⟩ := sRd_cn h
  have hc : cnF false (foC nd l foN) := e3
  obtain ⟨c1, c2, c3, c4⟩ := e3
  exact ⟨⟨⟨⟨rfl, e2, hw, hc⟩, cnF_er c3⟩, e4, hp⟩, rfl⟩
theorem rd_gv {tp : List Int} {F : Fo} (h : sRdT tp = some (.inr F)) (hw : wfF F) : GV (0, (hdV F).1, (hdV F).2) ∧ F = foC (hdV F).1 (hdV F).2 foN ∧ dpV (hdV F).1 (hdV F).2 ≤ 32 ∧ ((prV (hdV F).1 (hdV F).2).length : Int) ≤ tp.length := by
  have h' := h
  obtain ⟨nd, l, rfl, e2, e3, e4⟩ := sRd_cn h
  exact ⟨⟨rfl, e2, hw, e3⟩, rfl, e4, sRd_le h' (by omega)⟩
theorem vi_rng : ∀ (n : Nat) (u : Int), ∀ b ∈ vi n u, -128 ≤ b ∧ b < 128 := by
  intro n
  induction n with
  | zero => intro u b hb; rw [List.mem_singleton.mp hb]; unfold w8; omega
  | succ n ih =>
    intro u b hb
    unfold vi at hb
    split at hb
    · rw [List.mem_singleton.mp hb]; unfold w8; omega
    · rcases List.mem_cons.mp hb with q | q
      · rw [q]; unfold w8; omega
      · exact ih _ b q
theorem l2_rng (n : Nat) : ∀ b ∈ l2 n, -128 ≤ b ∧ b < 128 := by
  intro b hb
  unfold l2 at hb
  rcases List.mem_cons.mp hb with q | q
  · rw [q]; unfold w8; omega
  · rw [List.mem_singleton.mp q]; unfold w8; omega
theorem nmB_rng {us : List Int} (h : wfU us) : ∀ b ∈ nmB us, -128 ≤ b ∧ b < 128 := by
  intro b hb
  unfold nmB at hb
  rcases List.mem_append.mp hb with q | q
  · exact l2_rng _ b q
  · exact uts_rng h b q
theorem enD_rng {d : ND} {body : List Int} (hw : wfN d) (hb : ∀ b ∈ body, -128 ≤ b ∧ b < 128) : ∀ b ∈ enD d body, -128 ≤ b ∧ b < 128 := by
  intro b h
  have hk := hw.1
  unfold enD at h
  split at h
  · rw [List.mem_singleton.mp h]; omega
  · split at h
    · rcases List.mem_cons.mp h with q | q
      · omega
      · exact vi_rng _ _ b q
    · split at h
      · rcases List.mem_cons.mp h with q | q
        · omega
        · exact nmB_rng hw.2.2.2.1 b q
      · rcases List.mem_cons.mp h with q | q
        · omega
        · rcases List.mem_append.mp q with q | q
          · exact l2_rng _ b q
          · exact hb b q
theorem enF_rng : ∀ (F : Fo) (ob : Bool), wfF F → ∀ b ∈ enF ob F, -128 ≤ b ∧ b < 128 := by
  intro F
  induction F with
  | leaf => intro ob _ b hb; rw [enF_leaf] at hb; cases hb
  | inner i d u l r ihl ihr =>
    intro ob hw b hb
    obtain ⟨w1, w2, w3, w4, w5, w6⟩ := hw
    rw [enF_inner] at hb
    rcases List.mem_append.mp hb with q | q
    · split at q
      · exact nmB_rng w1.2.2.2.2 b q
      · cases q
    · rcases List.mem_append.mp q with q | q
      · exact enD_rng w1 (ihl _ w5) b q
      · exact ihr ob w6 b q
theorem enV_rng {d : ND} {l : Fo} (hw : wfF (foC d l foN)) : ∀ b ∈ enV d l, -128 ≤ b ∧ b < 128 := enD_rng hw.1 (enF_rng l _ hw.2.2.2.2.1)
theorem encD_ins {id : Int} {v : ND × Fo} {D : DC} : insL id (enV v.1 v.2) (encD D) = encD (insL id v D) := (insL_mp (f := fun v : ND × Fo => enV v.1 v.2)).symm
theorem encD_rm {id : Int} {D : DC} : rmL id (encD D) = encD (rmL id D) := (rmL_mp (f := fun v : ND × Fo => enV v.1 v.2)).symm
theorem encD_lk {id : Int} {D : DC} : lkL id (encD D) = (lkL id D).map fun v => enV v.1 v.2 := lkL_mp
section
variable {d n : Nat} {m m1 m2 : Mem} {X : Int} {A : Int → Int} {s : St} {g : GH}
/-- something is printed into the sink that measures -/
theorem CPt.snk4 {ws : List Int} {kk : Int} (h : CPt n m X A s g) (u : UT noS m m1) (b : BSm m1) (hs : SKS (A 4) m m1 ws 480 kk) : CPt n m1 X A s g := by
  obtain ⟨a1, ⟨zs, a2⟩, ⟨w0, a3⟩, a4, a5, a6, a7, a8, a9⟩ := h.2.2.2.2.1
  have e2 := h.2.1.fld (f := 2) u h.1.tz (by decide) (by decide)
  have e3 := h.2.1.fld (f := 3) u h.1.tz (by decide) (by decide)
  have so := hs.2.1.2
  exact h.nos (res := s.res) u b ⟨by rw [e2]; exact so _ a5 _ _ a1, ⟨zs, by rw [e3]; exact so _ a6 _ _ a2⟩, ⟨ws, hs.1⟩, by rw [e2, e3]; exact ⟨a4, a5, a6, a7, a8, a9⟩⟩ fun ys q => ⟨ys, so _ a9 _ _ q⟩
theorem CPt.clr4 (h : CPt n m X A s g) : ∃ ws, SK (mst m (A 4) 1 0) (A 4) ws 480 ∧ CPt n (mst m (A 4) 1 0) X A s g ∧ ws = [] := by
  obtain ⟨ws, a3⟩ := h.2.2.2.2.1.2.2.1
  have b := h.1
  have t4 := h.2.1.a4
  have hs := a3.clear b.2.2.1
  have u : UT noS m (mst m (A 4) 1 0) := UT.mst (by rw [t4]; decide)
  exact ⟨[], hs.1, h.snk4 u ⟨b.1, b.2.1.mT (by omega), hs.2.1.1, b.2.2.2.1, b.2.2.2.2.ut u b.tz (by decide) (by decide)⟩ hs, rfl⟩
/-- where a document is now -/
theorem CPt.find (h : CPt n m X A s g) (hn : n ≤ 64) (hd : 5 ≤ d) (id : Int) : ∃ v, cl (d - 1) 165 [pR (A 9), pI (vl m (A 12) 0), pI id] m = some (.inl (some (pI v)), m) ∧ (lkL id s.now = none → v = 0) ∧ ∀ x, lkL id s.now = some x → (2 ≤ v ∧ v < 1600) ∧ bDoc (g.c v) (enV x.1 x.2) := by
  obtain ⟨⟨hD, hc, -⟩, -, -, ⟨-, ⟨bs, hV, -⟩, -⟩, -⟩ := h.2.2.2.2.2.2.2.2.2.1
  obtain ⟨v, e1, e2, e3⟩ := c165 (d := d - 1) (id := id) (by omega) h.1.tz hD hc hV
  refine ⟨v, e1, fun hx => e2 (by rw [encD_lk, hx]; rfl), fun x hx => ?_⟩
  obtain ⟨q1, q2⟩ := e3 (enV x.1 x.2) (by rw [encD_lk, hx]; rfl)
  exact ⟨hV.2.2.2.2 v q1, q2⟩
theorem CPt.cnt (h : CPt n m X A s g) : vl m (A 12) 1 = s.now.length := by
  obtain ⟨-, -, -, ⟨-, ⟨bs, -, q, -⟩, -⟩, -⟩ := h.2.2.2.2.2.2.2.2.2.1
  exact q
theorem CPt.dck (h : CPt n m X A s g) : DCK n s.now := h.2.2.2.2.2.2.2.2.2.1.2.2.2.1.2.2
/-- a change: it begins, a document is staged, put, committed -/
theorem put_chain {r c0 id : Int} {v : ND × Fo} (h : CPt n m X A s g) (hn : n ≤ 63) (hd : 320 ≤ d) (hR : RW m r (enV v.1 v.2) c0) (hid : 0 ≤ id ∧ id < 10000) (hv : DKv v) (hdk : s.dk = false) (hct : -1 ≤ s.ct ∧ s.ct ≤ 3) :
    ∃ m1 m2 m3 b root, cl d 28 [pR X] m = some (.inl none, m1) ∧ cl d 169 [pR (A 9), pR r, pI 0, pI (enV v.1 v.2).length] m1 = some (.inl (some (pI b)), m2) ∧ cl d 171 [pR (A 9), pI (vl m (A 12) 0), pI id, pI b] m2 = some (.inl (some (pI root)), m3) ∧ (UT noD m m1 ∧ UT noD m m2 ∧ UT noD m m3) ∧ (tg m1 (A 9) = 9 ∧ tg m2 (A 9) = 9 ∧ tg m3 (A 9) = 9) ∧
    ∃ m4 g', CPt (n + 1) m4 X A (s.com (insL id v s.now)) g' ∧ (pcG g ≤ pcG g' ∧ 16 * (nx m4 - nx m) ≤ pcG g' - pcG g + 16 ∧ sl m4 - sl m ≤ 2 * (pcG g' - pcG g) + 6) ∧ (s.ct < 0 → cl d 29 [pR X, pI root, pI (insL id v s.now).length] m3 = some (.inl none, m4)) ∧ (¬ s.ct < 0 → cl d 29 [pR X, pI root, pI (insL id v s.now).length] m3 = some (.inr 203, m4)) := by
  have b0 := h.1
  have hX := h.2.1
  have hDC := h.dck
  obtain ⟨m1, u0, e28, k28, S1, l1, mk1, mk2⟩ := c28 (d := d) h (by omega) (by omega)
  have u1 := ut_cl (ts := noD) e28 (by decide +kernel)
  have b1 := b0.ca e28 (by decide +kernel)
  have hR1 := hR.ut u1 b0.tz (by decide) (by decide) (by decide)
  have hw := hv.1.1.2.2.1
  have hlen : (enV v.1 v.2).length ≤ 729 := by have e1 : 2 * (enV v.1 v.2).length ≤ 3 * (prV v.1 v.2).length + 1 := en_pr hw; have := hv.2.2; omega
  obtain ⟨m2, b, c2, e169, S2, hbn, hbr, hcc, hdoc, k169, f169⟩ := c169 (d := d) (xs := enV v.1 v.2) (by omega) (by simp) (by omega) hlen S1 hR1 (enV_rng hw)
  have u2 := u1.trans (ut_cl (ts := noD) e169 (by decide +kernel))
  have b2 := b1.ca e169 (by decide +kernel)
  obtain ⟨bs, hV, hbu⟩ := mk1
  have e12 : vl m2 (A 12) 0 = vl m (A 12) 0 := u2.f b0.tz hX.a12 (by decide) (by decide) (by decide)
  have hL : (encD s.now).length ≤ 100 := by rw [encD_len]; have := hDC.2.1; omega
  obtain ⟨m3, c3, sg3, u3, ns3, cnt3, root, bs3, e171, o3, hV3, hb3, -⟩ := c171 (d := d) (m := m2) (K := A 9) (root := vl m (A 12) 0) (id := id) (db := b) (by omega) S2 (by omega) (by simp) (by rw [List.length_cons]; omega) hV hL (fun x hx => ⟨List.mem_cons_of_mem _ (hbu x hx), hcc x (fun z => hbn (by rw [← z]; exact hbu x hx))⟩) hid ⟨List.mem_cons_self, hbr.1, hbr.2⟩ hdoc (fun z => hbn (hbu b z))
  have u3' := u2.trans (ut_cl (ts := noD) e171 (by decide +kernel))
  have b3 := b2.ca e171 (by decide +kernel)
  obtain ⟨S3, ⟨o31, o32⟩, o33, o34, o35, ⟨o36, o37⟩⟩ := o3
  rw [encD_ins] at hV3
  have hroot : 0 ≤ root ∧ root < 1600 := by
    obtain ⟨y1, -, -, -, y5⟩ := hV3
    rcases y1 with ⟨z, -⟩ | ⟨h', ch, -, -, z, -⟩
    · rw [z]; decide
    · have := y5 root (by rw [z]; exact List.mem_cons_self)
      omega
  obtain ⟨m4, c4, sq, srl, hist, cp4, y1, y2⟩ := c29 (d := d) (D := insL id v s.now) (u0 := u0) (by omega) h (by omega) u3' b3 S3 (fun x hx => by rw [o31 x (List.mem_cons_of_mem _ hx), hcc x (fun z => hbn (by rw [← z]; exact hx))]) S1.2.2.2.2.2.1 ⟨⟨bs, hV, hbu⟩, mk2⟩ hV3 hroot (hDC.ins hid hv) hdk hct
  have t9 : ∀ mm, UT noD m mm → tg mm (A 9) = 9 := fun mm u => u.t b0.tz hX.a9 (by decide)
  have n28 : nx m1 = nx m ∧ sl m1 = sl m := ⟨k28.1.1, k28.1.2.1⟩
  have n169 : nx m2 = nx m1 ∧ sl m2 = sl m1 := ⟨k169.1, k169.2.1⟩
  have hns : g.ns.length ≤ ns3.length := by
    have s8 := S3.2.2.2.2.2.2.2
    have := o34
    have hk := (cl_FRM e171).1.2.1
    omega
  have hpc : pcG (c4, ns3, sq, srl, hist, (g.xs, g.c1), (g.ls, g.c2), g.k, g.cap) = pcG g + 48 * ((ns3.length : Int) - g.ns.length) := by unfold pcG; show g.c1 + g.c2 + g.k + g.cap + 48 * (ns3.length : Int) = _; omega
  refine ⟨m1, m2, m3, b, root, e28, e169, e171, ⟨u1, u2, u3'⟩, ⟨t9 _ u1, t9 _ u2, t9 _ u3'⟩, m4, _, cp4, ?_, fun q => (y1 q).1, fun q => (y2 q).1⟩
  rw [hpc]
  by_cases q : s.ct < 0
  · obtain ⟨-, q1, q2⟩ := y1 q
    omega
  · obtain ⟨-, q1, q2⟩ := y2 q
    omega
/-- a document is put -/
theorem c24 {id : Int} (hd : 700 ≤ d) (h : CPt n m X A s g) (hs : STq n s) (hn : n ≤ 63) : CRi n m X A s g (cl d 24 [pR X, pI id] m) exA (oPut s id) (some (pI (oPut s id).2.1)) := by
  have b0 := h.1
  have hz := b0.tz
  have hX := h.2.1
  have t1 := h.2.2.1
  unfold oPut
  by_cases hid : 0 ≤ id ∧ id < 10000
  rotate_left
  · rw [if_pos hid]
    exact CRi.thr h (t := 202) (by decide) (q24 (by omega) hz _ (by rw [nd_no hz hid])) (by decide)
  rw [if_neg (fun z => z hid)]
  have e25 := c25 (d := d - 1) (by omega) h
  have st0 : ∀ Z, (bI (cl (d - 1) 25 [pR X] m) fun v3 m3 => bV (cl (d - 1) 27 [pR X, pI v3] m3) fun m4 => nm (vl m4 X 4) fun v7 => gd (tg m4 v7 = 2) <| bV (cl (d - 1) 52 [pR v7, pR (vl m4 X 10), pI 0] (mst m4 v7 1 0)) fun m5 => nm (vl m5 X 9) fun v8 => nm (vl m5 X 12) fun v9 => gd (tg m5 v9 = 10) <| gd (tg m5 v8 = 9) <| bI (cl (d - 1) 165 [pR v8, pI (vl m5 v9 0), pI id] m5) fun v6 m6 => if v6 = 0 then (rn d 24 63 [pR X, pI id, pI v3, pU, pU] [pI 1] m6) else rn d 24 63 [pR X, pI id, pI v3, pU, pU] [pI 0] m6) = some Z → cl d 24 [pR X, pI id] m = some Z := fun Z hZ => by
    refine q24 (by omega) hz _ ?_
    rw [nd_ok hz hid, gd_of hX.1]; exact hZ
  cases hdk : s.dk with
  | true =>
    rw [hdk, if_pos rfl] at e25
    rw [if_pos rfl]
    exact CRi.thr' h.tape0 (t := 203) (by decide) (st0 _ (by rw [bI_xq e25])) (by decide) ⟨rfl, rfl⟩ (Nat.zero_le _)
  | false =>
    rw [hdk, if_neg (by decide)] at e25
    rw [if_neg (by decide)]
    have h2 := h.tape0
    have ne : A 0 ≠ X := fun z => by have := hX.a0.1; rw [z, hX.1] at this; omega
    obtain ⟨k1, k2⟩ := c27 (d := d - 1) (by omega) h2 rfl (tp := s.tp) t1.2.1 (fun j j0 j1 => by rw [vl_mst, if_neg (fun z => ne z.1)]; exact t1.2.2 j j0 j1)
    cases hE : sRdT s.tp with
    | none => exact absurd hE (sRdT_some _)
    | some w =>
      cases w with
      | inl p =>
        obtain ⟨m3, xs, c', e27, cp3, n1, n2, n3⟩ := k2 p hE
        refine ⟨m3, _, cp3.suc, ?_, fun q => absurd q (show (3 : Int) ≠ 0 by decide), fun _ => st0 _ (by rw [bI_eq e25, bV_xq e27]; rfl)⟩
        unfold CST PN PSl pcG
        have q1 : nx (mst m X 1 0) = nx m := rfl
        have q2 : sl (mst m X 1 0) = sl m := rfl
        show 16 * nx m3 + 640 * ((0 : Nat) : Int) - (c' + g.c2 + g.k + g.cap + 48 * (g.ns.length : Int)) ≤ _ ∧ sl m3 + 40 * ((0 : Nat) : Int) - 2 * (c' + g.c2 + g.k + g.cap + 48 * (g.ns.length : Int)) ≤ _
        omega
      | inr F =>
        obtain ⟨nd, l, rfl, e2, e3, e4, m3, c', e27, cp3, gr⟩ := k1 F hE
        have hdv : hdV (foC nd l foN) = (nd, l) := rfl
        dsimp only
        rw [hdv]
        dsimp only
        obtain ⟨gv1, gv2, gv3, gv4⟩ := rd_gv hE e3
        rw [hdv] at gv1 gv3 gv4
        dsimp only at gv1 gv3 gv4
        have b3 := cp3.1
        have hX3 := cp3.2.1
        obtain ⟨ws, sk4, cp4, rfl⟩ := cp3.clr4
        have r10 := cp4.2.2.2.2.2.1.1
        have hdp : dpF l ≤ 33 := by
          rcases Nat.lt_or_ge nd.1 5 with q | q
          · rw [e3.2.2.1 q]; show 0 ≤ 33; omega
          · unfold dpV at gv3; rw [if_neg (by omega)] at gv3; omega
        obtain ⟨p1, p2⟩ := c52 (d := d - 1) (m := mst m3 (A 4) 1 0) (s := A 4) (r := A 10) (nd := nd) (l := l) (a := 0) (by omega) e3 (cp4.1.2.2.2.2.pre cp4.1.1) cp4.1.2.2.1 sk4 r10 (by have := t1.2.1; show ((enV nd l).length) < 60000; omega) At.self
        have st1 : ∀ Z, (bV (cl (d - 1) 52 [pR (A 4), pR (A 10), pI 0] (mst m3 (A 4) 1 0)) fun m5 => nm (vl m5 X 9) fun v8 => nm (vl m5 X 12) fun v9 => gd (tg m5 v9 = 10) <| gd (tg m5 v8 = 9) <| bI (cl (d - 1) 165 [pR v8, pI (vl m5 v9 0), pI id] m5) fun v6 m6 => if v6 = 0 then (rn d 24 63 [pR X, pI id, pI s.tp.length, pU, pU] [pI 1] m6) else rn d 24 63 [pR X, pI id, pI s.tp.length, pU, pU] [pI 0] m6) = some Z → cl d 24 [pR X, pI id] m = some Z := fun Z hZ => st0 Z (by
          rw [bI_eq e25, bV_eq e27, nm_eq, hX3.f (by omega), gd_of hX3.a4, hX3.f (by omega)]; exact hZ)
        have ln0 : ((([] : List Int).length : Nat) : Int) = 0 := rfl
        have q1 : nx (mst m X 1 0) = nx m ∧ sl (mst m X 1 0) = sl m := ⟨rfl, rfl⟩
        have q2 : nx (mst m3 (A 4) 1 0) = nx m3 ∧ sl (mst m3 (A 4) 1 0) = sl m3 := ⟨rfl, rfl⟩
        obtain ⟨gr1, gr2, gr3⟩ := gr
        by_cases hp : 480 < (prV nd l).length
        · rw [if_pos hp]
          obtain ⟨m5, ws, e52, sks⟩ := p2 (by rw [ln0]; omega)
          have u5 := ut_cl (ts := noS) e52 (by decide +kernel)
          have b5 := cp4.1.ca e52 (by decide +kernel)
          have cp5 := cp4.snk4 u5 b5 sks
          refine ⟨m5, _, cp5.suc, ?_, fun q => absurd q (show (4 : Int) ≠ 0 by decide), fun _ => st1 _ (by rw [bV_xq e52]; rfl)⟩
          have y1 := sks.2.2.2.1
          have y2 := sks.2.2.2.2
          unfold CST PN PSl pcG
          show 16 * nx m5 + 640 * ((0 : Nat) : Int) - (c' + g.c2 + g.k + g.cap + 48 * (g.ns.length : Int)) ≤ _ ∧ sl m5 + 40 * ((0 : Nat) : Int) - 2 * (c' + g.c2 + g.k + g.cap + 48 * (g.ns.length : Int)) ≤ _
          omega
        · rw [if_neg hp]
          obtain ⟨m5, e52, sks⟩ := p1 (by rw [ln0]; omega)
          have u5 := ut_cl (ts := noS) e52 (by decide +kernel)
          have b5 := cp4.1.ca e52 (by decide +kernel)
          have cp5 := cp4.snk4 u5 b5 sks
          have hX5 := cp5.2.1
          have y1 := sks.2.2.2.1
          have y2 := sks.2.2.2.2
          obtain ⟨vv, e165, f1, f2⟩ := cp5.find (by omega) (by omega : 5 ≤ d) id
          have hdok := (rd_dok hE e3 (by rw [hdv]; show (prV nd l).length ≤ 480; omega)).1
          rw [hdv] at hdok
          have r10' := cp5.2.2.2.2.2.1.1
          obtain ⟨m6, m7, m8, bb, root, e28, e169, e171, ⟨u6, u7, u8⟩, ⟨t6, t7, t8⟩, m9, g', cp9, ⟨c91, c92, c93⟩, y3, y4⟩ := put_chain (d := d - 1) (id := id) (v := (nd, l)) cp5 hn (by omega) r10' hid hdok hdk hs.2.2.1
          have hz5 := cp5.1.tz
          have x6 := hX5.ut u6 hz5 (by decide)
          have x7 := hX5.ut u7 hz5 (by decide)
          have x8 := hX5.ut u8 hz5 (by decide)
          have r6 := r10'.ut u6 hz5 (by decide) (by decide) (by decide)
          have v7 : vl m7 (A 12) 0 = vl m5 (A 12) 0 := u7.f hz5 hX5.a12 (by decide) (by decide) (by decide)
          have v8 : vl m8 (A 12) 1 = s.now.length := by rw [u8.f hz5 hX5.a12 (by decide) (by decide) (by decide)]; exact cp5.cnt
          have hnl := h.dck.2.1
          have e19 := c19 (d := d - 1) (b := true) hz5
          have insl := insL_len (id := id) (a := ((nd, l) : ND × Fo)) h.dck.1
          -- behind the count
          have s85 : ∀ (fr : Int) Z, ((insL id ((nd, l) : ND × Fo) s.now).length : Int) = s.now.length + fr → fr = 0 ∨ fr = 1 → (bV (cl (d - 1) 29 [pR X, pI root, pI (insL id ((nd, l) : ND × Fo) s.now).length] m8) fun m5 => nm (vl m5 X 12) fun v13 => gd (tg m5 v13 = 10) <| some (.inl (some (pI (vl m5 v13 1))), m5)) = some Z → rn d 24 85 [pR X, pI id, pI s.tp.length, pI fr, pU] [pI 1] m5 = some Z := fun fr Z hfr hfr2 hZ => by
            refine q24_85 (by omega) hz5 _ ?_
            rw [bV_eq (show cl (d - 1) 19 [pI 1] m5 = some (.inl none, m5) from e19), gd_of hX5.1, bV_eq e28, nm_eq, nm_eq, x6.f (by omega), x6.f (by omega), gd_of x6.a10, gd_of t6, show vl m6 (A 10) 1 = (enV nd l).length from r6.2.2.2.1, bI_eq e169, nm_eq, nm_eq, x7.f (by omega), x7.f (by omega), gd_of x7.a12, gd_of t7, v7, bI_eq e171, nm_eq, x8.f (by omega), gd_of x8.a12, nm_eq, v8]
            rcases hfr2 with q | q
            · subst q; rw [if_pos rfl, (w32_of (by omega) (by omega) : w32 ((s.now.length : Int) + 0) = (s.now.length : Int) + 0), ← hfr]; exact hZ
            · subst q; rw [if_neg (by decide), (w32_of (by omega) (by omega) : w32 ((s.now.length : Int) + 1) = (s.now.length : Int) + 1), ← hfr]; exact hZ
          have st2 : ∀ Z, (bV (cl (d - 1) 29 [pR X, pI root, pI (insL id ((nd, l) : ND × Fo) s.now).length] m8) fun m5 => nm (vl m5 X 12) fun v13 => gd (tg m5 v13 = 10) <| some (.inl (some (pI (vl m5 v13 1))), m5)) = some Z → cl d 24 [pR X, pI id] m = some Z := fun Z hZ => st1 Z (by
            rw [bV_eq e52, nm_eq, nm_eq, hX5.f (by omega), hX5.f (by omega), gd_of hX5.a12, gd_of hX5.a9, bI_eq e165]
            cases hlk : lkL id s.now with
            | none =>
              rw [f1 hlk, if_pos rfl]
              refine q24_63 hz5 _ ?_
              rw [if_neg (by decide), gd_of hX5.1, nm_eq, hX5.f (by omega), gd_of hX5.a12, cp5.cnt, if_pos (by show (s.now.length : Int) < 100; omega)]
              rw [hlk] at insl
              exact s85 1 Z (by rw [insl]; rfl) (Or.inr rfl) hZ
            | some x =>
              have := (f2 x hlk).1
              rw [if_neg (by omega)]
              refine q24_63 hz5 _ ?_
              rw [if_pos rfl]
              rw [hlk] at insl
              exact s85 0 Z (by rw [insl]; simp) (Or.inl rfl) hZ)
          have cost : ∀ mm, mm = m9 → CST m s.tp (pcG g) mm ([] : List Int) (pcG g') := fun mm e => by
            subst e
            have pg : pcG (g.c, g.ns, g.sq, g.srl, g.hist, (enV nd l, c'), (g.ls, g.c2), g.k, g.cap) = pcG g + (c' - g.c1) := by unfold pcG; show c' + g.c2 + g.k + g.cap + 48 * (g.ns.length : Int) = _; omega
            rw [pg] at c91 c92 c93
            unfold CST PN PSl
            rw [ln0]
            omega
          by_cases q : s.ct < 0
          · rw [if_pos q]
            have e29 := y3 q
            rw [show ((s.wtp []).wpl (-1)).now = s.now from rfl] at e29
            have hX9 := cp9.2.1
            refine ⟨m9, g', cp9, cost _ rfl, fun _ => st2 _ ?_, fun z => absurd rfl z⟩
            have cc := cp9.cnt
            rw [bV_eq e29, nm_eq, hX9.f (by omega), gd_of hX9.a12, cc]
            have : (((s.wtp []).wpl (-1)).com (insL id ((nd, l) : ND × Fo) s.now)).now = insL id ((nd, l) : ND × Fo) s.now := by unfold St.com; exact if_pos (Or.inl q)
            show some (Sum.inl (some (pI ((((s.wtp []).wpl (-1)).com (insL id ((nd, l) : ND × Fo) s.now)).now.length : Int))), m9) = _
            rw [this]
          · rw [if_neg q]
            have e29 := y4 q
            rw [show ((s.wtp []).wpl (-1)).now = s.now from rfl] at e29
            refine ⟨m9, g', cp9, cost _ rfl, fun z => absurd z (show (2 : Int) ≠ 0 by decide), fun _ => st2 _ ?_⟩
            rw [bV_xq e29]; rfl
end
