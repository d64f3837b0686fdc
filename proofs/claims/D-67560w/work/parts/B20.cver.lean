/-! the component: versions; documents are taken out, answered -/
set_option maxRecDepth 100000
set_option maxHeartbeats 4000000
section
variable {d n : Nat} {m m1 : Mem} {X : Int} {A : Int → Int} {s : St} {g : GH}
/-- a change: it begins, a document goes, it is committed -/
theorem rm_chain {id : Int} (h : CPt n m X A s g) (hn : n ≤ 63) (hd : 320 ≤ d) (hlk : lkL id s.now ≠ none) (hdk : s.dk = false) (hct : -1 ≤ s.ct ∧ s.ct ≤ 3) :
    ∃ m1 m3 root, cl d 28 [pR X] m = some (.inl none, m1) ∧ cl d 179 [pR (A 9), pI (vl m (A 12) 0), pI id] m1 = some (.inl (some (pI root)), m3) ∧ (UT noD m m1 ∧ UT noD m m3) ∧ (tg m1 (A 9) = 9 ∧ tg m3 (A 9) = 9) ∧
    ∃ m4 g', CPt (n + 1) m4 X A (s.com (rmL id s.now)) g' ∧ (pcG g ≤ pcG g' ∧ 16 * (nx m4 - nx m) ≤ pcG g' - pcG g + 16 ∧ sl m4 - sl m ≤ 2 * (pcG g' - pcG g) + 6) ∧ (s.ct < 0 → cl d 29 [pR X, pI root, pI (rmL id s.now).length] m3 = some (.inl none, m4)) ∧ (¬ s.ct < 0 → cl d 29 [pR X, pI root, pI (rmL id s.now).length] m3 = some (.inr 203, m4)) := by
  have b0 := h.1
  have hX := h.2.1
  have hDC := h.dck
  obtain ⟨m1, u0, e28, k28, S1, l1, mk1, mk2⟩ := c28 (d := d) h (by omega) (by omega)
  have u1 := ut_cl (ts := noD) e28 (by decide +kernel)
  have b1 := b0.ca e28 (by decide +kernel)
  obtain ⟨bs, hV, hbu⟩ := mk1
  have hL : (encD s.now).length ≤ 100 := by rw [encD_len]; have := hDC.2.1; omega
  have hlk' : lkL id (encD s.now) ≠ none := by
    rw [encD_lk]
    cases q : lkL id s.now with
    | none => exact absurd q hlk
    | some x => simp
  obtain ⟨m3, c3, sg3, u3, ns3, cnt3, root, bs3, e179, o3, hV3, hb3, -⟩ := c179 (d := d) (m := m1) (K := A 9) (root := vl m (A 12) 0) (id := id) (by omega) S1 (by omega) (by simp) (by omega) hV hL (fun x hx => ⟨hbu x hx, rfl⟩) hlk'
  have u3' := u1.trans (ut_cl (ts := noD) e179 (by decide +kernel))
  have b3 := b1.ca e179 (by decide +kernel)
  obtain ⟨S3, ⟨o31, o32⟩, o33, o34, o35, ⟨o36, o37⟩⟩ := o3
  rw [encD_rm] at hV3
  have hroot : 0 ≤ root ∧ root < 1600 := by
    obtain ⟨y1, -, -, -, y5⟩ := hV3
    rcases y1 with ⟨z, -⟩ | ⟨h', ch, -, -, z, -⟩
    · rw [z]; decide
    · have := y5 root (by rw [z]; exact List.mem_cons_self)
      omega
  obtain ⟨m4, c4, sq, srl, hist, cp4, y1, y2⟩ := c29 (d := d) (D := rmL id s.now) (u0 := u0) (by omega) h (by omega) u3' b3 S3 o31 S1.2.2.2.2.2.1 ⟨⟨bs, hV, hbu⟩, mk2⟩ hV3 hroot (hDC.rm.mono (Nat.le_succ n)) hdk hct
  have t9 : ∀ mm, UT noD m mm → tg mm (A 9) = 9 := fun mm u => u.t b0.tz hX.a9 (by decide)
  have n28 : nx m1 = nx m ∧ sl m1 = sl m := ⟨k28.1.1, k28.1.2.1⟩
  have hns : g.ns.length ≤ ns3.length := by
    have hk := (cl_FRM e179).1.2.1
    omega
  have hpc : pcG (c4, ns3, sq, srl, hist, (g.xs, g.c1), (g.ls, g.c2), g.k, g.cap) = pcG g + 48 * ((ns3.length : Int) - g.ns.length) := by unfold pcG; show g.c1 + g.c2 + g.k + g.cap + 48 * (ns3.length : Int) = _; omega
  refine ⟨m1, m3, root, e28, e179, ⟨u1, u3'⟩, ⟨t9 _ u1, t9 _ u3'⟩, m4, _, cp4, ?_, fun q => (y1 q).1, fun q => (y2 q).1⟩
  rw [hpc]
  by_cases q : s.ct < 0
  · obtain ⟨-, q1, q2⟩ := y1 q
    omega
  · obtain ⟨-, q1, q2⟩ := y2 q
    omega
/-- all documents go -/
theorem cl_chain (h : CPt n m X A s g) (hn : n ≤ 63) (hd : 320 ≤ d) (hdk : s.dk = false) (hct : -1 ≤ s.ct ∧ s.ct ≤ 3) :
    ∃ m1, cl d 28 [pR X] m = some (.inl none, m1) ∧ UT noD m m1 ∧
    ∃ m4 g', CPt (n + 1) m4 X A (s.com []) g' ∧ (pcG g ≤ pcG g' ∧ 16 * (nx m4 - nx m) ≤ pcG g' - pcG g + 16 ∧ sl m4 - sl m ≤ 2 * (pcG g' - pcG g) + 6) ∧ (s.ct < 0 → cl d 29 [pR X, pI 0, pI 0] m1 = some (.inl none, m4)) ∧ (¬ s.ct < 0 → cl d 29 [pR X, pI 0, pI 0] m1 = some (.inr 203, m4)) := by
  have b0 := h.1
  obtain ⟨m1, u0, e28, k28, S1, l1, mk1, mk2⟩ := c28 (d := d) h (by omega) (by omega)
  have u1 := ut_cl (ts := noD) e28 (by decide +kernel)
  have b1 := b0.ca e28 (by decide +kernel)
  have hV3 : VsO g.c 0 (encD []) [] := ⟨Or.inl ⟨rfl, rfl, rfl⟩, trivial, fun x hx => (by cases hx), List.nodup_nil, fun x hx => (by cases hx)⟩
  obtain ⟨m4, c4, sq, srl, hist, cp4, y1, y2⟩ := c29 (d := d) (D := []) (u0 := u0) (by omega) h (by omega) u1 b1 S1 (fun _ _ => rfl) S1.2.2.2.2.2.1 ⟨mk1, mk2⟩ hV3 (by decide) DCK.nil hdk hct
  have n28 : nx m1 = nx m ∧ sl m1 = sl m := ⟨k28.1.1, k28.1.2.1⟩
  have hpc : pcG (c4, g.ns, sq, srl, hist, (g.xs, g.c1), (g.ls, g.c2), g.k, g.cap) = pcG g := rfl
  refine ⟨m1, e28, u1, m4, _, cp4, ?_, fun q => (y1 q).1, fun q => (y2 q).1⟩
  rw [hpc]
  by_cases q : s.ct < 0
  · obtain ⟨-, q1, q2⟩ := y1 q
    omega
  · obtain ⟨-, q1, q2⟩ := y2 q
    omega
theorem CST.of {tp tp' : List Int} {pc pc' : Int} (h : pc ≤ pc' ∧ 16 * (nx m1 - nx m) ≤ pc' - pc + 16 ∧ sl m1 - sl m ≤ 2 * (pc' - pc) + 6) (hl : tp'.length ≤ tp.length) : CST m tp pc m1 tp' pc' := by
  unfold CST PN PSl; omega
theorem com_now {D : DC} (q : s.ct < 0) : (s.com D).now = D := by unfold St.com; exact if_pos (Or.inl q)
/-- a document is taken out -/
theorem c33 {id : Int} (hd : 700 ≤ d) (h : CPt n m X A s g) (hs : STq n s) (hn : n ≤ 63) : CRi n m X A s g (cl d 33 [pR X, pI id] m) exB (oOut s id) (some (pI (oOut s id).2.1)) := by
  have hz := h.1.tz
  have hX := h.2.1
  have fl := h.2.2.2.1
  unfold oOut
  by_cases hid : 0 ≤ id ∧ id < 10000
  rotate_left
  · rw [if_pos hid]
    exact CRi.thr h (t := 202) (by decide) (q33 (by omega) hz _ (by rw [nd_no hz hid])) (by decide)
  rw [if_neg (fun z => z hid)]
  have st0 : ∀ Z, rn d 33 22 [pR X, pI id] [pI (b2i (!s.dk))] m = some Z → cl d 33 [pR X, pI id] m = some Z := fun Z hZ => by
    refine q33 (by omega) hz _ ?_
    rw [nd_ok hz hid, gd_of hX.1, fl.1]
    cases hdk : s.dk with
    | true => rw [hdk] at hZ; rw [if_neg (by decide)]; exact hZ
    | false => rw [hdk] at hZ; rw [if_pos (show b2i false = 0 from rfl)]; exact hZ
  cases hdk : s.dk with
  | true =>
    rw [if_pos rfl]
    rw [hdk] at st0
    exact CRi.thr h (t := 203) (by decide) (st0 _ (q33_22 (by omega) hz _ (by rw [bV_xq (by rw [c26 (b := !true) hz]; rfl)]))) (by decide)
  | false =>
    rw [if_neg (by decide)]
    rw [hdk] at st0
    obtain ⟨vv, e165, f1, f2⟩ := h.find (by omega) (by omega : 5 ≤ d) id
    have st1 : ∀ Z, rn d 33 48 [pR X, pI id] [pI (b2i (lkL id s.now).isSome)] m = some Z → cl d 33 [pR X, pI id] m = some Z := fun Z hZ => st0 Z (q33_22 (by omega) hz _ (by
      rw [bV_eq (by rw [c26 (b := !false) hz]; rfl), gd_of hX.1, nm_eq, nm_eq, hX.f (by omega), hX.f (by omega), gd_of hX.a12, gd_of hX.a9, bI_eq e165]
      cases hlk : lkL id s.now with
      | none => rw [hlk] at hZ; rw [f1 hlk, if_pos rfl]; exact hZ
      | some x => rw [hlk] at hZ; have := (f2 x hlk).1; rw [if_neg (by omega)]; exact hZ))
    cases hlk : lkL id s.now with
    | none =>
      rw [hlk] at st1
      exact CRi.thr h (t := 205) (by decide) (st1 _ (q33_48 (by omega) hz _ (by rw [bV_xq (by rw [c32 (b := (none : Option (ND × Fo)).isSome) hz]; rfl)]))) (by decide)
    | some x =>
      rw [hlk] at st1
      obtain ⟨m1, m3, root, e28, e179, ⟨u1, u3⟩, ⟨t1, t3⟩, m4, g', cp4, cc, y1, y2⟩ := rm_chain (d := d - 1) (id := id) h hn (by omega) (by rw [hlk]; exact fun z => (by cases z)) hdk hs.2.2.1
      have x1 := hX.ut u1 hz (by decide)
      have x3 := hX.ut u3 hz (by decide)
      have v1 : vl m1 (A 12) 0 = vl m (A 12) 0 := u1.f hz hX.a12 (by decide) (by decide) (by decide)
      have v3 : vl m3 (A 12) 1 = s.now.length := by rw [u3.f hz hX.a12 (by decide) (by decide) (by decide)]; exact h.cnt
      have hnl := h.dck.2.1
      have rl := rmL_len (id := id) (L := s.now)
      rw [hlk] at rl
      have rl' : ((rmL id s.now).length : Int) = s.now.length - 1 := by
        have : (rmL id s.now).length + 1 = s.now.length := rl
        omega
      have st2 : ∀ Z, (bV (cl (d - 1) 29 [pR X, pI root, pI (rmL id s.now).length] m3) fun m4 => nm (vl m4 X 12) fun v8 => gd (tg m4 v8 = 10) <| some (.inl (some (pI (vl m4 v8 1))), m4)) = some Z → cl d 33 [pR X, pI id] m = some Z := fun Z hZ => st1 Z (q33_48 (by omega) hz _ (by
        rw [bV_eq (by rw [c32 (b := (some x : Option (ND × Fo)).isSome) hz]; rfl), gd_of hX.1, bV_eq e28, nm_eq, nm_eq, x1.f (by omega), x1.f (by omega), gd_of x1.a12, gd_of t1, v1, bI_eq e179, nm_eq, x3.f (by omega), gd_of x3.a12, v3, (w32_of (by omega) (by omega) : w32 ((s.now.length : Int) - 1) = (s.now.length : Int) - 1), ← rl']
        exact hZ))
      dsimp only
      by_cases q : s.ct < 0
      · rw [if_pos q]
        have hX4 := cp4.2.1
        refine ⟨m4, g', cp4, CST.of cc (Nat.le_refl _), fun _ => st2 _ ?_, fun z => absurd rfl z⟩
        have c := cp4.cnt
        rw [com_now q] at c
        rw [bV_eq (y1 q), nm_eq, hX4.f (by omega), gd_of hX4.a12, c]
      · rw [if_neg q]
        refine ⟨m4, g', cp4, CST.of cc (Nat.le_refl _), fun z => absurd z (show (2 : Int) ≠ 0 by decide), fun _ => st2 _ ?_⟩
        rw [bV_xq (y2 q)]; rfl
/-- all documents are taken out -/
theorem c34 (hd : 700 ≤ d) (h : CPt n m X A s g) (hs : STq n s) (hn : n ≤ 63) : CRi n m X A s g (cl d 34 [pR X] m) (fun _ => 203) (oClear s) (some (pI (oClear s).2.1)) := by
  have hz := h.1.tz
  have hX := h.2.1
  have fl := h.2.2.2.1
  unfold oClear
  have st0 : ∀ Z, rn d 34 12 [pR X, pU] [pI (b2i (!s.dk))] m = some Z → cl d 34 [pR X] m = some Z := fun Z hZ => by
    refine q34 hz _ ?_
    rw [gd_of hX.1, fl.1]
    cases hdk : s.dk with
    | true => rw [hdk] at hZ; rw [if_neg (by decide)]; exact hZ
    | false => rw [hdk] at hZ; rw [if_pos (show b2i false = 0 from rfl)]; exact hZ
  cases hdk : s.dk with
  | true =>
    rw [if_pos rfl]
    rw [hdk] at st0
    exact CRi.thr h (t := 203) (by decide) (st0 _ (q34_12 (by omega) hz _ (by rw [bV_xq (by rw [c26 (b := !true) hz]; rfl)]))) (by decide)
  | false =>
    rw [if_neg (by decide)]
    rw [hdk] at st0
    obtain ⟨m1, e28, u1, m4, g', cp4, cc, y1, y2⟩ := cl_chain (d := d - 1) h hn (by omega) hdk hs.2.2.1
    have st2 : ∀ Z, (bV (cl (d - 1) 29 [pR X, pI 0, pI 0] m1) fun m3 => some (.inl (some (pI (s.now.length))), m3)) = some Z → cl d 34 [pR X] m = some Z := fun Z hZ => st0 Z (q34_12 (by omega) hz _ (by
      rw [bV_eq (by rw [c26 (b := !false) hz]; rfl), gd_of hX.1, nm_eq, hX.f (by omega), gd_of hX.a12, bV_eq e28, h.cnt]
      exact hZ))
    by_cases q : s.ct < 0
    · rw [if_pos q]
      exact ⟨m4, g', cp4, CST.of cc (Nat.le_refl _), fun _ => st2 _ (by rw [bV_eq (y1 q)]), fun z => absurd rfl z⟩
    · rw [if_neg q]
      exact ⟨m4, g', cp4, CST.of cc (Nat.le_refl _), fun z => absurd z (show (1 : Int) ≠ 0 by decide), fun _ => st2 _ (by rw [bV_xq (y2 q)])⟩
/-- a version, if it stands -/
theorem c31 {r : Int} (hd : 1 ≤ d) (h : CPt n m X A s g) (hr : -1 ≤ r ∧ r < 8) : cl d 31 [pR X, pI r] m = if (s.ver r).isSome then some (.inl (some (pR (vA A r))), m) else some (.inr 203, mal m 203 6) := by
  have hz := h.1.tz
  have hX := h.2.1
  obtain ⟨-, -, -, ⟨hO, -, -⟩, -, -, hRd⟩ := h.2.2.2.2.2.2.2.2.2.1
  have key : ∀ Z, (if (s.ver r).isSome then (some (.inl (some (pR (vA A r))), m) : RM) else some (.inr 203, mal m 203 6)) = some Z → cl d 31 [pR X, pI r] m = some Z := fun Z hZ => by
    refine q31 (by omega) hz _ ?_
    rw [← hZ]
    unfold St.ver vA
    by_cases q : r < 0
    · rw [if_pos q, if_pos q, if_pos q, gd_of hX.1, hX.f (by omega)]; rfl
    · rw [if_neg q, if_neg q, if_neg q]
      obtain ⟨o1, o2⟩ := hO.1 r (by omega) hr.2
      obtain ⟨r1, r2⟩ := hRd r (by omega) hr.2
      rw [gd_of hX.1, nm_eq, hX.f (by omega), gd_of hX.a13.1, gd_of ⟨by omega, by rw [hX.a13.2]; omega⟩, nm_eq, o1, gd_of o2, r1]
      cases hx : s.rd r with
      | none => rw [bV_xq (by rw [c26 (b := (none : Option DC).isSome) hz]; rfl)]; rfl
      | some D => rw [bV_eq (by rw [c26 (b := (some D : Option DC).isSome) hz]; rfl), nm_eq, hX.f (by omega), gd_of hX.a13.1, gd_of ⟨by omega, by rw [hX.a13.2]; omega⟩, o1]; rfl
  cases hv : (s.ver r).isSome with
  | true => rw [if_pos rfl]; exact key _ (by rw [hv, if_pos rfl])
  | false => rw [if_neg (by decide)]; exact key _ (by rw [hv, if_neg (by decide)])
theorem CPt.vni {r : Int} {D : DC} (h : CPt n m X A s g) (hr : -1 ≤ r ∧ r < 8) (hv : s.ver r = some D) : VNI m g.c g.hist g.srl (vA A r) D ∧ DCK n D ∧ tg m (vA A r) = 10 := by
  have hX := h.2.1
  obtain ⟨-, -, -, ⟨hO, h1, h2⟩, -, -, hRd⟩ := h.2.2.2.2.2.2.2.2.2.1
  unfold St.ver at hv
  unfold vA
  by_cases q : r < 0
  · rw [if_pos q] at hv ⊢
    cases hv
    exact ⟨h1, h2, hX.a12⟩
  · rw [if_neg q] at hv ⊢
    obtain ⟨r1, r2⟩ := hRd r (by omega) hr.2
    exact ⟨(r2 D hv).1, (r2 D hv).2, (hO.1 r (by omega) hr.2).2⟩
/-- where a document of a version is -/
theorem CPt.findv {r : Int} {D : DC} (h : CPt n m X A s g) (hr : -1 ≤ r ∧ r < 8) (hv : s.ver r = some D) (hd : 4 ≤ d) (id : Int) : ∃ v, cl d 165 [pR (A 9), pI (vl m (vA A r) 0), pI id] m = some (.inl (some (pI v)), m) ∧ (lkL id D = none → v = 0) ∧ ∀ x, lkL id D = some x → (2 ≤ v ∧ v < 1600) ∧ bDoc (g.c v) (enV x.1 x.2) := by
  obtain ⟨⟨hD, hc, -⟩, -⟩ := h.2.2.2.2.2.2.2.2.2.1
  obtain ⟨⟨bs, hV, -⟩, -, -⟩ := h.vni hr hv
  obtain ⟨v, e1, e2, e3⟩ := c165 (d := d) (id := id) hd h.1.tz hD hc hV
  refine ⟨v, e1, fun hx => e2 (by rw [encD_lk, hx]; rfl), fun x hx => ?_⟩
  obtain ⟨q1, q2⟩ := e3 (enV x.1 x.2) (by rw [encD_lk, hx]; rfl)
  exact ⟨hV.2.2.2.2 v q1, q2⟩
/-- a document is loaded -/
theorem CPt.load {v : Int} {x : ND × Fo} (h : CPt n m X A s g) (hd : 2 ≤ d) (hv : 2 ≤ v ∧ v < 1600) (hdoc : bDoc (g.c v) (enV x.1 x.2)) : ∃ m' c', cl d 178 [pR (A 9), pI v, pR (A 11)] m = some (.inl none, m') ∧ CPt n m' X A s (g.c, g.ns, g.sq, g.srl, g.hist, (g.xs, g.c1), (enV x.1 x.2, c'), g.k, g.cap) ∧ GR m m' g.c2 c' ∧ (enV x.1 x.2).length ≤ 729 := by
  have b0 := h.1
  obtain ⟨⟨hD, hc, -⟩, -⟩ := h.2.2.2.2.2.2.2.2.2.1
  obtain ⟨r1, r2⟩ := h.2.2.2.2.2.2.1
  obtain ⟨m', c', e1, e2, e3, e4, e5⟩ := c178 (d := d) (b := v) (r := A 11) hd b0.1 b0.2.1 hD hc (by omega) r1 hdoc
  have hl := hdoc.2.2.2.2
  have u := ut_cl (ts := noR) e1 (by decide +kernel)
  have b1 := b0.ca' e1 (by decide +kernel) e3.1 (b0.2.2.1.fr (cl_FRM e1) (cl_NZ e1) b0.tz (by decide +kernel))
  exact ⟨m', c', e1, h.r11 u b1 e3 ⟨e2, by omega⟩, e4, hl⟩
/-- something is printed into the answer -/
theorem CPt.snk2 {ws : List Int} {kk : Int} (h : CPt n m X A s g) (u : UT noS m m1) (b : BSm m1) (hs : SKS (vl m X 2) m m1 ws 32768 kk) : CPt n m1 X A (s.wres ws) g := by
  obtain ⟨a1, ⟨zs, a2⟩, ⟨w0, a3⟩, a4, a5, a6, a7, a8, a9⟩ := h.2.2.2.2.1
  have e2 := h.2.1.fld (f := 2) u h.1.tz (by decide) (by decide)
  have e3 := h.2.1.fld (f := 3) u h.1.tz (by decide) (by decide)
  have so := hs.2.1.2
  exact h.nos (res := ws) u b ⟨by rw [e2]; exact hs.1, ⟨zs, by rw [e3]; exact so _ (fun z => a4 z.symm) _ _ a2⟩, ⟨w0, so _ (fun z => a5 z.symm) _ _ a3⟩, by rw [e2, e3]; exact ⟨a4, a5, a6, a7, a8, a9⟩⟩ fun ys q => ⟨ys, so _ a7 _ _ q⟩
theorem CPt.clr2 (h : CPt n m X A s g) : CPt n (mst m (vl m X 2) 1 0) X A (s.wres []) g ∧ vl (mst m (vl m X 2) 1 0) X 2 = vl m X 2 := by
  have a1 := h.2.2.2.2.1.1
  have b := h.1
  have t2 := a1.1
  have hs := a1.clear b.2.2.1
  have u : UT noS m (mst m (vl m X 2) 1 0) := UT.mst (by rw [t2]; decide)
  exact ⟨h.snk2 u ⟨b.1, b.2.1.mT (by omega), hs.2.1.1, b.2.2.2.1, b.2.2.2.2.ut u b.tz (by decide) (by decide)⟩ hs, by rw [vl_mst, if_neg (fun z => by have := h.2.1.1; rw [z.1, t2] at this; omega)]⟩
theorem in9 {r : Int} (hr : pin r (-2147483648) 2147483648) : (0 ≤ w32 (r + 1) ∧ w32 (r + 1) < 9) ↔ (-1 ≤ r ∧ r < 8) := by
  unfold pin at hr
  unfold w32
  omega
/-- a document is answered -/
theorem c30 {r id : Int} (hd : 300 ≤ d) (h : CPt n m X A s g) (hr : pin r (-2147483648) 2147483648) : CRi n m X A s g (cl d 30 [pR X, pI r, pI id] m) exB (oGet s r id) (some (pI (oGet s r id).2.1)) := by
  have hz := h.1.tz
  have hX := h.2.1
  have fl := h.2.2.2.1
  have i9 := in9 hr
  have e22 := c22 (d := d - 1) (a := w32 (r + 1)) (b := 9) hz
  have e22' := c22 (d := d - 1) (a := id) (b := 10000) hz
  unfold oGet
  have st0 : ∀ Z, ((-1 ≤ r ∧ r < 8) ∧ 0 ≤ id ∧ id < 10000) → rn d 30 41 [pR X, pI r, pI id, pU] [pI (b2i (!s.dk))] m = some Z → cl d 30 [pR X, pI r, pI id] m = some Z := fun Z hh hZ => by
    refine q30 (by omega) hz _ ?_
    rw [bI_eq e22, decide_eq_true (i9.mpr hh.1), if_neg (by decide), bI_eq e22', decide_eq_true hh.2, if_neg (by decide), bV_eq (show cl (d - 1) 23 [pI 1] m = some (.inl none, m) from c23 (b := true) hz), gd_of hX.1, fl.1]
    cases hdk : s.dk with
    | true => rw [hdk] at hZ; rw [if_neg (by decide)]; exact hZ
    | false => rw [hdk] at hZ; rw [if_pos (show b2i false = 0 from rfl)]; exact hZ
  by_cases hid : (-1 ≤ r ∧ r < 8) ∧ 0 ≤ id ∧ id < 10000
  rotate_left
  · rw [if_pos hid]
    refine CRi.thr h (t := 202) (by decide) (q30 (by omega) hz _ ?_) (by decide)
    rw [bI_eq e22]
    have e23 : cl (d - 1) 23 [pI 0] m = some (.inr 202, mal m 202 6) := c23 (b := false) hz
    by_cases q : -1 ≤ r ∧ r < 8
    · rw [decide_eq_true (i9.mpr q), if_neg (by decide), bI_eq e22', decide_eq_false (fun z => hid ⟨q, z⟩), if_pos (show b2i false = 0 from rfl), bV_xq e23]
    · rw [decide_eq_false (fun z => q (i9.mp z)), if_pos (show b2i false = 0 from rfl), bV_xq e23]
  rw [if_neg (fun z => z hid)]
  cases hdk : s.dk with
  | true =>
    rw [if_pos rfl]
    rw [hdk] at st0
    exact CRi.thr h (t := 203) (by decide) (st0 _ hid (q30_41 (by omega) hz _ (by rw [bV_xq (by rw [c26 (b := !true) hz]; rfl)]))) (by decide)
  | false =>
    rw [if_neg (by decide)]
    rw [hdk] at st0
    have e31 := c31 (d := d - 1) (r := r) (by omega) h hid.1
    have st1 : ∀ Z, (bR (cl (d - 1) 31 [pR X, pI r] m) fun v2 m2 => gd (tg m2 v2 = 10) <| gd (tg m2 (A 9) = 9) <| bI (cl (d - 1) 165 [pR (A 9), pI (vl m2 v2 0), pI id] m2) fun v3 m3 => if v3 = 0 then (rn d 30 70 [pR X, pI r, pI id, pI v3] [pI 0] m3) else rn d 30 70 [pR X, pI r, pI id, pI v3] [pI 1] m3) = some Z → cl d 30 [pR X, pI r, pI id] m = some Z := fun Z hZ => st0 Z hid (q30_41 (by omega) hz _ (by
      rw [bV_eq (by rw [c26 (b := !false) hz]; rfl), gd_of hX.1, nm_eq, hX.f (by omega)]; exact hZ))
    cases hv : s.ver r with
    | none =>
      rw [hv] at e31
      exact CRi.thr h (t := 203) (by decide) (st1 _ (by rw [bR_xq e31]; try rfl)) (by decide)
    | some D =>
      rw [hv] at e31
      obtain ⟨v1, v2, v3⟩ := h.vni hid.1 hv
      obtain ⟨vv, e165, f1, f2⟩ := h.findv hid.1 hv (by omega : 4 ≤ d - 1) id
      have e31' : cl (d - 1) 31 [pR X, pI r] m = some (.inl (some (pR (vA A r))), m) := e31
      have st2 : ∀ Z, rn d 30 70 [pR X, pI r, pI id, pI vv] [pI (b2i (lkL id D).isSome)] m = some Z → cl d 30 [pR X, pI r, pI id] m = some Z := fun Z hZ => st1 Z (by
        rw [bR_eq e31', gd_of v3, gd_of hX.a9, bI_eq e165]
        cases hlk : lkL id D with
        | none => rw [hlk] at hZ; rw [if_pos (f1 hlk)]; exact hZ
        | some x => rw [hlk] at hZ; have := (f2 x hlk).1; rw [if_neg (by omega)]; exact hZ)
      dsimp only
      cases hlk : lkL id D with
      | none =>
        rw [hlk] at st2
        exact CRi.thr h (t := 205) (by decide) (st2 _ (q30_70 (by omega) hz _ (by rw [bV_xq (by rw [c32 (b := (none : Option (ND × Fo)).isSome) hz]; rfl)]))) (by decide)
      | some x =>
        rw [hlk] at st2
        obtain ⟨f3, f4⟩ := f2 x hlk
        have hdok := v2.lk hlk
        obtain ⟨m2, c', e178, cp2, gr, hl⟩ := h.load (d := d - 1) (by omega) f3 f4
        have hX2 := cp2.2.1
        obtain ⟨cp3, x2⟩ := cp2.clr2
        have hX3 := cp3.2.1
        have sk3 := cp3.2.2.2.2.1.1
        rw [x2] at sk3
        have r11 := cp3.2.2.2.2.2.2.1.1
        have hdp : dpF x.2 ≤ 33 := by
          have h5 := hdok.2.1
          rcases Nat.lt_or_ge x.1.1 5 with q | q
          · rw [hdok.1.1.2.2.1.2.2.1 q]; show 0 ≤ 33; omega
          · unfold dpV at h5; rw [if_neg (by omega)] at h5; omega
        obtain ⟨p1, -⟩ := c52 (d := d - 1) (m := mst m2 (vl m2 X 2) 1 0) (s := vl m2 X 2) (r := A 11) (nd := x.1) (l := x.2) (a := 0) (by omega) hdok.1.1.2.2.1 (cp3.1.2.2.2.2.pre cp3.1.1) cp3.1.2.2.1 sk3 r11 (by show ((enV x.1 x.2).length) < 60000; omega) At.self
        obtain ⟨m4, e52, sks⟩ := p1 (by have := hdok.2.2; show (0 : Int) + _ ≤ _; omega)
        have u4 := ut_cl (ts := noS) e52 (by decide +kernel)
        have b4 := cp3.1.ca e52 (by decide +kernel)
        have hsk : SKS (vl (mst m2 (vl m2 X 2) 1 0) X 2) (mst m2 (vl m2 X 2) 1 0) m4 (prV x.1 x.2) 32768 0 := by rw [x2]; exact sks
        have cp4 := cp3.snk2 u4 b4 hsk
        have hX4 := cp4.2.1
        have x4 : vl m4 X 2 = vl m2 X 2 := by rw [hX3.fld u4 cp3.1.tz (by decide) (by decide), x2]
        have y1 := sks.2.2.2.1
        have y2 := sks.2.2.2.2
        have q1 : nx (mst m2 (vl m2 X 2) 1 0) = nx m2 ∧ sl (mst m2 (vl m2 X 2) 1 0) = sl m2 := ⟨rfl, rfl⟩
        obtain ⟨gr1, gr2, gr3⟩ := gr
        refine ⟨m4, _, cp4.suc, ?_, fun _ => st2 _ (q30_70 (by omega) hz _ ?_), fun z => absurd rfl z⟩
        · unfold CST PN PSl pcG
          show 16 * nx m4 + 640 * (s.tp.length : Int) - (g.c1 + c' + g.k + g.cap + 48 * (g.ns.length : Int)) ≤ _ ∧ sl m4 + 40 * (s.tp.length : Int) - 2 * (g.c1 + c' + g.k + g.cap + 48 * (g.ns.length : Int)) ≤ _
          omega
        · rw [bV_eq (by rw [c32 (b := (some x : Option (ND × Fo)).isSome) hz]; rfl), gd_of hX.1, nm_eq, hX.f (by omega), gd_of hX.a9, hX.f (by omega), bV_eq e178, nm_eq, gd_of (by rw [x2] at *; exact sk3.1), hX2.f (f := 11) (by omega), bV_eq e52, nm_eq, x4, gd_of (by rw [← x4]; exact cp4.2.2.2.2.1.1.1), ← x4]
          have := cp4.2.2.2.2.1.1.2.2.2.1
          rw [this]; rfl
/-- versions' objects have changed -/
theorem CPt.vers {rd : Int → Option DC} (h : CPt n m X A s g) (u : UT noX m m1) (b : BSm m1) (hf : ∀ f, 0 ≤ f → f < 23 → f ≠ 22 → vl m1 X f = vl m X f) (dk : DKI n m1 X A g.c g.ns g.sq g.srl g.hist s.now rd) : CPt n m1 X A (s.wrd rd) g := by
  have fl := h.2.2.2.1
  exact h.cmt (s' := s.wrd rd) u b (fun f f0 f1 _ _ _ _ f2 => hf f f0 f1 f2) ⟨by rw [hf 17 (by decide) (by decide) (by decide)]; exact fl.1, by rw [hf 18 (by decide) (by decide) (by decide)]; exact fl.2.1, by rw [hf 19 (by decide) (by decide) (by decide)]; exact fl.2.2⟩ dk ⟨rfl, rfl, rfl⟩ rfl (Int.le_refl _) (fun _ _ => rfl)
/-- a reader is opened -/
theorem c36 {r : Int} (hd : 3 ≤ d) (h : CPt n m X A s g) : CRi n m X A s g (cl d 36 [pR X, pI r] m) exA (oOpen s r) none := by
  have hz := h.1.tz
  have hX := h.2.1
  have fl := h.2.2.2.1
  unfold oOpen
  by_cases hr : 0 ≤ r ∧ r < 8
  rotate_left
  · rw [if_pos hr]
    exact CRi.thr h (t := 202) (by decide) (q36 (by omega) hz _ (by rw [nd_no hz hr])) (by decide)
  rw [if_neg (fun z => z hr)]
  obtain ⟨hDR, hq, hb, ⟨hO, hN, hDC⟩, hHB, hOH, hRd⟩ := h.2.2.2.2.2.2.2.2.2.1
  obtain ⟨o1, o2⟩ := hO.1 r hr.1 hr.2
  obtain ⟨r1, r2⟩ := hRd r hr.1 hr.2
  have st0 : ∀ Z, rn d 36 33 [pR X, pI r, pU] [pI (b2i (!(s.dk || (s.rd r).isSome)))] m = some Z → cl d 36 [pR X, pI r] m = some Z := fun Z hZ => by
    refine q36 (by omega) hz _ ?_
    rw [nd_ok hz hr, gd_of hX.1, fl.1]
    cases hdk : s.dk with
    | true => rw [hdk] at hZ; rw [if_neg (by decide)]; exact hZ
    | false =>
      rw [hdk] at hZ
      rw [if_pos (show b2i false = 0 from rfl), nm_eq, hX.f (by omega), gd_of hX.a13.1, gd_of ⟨hr.1, by rw [hX.a13.2]; omega⟩, nm_eq, o1, gd_of o2, r1]
      cases hx : (s.rd r).isSome with
      | true => rw [hx] at hZ; rw [if_neg (by decide)]; exact hZ
      | false => rw [hx] at hZ; rw [if_pos (show b2i false = 0 from rfl)]; exact hZ
  by_cases hc : s.dk = true ∨ (s.rd r).isSome = true
  · rw [if_pos hc]
    have e : (!(s.dk || (s.rd r).isSome)) = false := by rcases hc with q | q <;> rw [q] <;> simp
    rw [e] at st0
    exact CRi.thr h (t := 203) (by decide) (st0 _ (q36_33 (by omega) hz _ (by rw [bV_xq (by rw [c26 (b := false) hz]; rfl)]))) (by decide)
  · rw [if_neg hc]
    have e : (!(s.dk || (s.rd r).isSome)) = true := by
      cases q1 : s.dk
      · cases q2 : (s.rd r).isSome
        · rfl
        · exact absurd (Or.inr q2) hc
      · exact absurd (Or.inl q1) hc
    rw [e] at st0
    have n12 : A (100 + r) ≠ A 12 := fun z => by
      have := hO.2 (-1) r (by decide) (by decide) (by omega) hr.2 (by omega)
      unfold vA at this
      rw [if_pos (by decide), if_neg (by omega)] at this
      exact this z.symm
    have nX : A (100 + r) ≠ X := fun z => by rw [z, hX.1] at o2; omega
    have fin : ∀ m4 : Mem, m4 = mst (mst (mst (mst m (A (100 + r)) 0 (vl m (A 12) 0)) (A (100 + r)) 1 (vl m (A 12) 1)) (A (100 + r)) 2 (vl m (A 12) 2)) (A (100 + r)) 3 1 → CPt n m4 X A (s.wrd fun k => if k = r then some s.now else s.rd k) g := by
      intro m4 hm4
      have nc : NC (· = A (100 + r)) m m4 := by subst hm4; exact (((NC.set (S := (· = A (100 + r))) rfl).trans (NC.set rfl)).trans (NC.set rfl)).trans (NC.set rfl)
      have w : vl m4 (A (100 + r)) 0 = vl m (A 12) 0 ∧ vl m4 (A (100 + r)) 1 = vl m (A 12) 1 ∧ vl m4 (A (100 + r)) 2 = vl m (A 12) 2 ∧ vl m4 (A (100 + r)) 3 = 1 := by
        subst hm4
        refine ⟨?_, ?_, ?_, ?_⟩
        · rw [vl_mst, if_neg (by omega), vl_mst, if_neg (by omega), vl_mst, if_neg (by omega), vl_mst, if_pos ⟨rfl, rfl⟩]
        · rw [vl_mst, if_neg (by omega), vl_mst, if_neg (by omega), vl_mst, if_pos ⟨rfl, rfl⟩]
        · rw [vl_mst, if_neg (by omega), vl_mst, if_pos ⟨rfl, rfl⟩]
        · rw [vl_mst, if_pos ⟨rfl, rfl⟩]
      have bm : ∀ (m' : Mem) (f v : Int), BSm m' → tg m' (A (100 + r)) = 10 → BSm (mst m' (A (100 + r)) f v) := fun m' f v hb ht => hb.mst (by rw [ht]; decide)
      have bb : BSm m4 := by subst hm4; exact bm _ _ _ (bm _ _ _ (bm _ _ _ (bm _ _ _ h.1 o2) o2) o2) o2
      have ot : ∀ a, a ≠ A (100 + r) → ∀ f, vl m4 a f = vl m a f := fun a ha f => nc.2.2.2 a f ha
      refine h.vers (UT.nc nc fun a z => by rw [z, o2]; decide) bb (fun f _ _ _ => ot X (fun z => nX z.symm) f) ⟨hDR.ut (UT.nc (ts := dkT) nc fun a z => by rw [z, o2]; decide) hz (by decide), ⟨by rw [ot X (fun z => nX z.symm)]; exact hq.1, by rw [ot X (fun z => nX z.symm)]; exact hq.2⟩, hb, ⟨hO.ut hX (UT.nc (ts := [17115]) nc fun a z => by rw [z, o2]; decide) hz (by decide), ?_, hDC⟩, by rw [ot _ (fun z => n12 z.symm)]; exact hHB, hOH, fun k k0 k1 => ?_⟩
      · obtain ⟨bs, y1, y2, y3⟩ := hN
        exact ⟨bs, by rw [ot _ (fun z => n12 z.symm)]; exact y1, by rw [ot _ (fun z => n12 z.symm)]; exact y2, by rw [ot _ (fun z => n12 z.symm)]; exact y3⟩
      · by_cases q : k = r
        · subst q
          obtain ⟨bs, y1, y2, y3⟩ := hN
          refine ⟨by rw [w.2.2.2]; dsimp only; rw [if_pos rfl]; rfl, fun D hD => ?_⟩
          dsimp only at hD
          rw [if_pos rfl] at hD
          cases hD
          exact ⟨⟨bs, by rw [w.1]; exact y1, by rw [w.2.1]; exact y2, by rw [w.2.2.1]; exact y3⟩, hDC⟩
        · have nk : A (100 + k) ≠ A (100 + r) := fun z => by
            have := hO.2 k r (by omega) k1 (by omega) hr.2 q
            unfold vA at this
            rw [if_neg (by omega), if_neg (by omega)] at this
            exact this z
          dsimp only
          rw [if_neg q, ot _ nk]
          refine ⟨(hRd k k0 k1).1, fun D hD => ?_⟩
          obtain ⟨⟨bs, y1, y2, y3⟩, y4⟩ := (hRd k k0 k1).2 D hD
          exact ⟨⟨bs, by rw [ot _ nk]; exact y1, by rw [ot _ nk]; exact y2, by rw [ot _ nk]; exact y3⟩, y4⟩
    refine ⟨_, g, (fin _ rfl).suc, CST.same (by show nx m ≤ _; omega) (by show sl m ≤ _; omega) (Nat.le_refl _), fun _ => st0 _ (q36_33 (by omega) hz _ ?_), fun z => absurd rfl z⟩
    have a1 : vl (mst m (A (100 + r)) 0 (vl m (A 12) 0)) (A 12) 1 = vl m (A 12) 1 := by rw [vl_mst, if_neg (fun z => n12 z.1.symm)]
    rw [bV_eq (by rw [c26 (b := true) hz]; rfl), gd_of hX.1, nm_eq, hX.f (by omega), gd_of hX.a13.1, gd_of ⟨hr.1, by rw [hX.a13.2]; omega⟩, nm_eq, o1, nm_eq, hX.f (by omega), gd_of hX.a12, gd_of o2]
/-- a reader is closed -/
theorem c37 {r : Int} (hd : 3 ≤ d) (h : CPt n m X A s g) : CRi n m X A s g (cl d 37 [pR X, pI r] m) exA (oClose s r) none := by
  have hz := h.1.tz
  have hX := h.2.1
  have fl := h.2.2.2.1
  unfold oClose
  by_cases hr : 0 ≤ r ∧ r < 8
  rotate_left
  · rw [if_pos hr]
    exact CRi.thr h (t := 202) (by decide) (q37 (by omega) hz _ (by rw [nd_no hz hr])) (by decide)
  rw [if_neg (fun z => z hr)]
  obtain ⟨hDR, hq, hb, ⟨hO, hN, hDC⟩, hHB, hOH, hRd⟩ := h.2.2.2.2.2.2.2.2.2.1
  obtain ⟨o1, o2⟩ := hO.1 r hr.1 hr.2
  obtain ⟨r1, r2⟩ := hRd r hr.1 hr.2
  have e32 : rn d 37 32 [pR X, pI r] [] m = some (.inr 203, mal m 203 6) := q37_32 (by omega) hz _ (by rw [bV_xq (show cl (d - 1) 26 [pI 0] m = some (.inr 203, mal m 203 6) from c26 (b := false) hz)])
  by_cases hc : s.dk = true ∨ (s.rd r).isSome = false
  · rw [if_pos hc]
    refine CRi.thr h (t := 203) (by decide) (q37 (by omega) hz _ ?_) (by decide)
    rw [nd_ok hz hr, gd_of hX.1, fl.1]
    cases hdk : s.dk with
    | true => rw [if_neg (by decide)]; exact e32
    | false =>
      have hx : (s.rd r).isSome = false := hc.resolve_left (by rw [hdk]; decide)
      rw [if_pos (show b2i false = 0 from rfl), nm_eq, hX.f (by omega), gd_of hX.a13.1, gd_of ⟨hr.1, by rw [hX.a13.2]; omega⟩, nm_eq, o1, gd_of o2, r1, hx, if_pos (show b2i false = 0 from rfl)]; exact e32
  · rw [if_neg hc]
    have hdk : s.dk = false := by
      cases q1 : s.dk
      · rfl
      · exact absurd (Or.inl q1) hc
    have hx : (s.rd r).isSome = true := by
      cases q2 : (s.rd r).isSome
      · exact absurd (Or.inr q2) hc
      · rfl
    have n12 : A (100 + r) ≠ A 12 := fun z => by
      have := hO.2 (-1) r (by decide) (by decide) (by omega) hr.2 (by omega)
      unfold vA at this
      rw [if_pos (by decide), if_neg (by omega)] at this
      exact this z.symm
    have nX : A (100 + r) ≠ X := fun z => by rw [z, hX.1] at o2; omega
    have nc : NC (· = A (100 + r)) m (mst m (A (100 + r)) 3 0) := NC.set rfl
    have ot : ∀ a, a ≠ A (100 + r) → ∀ f, vl (mst m (A (100 + r)) 3 0) a f = vl m a f := fun a ha f => nc.2.2.2 a f ha
    have cp : CPt n (mst m (A (100 + r)) 3 0) X A (s.wrd fun k => if k = r then none else s.rd k) g := by
      refine h.vers (UT.nc nc fun a z => by rw [z, o2]; decide) (h.1.mst (by omega)) (fun f _ _ _ => ot X (fun z => nX z.symm) f) ⟨hDR.ut (UT.nc (ts := dkT) nc fun a z => by rw [z, o2]; decide) hz (by decide), ⟨by rw [ot X (fun z => nX z.symm)]; exact hq.1, by rw [ot X (fun z => nX z.symm)]; exact hq.2⟩, hb, ⟨hO.ut hX (UT.nc (ts := [17115]) nc fun a z => by rw [z, o2]; decide) hz (by decide), ?_, hDC⟩, by rw [ot _ (fun z => n12 z.symm)]; exact hHB, hOH, fun k k0 k1 => ?_⟩
      · obtain ⟨bs, y1, y2, y3⟩ := hN
        exact ⟨bs, by rw [ot _ (fun z => n12 z.symm)]; exact y1, by rw [ot _ (fun z => n12 z.symm)]; exact y2, by rw [ot _ (fun z => n12 z.symm)]; exact y3⟩
      · by_cases q : k = r
        · subst q
          refine ⟨by rw [vl_mst, if_pos ⟨rfl, rfl⟩]; dsimp only; rw [if_pos rfl]; rfl, fun D hD => ?_⟩
          dsimp only at hD
          rw [if_pos rfl] at hD
          cases hD
        · have nk : A (100 + k) ≠ A (100 + r) := fun z => by
            have := hO.2 k r (by omega) k1 (by omega) hr.2 q
            unfold vA at this
            rw [if_neg (by omega), if_neg (by omega)] at this
            exact this z
          dsimp only
          rw [if_neg q, ot _ nk]
          refine ⟨(hRd k k0 k1).1, fun D hD => ?_⟩
          obtain ⟨⟨bs, y1, y2, y3⟩, y4⟩ := (hRd k k0 k1).2 D hD
          exact ⟨⟨bs, by rw [ot _ nk]; exact y1, by rw [ot _ nk]; exact y2, by rw [ot _ nk]; exact y3⟩, y4⟩
    refine ⟨_, g, cp.suc, CST.same (by show nx m ≤ _; omega) (by show sl m ≤ _; omega) (Nat.le_refl _), fun _ => q37 (by omega) hz _ ?_, fun z => absurd rfl z⟩
    rw [nd_ok hz hr, gd_of hX.1, fl.1, hdk, if_pos (show b2i false = 0 from rfl), nm_eq, hX.f (by omega), gd_of hX.a13.1, gd_of ⟨hr.1, by rw [hX.a13.2]; omega⟩, nm_eq, o1, gd_of o2, r1, hx, if_neg (by decide), bV_eq (show cl (d - 1) 26 [pI 1] m = some (.inl none, m) from c26 (b := true) hz), nm_eq, hX.f (by omega), gd_of hX.a13.1, gd_of ⟨hr.1, by rw [hX.a13.2]; omega⟩, nm_eq, o1, gd_of o2]
end
