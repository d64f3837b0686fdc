/-! the component: a document is patched -/
set_option maxRecDepth 100000
set_option maxHeartbeats 4000000
theorem bIh_eq {cc : RM} {x : Int} {m : Mem} {f : Int → Mem → RM} {g : Int → Mem → RM} (h : cc = some (Sum.inl (some (pI x)), m)) : bIh cc f g = f x m := by rw [h]; rfl
theorem bIh_xq {cc : RM} {x : Int} {m : Mem} {f : Int → Mem → RM} {g : Int → Mem → RM} (h : cc = some (Sum.inr x, m)) : bIh cc f g = g x m := by rw [h]; rfl
theorem bVh_eq {cc : RM} {m : Mem} {f : Mem → RM} {g : Int → Mem → RM} (h : cc = some (Sum.inl none, m)) : bVh cc f g = f m := by rw [h]; rfl
theorem bVh_xq {cc : RM} {x : Int} {m : Mem} {f : Mem → RM} {g : Int → Mem → RM} (h : cc = some (Sum.inr x, m)) : bVh cc f g = g x m := by rw [h]; rfl
theorem gv_dok {v : Vl} (h : GV v) (hd : dpV v.2.1 v.2.2 ≤ 32) (hp : (prV v.2.1 v.2.2).length ≤ 480) : DKv v.2 := by
  obtain ⟨i, nd, l⟩ := v
  obtain ⟨h1, h2, h3, h4⟩ := h
  have h1 : i = 0 := h1
  subst h1
  obtain ⟨c1, c2, c3, c4⟩ := h4
  exact ⟨⟨⟨rfl, h2, h3, ⟨c1, c2, c3, c4⟩⟩, cnF_er c3⟩, hd, hp⟩
/-- all tags of the component at rest but for the rows', the sinks', the patcher's -/
abbrev noP : List Int := [1, 31, 103, 17103, 6] ++ [10, 17115] ++ dkT ++ tbT ++ qyT
section
variable {d n : Nat} {m m1 : Mem} {X : Int} {A : Int → Int} {s : St} {g : GH}
/-- the patcher has changed -/
theorem CPt.pat {k' x : Int} {L : List Int} (h : CPt n m X A s g) (u : UT noP m m1) (b : BSm m1) (hx : PX m (A 8) g.k m1 k' x) (hp : PB m1 (A 8) L none none k') (ho : SKO m (A 8) m1) (h0 : vl m1 (A 8) 0 = vl m (A 8) 0) (hs : ∃ ys, SK m1 (A 50) ys 480) : CPt n m1 X A s (g.c, g.ns, g.sq, g.srl, g.hist, (g.xs, g.c1), (g.ls, g.c2), k', g.cap) := by
  obtain ⟨b0, x0, t1, fl, k, r1, r2, rn, p, dk, tb⟩ := h
  have hz := b0.tz
  obtain ⟨-, a2, a3, a4, a5, a6, a7⟩ := p
  have e2 := x0.fld (f := 2) u hz (by decide) (by decide)
  have e3 := x0.fld (f := 3) u hz (by decide) (by decide)
  obtain ⟨k1, ⟨zs, k2⟩, ⟨ws, k3⟩, k4, k5, k6, k7, k8, k9⟩ := k
  refine ⟨b, x0.ut u hz (by decide), t1.ut x0 u hz (by decide) (by decide), fl.ut x0 u hz (by decide), ⟨?_, ⟨zs, ?_⟩, ⟨ws, ?_⟩, ?_⟩, ⟨hx.1 _ a4 _ _ r1.1, r1.2⟩, ⟨hx.1 _ a5 _ _ r2.1, r2.2⟩, rn.ut u hz (by decide), ⟨⟨L, hp⟩, by rw [ho.1]; exact a2, hs, fun z => a4 ((hx.2.1 _).mp z), fun z => a5 ((hx.2.1 _).mp z), by rw [h0]; exact a6, by rw [h0]; exact a7⟩, dk.ut x0 u hz (by decide) (by decide) (by decide) (by decide), tb.keep x0 u hz (by decide) (QKp.ut u hz (by decide)) ⟨fun N xs cN _ _ q hw => hx.1 N q xs cN hw, hx.2.1⟩⟩
  · rw [e2]; exact ho.2 _ (by rw [a2]; exact fun z => k7 z.symm) _ _ k1
  · rw [e3]; exact ho.2 _ (by rw [a2]; exact fun z => k8 z.symm) _ _ k2
  · exact ho.2 _ (by rw [a2]; exact fun z => k9 z.symm) _ _ k3
  · rw [e2, e3]; exact ⟨k4, k5, k6, k7, k8, k9⟩
/-- a document is loaded into the patcher -/
theorem CPt.loadP {v : Int} {x : ND × Fo} (h : CPt n m X A s g) (hd : 2 ≤ d) (hv : 2 ≤ v ∧ v < 1600) (hdoc : bDoc (g.c v) (enV x.1 x.2)) : ∃ m' k', cl d 178 [pR (A 9), pI v, pR (vl m (A 8) 5)] m = some (.inl none, m') ∧ CPt n m' X A s (g.c, g.ns, g.sq, g.srl, g.hist, (g.xs, g.c1), (g.ls, g.c2), k', g.cap) ∧ PB m' (A 8) (enV x.1 x.2) none none k' ∧ PX m (A 8) g.k m' k' 0 ∧ tg m (vl m (A 8) 5) = 8 := by
  have b0 := h.1
  obtain ⟨⟨hD, hc, -⟩, -⟩ := h.2.2.2.2.2.2.2.2.2.1
  have p := h.2.2.2.2.2.2.2.2.1
  obtain ⟨⟨L, hPB⟩, a2, ⟨ys, a3⟩, a4, a5, a6, a7⟩ := p
  obtain ⟨rd, ro, rh, rm, rt, sa, aa, rv, cd, co, ch, cm', ct, cw, os, hs, ms', ts', h1, h2, h3, ⟨e5, e6, e7, e8, e9, e10, e12, e0⟩, ⟨f1, f2, f3, f4⟩, ⟨s1, s2, s3, s4, s5⟩, ⟨w1, w2, w3, w4, w5, w6⟩, h8, h9, ⟨hk, l1, l2, l3, l4, l5⟩, -, -⟩ := hPB
  obtain ⟨m', c', e178, w1', ro', ⟨gr1, gr2, gr3⟩, hc'⟩ := c178 (d := d) (b := v) (r := rd) hd b0.1 b0.2.1 hD hc (by omega) w1 hdoc
  have hl : (enV x.1 x.2).length ≤ 729 := hdoc.2.2.2.2
  have u := ut_cl (ts := noP ++ [2, 52103, 7, 112101]) e178 (by decide +kernel)
  have b1 := b0.ca' e178 (by decide +kernel) ro'.1 (b0.2.2.1.fr (cl_FRM e178) (cl_NZ e178) b0.tz (by decide +kernel))
  have hz := b0.tz
  have g7 : ∀ f, 0 ≤ f → f < 17 → vl m' (A 8) f = vl m (A 8) f := fun f f0 f1 => u.f hz h3 (by decide) (by decide) (by
    have : nF 7 = 17 := by decide
    rw [this]; omega)
  have o : ∀ r, r ≠ rd → ∀ ys c, RW m r ys c → RW m' r ys c := ro'.2
  have hPB' : PB m' (A 8) (enV x.1 x.2) none none (g.k - cd + c') := by
    refine ⟨rd, ro, rh, rm, rt, sa, aa, rv, c', co, ch, cm', ct, cw, os, hs, ms', ts', b1.1, ro'.1, u.t hz h3 (by decide), ?_, ?_, ⟨u.t hz s1 (by decide), by rw [u.l hz (by omega)]; exact s2, u.t hz s3 (by decide), by rw [u.l hz (by omega)]; exact s4, s5⟩, ⟨w1', o _ h8.e1.symm _ _ w2, o _ h8.e2.symm _ _ w3, o _ h8.e3.symm _ _ w4, o _ h8.e4.symm _ _ w5, o _ h9.d1 _ _ w6⟩, h8, h9, ⟨by omega, by omega, l2, l3, l4, l5⟩, fun _ q => (by cases q), fun _ q => (by cases q)⟩
    · rw [g7 5 (by decide) (by decide), g7 6 (by decide) (by decide), g7 7 (by decide) (by decide), g7 8 (by decide) (by decide), g7 9 (by decide) (by decide), g7 10 (by decide) (by decide), g7 12 (by decide) (by decide), g7 0 (by decide) (by decide)]
      exact ⟨e5, e6, e7, e8, e9, e10, e12, e0⟩
    · rw [g7 1 (by decide) (by decide), g7 2 (by decide) (by decide), g7 3 (by decide) (by decide), g7 4 (by decide) (by decide)]
      exact ⟨f1, f2, f3, f4⟩
  have hPX : PX m (A 8) g.k m' (g.k - cd + c') 0 := by
    refine ⟨fun r hr ys c hw => o r (fun z => hr (pRw_5 (by rw [e5, z]))) ys c hw, fun r => ?_, by omega, by omega, by omega⟩
    unfold pRw
    rw [g7 5 (by decide) (by decide), g7 6 (by decide) (by decide), g7 7 (by decide) (by decide), g7 8 (by decide) (by decide), g7 9 (by decide) (by decide)]
  refine ⟨m', g.k - cd + c', by rw [e5]; exact e178, h.pat (u.sub (by decide)) b1 hPX hPB' ⟨g7 15 (by decide) (by decide), fun s' _ ys cap q => q.ut u hz (by decide) (by decide)⟩ (g7 0 (by decide) (by decide)) ⟨ys, a3.ut u hz (by decide) (by decide)⟩, hPB', hPX, by rw [e5]; exact w1.1⟩
/-- the patcher, ready -/
theorem CPt.rns {L : List Int} {k' : Int} (h : CPt n m X A s g) (hp : PB m (A 8) L none none k') : RNS m (A 8) L k' (vl m (A 8) 16) := by
  have b := h.1
  obtain ⟨-, a2, ⟨ys, a3⟩, -⟩ := h.2.2.2.2.2.2.2.2.1
  exact ⟨hp, b.2.2.2.2.pre b.1, b.2.2.1, b.2.2.2.2.psc, ⟨ys, by rw [a2]; exact a3⟩, rfl⟩
/-- a document is patched -/
theorem c35 {id : Int} (hd : 700 ≤ d) (h : CPt n m X A s g) (hs : STq n s) (hn : n ≤ 63) : CRi n m X A s g (cl d 35 [pR X, pI id] m) exC (oPatch s id) (some (pI (oPatch s id).2.1)) := by
  have b0 := h.1
  have hz := b0.tz
  have hX := h.2.1
  have t1 := h.2.2.1
  unfold oPatch
  by_cases hid : 0 ≤ id ∧ id < 10000
  rotate_left
  · rw [if_pos hid]
    exact CRi.thr h (t := 202) (by decide) (q35 (by omega) hz _ (by rw [nd_no hz hid])) (by decide)
  rw [if_neg (fun z => z hid)]
  have e25 := c25 (d := d - 1) (by omega) h
  have st0 : ∀ Z, (bI (cl (d - 1) 25 [pR X] m) fun v3 m3 => bV (cl (d - 1) 27 [pR X, pI v3] m3) fun m4 => nm (vl m4 X 9) fun v6 => nm (vl m4 X 12) fun v7 => gd (tg m4 v7 = 10) <| gd (tg m4 v6 = 9) <| bI (cl (d - 1) 165 [pR v6, pI (vl m4 v7 0), pI id] m4) fun v5 m5 => if v5 = 0 then (rn d 35 45 [pR X, pI id, pI v3, pI v5, pU, pU] [pI 0] m5) else rn d 35 45 [pR X, pI id, pI v3, pI v5, pU, pU] [pI 1] m5) = some Z → cl d 35 [pR X, pI id] m = some Z := fun Z hZ => by
    refine q35 (by omega) hz _ ?_
    rw [nd_ok hz hid, gd_of hX.1]; exact hZ
  cases hdk : s.dk with
  | true =>
    rw [hdk, if_pos rfl] at e25
    rw [if_pos rfl]
    exact CRi.thr' h.tape0 (t := 203) (by decide) (st0 _ (by rw [bI_xq e25])) (by decide) ⟨rfl, rfl⟩ (Nat.zero_le _)
  | false =>
    rw [hdk, if_neg (by decide)] at e25
    rw [if_neg (by decide)]
    have h2 := h.tape0
    have ne : A 0 ≠ X := fun z => by have := hX.a0.1; rw [z, hX.1] at this; omega
    obtain ⟨k1, k2⟩ := c27 (d := d - 1) (by omega) h2 rfl (tp := s.tp) t1.2.1 (fun j j0 j1 => by rw [vl_mst, if_neg (fun z => ne z.1)]; exact t1.2.2 j j0 j1)
    have q1 : nx (mst m X 1 0) = nx m := rfl
    have q2 : sl (mst m X 1 0) = sl m := rfl
    cases hE : sRdT s.tp with
    | none => exact absurd hE (sRdT_some _)
    | some w =>
      cases w with
      | inl p =>
        obtain ⟨m3, xs, c', e27, cp3, n1, n2, n3⟩ := k2 p hE
        refine ⟨m3, _, cp3.suc, ?_, fun q => absurd q (show (3 : Int) ≠ 0 by decide), fun _ => st0 _ (by rw [bI_eq e25, bV_xq e27]; rfl)⟩
        unfold CST PN PSl pcG
        show 16 * nx m3 + 640 * ((0 : Nat) : Int) - (c' + g.c2 + g.k + g.cap + 48 * (g.ns.length : Int)) ≤ _ ∧ sl m3 + 40 * ((0 : Nat) : Int) - 2 * (c' + g.c2 + g.k + g.cap + 48 * (g.ns.length : Int)) ≤ _
        omega
      | inr F =>
        obtain ⟨nd, l, rfl, e2, e3, e4, m3, c', e27, cp3, ⟨gr1, gr2, gr3⟩⟩ := k1 F hE
        have hdv : hdV (foC nd l foN) = (nd, l) := rfl
        dsimp only
        rw [hdv]
        dsimp only
        obtain ⟨gv1, gv2, gv3, gv4⟩ := rd_gv hE e3
        rw [hdv] at gv1 gv3 gv4
        dsimp only at gv1 gv3 gv4
        have hX3 := cp3.2.1
        have hz3 := cp3.1.tz
        obtain ⟨vv, e165, f1, f2⟩ := cp3.find (by omega) (by omega : 5 ≤ d) id
        have st1 : ∀ Z, rn d 35 45 [pR X, pI id, pI s.tp.length, pI vv, pU, pU] [pI (b2i (lkL id s.now).isSome)] m3 = some Z → cl d 35 [pR X, pI id] m = some Z := fun Z hZ => st0 Z (by
          rw [bI_eq e25, bV_eq e27, nm_eq, nm_eq, hX3.f (by omega), hX3.f (by omega), gd_of hX3.a12, gd_of hX3.a9, bI_eq e165]
          cases hlk : lkL id s.now with
          | none => rw [hlk] at hZ; rw [if_pos (f1 hlk)]; exact hZ
          | some x => rw [hlk] at hZ; have := (f2 x hlk).1; rw [if_neg (by omega)]; exact hZ)
        have r10 := cp3.2.2.2.2.2.1.1
        have ln0 : ((([] : List Int).length : Nat) : Int) = 0 := rfl
        cases hlk : lkL id s.now with
        | none =>
          rw [hlk] at st1
          dsimp only
          refine ⟨mal m3 205 6, _, (cp3.exc (by decide)).suc, ?_, fun q => absurd q (show (4 : Int) ≠ 0 by decide), fun _ => st1 _ (q35_45 (by omega) hz3 _ (by rw [bV_xq (by rw [c32 (b := (none : Option (ND × Fo)).isSome) hz3]; rfl)]; rfl))⟩
          unfold CST PN PSl pcG
          show 16 * (nx m3 + 1) + 640 * ((0 : Nat) : Int) - (c' + g.c2 + g.k + g.cap + 48 * (g.ns.length : Int)) ≤ _ ∧ sl m3 + 6 + 40 * ((0 : Nat) : Int) - 2 * (c' + g.c2 + g.k + g.cap + 48 * (g.ns.length : Int)) ≤ _
          omega
        | some x =>
          rw [hlk] at st1
          dsimp only
          obtain ⟨f3, f4⟩ := f2 x hlk
          have hdok := h.dck.lk hlk
          have ep := enV_pos nd l
          have e139 : cl (d - 1) 139 [pR (A 10), pI 0] m3 = some (.inl (some (pI nd.1)), m3) := by
            rw [← enV_tag (At.self (xs := enV nd l))]
            exact c139 hz3 r10 (by decide) (by show (0 : Int) < (enV nd l).length; omega)
          have hst2 : (bV (cl (d - 1) 32 [pI (b2i (some x : Option (ND × Fo)).isSome)] m3) = fun f => f m3) := by
            funext f; rw [bV_eq (by rw [c32 (b := (some x : Option (ND × Fo)).isSome) hz3]; rfl)]
          by_cases h5 : nd.1 = 5
          rotate_left
          · rw [if_pos h5]
            refine ⟨mal m3 206 6, _, (cp3.exc (by decide)).suc, ?_, fun q => absurd q (show (5 : Int) ≠ 0 by decide), fun _ => st1 _ (q35_45 (by omega) hz3 _ ?_)⟩
            · unfold CST PN PSl pcG
              show 16 * (nx m3 + 1) + 640 * ((0 : Nat) : Int) - (c' + g.c2 + g.k + g.cap + 48 * (g.ns.length : Int)) ≤ _ ∧ sl m3 + 6 + 40 * ((0 : Nat) : Int) - 2 * (c' + g.c2 + g.k + g.cap + 48 * (g.ns.length : Int)) ≤ _
              omega
            · rw [hst2]
              dsimp only
              rw [gd_of hX3.1, nm_eq, hX3.f (by omega), gd_of hX3.a10, bI_eq e139, if_neg (show ¬ (nd.1 : Int) = 5 by omega)]; try rfl
          rw [if_neg (fun z => z h5)]
          obtain ⟨m4, ka, e178, cp4, pb4, px4, t5⟩ := cp3.loadP (d := d - 1) (by omega) f3 f4
          have hX4 := cp4.2.1
          have hz4 := cp4.1.tz
          have r10' := cp4.2.2.2.2.2.1.1
          obtain ⟨-, a42, -, a44, -⟩ := cp4.2.2.2.2.2.2.2.2.1
          have hdp : dpF l ≤ 32 := by
            unfold dpV at gv3; rw [if_neg (by omega)] at gv3; omega
          have tl := t1.2.1
          have h113 := c113 (d := d - 1) (xs := enV nd l) (r := A 10) (a := 0) (pd := nd) (pl := l) (v := (0, x.1, x.2)) (P := A 8) (by omega) (by omega) hdok.1.1 hdok.2.1 hdok.2.2 gv1 h5 hdp (by have : ((prV nd l).length : Int) ≤ s.tp.length := gv4; omega) (cp4.rns pb4) a44 r10' At.self
          obtain ⟨px1, px2, px3, px4', px5⟩ := px4
          rw [show GH.k (g.c, g.ns, g.sq, g.srl, g.hist, (enV nd l, c'), (g.ls, g.c2), g.k, g.cap) = g.k from rfl] at px3 px4' px5
          -- up to the run
          have st2 : ∀ Z, (bIh (cl (d - 1) 113 [pR (A 8), pR (A 10), pI 0] m4) (fun v4 m4 => bV (cl (d - 1) 28 [pR X] m4) fun m5 => nm (vl m5 X 9) fun v14 => nm (vl m5 X 8) fun v15 => gd (tg m5 v15 = 7) <| nm (vl m5 v15 5) fun v16 => gd (tg m5 v16 = 8) <| gd (tg m5 v14 = 9) <| bI (cl (d - 1) 169 [pR v14, pR v16, pI 0, pI (vl m5 v16 1)] m5) fun v6 m6 => nm (vl m6 X 9) fun v17 => nm (vl m6 X 12) fun v18 => gd (tg m6 v18 = 10) <| gd (tg m6 v17 = 9) <| bI (cl (d - 1) 171 [pR v17, pI (vl m6 v18 0), pI id, pI v6] m6) fun v7 m7 => nm (vl m7 X 12) fun v19 => gd (tg m7 v19 = 10) <| bV (cl (d - 1) 29 [pR X, pI v7, pI (vl m7 v19 1)] m7) fun m8 => some (.inl (some (pI v4)), m8)) fun x9 m9 => if x9 = 206 then (nm (vl m9 X 8) fun v20 => gd (tg m9 v20 = 7) <| some (.inr 206, mal (mst m9 X 19 (vl m9 v20 16)) 206 6)) else if 200 < x9 ∧ x9 < 207 then some (.inr x9, m9) else none) = some Z → cl d 35 [pR X, pI id] m = some Z := fun Z hZ => st1 Z (q35_45 (by omega) hz3 _ (by
            rw [hst2]
            dsimp only
            rw [gd_of hX3.1, nm_eq, hX3.f (by omega), gd_of hX3.a10, bI_eq e139, if_pos (show (nd.1 : Int) = 5 by omega), nm_eq, hX3.f (by omega), nm_eq, hX3.f (by omega), gd_of hX3.a8, gd_of hX3.a9, bV_eq e178, nm_eq, hX4.f (by omega), gd_of hX4.a8, hX4.f (by omega)]
            exact hZ))
          -- behind the run
          have aft : ∀ {m5 : Mem} {rr : Rs} {L : List Int} {kb nn y : Int}, cl (d - 1) 113 [pR (A 8), pR (A 10), pI 0] m4 = some (rr, m5) → RNS m5 (A 8) L kb nn → PX m4 (A 8) ka m5 kb y → SKO m4 (A 8) m5 → CPt n m5 X A ((s.wtp []).wpl (-1)) (g.c, g.ns, g.sq, g.srl, g.hist, (enV nd l, c'), (g.ls, g.c2), kb, g.cap) := by
            intro m5 rr L kb nn y e113 hN hx ho
            have u := ut_cl (ts := noP) e113 (by decide +kernel)
            have b5 := cp4.1.ca' e113 (by decide +kernel) hN.1.ok.2.1 hN.2.2.1
            exact cp4.pat u b5 hx hN.1 ho (vl_of (cl_FRM e113) hz4 hX4.a8 (by decide) (by decide +kernel)) (by
              obtain ⟨ys, q⟩ := hN.2.2.2.2.1
              rw [ho.1, a42] at q
              exact ⟨ys, q⟩)
          cases hP : pRn l (0, x.1, x.2) 0 with
          | inr o =>
            rw [hP] at h113
            cases o with
            | none =>
              obtain ⟨m5, kb, L, nn, e113, hN, hx, ho⟩ := h113
              have cp5 := aft e113 hN hx ho
              obtain ⟨y1, y2, y3, y4, y5⟩ := hx
              refine ⟨m5, _, cp5.suc, ?_, fun q => absurd q (show (6 : Int) ≠ 0 by decide), fun _ => st2 _ ?_⟩
              · unfold CST PN PSl pcG
                show 16 * nx m5 + 640 * ((0 : Nat) : Int) - (c' + g.c2 + kb + g.cap + 48 * (g.ns.length : Int)) ≤ _ ∧ sl m5 + 40 * ((0 : Nat) : Int) - 2 * (c' + g.c2 + kb + g.cap + 48 * (g.ns.length : Int)) ≤ _
                omega
              · rw [bIh_xq e113, if_neg (by decide), if_pos (by decide)]; rfl
            | some kk =>
              obtain ⟨m5, kb, L, e113, hN, hx, ho⟩ := h113
              have cp5 := aft e113 hN hx ho
              have hX5 := cp5.2.1
              have v16 := hN.2.2.2.2.2
              obtain ⟨y1, y2, y3, y4, y5⟩ := hx
              have cp6 := (cp5.place (p := (kk : Int))).exc (t := 206) (by decide)
              have cp7 : CPt n (mal (mst m5 X 19 (kk : Int)) 206 6) X A ((s.wtp []).wpl kk) (g.c, g.ns, g.sq, g.srl, g.hist, (enV nd l, c'), (g.ls, g.c2), kb, g.cap) := cp6
              refine ⟨_, _, cp7.suc, ?_, fun q => absurd q (show (5 : Int) ≠ 0 by decide), fun _ => st2 _ ?_⟩
              · unfold CST PN PSl pcG
                show 16 * (nx m5 + 1) + 640 * ((0 : Nat) : Int) - (c' + g.c2 + kb + g.cap + 48 * (g.ns.length : Int)) ≤ _ ∧ sl m5 + 6 + 40 * ((0 : Nat) : Int) - 2 * (c' + g.c2 + kb + g.cap + 48 * (g.ns.length : Int)) ≤ _
                omega
              · rw [bIh_xq e113, if_pos rfl, nm_eq, hX5.f (by omega), gd_of hX5.a8, v16]; rfl
          | inl w =>
            rw [hP] at h113
            obtain ⟨w1, w2, w3, m5, kb, e113, ⟨nn, hN⟩, hx, ho⟩ := h113
            dsimp only
            have cp5 := aft e113 hN hx ho
            have hX5 := cp5.2.1
            have hz5 := cp5.1.tz
            obtain ⟨y1, y2, y3, y4, y5⟩ := hx
            obtain ⟨-, -, t8, cd, hRd, hcd⟩ := hN.1.ok
            obtain ⟨m6, m7, m8, bb, root, e28, e169, e171, ⟨u6, u7, u8⟩, ⟨t6, t7, t8'⟩, m9, g', cp9, ⟨c91, c92, c93⟩, y6, y7⟩ := put_chain (d := d - 1) (id := id) (v := w.2) cp5 hn (by omega) hRd hid (gv_dok w1 w2 w3) hdk hs.2.2.1
            have x6 := hX5.ut u6 hz5 (by decide)
            have x7 := hX5.ut u7 hz5 (by decide)
            have x8 := hX5.ut u8 hz5 (by decide)
            have r6 := hRd.ut u6 hz5 (by decide) (by decide) (by decide)
            have v6 : vl m6 (A 8) 5 = vl m5 (A 8) 5 := u6.f hz5 hX5.a8 (by decide) (by decide) (by decide)
            have v7 : vl m7 (A 12) 0 = vl m5 (A 12) 0 := u7.f hz5 hX5.a12 (by decide) (by decide) (by decide)
            have insl := insL_len (id := id) (a := w.2) h.dck.1
            rw [hlk] at insl
            have insl' : (insL id w.2 s.now).length = s.now.length := by rw [insl]; simp
            have v8 : vl m8 (A 12) 1 = (insL id w.2 s.now).length := by rw [u8.f hz5 hX5.a12 (by decide) (by decide) (by decide), insl']; exact cp5.cnt
            have st3 : ∀ Z, (bV (cl (d - 1) 29 [pR X, pI root, pI (insL id w.2 s.now).length] m8) fun m9 => some (.inl (some (pI (prV w.2.1 w.2.2).length)), m9)) = some Z → cl d 35 [pR X, pI id] m = some Z := fun Z hZ => st2 Z (by
              rw [bIh_eq e113, bV_eq e28, nm_eq, nm_eq, x6.f (by omega), x6.f (by omega), gd_of x6.a8, nm_eq, v6, gd_of r6.1, gd_of t6, show vl m6 (vl m5 (A 8) 5) 1 = (enV w.2.1 w.2.2).length from r6.2.2.2.1, bI_eq e169, nm_eq, nm_eq, x7.f (by omega), x7.f (by omega), gd_of x7.a12, gd_of t7, v7, bI_eq e171, nm_eq, x8.f (by omega), gd_of x8.a12, v8]
              exact hZ)
            have cost : CST m s.tp (pcG g) m9 ([] : List Int) (pcG g') := by
              have pg : pcG (g.c, g.ns, g.sq, g.srl, g.hist, (enV nd l, c'), (g.ls, g.c2), kb, g.cap) = pcG g + (c' - g.c1) + (kb - g.k) := by unfold pcG; show c' + g.c2 + kb + g.cap + 48 * (g.ns.length : Int) = _; omega
              rw [pg] at c91 c92 c93
              have k3 : g.k ≤ ka := px3
              unfold CST PN PSl
              rw [ln0]
              have px4'' : nx m4 - nx m3 ≤ (ka - g.k) / 16 + 0 := px4'
              have px5'' : sl m4 - sl m3 ≤ 2 * (ka - g.k) + 6 * 0 := px5
              omega
            by_cases q : s.ct < 0
            · rw [if_pos q]
              exact ⟨m9, g', cp9, cost, fun _ => st3 _ (by have e29 := y6 q; rw [show ((s.wtp []).wpl (-1)).now = s.now from rfl] at e29; rw [bV_eq e29]), fun z => absurd rfl z⟩
            · rw [if_neg q]
              exact ⟨m9, g', cp9, cost, fun z => absurd z (show (2 : Int) ≠ 0 by decide), fun _ => st3 _ (by have e29 := y7 q; rw [show ((s.wtp []).wpl (-1)).now = s.now from rfl] at e29; rw [bV_xq e29]; try rfl)⟩
end
