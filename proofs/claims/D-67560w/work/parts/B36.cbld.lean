/-! the component: a table is filled -/
set_option maxRecDepth 100000
set_option maxHeartbeats 4000000
section
variable {d n : Nat} {m m1 : Mem} {X : Int} {A A' : Int → Int} {s : St} {g : GH} {o : Int} {S : Fo}
/-- the value that a query finds in the document in the row -/
theorem CPt.node {v : ND × Fo} (hd : 1910 ≤ d) (h : CPt n m X A s g) (hls : g.ls = enV v.1 v.2) (hv : DKv v) (hq : QOb m A o S) (hS : QSi S) : ∃ m2 cap' b, cl d 46 [pR X, pR o] m = some (.inl (some (pI b)), m2) ∧ CPt n m2 X A s (g.c, g.ns, g.sq, g.srl, g.hist, (g.xs, g.c1), (g.ls, g.c2), g.k, cap') ∧ QOb m2 A o S ∧ UT noRn m m2 ∧ GR m m2 g.cap cap' ∧ (chs S v = none → b = -1) ∧ ∀ u, chs S v = some u → (0 ≤ b ∧ At (enV v.1 v.2) b (enV u.1 u.2)) ∧ wfF (foC u.1 u.2 foN) ∧ dpF u.2 ≤ 40 := by
  have hz := h.1.tz
  have hX := h.2.1
  obtain ⟨r6, ⟨ra, rl⟩, rc1, rc2⟩ := h.2.2.2.2.2.2.2.1
  have u5 : UT noRn m (mst m (A 7) 4 0) := UT.mst (by rw [r6]; decide)
  obtain ⟨cp5, k5⟩ := h.run (cap' := g.cap) u5 (h.1.mst (by omega)) ⟨r6, by rw [vl_mst, if_neg (by omega)]; exact ⟨ra, rl⟩, rc1, rc2⟩
  have cp5 : CPt n (mst m (A 7) 4 0) X A s g := cp5
  have hq5 := hq.keep (QKp.ut u5 hz (by decide)) k5
  have w5 : vl (mst m (A 7) 4 0) (A 7) 4 = 0 := by rw [vl_mst, if_pos ⟨rfl, rfl⟩]
  have n5 : nx (mst m (A 7) 4 0) = nx m ∧ sl (mst m (A 7) 4 0) = sl m := ⟨rfl, rfl⟩
  have hX5 := cp5.2.1
  obtain ⟨ys, w', hy, hl⟩ := sg_qDoc hS.1 hS.2.2 v
  obtain ⟨m1, e104, cp1, k1, -⟩ := cp5.evl (d := d - 1) (w := 0) (v := v) (by omega) hls hv hq5 hS.2.1 ⟨w5, by decide, by decide⟩
  obtain ⟨w0', m2, cap', zz, e105, cp2, hEC, hq2, u2, ⟨g1, g2, g3⟩, hok⟩ := k1 ys w' hy
  have hX1 := cp1.2.1
  have hX2 := cp2.2.1
  have hch : chs S v = vOne ys := by unfold chs; rw [hy]
  have st : ∀ Z, (if (ys.length : Int) = 1 then (nm (vl m2 X 7) fun v5 => gd (tg m2 v5 = 6) <| nm (vl m2 v5 2) fun v6 => nm (w32 ((vl m2 v5 3) - 1)) fun v7 => gd (tg m2 v6 = 104101 ∨ tg m2 v6 = 107101) <| gd ((0 : Int) ≤ v7 ∧ v7 < ln m2 v6) <| some (.inl (some (pI (vl m2 v6 v7))), m2)) else some (.inl (some (pI (-1))), m2)) = some Z → cl d 46 [pR X, pR o] m = some Z := fun Z hZ => by
    refine q46 (by omega) hz _ ?_
    rw [gd_of hX.1, nm_eq, hX.f (by omega), gd_of hX.a7, hX.f (by omega), bV_eq e104, nm_eq, hX1.f (by omega), gd_of hX1.a7, bI_eq e105]
    exact hZ
  cases ys with
  | nil =>
    refine ⟨m2, cap', -1, st _ (if_neg (by decide)), cp2, hq2, u5.trans u2, ⟨g1, by omega, by omega⟩, fun _ => rfl, fun u hu => ?_⟩
    rw [hch] at hu; cases hu
  | cons y t =>
    have ht : t = [] := by
      cases t with
      | nil => rfl
      | cons y' t' => simp at hl
    subst ht
    obtain ⟨⟨q, tt, rfl, hN, hdp⟩, -⟩ := hok y List.mem_cons_self
    have e3 := hEC.2.2.2.2.2.2.1
    have e9 := hEC.2.2.2.2.2.2.2.2.1
    have e8 := hEC.2.2.2.2.2.2.2.1
    have ll : ((zz ++ [q :: tt].map ofN).length : Int) = zz.length + 1 := by simp
    rw [ll] at e3 e9 e8
    have eg := hEC.2.2.2.2.2.2.2.2.2 zz.length (by omega) (by rw [ll]; omega)
    have eq : gi (zz ++ [q :: tt].map ofN) zz.length = q.1 := by rw [gi_app_r (by omega), Int.sub_self]; rfl
    rw [eq] at eg
    refine ⟨m2, cap', q.1, st _ ?_, cp2, hq2, u5.trans u2, ⟨g1, by omega, by omega⟩, fun hn => ?_, fun u hu => ?_⟩
    · rw [if_pos (show (([q :: tt] : List Nd).length : Int) = 1 from rfl), nm_eq, hX2.f (by omega), gd_of hX2.a7, nm_eq, nm_eq, e3, (w32_of (by omega) (by omega) : w32 ((zz.length : Int) + 1 - 1) = (zz.length : Int) + 1 - 1), show (zz.length : Int) + 1 - 1 = zz.length by omega, gd_of hEC.2.2.2.2.2.1.1, gd_of ⟨by omega, by rw [hEC.2.2.2.2.2.1.2]; omega⟩, eg]
    · rw [hch] at hn; cases hn
    · rw [hch] at hu
      cases hu
      exact ⟨⟨hN.1.1, hN.1⟩, hN.2, hdp⟩
/-- one table has changed -/
theorem TBI.mod {srl k t : Int} {hist : Int → DC} {ix : Int → Option Fo} (ok : OK m) (h : TBI m A srl hist ix) (hk : 0 ≤ k ∧ k < 4) (ht : vl m (A 14) k = t) (ht0 : t ≠ 0) (nc : NC (tS m t) m m1) (hf : vl m1 t 2 = vl m t 2 ∧ vl m1 t 3 = vl m t 3) (h14 : tg m (A 14) = 17116) (new : ∀ S, ix k = some S → TBI1 m1 A srl hist t S) (hq : QKp m m1) (hr : RKp A m m1) : TBI m1 A srl hist ix := by
  have hO := h.obj hk.1 hk.2 (by rw [ht]; exact ht0)
  rw [ht] at hO
  obtain ⟨o1, o2, o3⟩ := hO
  have e14 : ∀ j, vl m1 (A 14) j = vl m (A 14) j := fun j => nc.2.2.2 _ j (by
    rintro (z | z | z)
    · rw [z, o1] at h14; omega
    · rw [z, o2.1] at h14; omega
    · rw [z, o3.1] at h14; omega)
  have other : ∀ j, 0 ≤ j → j < 4 → j ≠ k → vl m (A 14) j ≠ 0 → TbO m (vl m (A 14) j) ∧ (∀ f, vl m1 (vl m (A 14) j) f = vl m (vl m (A 14) j) f) ∧ (∀ f, vl m1 (vl m (vl m (A 14) j) 2) f = vl m (vl m (vl m (A 14) j) 2) f) ∧ ∀ f, vl m1 (vl m (vl m (A 14) j) 3) f = vl m (vl m (vl m (A 14) j) 3) f := fun j j0 j1 hne hn => by
    obtain ⟨p1, p2, p3⟩ := h.obj j0 j1 hn
    obtain ⟨d1, d2, d3⟩ := h.2 j k j0 j1 hk.1 hk.2 hne hn (by rw [ht]; exact ht0)
    rw [ht] at d1 d2 d3
    refine ⟨⟨p1, p2, p3⟩, fun f => nc.2.2.2 _ f ?_, fun f => nc.2.2.2 _ f ?_, fun f => nc.2.2.2 _ f ?_⟩
    · rintro (z | z | z)
      · exact d1 z
      · rw [z, o2.1] at p1; omega
      · rw [z, o3.1] at p1; omega
    · rintro (z | z | z)
      · rw [z, o1] at p2; omega
      · exact d2 z
      · rw [z, o3.1] at p2; omega
    · rintro (z | z | z)
      · rw [z, o1] at p3; omega
      · rw [z, o2.1] at p3; omega
      · exact d3 z
  have tt := nc.2.2.1
  refine ⟨fun j j0 j1 => ?_, fun i j i0 i1 j0 j1 hne z1 z2 => ?_⟩
  · rw [e14]
    refine ⟨(h.1 j j0 j1).1, fun S' hS' => ?_⟩
    by_cases hj : j = k
    · subst hj
      rw [ht]; exact new S' hS'
    · obtain ⟨L, N, xs, cN, b1, b2, b3, ⟨b4, b5, b6, b7, b8⟩, b9, b10⟩ := (h.1 j j0 j1).2 S' hS'
      have hn : vl m (A 14) j ≠ 0 := fun z => by
        have := b1.1.1
        rw [z, ok.2.1] at this; omega
      obtain ⟨⟨p1, p2, p3⟩, p4, p5, p6⟩ := other j j0 j1 hj hn
      obtain ⟨-, c4, c5, c6, c7⟩ := b1
      refine ⟨L, N, xs, cN, ⟨⟨by rw [(tt _).1]; exact p1, by rw [p4, (tt _).1, (tt _).2]; exact p2, by rw [p4, (tt _).1, (tt _).2]; exact p3⟩, by rw [p4]; exact c4, c5, fun i i0 i1 => by rw [p4, p5]; exact c6 i i0 i1, fun i i0 i1 => by rw [p4, p6]; exact c7 i i0 i1⟩, b2, by rw [p4]; exact b3, ⟨hr.1 N xs cN b6 b7 b8 b4, b5, b6, b7, fun z => b8 ((hr.2 N).mp z)⟩, ?_, b10⟩
      have := b9.keep (ys := []) (p' := fun _ => vl m1 (vl m (A 14) j) 0) hq.q (fun _ => p4 0)
      rwa [List.append_nil] at this
  · rw [e14] at z1 z2
    rw [e14, e14]
    have d := h.2 i j i0 i1 j0 j1 hne z1 z2
    have fe : ∀ i, 0 ≤ i → i < 4 → vl m (A 14) i ≠ 0 → vl m1 (vl m (A 14) i) 2 = vl m (vl m (A 14) i) 2 ∧ vl m1 (vl m (A 14) i) 3 = vl m (vl m (A 14) i) 3 := fun i i0 i1 hn => by
      by_cases hi : i = k
      · subst hi; rw [ht]; exact hf
      · have := (other i i0 i1 hi hn).2.1
        exact ⟨this 2, this 3⟩
    rw [(fe i i0 i1 z1).1, (fe i i0 i1 z1).2, (fe j j0 j1 z2).1, (fe j j0 j1 z2).2]
    exact d
/-- which table is in the making doesn't matter elsewhere -/
theorem CPt.upd (h : CPt n m X A s g) (hA : ∀ j, j ≠ 60 → A' j = A j) (tb : TBI m A' g.srl g.hist s.ix) : CPt n m X A' s g := by
  obtain ⟨b, x, t1, fl, k, r1, r2, rn, p, dk, -⟩ := h
  have e0 := hA 0 (by decide)
  have e4 := hA 4 (by decide)
  have e5 := hA 5 (by decide)
  have e6 := hA 6 (by decide)
  have e7 := hA 7 (by decide)
  have e8 := hA 8 (by decide)
  have e9 := hA 9 (by decide)
  have e10 := hA 10 (by decide)
  have e11 := hA 11 (by decide)
  have e12 := hA 12 (by decide)
  have e13 := hA 13 (by decide)
  have e14 := hA 14 (by decide)
  have e20 := hA 20 (by decide)
  have e21 := hA 21 (by decide)
  have e50 := hA 50 (by decide)
  have eR : ∀ k : Int, 0 ≤ k → A' (100 + k) = A (100 + k) := fun k k0 => hA _ (by omega)
  have eV : ∀ k, vA A' k = vA A k := fun k => by
    unfold vA
    split
    · exact e12
    · exact eR k (by omega)
  refine ⟨b, ⟨x.1, fun f hf => by rw [hA f (by omega)]; exact x.2.1 f hf, by rw [e0, e4, e5, e6, e7, e8, e9, e10, e11, e12, e13, e14, e20, e21]; exact x.2.2⟩, ⟨t1.1, t1.2.1, by rw [e0]; exact t1.2.2⟩, fl, ⟨k.1, k.2.1, by rw [e4]; exact k.2.2.1, by rw [e4, e50]; exact k.2.2.2⟩, by rw [e10]; exact r1, by rw [e11]; exact r2, by rw [e7]; exact rn, ⟨by rw [e8]; exact p.1, by rw [e8, e50]; exact p.2.1, by rw [e50]; exact p.2.2.1, by rw [e8, e10, e11]; exact p.2.2.2⟩, ?_, tb⟩
  obtain ⟨d1, d2, d3, ⟨⟨d4, d4'⟩, d5, d6⟩, d7, d8, d9⟩ := dk
  refine ⟨by rw [e9]; exact d1, d2, d3, ⟨⟨fun k k0 k1 => by rw [e13, eR k k0]; exact d4 k k0 k1, fun i j i0 i1 j0 j1 hne => by rw [eV, eV]; exact d4' i j i0 i1 j0 j1 hne⟩, by rw [e12]; exact d5, d6⟩, by rw [e12]; exact d7, d8, fun k k0 k1 => by rw [eR k k0]; exact d9 k k0 k1⟩
/-- documents in order are entered into the table -/
theorem q45_all {k a2 t sv : Int} (hd : 1915 ≤ d) (hk : 0 ≤ k ∧ k < 4) (hix : s.ix k = some S) (hS : QSi S) (hsv : 0 ≤ sv ∧ sv ≤ 64) (h60 : A 60 = t) (ht0 : t ≠ 0) : ∀ (R : DC) (i : Nat) (L : List (Int × Int)) (m : Mem) (g : GH) (z4 : PV), cat z4 = 1 → CPt n m X A s g → vl m (A 14) k = t → vl m t 1 = sv → vl m t 0 = o → QOb m A o S → TBl m t L → srK L → L.length ≤ i → (vl m X 22 = i + R.length ∧ i + R.length ≤ 127) → LsE m A g.c i (encD R) → (∀ x ∈ R, DKv x.2) →
    ∃ m' g', rn d 45 35 [pR X, pR t, pR a2, pI i, z4] [] m = some (.inl none, m') ∧ CPt n m' X A s g' ∧ (g'.c = g.c ∧ g'.srl = g.srl ∧ g'.hist = g.hist ∧ g'.xs = g.xs ∧ g'.c1 = g.c1) ∧ (pcG g ≤ pcG g' ∧ 16 * (nx m' - nx m) ≤ pcG g' - pcG g ∧ sl m' - sl m ≤ 2 * (pcG g' - pcG g)) ∧ vl m' (A 14) k = t ∧ vl m' t 1 = sv ∧ vl m' t 0 = o ∧ QOb m' A o S ∧ TBl m' t (R.foldl (bldS S) L) ∧ UT [1, 10, 17115] m m' := by
  intro R
  induction R with
  | nil =>
    intro i L m g z4 c4 h h14 h1 h0 hq hT hs hL h22 hLs hx
    have hX := h.2.1
    refine ⟨m, g, q45_35 (by omega) h.1.tz c4 _ ?_, h, ⟨rfl, rfl, rfl, rfl, rfl⟩, ⟨Int.le_refl _, by omega, by omega⟩, h14, h1, h0, hq, hT, UT.refl⟩
    rw [gd_of hX.1, if_neg (by rw [h22.1]; simp)]
  | cons x R ih =>
    intro i L m g z4 c4 h h14 h1 h0 hq hT hs hL h22 hLs hx
    have hz := h.1.tz
    have hX := h.2.1
    have hx1 := hx x List.mem_cons_self
    rw [List.length_cons] at h22
    obtain ⟨l1, l2, l3, l4⟩ := hLs
    obtain ⟨m1, c', e178, cp1, ⟨gr1, gr2, gr3⟩, hl⟩ := h.load (d := d - 1) (x := x.2) (by omega) l3 l2
    have u178 := ut_cl (ts := [1, 17101, 6, 7, 2, 52103, 10, 17115] ++ tbT ++ qyT) e178 (by decide +kernel)
    have hX1 := cp1.2.1
    have q1 : QOb m1 A o S := by
      have hr : RKp A m m1 := by
        obtain ⟨⟨hD, hc, -⟩, -⟩ := h.2.2.2.2.2.2.2.2.2.1
        obtain ⟨r1, r2⟩ := h.2.2.2.2.2.2.1
        obtain ⟨m9, c9, e9, -, e3, -⟩ := c178 (d := d - 1) (b := vl m (A 21) i) (r := A 11) (by omega) h.1.1 h.1.2.1 hD hc (by omega) r1 l2
        cases e178.symm.trans e9
        refine ⟨fun N xs cN _ n11 _ hw => e3.2 N n11 xs cN hw, fun r => ?_⟩
        have gg : ∀ f, 0 ≤ f → f < 17 → vl m1 (A 8) f = vl m (A 8) f := fun f f0 f1 => u178.f hz hX.a8 (by decide) (by decide) (by
          have : nF 7 = 17 := by decide
          rw [this]; omega)
        unfold pRw
        rw [gg 5 (by decide) (by decide), gg 6 (by decide) (by decide), gg 7 (by decide) (by decide), gg 8 (by decide) (by decide), gg 9 (by decide) (by decide)]
      exact hq.keep (QKp.ut u178 hz (by decide)) hr
    obtain ⟨hT1, f1⟩ := hT.ut u178 hz (by decide)
    have a14_1 : vl m1 (A 14) k = t := by rw [u178.a hz hX.a14.1 (by decide) (by decide)]; exact h14
    obtain ⟨m2, cap', b, e46, cp2, q2, u2, ⟨g1, g2, g3⟩, k1, k2⟩ := cp1.node (d := d - 1) (v := x.2) (by omega) rfl hx1 q1 hS
    have hz1 := cp1.1.tz
    have hX2 := cp2.2.1
    have hz2 := cp2.1.tz
    obtain ⟨hT2, f2⟩ := hT1.ut u2 hz1 (by decide)
    have a14_2 : vl m2 (A 14) k = t := by rw [u2.a hz1 hX1.a14.1 (by decide) (by decide)]; exact a14_1
    have g1' : g.cap ≤ cap' := g1
    have g2' : nx m2 - nx m1 ≤ (cap' - g.cap) / 16 := g2
    have g3' : sl m2 - sl m1 ≤ 2 * (cap' - g.cap) := g3
    have pg2 : pcG (g.c, g.ns, g.sq, g.srl, g.hist, (g.xs, g.c1), (enV x.2.1 x.2.2, c'), g.k, cap') = pcG g + (c' - g.c2) + (cap' - g.cap) := by unfold pcG; show g.c1 + c' + g.k + cap' + 48 * (g.ns.length : Int) = _; omega
    have u02 : UT [1, 10, 17115, 17101] m m2 := (u178.sub (by decide)).trans (u2.sub (by decide))
    have v0 : vl m2 t 0 = o := by rw [f2 0 (by decide) (by decide), f1 0 (by decide) (by decide)]; exact h0
    have v1 : vl m2 t 1 = sv := by rw [f2 1 (by decide) (by decide), f1 1 (by decide) (by decide)]; exact h1
    have t30 : tg m1 t = 30 := hT1.1.1
    have st : ∀ Z, (if b < 0 then (rn d 45 35 [pR X, pR t, pR a2, pI (i + 1), pI b] [] m2) else bL (cl (d - 1) 344 [pR (A 11), pI b] m2) fun v3 m3 => nm (vl m3 X 20) fun v7 => gd (tg m3 v7 = 17101) <| gd ((0 : Int) ≤ i ∧ (i : Int) < ln m3 v7) <| bV (cl (d - 1) 347 [pR t, pL v3, pI (vl m3 v7 i)] m3) fun m4 => rn d 45 35 [pR X, pR t, pR a2, pI (i + 1), pI b] [] m4) = some Z → rn d 45 35 [pR X, pR t, pR a2, pI i, z4] [] m = some Z := fun Z hZ => by
      refine q45_35 (by omega) hz c4 _ ?_
      rw [gd_of hX.1, if_pos (by rw [h22.1]; push_cast; omega), nm_eq, hX.f (by omega), nm_eq, hX.f (by omega), gd_of hX.a21.1, gd_of ⟨by omega, by rw [hX.a21.2]; omega⟩, gd_of hX.a9, hX.f (by omega), bV_eq e178, gd_of t30, f1 0 (by decide) (by decide), h0, bI_eq e46, hX2.f (by omega), (w32_of (by omega) (by omega) : w32 ((i : Int) + 1) = (i : Int) + 1)]
      exact hZ
    have ei : (((i + 1 : Nat) : Nat) : Int) = (i : Int) + 1 := by push_cast; rfl
    cases hc : chs S x.2 with
    | none =>
      have hb := k1 hc
      have eB : bldS S L x = L := by unfold bldS; rw [hc]
      obtain ⟨m5, g5, e5, cp5, ⟨y1, y2, y3, y3a, y3b⟩, ⟨y4, y5, y6⟩, y7, y8, y9, y10, y11, y12⟩ := ih (i + 1) L m2 _ (pI b) rfl cp2 a14_2 v1 v0 q2 hT2 hs (by omega) ⟨by rw [hX.fld (f := 22) u02 hz (by decide) (by decide), h22.1]; push_cast; omega, by omega⟩ (by rw [ei]; exact l4.imp fun j j0 j1 => ⟨u02.a hz hX.a20.1 (by decide) (by decide), u02.a hz hX.a21.1 (by decide) (by decide)⟩) fun y hy => hx y (List.mem_cons_of_mem _ hy)
      rw [ei] at e5
      rw [pg2] at y4 y5 y6
      refine ⟨m5, g5, st _ (by rw [if_pos (by omega)]; exact e5), cp5, ⟨y1, y2, y3, y3a, y3b⟩, ⟨by omega, by omega, by omega⟩, y7, y8, y9, y10, ?_, (u02.sub (by decide)).trans y12⟩
      show TBl m5 t (R.foldl (bldS S) (bldS S L x))
      rw [eB]; exact y11
    | some u =>
      obtain ⟨⟨b0, hAt⟩, hw, hdp⟩ := k2 u hc
      have eB : bldS S L x = inK (kyV u.1 u.2) x.1 L := by unfold bldS; rw [hc]
      have r11 := cp2.2.2.2.2.2.2.1.1
      have e344 := c344 (d := d - 1) (nd := u.1) (l := u.2) (a := b) (by omega) hz2 r11 (by show (enV x.2.1 x.2.2).length < 60000; omega) hw hAt
      have hO := hT2.1
      obtain ⟨m3, e347, nc, hT3, f3⟩ := c347 (d := d - 1) (k := kyV u.1 u.2) (id := x.1) hz2 hT2 hs (by omega)
      have tgs : ∀ a, tS m2 t a → tg m2 a = 30 ∨ tg m2 a = 344102 ∨ tg m2 a = 344101 := fun a ha => by
        rcases ha with z | z | z
        · rw [z]; exact Or.inl hO.1
        · rw [z]; exact Or.inr (Or.inl hO.2.1.1)
        · rw [z]; exact Or.inr (Or.inr hO.2.2.1)
      have u3 : UT (noT ++ [17101]) m2 m3 := UT.nc nc fun a ha => by
        rcases tgs a ha with z | z | z <;> rw [z] <;> decide
      have b3 : BSm m3 := cp2.1.nc nc fun a ha => by
        rcases tgs a ha with z | z | z <;> omega
      have rk3 := cp2.rkp (u3.sub (by decide))
      have qk3 := QKp.ut u3 hz2 (by decide)
      have q3 := q2.keep qk3 rk3
      have tb3 : TBI m3 A g.srl g.hist s.ix := by
        refine TBI.mod cp2.1.1 cp2.2.2.2.2.2.2.2.2.2.2 hk a14_2 ht0 nc ⟨f3 2 (by decide), f3 3 (by decide)⟩ hX2.a14.1 (fun S' hS' => ?_) qk3 rk3
        cases hix.symm.trans hS'
        obtain ⟨N, xs, cN, w1, w2⟩ := q3
        refine ⟨_, N, xs, cN, hT3, srK_in hs, Or.inr (Or.inr h60.symm), w1, ?_, hS⟩
        have e : (fun _ : Nat => vl m3 t 0) = fun _ => o := by funext _; rw [f3 0 (by decide), v0]
        rw [e]; exact w2
      have cp3 := cp2.tbs (u3.sub (by decide)) b3 tb3
      have u03 := u02.trans (u3.sub (ts' := [1, 10, 17115, 17101]) (by decide))
      have a14_3 : vl m3 (A 14) k = t := by
        rw [nc.2.2.2 (A 14) k (fun z => by
          have := hX2.a14.1
          rcases tgs _ z with w | w | w <;> omega)]
        exact a14_2
      have v20 : vl m2 (A 20) i = x.1 := by rw [u02.a hz hX.a20.1 (by decide) (by decide)]; exact l1
      obtain ⟨m5, g5, e5, cp5, ⟨y1, y2, y3, y3a, y3b⟩, ⟨y4, y5, y6⟩, y7, y8, y9, y10, y11, y12⟩ := ih (i + 1) (inK (kyV u.1 u.2) x.1 L) m3 _ (pI b) rfl cp3 a14_3 (by rw [f3 1 (by decide)]; exact v1) (by rw [f3 0 (by decide)]; exact v0) q3 hT3 (srK_in hs) (by rw [inK_len]; omega) ⟨by rw [hX.fld (f := 22) u03 hz (by decide) (by decide), h22.1]; push_cast; omega, by omega⟩ (by rw [ei]; exact l4.imp fun j j0 j1 => ⟨u03.a hz hX.a20.1 (by decide) (by decide), u03.a hz hX.a21.1 (by decide) (by decide)⟩) fun y hy => hx y (List.mem_cons_of_mem _ hy)
      rw [ei] at e5
      rw [pg2] at y4 y5 y6
      have n3 : nx m3 = nx m2 ∧ sl m3 = sl m2 := ⟨nc.1, nc.2.1⟩
      refine ⟨m5, g5, st _ ?_, cp5, ⟨y1, y2, y3, y3a, y3b⟩, ⟨by omega, by omega, by omega⟩, y7, y8, y9, y10, ?_, (u03.sub (by decide)).trans y12⟩
      · rw [if_neg (by omega), bL_eq e344, nm_eq, hX2.f (by omega), gd_of hX2.a20.1, gd_of ⟨by omega, by rw [hX2.a20.2]; omega⟩, v20, bV_eq e347]
        exact e5
      · show TBl m5 t (R.foldl (bldS S) (bldS S L x))
        rw [eB]; exact y11
/-- a table is filled for a version, if it isn't yet -/
theorem CPt.build {k r : Int} {D : DC} (hd : 1920 ≤ d) (h : CPt n m X A s g) (hA : A 60 = 0) (hk : 0 ≤ k ∧ k < 4) (hix : s.ix k = some S) (hr : -1 ≤ r ∧ r < 8) (hv : s.ver r = some D) (hn : n ≤ 64) :
    ∃ m' g', cl d 45 [pR X, pR (vl m (A 14) k), pR (vA A r)] m = some (.inl none, m') ∧ CPt n m' X A s g' ∧ (g'.c = g.c ∧ g'.xs = g.xs ∧ g'.c1 = g.c1) ∧ (pcG g ≤ pcG g' ∧ 16 * (nx m' - nx m) ≤ pcG g' - pcG g ∧ sl m' - sl m ≤ 2 * (pcG g' - pcG g)) ∧ vl m' (A 14) k = vl m (A 14) k ∧ TBl m' (vl m (A 14) k) (bldT S D) ∧ QOb m' A (vl m' (vl m (A 14) k) 0) S ∧ QSi S ∧ tg m (vl m (A 14) k) = 30 := by
  have hz := h.1.tz
  have hX := h.2.1
  have tb := h.2.2.2.2.2.2.2.2.2.2
  obtain ⟨L, N, xs, cN, b1, b2, b3, b4, b5, b6⟩ := (tb.1 k hk.1 hk.2).2 S hix
  obtain ⟨⟨bs, hV, hc, hs1, hs2, hs3⟩, v2, v3⟩ := h.vni hr hv
  have hO := b1.1
  generalize ht : vl m (A 14) k = t at *
  have ht0 : t ≠ 0 := fun z => by have := hO.1; rw [z, h.1.1.2.1] at this; omega
  have st : ∀ Z, (if (vl m t 1) = vl m (vA A r) 2 then (some (.inl none, m)) else gd (tg m X = 1) <| bV (cl (d - 1) 40 [pR X, pI (vl m (vA A r) 0)] (mst (mst m t 1 (vl m (vA A r) 2)) t 4 0)) fun m1 => rn d 45 35 [pR X, pR t, pR (vA A r), pI 0, pU] [] m1) = some Z → cl d 45 [pR X, pR t, pR (vA A r)] m = some Z := fun Z hZ => by
    refine q45 (by omega) hz _ ?_
    rw [gd_of hO.1, gd_of v3, nm_eq]
    exact hZ
  have nt60 : t ≠ A 60 := by rw [hA]; exact ht0
  by_cases q : vl m t 1 = vl m (vA A r) 2
  · refine ⟨m, g, st _ (if_pos q), h, ⟨rfl, rfl, rfl⟩, ⟨Int.le_refl _, by omega, by omega⟩, ht, ?_, ⟨N, xs, cN, b4, b5⟩, b6, hO.1⟩
    rcases b3 with w | ⟨-, -, w⟩ | w
    · omega
    · rw [q, hs3] at w
      rw [← w]; exact b1
    · exact absurd w nt60
  · -- it is filled anew
    have hDl := v2.2.1
    have tgt : tg m t = 30 := hO.1
    have nc : NC (tS m t) m (mst (mst m t 1 (vl m (vA A r) 2)) t 4 0) := (NC.set (Or.inl rfl)).trans (NC.set (Or.inl rfl))
    have f0 : ∀ f, f ≠ 1 → f ≠ 4 → vl (mst (mst m t 1 (vl m (vA A r) 2)) t 4 0) t f = vl m t f := fun f f1 f4 => by rw [vl_mst, if_neg (fun z => f4 z.2), vl_mst, if_neg (fun z => f1 z.2)]
    have f1 : vl (mst (mst m t 1 (vl m (vA A r) 2)) t 4 0) t 1 = vl m (vA A r) 2 := by rw [vl_mst, if_neg (by omega), vl_mst, if_pos ⟨rfl, rfl⟩]
    have f4 : vl (mst (mst m t 1 (vl m (vA A r) 2)) t 4 0) t 4 = 0 := by rw [vl_mst, if_pos ⟨rfl, rfl⟩]
    have n0 : nx (mst (mst m t 1 (vl m (vA A r) 2)) t 4 0) = nx m ∧ sl (mst (mst m t 1 (vl m (vA A r) 2)) t 4 0) = sl m := ⟨rfl, rfl⟩
    have ti : ∀ ts : List Int, (30 : Int) ∉ ts → UT ts m (mst (mst m t 1 (vl m (vA A r) 2)) t 4 0) := fun ts h30 => (UT.mst (by rw [tgt]; exact h30)).trans (UT.mst (by show tg m t ∉ ts; rw [tgt]; exact h30))
    generalize hM : mst (mst m t 1 (vl m (vA A r) 2)) t 4 0 = M at *
    have uM : UT noT m M := ti _ (by decide)
    have bM : BSm M := h.1.nc nc fun a ha => by
      rcases ha with z | z | z
      · rw [z, tgt]; decide
      · rw [z, hO.2.1.1]; decide
      · rw [z, hO.2.2.1]; decide
    have rkM := h.rkp (uM.sub (by decide))
    have qkM := QKp.ut uM hz (by decide)
    have qM : QOb M A (vl m t 0) S := QOb.keep ⟨N, xs, cN, b4, b5⟩ qkM rkM
    have hTM : TBl M t [] := by
      obtain ⟨o1, o2, o3⟩ := hO
      have tt := nc.2.2.1
      exact ⟨⟨by rw [(tt _).1]; exact o1, by rw [f0 2 (by decide) (by decide), (tt _).1, (tt _).2]; exact o2, by rw [f0 3 (by decide) (by decide), (tt _).1, (tt _).2]; exact o3⟩, by rw [f4]; rfl, by decide, fun i i0 i1 => absurd i1 (by show ¬ i < ((0 : Nat) : Int); omega), fun i i0 i1 => absurd i1 (by show ¬ i < ((0 : Nat) : Int); omega)⟩
    -- the ghost
    have hA' : ∀ j : Int, j ≠ 60 → (fun j => if j = 60 then t else A j) j = A j := fun j hj => if_neg hj
    have h60' : (fun j => if j = 60 then t else A j) 60 = t := if_pos rfl
    have tb' : TBI m (fun j => if j = 60 then t else A j) g.srl g.hist s.ix := by
      refine ⟨fun j j0 j1 => ⟨(tb.1 j j0 j1).1, fun S' hS' => ?_⟩, tb.2⟩
      obtain ⟨L', N', xs', cN', c1, c2, c3, c4⟩ := (tb.1 j j0 j1).2 S' hS'
      refine ⟨L', N', xs', cN', c1, c2, ?_, c4⟩
      rcases c3 with w | w | w
      · exact Or.inl w
      · exact Or.inr (Or.inl w)
      · have := c1.1.1
        have w' : vl m (A 14) j = A 60 := w
        rw [hA] at w'
        have this' : tg m (vl m (A 14) j) = 30 := this
        rw [w', h.1.1.2.1] at this'; omega
    have h' := h.upd hA' tb'
    generalize hAe : (fun j => if j = 60 then t else A j) = A2 at *
    have e14 : A2 14 = A 14 := hA' 14 (by decide)
    have ev : vA A2 r = vA A r := by
      unfold vA
      split
      · exact hA' 12 (by decide)
      · exact hA' _ (by omega)
    have ht2 : vl m (A2 14) k = t := by rw [e14]; exact ht
    have qM2 : QOb M A2 (vl m t 0) S := by
      obtain ⟨N9, xs9, cN9, w1, w2⟩ := qM
      refine ⟨N9, xs9, cN9, ?_, w2⟩
      rw [hA' 10 (by decide), hA' 11 (by decide), hA' 8 (by decide)]; exact w1
    have tbM : TBI M A2 g.srl g.hist s.ix := by
      refine TBI.mod h.1.1 h'.2.2.2.2.2.2.2.2.2.2 hk ht2 ht0 nc ⟨f0 2 (by decide) (by decide), f0 3 (by decide) (by decide)⟩ (by rw [e14]; exact hX.a14.1) (fun S' hS' => ?_) qkM (h'.rkp (uM.sub (by decide)))
      cases hix.symm.trans hS'
      obtain ⟨N9, xs9, cN9, w1, w2⟩ := qM2
      refine ⟨[], N9, xs9, cN9, hTM, trivial, Or.inr (Or.inr h60'.symm), w1, ?_, b6⟩
      have e : (fun _ : Nat => vl M t 0) = fun _ => vl m t 0 := by funext _; exact f0 0 (by decide) (by decide)
      rw [e]; exact w2
    have cpM : CPt n M X A2 s g := h'.tbs uM bM tbM
    have vt : vl M (vA A r) 0 = vl m (vA A r) 0 ∧ vl M (vA A r) 2 = vl m (vA A r) 2 := ⟨uM.f hz v3 (by decide) (by decide) (by decide), uM.f hz v3 (by decide) (by decide) (by decide)⟩
    obtain ⟨m1, e40, cp1, lf1, c22', hL⟩ := c40 (d := d - 1) (by omega) cpM hV (by omega)
    have hXM := cpM.2.1
    have u1 := lf1.ut (ts := noQ.filter (fun t => t != 1 && t != 17101)) hXM (by decide) (by decide)
    have hzM := cpM.1.tz
    obtain ⟨hT1, g1⟩ := hTM.ut u1 hzM (by decide)
    have q1 := qM2.keep (QKp.ut u1 hzM (by decide)) (cpM.rkp (u1.sub (by decide)))
    have n1 : nx m1 = nx M ∧ sl m1 = sl M := ⟨lf1.1.1, lf1.1.2.1⟩
    have a14M : vl M (A2 14) k = t := by
      rw [nc.2.2.2 (A2 14) k (fun z => by
        have e := hX.a14.1
        rw [← e14] at e
        rcases z with w | w | w
        · rw [w, tgt] at e; omega
        · rw [w, hO.2.1.1] at e; omega
        · rw [w, hO.2.2.1] at e; omega)]
      exact ht2
    have a14_1 : vl m1 (A2 14) k = t := by rw [u1.a hzM hXM.a14.1 (by decide) (by decide)]; exact a14M
    obtain ⟨m5, g5, e5, cp5, ⟨y1, y2, y3, y3a, y3b⟩, ⟨y4, y5, y6⟩, y7, y8, y9, y10, y11, y12⟩ := q45_all (d := d) (a2 := vA A r) (sv := vl m (vA A r) 2) (o := vl m t 0) (by omega) hk hix b6 ⟨hs1, by
      have := h.2.2.2.2.2.2.2.2.2.1.2.2.1
      omega⟩ h60' ht0 D 0 [] m1 g pU rfl cp1 a14_1 (by rw [g1 1 (by decide) (by decide)]; exact f1) (by rw [g1 0 (by decide) (by decide)]; exact f0 0 (by decide) (by decide)) q1 hT1 trivial (Nat.le_refl _) ⟨by rw [c22']; simp, by simp; omega⟩ hL fun y hy => (v2.2.2 y hy).2
    have e45 : cl d 45 [pR X, pR t, pR (vA A r)] m = some (.inl none, m5) := st _ (by rw [if_neg q, gd_of hX.1, bV_eq e40]; exact e5)
    -- back
    have tb5 := cp5.2.2.2.2.2.2.2.2.2.2
    have eb : bldT S D = D.foldl (bldS S) [] := rfl
    have hA'' : ∀ j : Int, j ≠ 60 → A j = A2 j := fun j hj => (hA' j hj).symm
    have tb6 : TBI m5 A g5.srl g5.hist s.ix := by
      refine ⟨fun j j0 j1 => ?_, by rw [← e14]; exact tb5.2⟩
      rw [← e14]
      refine ⟨(tb5.1 j j0 j1).1, fun S' hS' => ?_⟩
      obtain ⟨L', N', xs', cN', c1, c2, c3, c4, c5, c6⟩ := (tb5.1 j j0 j1).2 S' hS'
      rw [hA' 10 (by decide), hA' 11 (by decide), hA' 8 (by decide)] at c4
      by_cases hj : j = k
      · subst hj
        cases hix.symm.trans hS'
        rw [y7] at *
        refine ⟨bldT S D, N', xs', cN', by rw [eb]; exact y11, bldT_sr.1, Or.inr (Or.inl ⟨by rw [y8]; exact hs1, by rw [y8, y2]; exact hs2, by rw [y8, y3, hs3]⟩), c4, c5, c6⟩
      · refine ⟨L', N', xs', cN', c1, c2, ?_, c4, c5, c6⟩
        rcases c3 with w | w | w
        · exact Or.inl w
        · exact Or.inr (Or.inl w)
        · rw [h60'] at w
          have hn : vl m5 (A2 14) j ≠ 0 := by rw [w]; exact ht0
          have := (tb5.2 j k j0 j1 hk.1 hk.2 hj hn (by rw [y7]; exact ht0)).1
          rw [w, y7] at this
          exact absurd rfl this
    have cp6 := cp5.upd hA'' tb6
    refine ⟨m5, g5, e45, cp6, ⟨y1, y3a, y3b⟩, ⟨y4, by omega, by omega⟩, by rw [← e14]; exact y7, by rw [eb]; exact y11, ?_, b6, tgt⟩
    rw [y9]
    obtain ⟨N9, xs9, cN9, w1, w2⟩ := y10
    refine ⟨N9, xs9, cN9, ?_, w2⟩
    rw [← hA' 10 (by decide), ← hA' 11 (by decide), ← hA' 8 (by decide)]; exact w1
end
