/-! the component: a query runs over a document -/
set_option maxRecDepth 100000
set_option maxHeartbeats 4000000
/-- all tags but the runner's -/
abbrev noRn : List Int := [1, 31, 103, 17103, 7] ++ rwT ++ [10, 17115] ++ dkT ++ tbT ++ qyT ++ [2, 52103, 17101]
section
variable {d n : Nat} {m m1 : Mem} {X : Int} {A : Int → Int} {s : St} {g : GH} {o : Int} {S : Fo}
/-- a query's object, over a row of its own -/
def QOb (m : Mem) (A : Int → Int) (o : Int) (S : Fo) : Prop := ∃ N xs cN, (RW m N xs cN ∧ xs.length < 60000 ∧ N ≠ A 10 ∧ N ≠ A 11 ∧ ¬ pRw m (A 8) N) ∧ CF m N xs aT (fun _ => o) (foC (20, 1, [], []) S foN)
theorem QOb.keep (h : QOb m A o S) (hq : QKp m m1) (hr : RKp A m m1) : QOb m1 A o S := by
  obtain ⟨N, xs, cN, ⟨b4, b5, b6, b7, b8⟩, b9⟩ := h
  refine ⟨N, xs, cN, ⟨hr.1 N xs cN b6 b7 b8 b4, b5, b6, b7, fun z => b8 ((hr.2 N).mp z)⟩, ?_⟩
  have := b9.keep (ys := []) (p' := fun _ => o) hq.q (fun _ => rfl)
  rwa [List.append_nil] at this
theorem PB.rtg {P k r : Int} {L : List Int} (h : PB m P L none none k) (hr : pRw m P r) : tg m r = 8 := by
  obtain ⟨rd, ro, rh, rm, rt, sa, aa, rv, cd, co, ch, cm', ct, cw, os, hs, ms', ts', h1, h2, h3, ⟨e5, e6, e7, e8, e9, e10, e12, e0⟩, -, -, ⟨w1, w2, w3, w4, w5, w6⟩, -⟩ := h
  rcases hr with z | z | z | z | z
  · rw [z, e5]; exact w1.1
  · rw [z, e6]; exact w2.1
  · rw [z, e7]; exact w3.1
  · rw [z, e8]; exact w4.1
  · rw [z, e9]; exact w5.1
theorem CQ.ob {as : List PV} {r : Rs} (h : CPt n m X A s g) (e : cl d 39 as m = some (r, m1)) (hq : CQ m m1 A o S) : QOb m1 A o S := by
  obtain ⟨N, xs, cN, q1, q2, q3, q4, -, -⟩ := hq
  have u := ut_cl (ts := [7]) e (by decide +kernel)
  have hX := h.2.1
  have hz := h.1.tz
  have gg : ∀ f, 0 ≤ f → f < 17 → vl m1 (A 8) f = vl m (A 8) f := fun f f0 f1 => u.f hz hX.a8 (by decide) (by decide) (by
    have : nF 7 = 17 := by decide
    rw [this]; omega)
  obtain ⟨⟨L, hp⟩, -⟩ := h.2.2.2.2.2.2.2.2.1
  refine ⟨N, xs, cN, ⟨q1, q2, fun z => by have := hX.a10; rw [← z, q3] at this; omega, fun z => by have := hX.a11; rw [← z, q3] at this; omega, fun z => ?_⟩, q4⟩
  unfold pRw at z
  rw [gg 5 (by decide) (by decide), gg 6 (by decide) (by decide), gg 7 (by decide) (by decide), gg 8 (by decide) (by decide), gg 9 (by decide) (by decide)] at z
  have := hp.rtg z
  omega
theorem EC.ut {R rw c rt w cap : Int} {xs stk : List Int} {ts : List Int} (h : EC m R rw xs c rt stk w cap) (u : UT ts m m1) (h1 : (6 : Int) ∈ ts) (h2 : (104101 : Int) ∈ ts) (h3 : (107101 : Int) ∈ ts) (hr : ∀ t ∈ rwT, t ∈ ts) : EC m1 R rw xs c rt stk w cap := by
  obtain ⟨a1, a2, a3, a4, a5, ⟨a6, a7⟩, a8, a9, b1, b2⟩ := h
  have hz := a1.1
  have f : ∀ j, 0 ≤ j → j < 5 → vl m1 R j = vl m R j := fun j j0 j1 => u.f hz a2 (by decide) h1 (by
    have : nF 6 = 5 := by decide
    rw [this]; omega)
  have e2 := f 2 (by decide) (by decide)
  refine ⟨u.ok a1, u.t hz a2 (by decide), by rw [f 0 (by decide) (by decide)]; exact a3, by rw [f 1 (by decide) (by decide)]; exact a4, a5.ut u hz (hr _ (by simp)) (hr _ (by simp)) (hr _ (by simp)), by rw [e2, u.t' hz (by omega), u.l hz (by omega)]; exact ⟨a6, a7⟩, by rw [f 3 (by decide) (by decide)]; exact a8, a9, by rw [f 4 (by decide) (by decide)]; exact b1, fun j j0 j1 => ?_⟩
  rw [e2]
  rcases a6 with q | q
  · rw [u.a hz q (by decide) h2]; exact b2 j j0 j1
  · rw [u.a hz q (by decide) h3]; exact b2 j j0 j1
/-- the runner has worked -/
theorem CPt.run {cap' : Int} (h : CPt n m X A s g) (u : UT noRn m m1) (b : BSm m1) (rn : RNI m1 (A 7) cap') : CPt n m1 X A s (g.c, g.ns, g.sq, g.srl, g.hist, (g.xs, g.c1), (g.ls, g.c2), g.k, cap') ∧ RKp A m m1 := by
  obtain ⟨b0, x, t1, fl, k, r1, r2, rn0, p, dk, tb⟩ := h
  have hz := b0.tz
  obtain ⟨p1, p2⟩ := p.ut u b.2.1 (by decide) (by decide) fun ys q => ⟨ys, q.ut u hz (by decide) (by decide)⟩
  exact ⟨⟨b, x.ut u hz (by decide), t1.ut x u hz (by decide) (by decide), fl.ut x u hz (by decide), k.ut x u hz (by decide) (by decide) (by decide), ⟨r1.1.ut u hz (by decide) (by decide) (by decide), r1.2⟩, ⟨r2.1.ut u hz (by decide) (by decide) (by decide), r2.2⟩, rn, p1, dk.ut x u hz (by decide) (by decide) (by decide) (by decide), tb.keep x u hz (by decide) (QKp.ut u hz (by decide)) p2⟩, p2⟩
theorem DKv.dp {v : ND × Fo} (hv : DKv v) : dpF v.2 ≤ 33 := by
  have h5 := hv.2.1
  rcases Nat.lt_or_ge v.1.1 5 with q | q
  · rw [hv.1.1.2.2.1.2.2.1 q]; show 0 ≤ 33; omega
  · unfold dpV at h5; rw [if_neg (by omega)] at h5; omega
/-- a query runs over the document in the row -/
theorem CPt.evl {w : Int} {v : ND × Fo} (hd : 1900 ≤ d) (h : CPt n m X A s g) (hls : g.ls = enV v.1 v.2) (hv : DKv v) (hq : QOb m A o S) (hS : okF 2 S ∧ hQ S ≤ 1700) (hw : vl m (A 7) 4 = w ∧ 0 ≤ w ∧ w ≤ 10000) :
    ∃ m1, cl d 104 [pR (A 7), pR (A 11), pI 0] m = some (.inl none, m1) ∧ CPt n m1 X A s g ∧
    (∀ ys w', qDoc S v w = some (ys, w') → (0 ≤ w' ∧ w' ≤ 10000) ∧ ∃ m2 cap' zz, cl d 105 [pR (A 7), pR o, pI 0] m1 = some (.inl (some (pI ys.length)), m2) ∧ CPt n m2 X A s (g.c, g.ns, g.sq, g.srl, g.hist, (g.xs, g.c1), (g.ls, g.c2), g.k, cap') ∧ EC m2 (A 7) (A 11) (enV v.1 v.2) g.c2 0 (zz ++ ys.map ofN) w' cap' ∧ QOb m2 A o S ∧ UT noRn m m2 ∧ GR m m2 g.cap cap' ∧ ∀ y ∈ ys, NVn (enV v.1 v.2) y ∧ chN (0, 0, v.1, v.2, 0) y) ∧
    (qDoc S v w = none → ∃ m2 cap', cl d 105 [pR (A 7), pR o, pI 0] m1 = some (.inr 201, m2) ∧ CPt n m2 X A s (g.c, g.ns, g.sq, g.srl, g.hist, (g.xs, g.c1), (g.ls, g.c2), g.k, cap') ∧ g.cap ≤ cap' ∧ nx m2 - nx m ≤ (cap' - g.cap) / 16 + 1 ∧ sl m2 - sl m ≤ 2 * (cap' - g.cap) + 6) := by
  have b0 := h.1
  have hz := b0.tz
  have hX := h.2.1
  obtain ⟨t6, ⟨ta, tl⟩, c1, c2⟩ := h.2.2.2.2.2.2.2.1
  have e104 : cl d 104 [pR (A 7), pR (A 11), pI 0] m = some (.inl none, mst (mst (mst m (A 7) 0 (A 11)) (A 7) 1 0) (A 7) 3 0) := q104 hz _ (by rw [gd_of t6])
  have v0 : vl (mst (mst (mst m (A 7) 0 (A 11)) (A 7) 1 0) (A 7) 3 0) (A 7) 0 = A 11 := by rw [vl_mst, if_neg (by omega), vl_mst, if_neg (by omega), vl_mst, if_pos ⟨rfl, rfl⟩]
  have v1 : vl (mst (mst (mst m (A 7) 0 (A 11)) (A 7) 1 0) (A 7) 3 0) (A 7) 1 = 0 := by rw [vl_mst, if_neg (by omega), vl_mst, if_pos ⟨rfl, rfl⟩]
  have v3 : vl (mst (mst (mst m (A 7) 0 (A 11)) (A 7) 1 0) (A 7) 3 0) (A 7) 3 = 0 := by rw [vl_mst, if_pos ⟨rfl, rfl⟩]
  have v2 : vl (mst (mst (mst m (A 7) 0 (A 11)) (A 7) 1 0) (A 7) 3 0) (A 7) 2 = vl m (A 7) 2 := by rw [vl_mst, if_neg (by omega), vl_mst, if_neg (by omega), vl_mst, if_neg (by omega)]
  have v4 : vl (mst (mst (mst m (A 7) 0 (A 11)) (A 7) 1 0) (A 7) 3 0) (A 7) 4 = vl m (A 7) 4 := by rw [vl_mst, if_neg (by omega), vl_mst, if_neg (by omega), vl_mst, if_neg (by omega)]
  have nx0 : nx (mst (mst (mst m (A 7) 0 (A 11)) (A 7) 1 0) (A 7) 3 0) = nx m ∧ sl (mst (mst (mst m (A 7) 0 (A 11)) (A 7) 1 0) (A 7) 3 0) = sl m := ⟨rfl, rfl⟩
  generalize hM : mst (mst (mst m (A 7) 0 (A 11)) (A 7) 1 0) (A 7) 3 0 = M at *
  have uM := ut_cl (ts := noRn) e104 (by decide +kernel)
  have bM := b0.ca e104 (by decide +kernel)
  have tM : tg M (A 7) = 6 := by rw [uM.t' hz (by omega)]; exact t6
  have tA : (tg M (vl M (A 7) 2) = 104101 ∨ tg M (vl M (A 7) 2) = 107101) ∧ ln M (vl M (A 7) 2) = g.cap := by rw [v2, uM.t' hz (by omega), uM.l hz (by omega)]; exact ⟨ta, tl⟩
  obtain ⟨cM, kM⟩ := h.run uM bM (cap' := g.cap) ⟨tM, tA, c1, c2⟩
  have cM : CPt n M X A s g := cM
  have qM := hq.keep (QKp.ut uM hz (by decide)) kM
  obtain ⟨N, xs, cN', ⟨p1, p2, p3, p4, p5⟩, p6⟩ := id qM
  have hl : (enV v.1 v.2).length < 60000 := by have : 2 * (enV v.1 v.2).length ≤ 3 * (prV v.1 v.2).length + 1 := en_pr hv.1.1.2.2.1; have := hv.2.2; omega
  have hNV : NVn (enV v.1 v.2) [(0, 0, v.1, v.2, 0)] := ⟨_, [], rfl, ⟨At.self, hv.1.1.2.2.1⟩, by have := hv.dp; show dpF v.2 ≤ 40; omega⟩
  have hg : EG M N cN' 0 xs (enV v.1 v.2) [(0, 0, v.1, v.2, 0)] := ⟨cM.1.2.2.2.1, p1, p2, hl, hNV, rfl⟩
  have hEC : EC M (A 7) (A 11) (enV v.1 v.2) g.c2 0 [] w g.cap := ⟨cM.1.1, tM, v0, v1, by rw [← hls]; exact cM.2.2.2.2.2.2.1.1, tA, by rw [v3]; rfl, ⟨by show ((0 : Nat) : Int) ≤ _; omega, c1, c2⟩, ⟨by rw [v4]; exact hw.1, by show ((0 : Nat) : Int) ≤ w; omega, by omega⟩, fun j j0 j1 => by have : j < ((0 : Nat) : Int) := j1; omega⟩
  have hok : okF 5 (foC (20, 1, [], []) S foN) := ⟨by decide, by unfold cN; simp, fun _ => ⟨by decide, by decide, fun z => absurd z (by decide), fun _ => Or.inr rfl⟩, fun z => absurd z (by decide), hS.1, trivial⟩
  have hR : EVq aT M (A 7) (A 11) (enV v.1 v.2) g.c2 0 [] g.cap (cl d 105 [pR (A 7), pR o, pI 0] M) (qDoc S v w) := (rAll (R := A 7) (rw := A 11) (c := g.c2) hg (foC (20, 1, [], []) S foN)).2.2.2.2.2.2.2 aT (fun _ => o) d M [] w g.cap (0, 0, v.1, v.2, 0) [] p6 hok (by show 1 ≤ cntF foN + 1; omega) (by
    show max (hQ S + if (20 = 21 ∨ 20 = 46) then 70 else 5) (hQ foN) + 120 ≤ d
    have : hQ foN = 0 := rfl
    rw [if_neg (by decide)]; omega) hNV EK.refl hEC hw.2.2
  have hzM := bM.tz
  have aft : ∀ {m2 : Mem} {rr : Rs} {stk : List Int} {w2 cap' : Int}, cl d 105 [pR (A 7), pR o, pI 0] M = some (rr, m2) → EC m2 (A 7) (A 11) (enV v.1 v.2) g.c2 0 stk w2 cap' → CPt n m2 X A s (g.c, g.ns, g.sq, g.srl, g.hist, (g.xs, g.c1), (g.ls, g.c2), g.k, cap') ∧ QOb m2 A o S ∧ UT noRn m m2 := by
    intro m2 rr stk w2 cap' e hE
    have u := ut_cl (ts := noRn) e (by decide +kernel)
    have b2 := bM.ca e (by decide +kernel)
    obtain ⟨x1, x2⟩ := cM.run u b2 (cap' := cap') ⟨hE.2.1, hE.2.2.2.2.2.1, hE.2.2.2.2.2.2.2.1.2.1, hE.2.2.2.2.2.2.2.1.2.2⟩
    exact ⟨x1, qM.keep (QKp.ut u hzM (by decide)) x2, uM.trans u⟩
  refine ⟨M, e104, cM, fun ys w' hy => ?_, fun hy => ?_⟩
  · obtain ⟨r1, m2, cap', r, zs, e, hE, -, ⟨g1, g2, g3⟩, rfl, ⟨zz, rfl⟩, -⟩ := hR.1 ys w' hy
    obtain ⟨x1, x2, x3⟩ := aft e hE
    have w0 := hE.2.2.2.2.2.2.2.2.1.2.1
    refine ⟨⟨by omega, r1⟩, m2, cap', zz, e, x1, hE, x2, x3, ⟨g1, by omega, by omega⟩, fun y hm => ⟨?_, ?_⟩⟩
    · exact (evX_ok hNV (foC (20, 1, [], []) S foN)).2.2 _ hNV w ys w' hy y hm
    · exact (evX_Pn (Pn := chN (0, 0, v.1, v.2, 0)) chN_k (rt := [(0, 0, v.1, v.2, 0)]) rfl (foC (20, 1, [], []) S foN)).2.2 [(0, 0, v.1, v.2, 0)] rfl w ys w' hy y hm
  · obtain ⟨m2, e, stk, w2, cap', hE, -, g1, g2, g3⟩ := hR.2 hy
    obtain ⟨x1, x2, x3⟩ := aft e hE
    exact ⟨m2, cap', e, x1, g1, by omega, by omega⟩
end
