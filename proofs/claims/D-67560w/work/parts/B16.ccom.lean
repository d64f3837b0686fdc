/-! the component: a change is written -/
set_option maxRecDepth 100000
set_option maxHeartbeats 4000000
theorem sld_cg {f f' : Int → Int} (h : ∀ j, 0 ≤ j → j < 736 → f' j = f j) (hS : SLD f) : SLD f' := fun k k0 k1 => by
  rw [h _ (by omega) (by omega), sumN_cg 732 fun j j0 j1 => h j j0 (by omega)]; exact hS k k0 k1
theorem bNode_cg {f f' : Int → Int} {lf : Bool} {es : List (Int × Int)} (hl : es.length ≤ 8) (h : ∀ j, 0 ≤ j → j < 736 → f' j = f j) (hb : bNode f lf es) : bNode f' lf es := by
  obtain ⟨b1, b2, b3, b4⟩ := hb
  refine ⟨by rw [h 0 (by decide) (by decide)]; exact b1, by unfold ftw; rw [h 1 (by decide) (by decide), h (1 + 1) (by decide) (by decide)]; exact b2, fun j e he => ?_, sld_cg h b4⟩
  have hj : j < es.length := (List.getElem?_eq_some_iff.mp he).1
  have := b3 j e he
  unfold ftw at this ⊢
  rw [h _ (by omega) (by omega), h _ (by omega) (by omega), h _ (by omega) (by omega), h _ (by omega) (by omega)]
  exact this
/-- a version rests on its blocks alone -/
theorem VsO.cg {c c' : RF} {root : Int} {L : DL} {bs : List Int} (h : VsO c root L bs) (hc : ∀ x ∈ bs, ∀ j, 0 ≤ j → j < 736 → c' x j = c x j) : VsO c' root L bs := by
  obtain ⟨h1, h2, h3, h4, h5⟩ := h
  refine ⟨?_, h2, h3, h4, h5⟩
  rcases h1 with q | ⟨h, ch, hn, hL, hB, hl, hv⟩
  · exact Or.inl q
  · refine Or.inr ⟨h, ch, bNode_cg (by rw [ents_len]; exact hl.2.1) (hc root (by rw [hB]; exact List.mem_cons_self)) hn, hL, hB, hl, fun x hx => (hv x hx).cg fun y hy => hc y (by rw [hB]; exact List.mem_cons_of_mem _ (List.mem_flatMap.mpr ⟨x, hx, hy⟩))⟩
theorem VNI.cg {m : Mem} {c c' : RF} {hist hist' : Int → DC} {srl srl' v : Int} {D : DC} (h : VNI m c hist srl v D) (hs : srl ≤ srl') (hh : ∀ k, k ≤ srl → hist' k = hist k) (hc : ∀ bs, VsO c (vl m v 0) (encD D) bs → VsO c' (vl m v 0) (encD D) bs) : VNI m c' hist' srl' v D := by
  obtain ⟨bs, h1, h2, h3, h4, h5⟩ := h
  exact ⟨bs, hc bs h1, h2, h3, by omega, by rw [hh _ h4]; exact h5⟩
theorem TBI.mono {m : Mem} {A : Int → Int} {srl srl' : Int} {hist hist' : Int → DC} {ix : Int → Option Fo} (h : TBI m A srl hist ix) (hs : srl ≤ srl') (hh : ∀ k, k ≤ srl → hist' k = hist k) : TBI m A srl' hist' ix := by
  refine ⟨fun k k0 k1 => ⟨(h.1 k k0 k1).1, fun S hS => ?_⟩, h.2⟩
  obtain ⟨L, N, xs, cN, b1, b2, b3, b4⟩ := (h.1 k k0 k1).2 S hS
  refine ⟨L, N, xs, cN, b1, b2, ?_, b4⟩
  rcases b3 with q | ⟨q1, q2, q3⟩ | q
  · exact Or.inl q
  · exact Or.inr (Or.inl ⟨q1, by omega, by rw [hh _ q2]; exact q3⟩)
  · exact Or.inr (Or.inr q)
/-- all but the disk, the versions, the component itself -/
abbrev noX : List Int := [31, 103, 17103, 6, 7, 2, 52103, 17115] ++ rwT ++ tbT ++ qyT
section
variable {d n n' : Nat} {m m0 m1 : Mem} {X : Int} {A : Int → Int} {s s' : St} {g g' : GH}
theorem CPt.cmt (h : CPt n m X A s g) (u : UT noX m m1) (b : BSm m1) (hf : ∀ f, 0 ≤ f → f < 23 → f ≠ 15 → f ≠ 16 → f ≠ 17 → f ≠ 18 → f ≠ 22 → vl m1 X f = vl m X f) (fl : FLI m1 X s'.dk s'.ct s'.pl) (dk : DKI n' m1 X A g'.c g'.ns g'.sq g'.srl g'.hist s'.now s'.rd) (hs : s'.tp = s.tp ∧ s'.res = s.res ∧ s'.ix = s.ix) (hg : g'.2.2.2.2.2 = g.2.2.2.2.2) (h1 : g.srl ≤ g'.srl) (h2 : ∀ k, k ≤ g.srl → g'.hist k = g.hist k) : CPt n' m1 X A s' g' := by
  obtain ⟨b0, x, t1, fl0, k, r1, r2, rn, p, dk0, tb⟩ := h
  have hz := b0.tz
  obtain ⟨e1, e2, e3⟩ := hs
  obtain ⟨p1, p2⟩ := p.ut u b.2.1 (by decide) (by decide) fun ys q => ⟨ys, q.ut u hz (by decide) (by decide)⟩
  have hx1 : XP m1 X A := x.kp u.1 hz fun f hp => hf f (by omega) (by omega) (by omega) (by omega) (by omega) (by omega) (by omega)
  have g1 : g'.xs = g.xs ∧ g'.c1 = g.c1 ∧ g'.ls = g.ls ∧ g'.c2 = g.c2 ∧ g'.k = g.k ∧ g'.cap = g.cap := by
    refine ⟨?_, ?_, ?_, ?_, ?_, ?_⟩ <;> simp only [GH.xs, GH.c1, GH.ls, GH.c2, GH.k, GH.cap, hg]
  obtain ⟨g1, g2, g3, g4, g5, g6⟩ := g1
  refine ⟨b, hx1, ⟨by rw [hf 1 (by decide) (by decide) (by decide) (by decide) (by decide) (by decide) (by decide), e1]; exact t1.1, by rw [e1]; exact t1.2.1, fun j j0 j1 => ?_⟩, fl, ?_, by rw [g1, g2]; exact ⟨r1.1.ut u hz (by decide) (by decide) (by decide), r1.2⟩, by rw [g3, g4]; exact ⟨r2.1.ut u hz (by decide) (by decide) (by decide), r2.2⟩, by rw [g6]; exact rn.ut u hz (by decide), by rw [g5]; exact p1, dk, by rw [e3]; exact (tb.keep x u hz (by decide) (QKp.ut u hz (by decide)) p2).mono h1 h2⟩
  · rw [e1] at j1 ⊢
    rw [u.a hz x.a0.1 (by decide) (by decide)]; exact t1.2.2 j j0 j1
  · obtain ⟨a1, ⟨zs, a2⟩, ⟨ws, a3⟩, a4⟩ := k
    have f2 := hf 2 (by decide) (by decide) (by decide) (by decide) (by decide) (by decide) (by decide)
    have f3 := hf 3 (by decide) (by decide) (by decide) (by decide) (by decide) (by decide) (by decide)
    rw [e2]
    exact ⟨by rw [f2]; exact a1.ut u hz (by decide) (by decide), ⟨zs, by rw [f3]; exact a2.ut u hz (by decide) (by decide)⟩, ⟨ws, a3.ut u hz (by decide) (by decide)⟩, by rw [f2, f3]; exact a4⟩
/-- a header that was the newest -/
theorem HB.old {f : Int → Int} {s r n : Int} (h : HB f s r n) (hs : 1 ≤ s ∧ s < 65536) (hr : 0 ≤ r ∧ r < 1600) (hn : 0 ≤ n ∧ n ≤ 100) : OHd f (s + 1) := by
  obtain ⟨r1, r2, r3, r4, r5, r6⟩ := h.rd (by omega) (by omega) (by omega)
  refine ⟨Or.inr ⟨r1, r6, r2, by rw [r3]; omega⟩, fun j j0 j1 => by rw [h.1 j (by omega) j1, hb_zero (by omega)], Or.inr ⟨by omega, r, n, hr, hn, fun k k0 k1 => ?_⟩⟩
  rw [h.2 k k0 k1, show s + 1 - 1 = s by omega, sumN_cg 732 fun j j0 j1 => h.1 j j0 (by omega)]
/-- a header that was torn -/
theorem OHd.trn {f f' : Int → Int} {s r n : Int} (h : OHd f s) (hs : 1 ≤ s ∧ s < 100) (hr : 0 ≤ r ∧ r < 1600) (hn : 0 ≤ n ∧ n ≤ 100) (h1 : ∀ j, 0 ≤ j → j < 368 → f' j = hb (s + 1) r n j) (h2 : ∀ j, 368 ≤ j → f' j = f j) : OHd f' s := by
  obtain ⟨-, h3, h4⟩ := h
  have e1 : ∀ j : Int, 0 ≤ j → j < 732 → f' j = hb (s + 1) r n j := fun j j0 j1 => by
    rcases Int.lt_or_le j 368 with q | q
    · exact h1 j j0 q
    · rw [h2 j q, h3 j q j1, hb_zero (by omega)]
  refine ⟨Or.inl fun hh => ?_, fun j j0 j1 => by rw [h2 j j0]; exact h3 j j0 j1, ?_⟩
  · rcases h4 with ⟨rfl, q⟩ | ⟨q0, r0, n0, q1, q2, q3⟩
    · exact torn0 hr hn e1 (fun k k0 k1 => by rw [h2 _ (by omega)]; exact q k k0 k1) hh.2
    · exact torn (s := s + 1) (r0 := r0) (n0 := n0) (by omega) hr hn q1 q2 e1 (fun k k0 k1 => by rw [h2 _ (by omega), q3 k k0 k1, show s + 1 - 2 = s - 1 by omega]) hh.2
  · rcases h4 with ⟨q0, q⟩ | ⟨q0, r0, n0, q1, q2, q3⟩
    · exact Or.inl ⟨q0, fun k k0 k1 => by rw [h2 _ (by omega)]; exact q k k0 k1⟩
    · exact Or.inr ⟨q0, r0, n0, q1, q2, fun k k0 k1 => by rw [h2 _ (by omega)]; exact q3 k k0 k1⟩
theorem OHd.cg {f f' : Int → Int} {s : Int} (h : OHd f s) (he : ∀ j, 0 ≤ j → j < 736 → f' j = f j) : OHd f' s := by
  obtain ⟨h1, h2, h3⟩ := h
  refine ⟨?_, fun j j0 j1 => by rw [he j (by omega) (by omega)]; exact h2 j j0 j1, ?_⟩
  · rcases h1 with q | ⟨q1, q2, q3, q4⟩
    · exact Or.inl fun z => q ⟨by rw [← he 0 (by decide) (by decide)]; exact z.1, sld_cg (fun j j0 j1 => (he j j0 j1).symm) z.2⟩
    · exact Or.inr ⟨by rw [he 0 (by decide) (by decide)]; exact q1, sld_cg he q2, by unfold ftw at q3 ⊢; rw [he 1 (by decide) (by decide), he (1 + 1) (by decide) (by decide)]; exact q3, by unfold ftw at q4 ⊢; rw [he 3 (by decide) (by decide), he (3 + 1) (by decide) (by decide)]; exact q4⟩
  · rcases h3 with ⟨q0, q⟩ | ⟨q0, r0, n0, q1, q2, q3⟩
    · exact Or.inl ⟨q0, fun k k0 k1 => by rw [he _ (by omega) (by omega)]; exact q k k0 k1⟩
    · exact Or.inr ⟨q0, r0, n0, q1, q2, fun k k0 k1 => by rw [he _ (by omega) (by omega)]; exact q3 k k0 k1⟩
theorem HB.cg {f f' : Int → Int} {s r n : Int} (h : HB f s r n) (he : ∀ j, 0 ≤ j → j < 736 → f' j = f j) : HB f' s r n := ⟨fun j j0 j1 => by rw [he j j0 (by omega)]; exact h.1 j j0 j1, sld_cg he h.2⟩
/-- readers are closed -/
theorem c29_111 {a1 a2 a3 : Int} (hA13 : tg m (A 13) = 17115 ∧ ln m (A 13) = 8) (hv : ∀ k, 0 ≤ k → k < 8 → vl m (A 13) k = A (100 + k) ∧ tg m (A (100 + k)) = 10) (hdj : ∀ j k, 0 ≤ j → j < 8 → 0 ≤ k → k < 8 → j ≠ k → A (100 + j) ≠ A (100 + k)) : ∀ (N : Nat) (m1 : Mem) (k : Int) (z : PV), cat z = 1 → (8 - k).toNat = N → 0 ≤ k → k ≤ 8 → TZ m1 → NC (fun a => ∃ j, 0 ≤ j ∧ j < 8 ∧ a = A (100 + j)) m m1 → (∀ j f, 0 ≤ j → j < 8 → f ≠ 3 → vl m1 (A (100 + j)) f = vl m (A (100 + j)) f) → (∀ j, 0 ≤ j → j < k → vl m1 (A (100 + j)) 3 = 0) → ∃ m', rn d 29 111 [pR X, pI a1, pI a2, pI a3, pR (A 13), pI 8, pI k, z] [] m1 = some (.inr 203, mal m' 203 6) ∧ NC (fun a => ∃ j, 0 ≤ j ∧ j < 8 ∧ a = A (100 + j)) m m' ∧ (∀ j f, 0 ≤ j → j < 8 → f ≠ 3 → vl m' (A (100 + j)) f = vl m (A (100 + j)) f) ∧ ∀ j, 0 ≤ j → j < 8 → vl m' (A (100 + j)) 3 = 0 := by
  intro N
  induction N with
  | zero =>
    intro m1 k z hz hN h0 h1 hz1 hk hf h3
    refine ⟨m1, q29_111 hz1 hz _ ?_, hk, hf, fun j j0 j1 => h3 j j0 (by omega)⟩
    rw [if_neg (by omega)]
  | succ N ih =>
    intro m1 k z hz hN h0 h1 hz1 hk hf h3
    have n13 : ¬ ∃ j, 0 ≤ j ∧ j < 8 ∧ A 13 = A (100 + j) := fun ⟨j, j0, j1, e⟩ => by have := (hv j j0 j1).2; rw [← e, hA13.1] at this; omega
    have e13 : vl m1 (A 13) k = A (100 + k) := by rw [hk.2.2.2 _ _ n13]; exact (hv k h0 (by omega)).1
    have k1 : NC (fun a => ∃ j, 0 ≤ j ∧ j < 8 ∧ a = A (100 + j)) m (mst m1 (A (100 + k)) 3 0) := hk.trans (NC.set ⟨k, h0, by omega, rfl⟩)
    obtain ⟨m', e1, e2, e3, e4⟩ := ih (mst m1 (A (100 + k)) 3 0) (k + 1) (pR (A (100 + k))) rfl (by omega) (by omega) (by omega) hz1 k1 (fun j f j0 j1 hf3 => by rw [vl_mst, if_neg (fun y => hf3 y.2)]; exact hf j f j0 j1 hf3) (fun j j0 j1 => by
      rw [vl_mst]
      by_cases q : j = k
      · rw [if_pos ⟨by rw [q], rfl⟩]
      · rw [if_neg (fun y => hdj j k j0 (by omega) h0 (by omega) q y.1)]; exact h3 j j0 (by omega))
    refine ⟨m', q29_111 hz1 hz _ ?_, e2, e3, e4⟩
    rw [if_pos (by omega), gd_of (by rw [(hk.2.2.1 _).1]; exact hA13.1), gd_of ⟨h0, by rw [(hk.2.2.1 _).2, hA13.2]; omega⟩, nm_eq, e13, gd_of (by rw [(hk.2.2.1 _).1]; exact (hv k h0 (by omega)).2), (w32_of (by omega) (by omega) : w32 (k + 1) = k + 1)]
    exact e1
/-- all but the disk -/
abbrev noD : List Int := [1, 31, 103, 17103, 6, 7, 2, 52103, 10, 17115] ++ rwT ++ tbT ++ qyT
/-- the new version's number -/
def hiS (hist : Int → DC) (k : Int) (D : DC) : Int → DC := fun j => if j = k then D else hist j
/-- a change is committed -/
theorem c29 {c' : RF} {sg u u0 ns bs : List Int} {cnt : Nat} {root : Int} {D : DC} (hd : 5 ≤ d) (h : CPt n m0 X A s g) (hn : n ≤ 64) (hu : UT noD m0 m) (b : BSm m) (hS : DSt m (A 9) g.c c' sg u ns cnt) (hk : ∀ x ∈ u0, c' x = g.c x) (h01 : (0 : Int) ∈ u0 ∧ (1 : Int) ∈ u0) (hm : (∃ bs, VsO g.c (vl m0 (A 12) 0) (encD s.now) bs ∧ ∀ b ∈ bs, b ∈ u0) ∧ ∀ j, 0 ≤ j → j < 8 → ∀ D, s.rd j = some D → ∃ bs, VsO g.c (vl m0 (A (100 + j)) 0) (encD D) bs ∧ ∀ b ∈ bs, b ∈ u0) (hV : VsO c' root (encD D) bs) (hr : 0 ≤ root ∧ root < 1600) (hD : DCK (n + 1) D) (hdk : s.dk = false) (hct : -1 ≤ s.ct ∧ s.ct ≤ 3) :
    ∃ m' c2 sq srl hist, CPt (n + 1) m' X A (s.com D) (c2, ns, sq, srl, hist, (g.xs, g.c1), (g.ls, g.c2), g.k, g.cap) ∧ (s.ct < 0 → cl d 29 [pR X, pI root, pI D.length] m = some (.inl none, m') ∧ nx m' = nx m ∧ sl m' = sl m) ∧ (¬ s.ct < 0 → cl d 29 [pR X, pI root, pI D.length] m = some (.inr 203, m') ∧ nx m' = nx m + 1 ∧ sl m' = sl m + 6) := by
  have hz0 := h.1.tz
  have hX0 := h.2.1
  have hX := hX0.ut hu hz0 (by decide)
  have hz := b.tz
  have fl := (h.2.2.2.1).ut hX0 hu hz0 (by decide)
  obtain ⟨hDR, ⟨q15, q16⟩, hb, ⟨hVO, hVN, hDN⟩, hHB, hOH, hRd⟩ := h.2.2.2.2.2.2.2.2.2.1
  have hVO1 := hVO.ut hX0 hu hz0 (by decide)
  have v10 : ∀ v f, tg m0 v = 10 → 0 ≤ f → f < 4 → vl m v f = vl m0 v f := fun v f hv f0 f1 => hu.f hz0 hv (by decide) (by decide) (by
    have : nF 10 = 4 := by decide
    rw [this]; omega)
  have e15 : vl m X 15 = g.sq := by rw [hX0.fld hu hz0 (by decide) (by decide)]; exact q15
  have e16 : vl m X 16 = g.srl := by rw [hX0.fld hu hz0 (by decide) (by decide)]; exact q16
  have hDl : 0 ≤ (D.length : Int) ∧ (D.length : Int) ≤ 65 := by have := hD.2.1; omega
  have t10 := hX.a12
  have hrt0 : 0 ≤ vl m0 (A 12) 0 ∧ vl m0 (A 12) 0 < 1600 := by
    obtain ⟨bs0, w1, -⟩ := hVN
    obtain ⟨y1, -, -, -, y5⟩ := w1
    rcases y1 with ⟨z, -⟩ | ⟨h', ch, -, -, z, -⟩
    · rw [z]; decide
    · have := y5 (vl m0 (A 12) 0) (by rw [z]; exact List.mem_cons_self)
      omega
  have h12 : (D.length : Int) < 65536 := by omega
  -- the disk is written
  have key : ∀ kd : Int, kd = (if s.ct < 0 then 3 else s.ct) → ∃ m1 c2, cl (d - 1) 154 [pR (A 9), pI (g.sq + 1), pI root, pI D.length, pI kd] (mst m X 18 (-1)) = some (.inl none, m1) ∧ NC (fun a => a = vl m (A 9) 0 ∨ a = vl m (A 9) 1) (mst m X 18 (-1)) m1 ∧ BC m1 (A 9) c2 ∧ CMT g.c c' sg (g.sq + 1) root D.length kd c2 ∧ DSt (mst m X 18 (-1)) (A 9) g.c c' sg u ns cnt := by
    intro kd hkd
    have hX9 : tg m X = 1 := hX.1
    have hS' : DSt (mst m X 18 (-1)) (A 9) g.c c' sg u ns cnt := by
      have un : NC (fun a => a = X) m (mst m X 18 (-1)) := NC.set rfl
      obtain ⟨s1, s2, s3, s4, s5, s6, s7, s8⟩ := hS
      have t9 := s2.1
      have nv : ∀ a j, tg m a ≠ 1 → vl (mst m X 18 (-1)) a j = vl m a j := fun a j ha => by rw [vl_mst, if_neg (fun z => ha (by rw [z.1]; exact hX9))]
      have g9 : ∀ f, vl (mst m X 18 (-1)) (A 9) f = vl m (A 9) f := fun f => nv _ _ (by rw [t9]; decide)
      obtain ⟨d9, d0, d1, d2, d3, d5, d7, dn⟩ := s2
      obtain ⟨p1, p2, p3, p4, p5, p6⟩ := s4
      obtain ⟨r1, r2, r3, r4, r5, r6, r7⟩ := s8
      refine ⟨s1, ⟨d9, by rw [g9]; exact d0, by rw [g9]; exact d1, by rw [g9]; exact d2, by rw [g9]; exact d3, by rw [g9]; exact d5, by rw [g9]; exact d7, by rw [g9, g9, g9]; exact dn⟩, fun b j b0 b1 j0 j1 => by rw [g9, nv _ _ (by rw [d0.1]; decide)]; exact s3 b j b0 b1 j0 j1, ⟨by rw [g9]; exact p1, fun i i0 i1 => by rw [g9, nv _ _ (by rw [d3.1]; decide)]; exact p2 i i0 i1, fun i j i0 i1 j0 j1 => by rw [g9, nv _ _ (by rw [d2.1]; decide)]; exact p3 i j i0 i1 j0 j1, p4, p5, p6⟩, fun b b0 b1 => by rw [g9, nv _ _ (by rw [d5.1]; decide)]; exact s5 b b0 b1, s6, by rw [g9]; exact s7, ⟨by rw [g9]; exact r1, r2, fun i i0 i1 => by rw [g9, nv _ _ (by rw [d7.1]; decide)]; exact r3 i i0 i1, fun i i0 i1 => by rw [g9, nv _ _ (by rw [d7.1]; decide)]; exact r4 i i0 i1, r5, fun p hp => ?_, fun p hp q hq hne => ?_⟩⟩
      · obtain ⟨w1, w2, w3, w4⟩ := r6 p hp
        have gp : ∀ f, vl (mst m X 18 (-1)) p f = vl m p f := fun f => nv _ _ (by rw [w1]; decide)
        exact ⟨w1, by rw [gp]; exact w2, by rw [gp]; exact w3, by rw [gp, gp]; exact w4⟩
      · have gp : ∀ p ∈ ns, ∀ f, vl (mst m X 18 (-1)) p f = vl m p f := fun p hp f => nv _ _ (by rw [(r6 p hp).1]; decide)
        rw [gp p hp, gp p hp, gp q hq, gp q hq]; exact r7 p hp q hq hne
    obtain ⟨m1, c2, k1, k2, k3, k4⟩ := c154 (d := d - 1) (s := g.sq + 1) (r := root) (n := D.length) (kd := kd) (by omega) hS' (by omega) (by omega) (by omega) (by rw [hkd]; split <;> omega)
    have e0 : ∀ f, vl (mst m X 18 (-1)) (A 9) f = vl m (A 9) f := fun f => by rw [vl_mst, if_neg (fun z => by have := hX.a9; rw [z.1, hX.1] at this; omega)]
    rw [e0, e0] at k2
    exact ⟨m1, c2, k1, k2, k3, k4, hS'⟩
  obtain ⟨m1, c2, e154, k2, hc2, hM, hS1⟩ := key _ rfl
  -- m1 against m
  have tD := hS.2.1
  have nc1 : NC (fun a => a = X ∨ a = vl m (A 9) 0 ∨ a = vl m (A 9) 1) m m1 := (NC.set (Or.inl rfl)).trans (k2.imp fun a ha => Or.inr ha)
  have nX0 : X ≠ vl m (A 9) 0 := fun z => by have := tD.2.1.1; rw [← z, hX.1] at this; omega
  have nX1 : X ≠ vl m (A 9) 1 := fun z => by have := tD.2.2.1.1; rw [← z, hX.1] at this; omega
  have fX : ∀ f, f ≠ 18 → vl m1 X f = vl m X f := fun f hf => by rw [k2.2.2.2 X f (fun z => z.elim nX0 nX1), vl_mst, if_neg (fun z => hf z.2)]
  have fX18 : vl m1 X 18 = -1 := by rw [k2.2.2.2 X 18 (fun z => z.elim nX0 nX1), vl_mst, if_pos ⟨rfl, rfl⟩]
  have nv : ∀ a j, tg m a ≠ 1 → tg m a ≠ 153103 → vl m1 a j = vl m a j := fun a j h1 h2 => nc1.2.2.2 a j (by
    rintro (z | z | z)
    · exact h1 (by rw [z]; exact hX.1)
    · exact h2 (by rw [z]; exact tD.2.1.1)
    · exact h2 (by rw [z]; exact tD.2.2.1.1))
  have tt : ∀ a, tg m1 a = tg m a ∧ ln m1 a = ln m a := nc1.2.2.1
  have hz1 : TZ m1 := nc1.tz hz
  have u1 : UT (noX ++ [10]) m m1 := UT.nc nc1 (by
    rintro a (z | z | z)
    · rw [z, hX.1]; decide
    · rw [z, tD.2.1.1]; decide
    · rw [z, tD.2.2.1.1]; decide)
  have b1 : BSm m1 := by
    have bb : BSm (mst m X 18 (-1)) := b.mst (by have := hX.1; omega)
    exact bb.ca e154 (by decide +kernel)
  have hDR1 : DR m1 (A 9) c2 ns := by
    obtain ⟨s1, ⟨d9, d0, d1, d2, d3, d5, d7, dn⟩, s3, s4, s5, s6, s7, ⟨r1, r2, r3, r4, r5, r6, r7⟩⟩ := hS
    have g9 : ∀ f, vl m1 (A 9) f = vl m (A 9) f := fun f => nv _ _ (by rw [d9]; decide) (by rw [d9]; decide)
    refine ⟨⟨by rw [(tt _).1]; exact d9, by rw [g9, (tt _).1, (tt _).2]; exact d0, by rw [g9, (tt _).1, (tt _).2]; exact d1, by rw [g9, (tt _).1, (tt _).2]; exact d2, by rw [g9, (tt _).1, (tt _).2]; exact d3, by rw [g9, (tt _).1, (tt _).2]; exact d5, by rw [g9, (tt _).1, (tt _).2]; exact d7, by rw [g9, g9, g9]; exact dn⟩, hc2, by rw [g9]; exact s7, cnt, ⟨by rw [g9]; exact r1, r2, fun i i0 i1 => by rw [g9, nv _ _ (by rw [d7.1]; decide) (by rw [d7.1]; decide)]; exact r3 i i0 i1, fun i i0 i1 => by rw [g9, nv _ _ (by rw [d7.1]; decide) (by rw [d7.1]; decide)]; exact r4 i i0 i1, r5, fun p hp => ?_, fun p hp q hq hne => ?_⟩⟩
    · obtain ⟨w1, w2, w3, w4⟩ := r6 p hp
      have gp : ∀ f, vl m1 p f = vl m p f := fun f => nv _ _ (by rw [w1]; decide) (by rw [w1]; decide)
      exact ⟨by rw [(tt _).1]; exact w1, by rw [gp, (tt _).1, (tt _).2]; exact w2, by rw [gp, (tt _).1, (tt _).2]; exact w3, by rw [gp, gp]; exact w4⟩
    · have gp : ∀ p ∈ ns, ∀ f, vl m1 p f = vl m p f := fun p hp f => nv _ _ (by rw [(r6 p hp).1]; decide) (by rw [(r6 p hp).1]; decide)
      rw [gp p hp, gp p hp, gp q hq, gp q hq]; exact r7 p hp q hq hne
  have gv : ∀ v f, tg m0 v = 10 → 0 ≤ f → f < 4 → vl m1 v f = vl m0 v f := fun v f hv f0 f1 => by
    have tv := hu.t hz0 hv (by decide)
    rw [nv v f (by rw [tv]; decide) (by rw [tv]; decide), v10 v f hv f0 f1]
  have tv0 : ∀ k, 0 ≤ k → k < 8 → tg m0 (A (100 + k)) = 10 := fun k k0 k1 => (hVO.1 k k0 k1).2
  have a13 : ∀ k, 0 ≤ k → k < 8 → vl m1 (A 13) k = A (100 + k) ∧ tg m1 (A (100 + k)) = 10 := fun k k0 k1 => ⟨by rw [nv _ _ (by rw [hX.a13.1]; decide) (by rw [hX.a13.1]; decide)]; exact (hVO1.1 k k0 k1).1, by rw [(tt _).1]; exact (hVO1.1 k k0 k1).2⟩
  have n12 : ∀ k, 0 ≤ k → k < 8 → A 12 ≠ A (100 + k) := fun k k0 k1 z => by
    have := hVO.2 (-1) k (by decide) (by decide) (by omega) k1 (by omega)
    unfold vA at this
    rw [if_pos (by decide), if_neg (by omega)] at this
    exact this z
  have hdj : ∀ j k, 0 ≤ j → j < 8 → 0 ≤ k → k < 8 → j ≠ k → A (100 + j) ≠ A (100 + k) := fun j k j0 j1 k0 k1 hne z => by
    have := hVO.2 j k (by omega) j1 (by omega) k1 hne
    unfold vA at this
    rw [if_neg (by omega), if_neg (by omega)] at this
    exact this z
  -- blocks of old versions
  have hod : ∀ x ∈ u0, x ≠ (g.sq + 1) % 2 → c2 x = g.c x := fun x hx hne => by
    obtain ⟨m0', m1', m2', m3'⟩ := hM
    by_cases q : s.ct < 0
    · rw [if_pos q] at m3'
      rw [(m3' rfl).1 x hne, hk x hx]
    · rw [if_neg q] at m0' m1' m2' m3'
      have hc : s.ct = 0 ∨ s.ct = 1 ∨ s.ct = 2 ∨ s.ct = 3 := by omega
      rcases hc with w | w | w | w
      · exact m0' w x
      · rw [m1' w x, hk x hx]; split <;> rfl
      · rw [(m2' w).1 x hne, hk x hx]
      · rw [(m3' w).1 x hne, hk x hx]
  have hm2 : (g.sq + 1) % 2 = 1 - g.sq % 2 ∧ (g.sq % 2 = 0 ∨ g.sq % 2 = 1) ∧ g.sq % 2 ≠ (g.sq + 1) % 2 ∧ ((g.sq + 1) % 2 = 0 ∨ (g.sq + 1) % 2 = 1) := by omega
  have hin : g.sq % 2 ∈ u0 := by rcases hm2.2.1 with z | z <;> rw [z] <;> first | exact h01.1 | exact h01.2
  have hV2 : ∀ (v : Int) (D' : DC) (bs : List Int), VsO g.c (vl m0 v 0) (encD D') bs → (∀ b ∈ bs, b ∈ u0) → VsO c2 (vl m0 v 0) (encD D') bs := fun v D' bs w1 w2 => w1.cg fun x hx j _ _ => by
    have := w1.2.2.2.2 x hx
    rw [hod x (w2 x hx) (by omega)]
  -- by what the cut lets
  have nowO : ∀ mm : Mem, (∀ f, 0 ≤ f → f < 4 → vl mm (A 12) f = vl m0 (A 12) f) → VNI mm c2 g.hist g.srl (A 12) s.now := fun mm hmm => by
    obtain ⟨bs0, w1, w2⟩ := hm.1
    obtain ⟨bs1, y1, y2, y3⟩ := hVN
    exact ⟨bs0, by rw [hmm 0 (by decide) (by decide)]; exact hV2 _ _ _ w1 w2, by rw [hmm 1 (by decide) (by decide)]; exact y2, by rw [hmm 2 (by decide) (by decide)]; exact y3⟩
  have hVn : s.ct < 0 ∨ s.ct = 3 → VsO c2 root (encD D) bs ∧ HB (c2 ((g.sq + 1) % 2)) (g.sq + 1) root D.length := fun hc => by
    have h3 := hM.2.2.2 (by rcases hc with q | q
                            · rw [if_pos q]
                            · rw [if_neg (by omega)]; exact q)
    exact ⟨hV.cg fun x hx j _ _ => by have := hV.2.2.2.2 x hx; rw [h3.1 x (by omega)], h3.2⟩
  -- the state after the numbers
  have st0 : ∀ Z, (∀ mm : Mem, mm = m1 → (if s.ct < 0 then rn d 29 43 [pR X, pI root, pI D.length, pI s.ct, pU, pU, pU, pU] [] mm else if s.ct = 3 then rn d 29 43 [pR X, pI root, pI D.length, pI s.ct, pU, pU, pU, pU] [] mm else rn d 29 87 [pR X, pI root, pI D.length, pI s.ct, pU, pU, pU, pU] [] mm) = some Z) → cl d 29 [pR X, pI root, pI D.length] m = some Z := fun Z hZ => by
    refine q29 (by omega) hz _ ?_
    have hZ := hZ m1 rfl
    rw [gd_of hX.1, nm_eq, nm_eq, nm_eq, fl.2.1, hX.f (by omega), e15, (w32_of (by omega) (by omega) : w32 (g.sq + 1) = g.sq + 1)]
    by_cases q : s.ct < 0
    · rw [if_pos q] at e154 hZ ⊢
      rw [gd_of hX.a9, bV_eq e154, if_pos q]; exact hZ
    · rw [if_neg q] at e154 hZ ⊢
      rw [gd_of hX.a9, bV_eq e154, if_neg q]; exact hZ
  have t12 : tg m1 (A 12) = 10 := by rw [(tt _).1]; exact hX.a12
  have n12X : A 12 ≠ X := fun z => by have := hX.a12; rw [z, hX.1] at this; omega
  have tX1 : tg m1 X = 1 := by rw [(tt _).1]; exact hX.1
  -- the memory after the numbers
  have hM43 : ∀ mm : Mem, mm = mst (mst (mst (mst (mst m1 X 15 (g.sq + 1)) (A 12) 0 root) (A 12) 1 D.length) X 16 (g.srl + 1)) (A 12) 2 (g.srl + 1) → (∀ Z, rn d 29 87 [pR X, pI root, pI D.length, pI s.ct, pU, pU, pU, pU] [] mm = some Z → rn d 29 43 [pR X, pI root, pI D.length, pI s.ct, pU, pU, pU, pU] [] m1 = some Z) ∧ (∀ a, tg mm a = tg m1 a ∧ ln mm a = ln m1 a) ∧ (nx mm = nx m1 ∧ sl mm = sl m1) ∧ (∀ a j, a ≠ X → a ≠ A 12 → vl mm a j = vl m1 a j) ∧ (∀ f, f ≠ 15 → f ≠ 16 → vl mm X f = vl m1 X f) ∧ (vl mm X 15 = g.sq + 1 ∧ vl mm X 16 = g.srl + 1) ∧ (vl mm (A 12) 0 = root ∧ vl mm (A 12) 1 = D.length ∧ vl mm (A 12) 2 = g.srl + 1 ∧ vl mm (A 12) 3 = vl m1 (A 12) 3) := by
    intro mm hmm
    subst hmm
    refine ⟨fun Z hZ => ?_, fun _ => ⟨rfl, rfl⟩, ⟨rfl, rfl⟩, fun a j h1 h2 => ?_, fun f f1 f2 => ?_, ⟨?_, ?_⟩, ?_, ?_, ?_, ?_⟩
    · refine q29_43 hz1 _ ?_
      rw [gd_of tX1, nm_eq, fX 12 (by decide), hX.f (by omega), gd_of t12, nm_eq, fX 16 (by decide), e16, fX 15 (by decide), e15, (w32_of (by omega) (by omega) : w32 (g.sq + 1) = g.sq + 1), (w32_of (by omega) (by omega) : w32 (g.srl + 1) = g.srl + 1)]
      exact hZ
    · rw [vl_mst, if_neg (fun z => h2 z.1), vl_mst, if_neg (fun z => h1 z.1), vl_mst, if_neg (fun z => h2 z.1), vl_mst, if_neg (fun z => h2 z.1), vl_mst, if_neg (fun z => h1 z.1)]
    · rw [vl_mst, if_neg (fun z => n12X z.1.symm), vl_mst, if_neg (fun z => f2 z.2), vl_mst, if_neg (fun z => n12X z.1.symm), vl_mst, if_neg (fun z => n12X z.1.symm), vl_mst, if_neg (fun z => f1 z.2)]
    · rw [vl_mst, if_neg (fun z => n12X z.1.symm), vl_mst, if_neg (by omega), vl_mst, if_neg (fun z => n12X z.1.symm), vl_mst, if_neg (fun z => n12X z.1.symm), vl_mst, if_pos ⟨rfl, rfl⟩]
    · rw [vl_mst, if_neg (fun z => n12X z.1.symm), vl_mst, if_pos ⟨rfl, rfl⟩]
    · rw [vl_mst, if_neg (by omega), vl_mst, if_neg (fun z => n12X z.1), vl_mst, if_neg (by omega), vl_mst, if_pos ⟨rfl, rfl⟩]
    · rw [vl_mst, if_neg (by omega), vl_mst, if_neg (fun z => n12X z.1), vl_mst, if_pos ⟨rfl, rfl⟩]
    · rw [vl_mst, if_pos ⟨rfl, rfl⟩]
    · rw [vl_mst, if_neg (by omega), vl_mst, if_neg (fun z => n12X z.1), vl_mst, if_neg (by omega), vl_mst, if_neg (by omega), vl_mst, if_neg (fun z => n12X z.1)]
  -- a version's part of the whole, at mm
  have full : ∀ (mm : Mem) (n1 : Nat) (rd : Int → Option DC), (∀ a, tg mm a = tg m1 a ∧ ln mm a = ln m1 a) → nx mm = nx m1 → (∀ a j, tg m1 a ≠ 1 → tg m1 a ≠ 10 → vl mm a j = vl m1 a j) → VOb mm A ∧ DR mm (A 9) c2 ns ∧ UT noX m0 mm ∧ OK mm ∧ RI mm ∧ SI mm ∧ LB mm ∧ STRm mm := by
    intro mm n1 rd ht hnx hv
    have kp : NC (fun a => tg m1 a = 1 ∨ tg m1 a = 10) m1 (mm.1, m1.2.1, mm.2.2.1, mm.2.2.2.1, mm.2.2.2.2) := ⟨hnx, rfl, ht, fun a j ha => hv a j (fun z => ha (Or.inl z)) fun z => ha (Or.inr z)⟩
    have u2 : UT (noX ++ dkT) m1 mm := ⟨⟨fun hz' x hx => by rw [(ht x).1]; exact hz' x (by rw [hnx] at hx; exact hx), by rw [hnx]; exact Int.le_refl _, fun a _ => ht a⟩, fun a _ hm' j _ => hv a j (fun z => by rw [z] at hm'; revert hm'; decide) fun z => by rw [z] at hm'; revert hm'; decide⟩
    refine ⟨⟨fun k k0 k1 => ⟨by rw [hv _ _ (by rw [(tt _).1, hX.a13.1]; decide) (by rw [(tt _).1, hX.a13.1]; decide)]; exact (a13 k k0 k1).1, by rw [(ht _).1]; exact (a13 k k0 k1).2⟩, hVO.2⟩, hDR1.ut u2 hz1 (by decide), (hu.sub (by decide)).trans ((u1.sub (by decide)).trans (u2.sub (by decide))), u2.ok b1.1, ⟨fun r hr => ?_, fun r r' h1 h2 h3 h4 => ?_⟩, fun x y h1 h2 h3 h4 => ?_, fun a => by rw [(ht a).2]; exact b1.2.2.2.1 a, b1.2.2.2.2.ut u2 hz1 (by decide) (by decide)⟩
    · rw [(ht r).1] at hr
      rw [hv r 0 (by omega) (by omega), hnx]; exact b1.2.1.1 r hr
    · rw [(ht _).1] at h1 h2
      rw [hv r 0 (by omega) (by omega)] at h4 ⊢
      rw [hv r' 0 (by omega) (by omega)]; exact b1.2.1.2 r r' h1 h2 h3 h4
    · rw [(ht _).1] at h1 h2
      rw [hv x 0 (by omega) (by omega)] at h4 ⊢
      rw [hv y 0 (by omega) (by omega)]; exact b1.2.2.1 x y h1 h2 h3 h4
  have hn1 : g.sq + 1 ≤ (n + 1 : Nat) + 1 ∧ g.srl + 1 ≤ ((n + 1 : Nat) : Int) := by push_cast; omega
  have hhi : ∀ k, k ≤ g.srl → hiS g.hist (g.srl + 1) D k = g.hist k := fun k hk' => by unfold hiS; rw [if_neg (by omega)]
  -- the end of it, with the power gone
  have gone : ∀ (mm : Mem), (∀ a, tg mm a = tg m1 a ∧ ln mm a = ln m1 a) → (nx mm = nx m1 ∧ sl mm = sl m1) → (∀ a j, tg m1 a ≠ 1 → tg m1 a ≠ 10 → vl mm a j = vl m1 a j) → vl mm X 13 = A 13 → ¬ s.ct < 0 → ∃ m', rn d 29 87 [pR X, pI root, pI D.length, pI s.ct, pU, pU, pU, pU] [] mm = some (.inr 203, mal m' 203 6) ∧ (∀ a, tg m' a = tg m1 a ∧ ln m' a = ln m1 a) ∧ (nx m' = nx m1 ∧ sl m' = sl m1) ∧ (∀ a j, tg m1 a ≠ 1 → tg m1 a ≠ 10 → vl m' a j = vl m1 a j) ∧ (∀ f, f ≠ 17 → vl m' X f = vl mm X f) ∧ vl m' X 17 = 1 ∧ (∀ f, vl m' (A 12) f = vl mm (A 12) f) ∧ (∀ j f, 0 ≤ j → j < 8 → f ≠ 3 → vl m' (A (100 + j)) f = vl mm (A (100 + j)) f) ∧ ∀ j, 0 ≤ j → j < 8 → vl m' (A (100 + j)) 3 = 0 := by
    intro mm ht hnx hv hX13 hc
    have hzm : TZ mm := fun x hx => by rw [(ht x).1]; exact hz1 x (by rw [hnx.1] at hx; exact hx)
    have tXm : tg mm X = 1 := by rw [(ht _).1]; exact tX1
    have h13 : tg mm (A 13) = 17115 ∧ ln mm (A 13) = 8 := by rw [(ht _).1, (ht _).2, (tt _).1, (tt _).2]; exact hX.a13
    have v13 : ∀ k, 0 ≤ k → k < 8 → vl mm (A 13) k = A (100 + k) ∧ tg mm (A (100 + k)) = 10 := fun k k0 k1 => ⟨by rw [hv _ _ (by rw [(tt _).1, hX.a13.1]; decide) (by rw [(tt _).1, hX.a13.1]; decide)]; exact (a13 k k0 k1).1, by rw [(ht _).1]; exact (a13 k k0 k1).2⟩
    have n13X : A 13 ≠ X := fun z => by rw [z, tXm] at h13; omega
    have njX : ∀ j, 0 ≤ j → j < 8 → A (100 + j) ≠ X := fun j j0 j1 z => by have := (v13 j j0 j1).2; rw [z, tXm] at this; omega
    obtain ⟨m', e1, e2, e3, e4⟩ := c29_111 (d := d) (m := mst mm X 17 1) (X := X) (a1 := root) (a2 := D.length) (a3 := s.ct) h13 (fun k k0 k1 => ⟨by rw [vl_mst, if_neg (fun z => n13X z.1)]; exact (v13 k k0 k1).1, (v13 k k0 k1).2⟩) hdj 8 (mst mm X 17 1) 0 pU rfl rfl (by decide) (by decide) hzm NC.refl (fun _ _ _ _ _ => rfl) (fun j j0 j1 => absurd j1 (by omega))
    have nS : ∀ a, (∃ j, 0 ≤ j ∧ j < 8 ∧ a = A (100 + j)) → tg m1 a = 10 := fun a ⟨j, j0, j1, z⟩ => by rw [z]; exact (a13 j j0 j1).2
    refine ⟨m', q29_87 hzm _ ?_, fun a => ⟨by rw [(e2.2.2.1 a).1]; exact (ht a).1, by rw [(e2.2.2.1 a).2]; exact (ht a).2⟩, ⟨by rw [e2.1]; exact hnx.1, by rw [e2.2.1]; exact hnx.2⟩, fun a j h1 h2 => ?_, fun f hf => ?_, ?_, fun f => ?_, fun j f j0 j1 hf => ?_, e4⟩
    · rw [if_neg hc, gd_of tXm, nm_eq, hX13, gd_of h13.1, h13.2]
      exact e1
    · rw [e2.2.2.2 a j (fun z => h2 (nS a z)), vl_mst, if_neg (fun z => h1 (by rw [z.1]; exact tX1))]; exact hv a j h1 h2
    · rw [e2.2.2.2 X f (fun ⟨j, j0, j1, z⟩ => njX j j0 j1 z.symm), vl_mst, if_neg (fun z => hf z.2)]
    · rw [e2.2.2.2 X 17 (fun ⟨j, j0, j1, z⟩ => njX j j0 j1 z.symm), vl_mst, if_pos ⟨rfl, rfl⟩]
    · rw [e2.2.2.2 (A 12) f (fun ⟨j, j0, j1, z⟩ => n12 j j0 j1 z), vl_mst, if_neg (fun z => n12X z.1)]
    · rw [e3 j f j0 j1 hf, vl_mst, if_neg (fun z => njX j j0 j1 z.1)]
  have xf : ∀ (mm : Mem), (∀ f, f ≠ 15 → f ≠ 16 → f ≠ 17 → vl mm X f = vl m1 X f) → ∀ f, 0 ≤ f → f < 23 → f ≠ 15 → f ≠ 16 → f ≠ 17 → f ≠ 18 → f ≠ 22 → vl mm X f = vl m0 X f := fun mm hmm f f0 f1 n1 n2 n3 n4 _ => by
    rw [hmm f n1 n2 n3, fX f n4, hX0.fld hu hz0 (by decide) ⟨f0, f1⟩]
  have rdk : ∀ (mm : Mem) (hist' : Int → DC) (srl' : Int), g.srl ≤ srl' → (∀ k, k ≤ g.srl → hist' k = g.hist k) → (∀ j f, 0 ≤ j → j < 8 → 0 ≤ f → f < 4 → vl mm (A (100 + j)) f = vl m0 (A (100 + j)) f) → ∀ k, 0 ≤ k → k < 8 → vl mm (A (100 + k)) 3 = b2i (s.rd k).isSome ∧ ∀ D', s.rd k = some D' → VNI mm c2 hist' srl' (A (100 + k)) D' ∧ DCK (n + 1) D' := fun mm hist' srl' hs hh hv k k0 k1 => by
    obtain ⟨y1, y2⟩ := hRd k k0 k1
    refine ⟨by rw [hv k 3 k0 k1 (by decide) (by decide)]; exact y1, fun D' hD' => ⟨?_, (y2 D' hD').2.mono (Nat.le_succ n)⟩⟩
    obtain ⟨bs0, w1, w2⟩ := hm.2 k k0 k1 D' hD'
    obtain ⟨bs1, z1, z2, z3, z4, z5⟩ := (y2 D' hD').1
    exact ⟨bs0, by rw [hv k 0 k0 k1 (by decide) (by decide)]; exact hV2 _ _ _ w1 w2, by rw [hv k 1 k0 k1 (by decide) (by decide)]; exact z2, by rw [hv k 2 k0 k1 (by decide) (by decide)]; exact z3, by rw [hv k 2 k0 k1 (by decide) (by decide)]; omega, by rw [hv k 2 k0 k1 (by decide) (by decide), hh _ z4]; exact z5⟩
  have nX12 : X ≠ A 12 := fun z => n12X z.symm
  have hnl : 0 ≤ (s.now.length : Int) ∧ (s.now.length : Int) ≤ 100 := by have := hDN.2.1; omega
  have nowf : ∀ f, 0 ≤ f → f < 4 → vl m1 (A 12) f = vl m0 (A 12) f := fun f f0 f1 => gv _ f hX0.a12 f0 f1
  have rdf : ∀ j f, 0 ≤ j → j < 8 → 0 ≤ f → f < 4 → vl m1 (A (100 + j)) f = vl m0 (A (100 + j)) f := fun j f j0 j1 f0 f1 => gv _ f (tv0 j j0 j1) f0 f1
  have njX : ∀ j, 0 ≤ j → j < 8 → A (100 + j) ≠ X := fun j j0 j1 z => by have := (a13 j j0 j1).2; rw [z, tX1] at this; omega
  -- written
  have okc : s.ct < 0 ∨ s.ct = 3 → ∃ mm, (∀ Z, rn d 29 87 [pR X, pI root, pI D.length, pI s.ct, pU, pU, pU, pU] [] mm = some Z → rn d 29 43 [pR X, pI root, pI D.length, pI s.ct, pU, pU, pU, pU] [] m1 = some Z) ∧ (∀ a, tg mm a = tg m1 a ∧ ln mm a = ln m1 a) ∧ (nx mm = nx m1 ∧ sl mm = sl m1) ∧ (∀ a j, tg m1 a ≠ 1 → tg m1 a ≠ 10 → vl mm a j = vl m1 a j) ∧ (∀ f, f ≠ 15 → f ≠ 16 → vl mm X f = vl m1 X f) ∧ (∀ j f, 0 ≤ j → j < 8 → vl mm (A (100 + j)) f = vl m1 (A (100 + j)) f) ∧ ∀ (m2 : Mem) (rd : Int → Option DC), (∀ a, tg m2 a = tg m1 a ∧ ln m2 a = ln m1 a) → nx m2 = nx m1 → (∀ a j, tg m1 a ≠ 1 → tg m1 a ≠ 10 → vl m2 a j = vl m1 a j) → (∀ f, f ≠ 17 → vl m2 X f = vl mm X f) → (∀ f, vl m2 (A 12) f = vl mm (A 12) f) → (∀ k, 0 ≤ k → k < 8 → vl m2 (A (100 + k)) 3 = b2i (rd k).isSome ∧ ∀ D', rd k = some D' → VNI m2 c2 (hiS g.hist (g.srl + 1) D) (g.srl + 1) (A (100 + k)) D' ∧ DCK (n + 1) D') → DKI (n + 1) m2 X A c2 ns (g.sq + 1) (g.srl + 1) (hiS g.hist (g.srl + 1) D) D rd := by
    intro hc
    obtain ⟨v1, v2⟩ := hVn hc
    obtain ⟨w1, w2, w3, w4, w5, ⟨w6, w7⟩, w8, w9, w10, w11⟩ := hM43 _ rfl
    refine ⟨_, w1, w2, w3, fun a j h1 h2 => w4 a j (fun z => h1 (by rw [z]; exact tX1)) (fun z => h2 (by rw [z]; exact t12)), w5, fun j f j0 j1 => w4 _ f (njX j j0 j1) fun z => n12 j j0 j1 z.symm, fun m2 rd ht hnx hv hf hf12 hrd => ?_⟩
    obtain ⟨f1, f2, f3, f4⟩ := full m2 n rd ht hnx hv
    refine ⟨f2, ⟨by rw [hf 15 (by decide)]; exact w6, by rw [hf 16 (by decide)]; exact w7⟩, by push_cast; omega, ⟨f1, ⟨bs, by rw [hf12, w8]; exact v1, by rw [hf12]; exact w9, by rw [hf12, w10]; omega, by rw [hf12, w10]; exact Int.le_refl _, by rw [hf12, w10]; unfold hiS; rw [if_pos rfl]⟩, hD⟩, by rw [hf12, w8]; exact v2, ?_, hrd⟩
    rw [show 1 - (g.sq + 1) % 2 = g.sq % 2 by omega]
    refine (hHB.old (by omega) hrt0 hnl).cg fun j _ _ => ?_
    rw [hod _ hin hm2.2.2.1]
  by_cases q : s.ct < 0
  · obtain ⟨mm, w1, w2, w3, w4, w5, w6, w7⟩ := okc (Or.inl q)
    obtain ⟨f1, f2, f3, f4⟩ := full mm n s.rd w2 w3.1 w4
    have sc : s.com D = (s.tp, s.res, s.pl, s.dk, -1, D, s.rd, s.ix) := by unfold St.com; rw [if_pos q, if_pos (Or.inl q), if_pos q]
    have hf12 : ∀ f, vl mm (A 12) f = vl mm (A 12) f := fun _ => rfl
    refine ⟨mm, c2, g.sq + 1, g.srl + 1, hiS g.hist (g.srl + 1) D, ?_, fun _ => ⟨st0 _ fun m2 e => ?_, by rw [w3.1, nc1.1], by rw [w3.2, nc1.2.1]⟩, fun z => absurd q z⟩
    · rw [sc]
      exact h.cmt f3 f4 (xf mm fun f n1 n2 _ => w5 f n1 n2) ⟨by rw [w5 17 (by decide) (by decide), fX 17 (by decide)]; exact fl.1, by rw [w5 18 (by decide) (by decide)]; exact fX18, by rw [w5 19 (by decide) (by decide), fX 19 (by decide)]; exact fl.2.2⟩ (w7 mm s.rd w2 w3.1 w4 (fun _ _ => rfl) hf12 (rdk mm _ _ (by omega) hhi fun j f j0 j1 f0 f1 => by rw [w6 j f j0 j1]; exact rdf j f j0 j1 f0 f1)) ⟨rfl, rfl, rfl⟩ rfl (by show g.srl ≤ g.srl + 1; omega) hhi
    · rw [e, if_pos q]
      refine w1 _ (q29_87 (fun x hx => by rw [(w2 x).1]; exact hz1 x (by rw [w3.1] at hx; exact hx)) _ ?_)
      rw [if_pos q]
  · by_cases q3 : s.ct = 3
    · obtain ⟨mm, w1, w2, w3, w4, w5, w6, w7⟩ := okc (Or.inr q3)
      have hX13 : vl mm X 13 = A 13 := by rw [w5 13 (by decide) (by decide), fX 13 (by decide)]; exact hX.f (by omega)
      obtain ⟨m2, y1, y2, y3, y4, y5, y6, y7, y8, y9⟩ := gone mm w2 w3 w4 hX13 q
      obtain ⟨f1, f2, f3, f4⟩ := full m2 n s.rd y2 y3.1 y4
      have sc : s.com D = (s.tp, s.res, s.pl, true, -1, D, fun _ => none, s.ix) := by unfold St.com; rw [if_neg q, if_pos (Or.inr q3), if_neg q]
      have cp : CPt (n + 1) m2 X A (s.com D) (c2, ns, g.sq + 1, g.srl + 1, hiS g.hist (g.srl + 1) D, (g.xs, g.c1), (g.ls, g.c2), g.k, g.cap) := by
        rw [sc]
        exact h.cmt f3 f4 (xf m2 fun f n1 n2 n3 => by rw [y5 f n3]; exact w5 f n1 n2) ⟨y6, by rw [y5 18 (by decide), w5 18 (by decide) (by decide)]; exact fX18, by rw [y5 19 (by decide), w5 19 (by decide) (by decide), fX 19 (by decide)]; exact fl.2.2⟩ (w7 m2 (fun _ => none) y2 y3.1 y4 y5 y7 fun k k0 k1 => ⟨by rw [y9 k k0 k1]; rfl, fun D' hD' => (by cases hD')⟩) ⟨rfl, rfl, rfl⟩ rfl (by show g.srl ≤ g.srl + 1; omega) hhi
      refine ⟨mal m2 203 6, c2, g.sq + 1, g.srl + 1, hiS g.hist (g.srl + 1) D, cp.exc (by decide), fun z => absurd z q, fun _ => ⟨st0 _ fun m3 e => ?_, by show nx m2 + 1 = _; rw [y3.1, nc1.1]; try rfl, by show sl m2 + 6 = _; rw [y3.2, nc1.2.1]; try rfl⟩⟩
      rw [e, if_neg q, if_pos q3]
      exact w1 _ y1
    · have hX13 : vl m1 X 13 = A 13 := by rw [fX 13 (by decide)]; exact hX.f (by omega)
      obtain ⟨m2, y1, y2, y3, y4, y5, y6, y7, y8, y9⟩ := gone m1 (fun _ => ⟨rfl, rfl⟩) ⟨rfl, rfl⟩ (fun _ _ _ _ => rfl) hX13 q
      obtain ⟨f1, f2, f3, f4⟩ := full m2 n s.rd y2 y3.1 y4
      have sc : s.com D = (s.tp, s.res, s.pl, true, -1, s.now, fun _ => none, s.ix) := by
        unfold St.com; rw [if_neg q, if_neg (by rintro (z | z)
                                                · exact q z
                                                · exact q3 z), if_neg q]
      have hoh : OHd (c2 (1 - g.sq % 2)) g.sq := by
        have hin2 : 1 - g.sq % 2 ∈ u0 := by rcases hm2.2.1 with z | z <;> rw [z] <;> first | exact h01.1 | exact h01.2
        obtain ⟨m0', m1', m2', m3'⟩ := hM
        rw [if_neg q] at m0' m1' m2'
        have hc : s.ct = 0 ∨ s.ct = 1 ∨ s.ct = 2 := by omega
        rcases hc with w | w | w
        · exact hOH.cg fun j _ _ => by rw [m0' w]
        · exact hOH.cg fun j _ _ => by
            rw [m1' w, hk _ hin2]; split <;> rfl
        · have := m2' w
          rw [hm2.1] at this
          exact hOH.trn (by omega) hr (by omega) this.2.1 this.2.2
      have cp : CPt (n + 1) m2 X A (s.com D) (c2, ns, g.sq, g.srl, g.hist, (g.xs, g.c1), (g.ls, g.c2), g.k, g.cap) := by
        rw [sc]
        refine h.cmt f3 f4 (xf m2 fun f n1 n2 n3 => y5 f n3) ⟨y6, by rw [y5 18 (by decide)]; exact fX18, by rw [y5 19 (by decide), fX 19 (by decide)]; exact fl.2.2⟩ ⟨f2, ⟨by rw [y5 15 (by decide), fX 15 (by decide)]; exact e15, by rw [y5 16 (by decide), fX 16 (by decide)]; exact e16⟩, (show (1 : Int) ≤ g.sq ∧ g.sq ≤ ((n + 1 : Nat) : Int) + 1 ∧ 0 ≤ g.srl ∧ g.srl ≤ ((n + 1 : Nat) : Int) by push_cast; omega), ⟨f1, nowO m2 fun f f0 f1 => by rw [y7]; exact nowf f f0 f1, hDN.mono (Nat.le_succ n)⟩, ?_, hoh, fun k k0 k1 => ⟨by rw [y9 k k0 k1]; rfl, fun D' hD' => (by cases hD')⟩⟩ ⟨rfl, rfl, rfl⟩ rfl (Int.le_refl _) (fun _ _ => rfl)
        rw [y7, nowf 0 (by decide) (by decide)]
        exact hHB.cg fun j _ _ => by show c2 (g.sq % 2) j = g.c (g.sq % 2) j; rw [hod _ hin hm2.2.2.1]
      refine ⟨mal m2 203 6, c2, g.sq, g.srl, g.hist, cp.exc (by decide), fun z => absurd z q, fun _ => ⟨st0 _ fun m3 e => ?_, by show nx m2 + 1 = _; rw [y3.1, nc1.1]; try rfl, by show sl m2 + 6 = _; rw [y3.2, nc1.2.1]; try rfl⟩⟩
      rw [e, if_neg q, if_neg q3]
      exact y1
end
