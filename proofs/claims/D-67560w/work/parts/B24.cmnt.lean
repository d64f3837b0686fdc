/-! the component: mounting, counting, what is wrong -/
set_option maxRecDepth 100000
set_option maxHeartbeats 4000000
section
variable {d n : Nat} {m m1 : Mem} {X : Int} {A : Int → Int} {s : St} {g : GH}
theorem BSm.nc {S : Int → Prop} (h : BSm m) (k : NC S m m1) (hS : ∀ a, S a → tg m a ≠ 2 ∧ tg m a ≠ 8 ∧ tg m a ≠ 31 ∧ tg m a ≠ 103) : BSm m1 := by
  obtain ⟨b1, b2, b3, b4, b5⟩ := h
  have tt := k.2.2.1
  have hv : ∀ a, tg m a = 8 ∨ tg m a = 2 → vl m1 a 0 = vl m a 0 := fun a ha => k.2.2.2 a 0 fun z => by have := hS a z; omega
  refine ⟨k.ok b1, ⟨fun r hr => ?_, fun r r' h1 h2 h3 h4 => ?_⟩, fun x y h1 h2 h3 h4 => ?_, fun a => by rw [(tt a).2]; exact b4 a, b5.ut (UT.nc (ts := strT) k fun a z => by have := hS a z; simp; omega) b1.1 (by decide) (by decide)⟩
  · rw [(tt r).1] at hr
    rw [hv r (Or.inl hr), k.1]; exact b2.1 r hr
  · rw [(tt _).1] at h1 h2
    rw [hv r (Or.inl h1)] at h4 ⊢
    rw [hv r' (Or.inl h2)]; exact b2.2 r r' h1 h2 h3 h4
  · rw [(tt _).1] at h1 h2
    rw [hv x (Or.inr h1)] at h4 ⊢
    rw [hv y (Or.inr h2)]; exact b3 x y h1 h2 h3 h4
/-- marks have changed, no node is in use -/
theorem CPt.mks (h : CPt n m X A s g) (k : MKo (A 9) m m1) (h8 : vl m1 (A 9) 8 = 0) : CPt n m1 X A s g := by
  have hX := h.2.1
  have hz := h.1.tz
  obtain ⟨⟨hD, hc, h6, cnt, hN⟩, a2, a3, ⟨a4, a5, a6⟩, a7, a8, a9⟩ := h.2.2.2.2.2.2.2.2.2.1
  have t5 := hD.2.2.2.2.2.1.1
  have nc : NC (fun a => a = A 9 ∨ a = vl m (A 9) 5) m m1 := ⟨k.1.1, k.1.2.1, k.1.2.2, fun a j ha => k.2.1 a j (fun z => ha (Or.inl z)) fun z => ha (Or.inr z)⟩
  have nS : ∀ a, a = A 9 ∨ a = vl m (A 9) 5 → tg m a = 9 ∨ tg m a = 153105 := fun a ha => ha.elim (fun z => Or.inl (by rw [z]; exact hD.1)) fun z => Or.inr (by rw [z]; exact t5)
  have bb := h.1.nc nc fun a ha => by have := nS a ha; omega
  have ot : ∀ a f, tg m a ≠ 9 → tg m a ≠ 153105 → vl m1 a f = vl m a f := fun a f h1 h2 => nc.2.2.2 a f fun z => by have := nS a z; omega
  have tt : ∀ a, tg m1 a = tg m a ∧ ln m1 a = ln m a := k.1.2.2
  have hDR1 : DR m1 (A 9) g.c g.ns := by
    obtain ⟨s1, s2, s3, s4, s5, s6, s7⟩ := hN
    have t7 := hD.2.2.2.2.2.2.1.1
    have gp : ∀ p ∈ g.ns, ∀ f, vl m1 p f = vl m p f := fun p hp f => ot p f (by rw [(s6 p hp).1]; decide) (by rw [(s6 p hp).1]; decide)
    refine ⟨hD.mk k, hc.mk hD k, by rw [k.2.2 6 (by decide) (by decide)]; exact h6, 0, ⟨by rw [h8]; rfl, ⟨Nat.zero_le _, s2.2⟩, fun i i0 i1 => by rw [k.2.2 7 (by decide) (by decide), ot _ _ (by rw [t7]; decide) (by rw [t7]; decide)]; exact s3 i i0 i1, fun i i0 i1 => by rw [k.2.2 7 (by decide) (by decide), ot _ _ (by rw [t7]; decide) (by rw [t7]; decide)]; exact s4 i i0 i1, s5, fun p hp => ?_, fun p hp q hq hne => ?_⟩⟩
    · obtain ⟨q1, q2, q3, q4⟩ := s6 p hp
      exact ⟨by rw [(tt _).1]; exact q1, by rw [gp p hp, (tt _).1, (tt _).2]; exact q2, by rw [gp p hp, (tt _).1, (tt _).2]; exact q3, by rw [gp p hp, gp p hp]; exact q4⟩
    · rw [gp p hp, gp p hp, gp q hq, gp q hq]; exact s7 p hp q hq hne
  have gv : ∀ v f, tg m v = 10 → vl m1 v f = vl m v f := fun v f hv => ot v f (by omega) (by omega)
  have vn : ∀ v D, tg m v = 10 → VNI m g.c g.hist g.srl v D → VNI m1 g.c g.hist g.srl v D := fun v D hv q => by
    obtain ⟨bs, q1, q2, q3⟩ := q
    exact ⟨bs, by rw [gv v 0 hv]; exact q1, by rw [gv v 1 hv]; exact q2, by rw [gv v 2 hv]; exact q3⟩
  have u : UT (noX ++ [1]) m m1 := UT.nc nc fun a ha => by rcases nS a ha with z | z <;> rw [z] <;> decide
  refine h.vers (u.sub (by decide)) bb (fun f _ _ _ => ot X f (by rw [hX.1]; decide) (by rw [hX.1]; decide)) ⟨hDR1, ⟨by rw [ot X 15 (by rw [hX.1]; decide) (by rw [hX.1]; decide)]; exact a2.1, by rw [ot X 16 (by rw [hX.1]; decide) (by rw [hX.1]; decide)]; exact a2.2⟩, a3, ⟨a4.ut hX u hz (by decide), vn _ _ hX.a12 a5, a6⟩, by rw [gv _ 0 hX.a12]; exact a7, a8, fun q q0 q1 => ?_⟩
  have tv := (a4.1 q q0 q1).2
  exact ⟨by rw [gv _ 3 tv]; exact (a9 q q0 q1).1, fun D hD => ⟨vn _ _ tv ((a9 q q0 q1).2 D hD).1, ((a9 q q0 q1).2 D hD).2⟩⟩
/-- nothing is wrong in a version -/
theorem c50_66 {k : Int} {D : DC} {z3 : PV} (hd : 40 ≤ d) (hz3 : cat z3 = 1) (h : CPt n m X A s g) (hk : -1 ≤ k ∧ k < 8) (hv : s.ver k = some D) (hn : n ≤ 64) : ∃ m', CPt n m' X A s g ∧ (nx m' = nx m ∧ sl m' = sl m) ∧ ∀ Z, rn d 50 24 [pR X, pI 0, pI (k + 1), pR (vA A k)] [] m' = some Z → rn d 50 66 [pR X, pI 0, pI k, z3] [pR (vA A k)] m = some Z := by
  have hz := h.1.tz
  have hX := h.2.1
  obtain ⟨⟨hD, hc, -⟩, -⟩ := h.2.2.2.2.2.2.2.2.2.1
  obtain ⟨⟨bs, w1, w2, w3⟩, w4, w5⟩ := h.vni hk hv
  obtain ⟨m1, e153, p1, p2, p3, p4, p5⟩ := c153 (d := d - 1) hz hD
  have k1 : MKo (A 9) m m1 := ⟨p1, p2, p3⟩
  have cp1 := h.mks k1 p4.2
  have hX1 := cp1.2.1
  have hz1 := cp1.1.tz
  have t5 := hD.2.2.2.2.2.1.1
  have vv : ∀ f, vl m1 (vA A k) f = vl m (vA A k) f := fun f => p2 _ f (fun z => by rw [z, hD.1] at w5; omega) fun z => by rw [z, t5] at w5; omega
  have tv1 : tg m1 (vA A k) = 10 := by rw [(p1.2.2 _).1]; exact w5
  have hDl : D.length ≤ 64 := by have := w4.2.1; omega
  -- from the listing on
  have fin : ∀ m2, CPt n m2 X A s g → (nx m2 = nx m1 ∧ sl m2 = sl m1) → (∀ f, vl m2 (vA A k) f = vl m (vA A k) f) → tg m2 (vA A k) = 10 → ∃ m', CPt n m' X A s g ∧ (nx m' = nx m ∧ sl m' = sl m) ∧ ∀ Z, rn d 50 24 [pR X, pI 0, pI (k + 1), pR (vA A k)] [] m' = some Z → rn d 50 99 [pR X, pI 0, pI k, pR (vA A k)] [] m2 = some Z := by
    intro m2 cp2 n2 v2 t2
    have hX2 := cp2.2.1
    obtain ⟨m3, e40, cp3, lf, l22, -⟩ := c40 (d := d - 1) (root := vl m (vA A k) 0) (by omega) cp2 w1 hDl
    have v3 : vl m3 (vA A k) 1 = D.length := by
      rw [lf.1.2.2.2 _ _ (by
        rintro (z | z | z)
        · rw [z, hX2.1] at t2; omega
        · rw [z, hX2.a20.1] at t2; omega
        · rw [z, hX2.a21.1] at t2; omega), v2]; exact w2
    refine ⟨m3, cp3, ⟨by rw [lf.1.1, n2.1, p1.1], by rw [lf.1.2.1, n2.2, p1.2.1]⟩, fun Z hZ => q50_99 (by omega) cp2.1.tz _ ?_⟩
    rw [gd_of t2, gd_of hX2.1, v2, bV_eq e40, l22, v3, if_pos rfl, (w32_of (by omega) (by omega) : w32 (k + 1) = k + 1)]
    exact hZ
  have st : ∀ Z, (if vl m (vA A k) 0 = 0 then (rn d 50 99 [pR X, pI 0, pI k, pR (vA A k)] [] m1) else bI (cl (d - 1) 183 [pR (A 9), pI (vl m (vA A k) 0), pI 0, pI 10000] m1) fun v2 m2 => rn d 50 99 [pR X, pI (w32 (0 + v2)), pI k, pR (vA A k)] [] m2) = some Z → rn d 50 66 [pR X, pI 0, pI k, z3] [pR (vA A k)] m = some Z := fun Z hZ => by
    refine q50_66 (by omega) hz hz3 _ ?_
    rw [gd_of hX.1, nm_eq, hX.f (by omega), gd_of hX.a9, bV_eq e153, gd_of tv1, nm_eq, vv, nm_eq, hX1.f (by omega), gd_of hX1.a9]
    exact hZ
  by_cases q : vl m (vA A k) 0 = 0
  · obtain ⟨m', f1, f2, f3⟩ := fin m1 cp1 ⟨rfl, rfl⟩ vv tv1
    exact ⟨m', f1, f2, fun Z hZ => st Z (by rw [if_pos q]; exact f3 Z hZ)⟩
  · obtain ⟨⟨hD1, hc1, -⟩, -⟩ := cp1.2.2.2.2.2.2.2.2.2.1
    obtain ⟨hV, hs, hid, hnd, hr⟩ := w1
    rcases hV with ⟨z, -⟩ | ⟨hh, ch, hn', e2, e3, hl, hv'⟩
    · exact absurd z q
    have h3 := lev_le hv' ⟨hl.1, hl.2.2⟩ (by rw [← e2, encD_len]; omega)
    obtain ⟨m2, u', e183, k2, -, -⟩ := c183 (K := A 9) (c := g.c) (hh + 1) (d - 1) m1 (vl m (vA A k) 0) 0 10000 (encD D) bs [0, 1] (by omega) hz1 hD1 hc1 ⟨ch, hn', e2, e3, ⟨hl.1, hl.2.1⟩, fun x hx => (hv' x hx).wt⟩ hs hid hnd hr p5 (fun x hx w => by have := hr x hx; simp at w; omega)
    have kk := MKo.ao hD1 k2
    have h82 : vl m2 (A 9) 8 = 0 := by rw [k2.2.2.2 (A 9) 8 (fun z => by have := hD1.1; rw [z, hD1.2.2.2.2.2.1.1] at this; omega)]; exact p4.2
    have cp2 := cp1.mks kk h82
    have t51 := hD1.2.2.2.2.2.1.1
    have v2' : ∀ f, vl m2 (vA A k) f = vl m (vA A k) f := fun f => by rw [k2.2.2.2 _ f (fun z => by rw [z, t51] at tv1; omega), vv]
    obtain ⟨m', f1, f2, f3⟩ := fin m2 cp2 ⟨k2.1, k2.2.1⟩ v2' (by rw [(k2.2.2.1 _).1]; exact tv1)
    refine ⟨m', f1, f2, fun Z hZ => st Z ?_⟩
    rw [if_neg q, bI_eq e183, show w32 (0 + 0) = 0 by decide]
    exact f3 Z hZ
/-- nothing is wrong -/
theorem c50 (hd : 42 ≤ d) (h : CPt n m X A s g) (hn : n ≤ 64) : ∃ m', cl d 50 [pR X] m = some (.inl (some (pI 0)), m') ∧ CPt n m' X A s g ∧ nx m' = nx m ∧ sl m' = sl m := by
  have key : ∀ (N : Nat) (m : Mem) (k : Int) (z3 : PV), cat z3 = 1 → (8 - k).toNat = N → -1 ≤ k → k ≤ 8 → CPt n m X A s g → ∃ m', rn d 50 24 [pR X, pI 0, pI k, z3] [] m = some (.inl (some (pI 0)), m') ∧ CPt n m' X A s g ∧ nx m' = nx m ∧ sl m' = sl m := by
    intro N
    induction N with
    | zero =>
      intro m k z3 hz3 hN h0 h1 h
      refine ⟨m, q50_24 h.1.tz hz3 _ ?_, h, rfl, rfl⟩
      rw [if_neg (by omega)]
    | succ N ih =>
      intro m k z3 hz3 hN h0 h1 h
      have hz := h.1.tz
      have hX := h.2.1
      obtain ⟨-, -, -, ⟨hO, -, -⟩, -, -, hRd⟩ := h.2.2.2.2.2.2.2.2.2.1
      by_cases q : k < 0
      · obtain ⟨m1, f1, f2, f3⟩ := c50_66 (d := d) (k := k) (D := s.now) (z3 := z3) (by omega) hz3 h ⟨h0, by omega⟩ (by unfold St.ver; rw [if_pos q]) hn
        obtain ⟨m', g1, g2, g3, g4⟩ := ih m1 (k + 1) (pR (vA A k)) rfl (by omega) (by omega) (by omega) f1
        refine ⟨m', q50_24 hz hz3 _ ?_, g2, by rw [g3, f2.1], by rw [g4, f2.2]⟩
        have e : vA A k = A 12 := if_pos q
        rw [if_pos (by omega), if_pos q, if_pos q, gd_of hX.1, hX.f (by omega)]
        rw [e] at f3 g1
        exact f3 _ g1
      · obtain ⟨o1, o2⟩ := hO.1 k (by omega) (by omega)
        obtain ⟨r1, r2⟩ := hRd k (by omega) (by omega)
        have st : ∀ Z, (if vl m (A (100 + k)) 3 = 0 then (rn d 50 24 [pR X, pI 0, pI (k + 1), z3] [] m) else rn d 50 66 [pR X, pI 0, pI k, z3] [pR (A (100 + k))] m) = some Z → rn d 50 24 [pR X, pI 0, pI k, z3] [] m = some Z := fun Z hZ => by
          refine q50_24 hz hz3 _ ?_
          rw [if_pos (by omega), if_neg q, gd_of hX.1, nm_eq, hX.f (by omega), gd_of hX.a13.1, gd_of ⟨by omega, by rw [hX.a13.2]; omega⟩, nm_eq, o1, gd_of o2, (w32_of (by omega) (by omega) : w32 (k + 1) = k + 1), if_neg q]
          exact hZ
        cases hx : s.rd k with
        | none =>
          obtain ⟨m', g1, g2, g3, g4⟩ := ih m (k + 1) z3 hz3 (by omega) (by omega) (by omega) h
          exact ⟨m', st _ (by rw [r1, hx, if_pos (show b2i (none : Option DC).isSome = 0 from rfl)]; exact g1), g2, g3, g4⟩
        | some D =>
          obtain ⟨m1, f1, f2, f3⟩ := c50_66 (d := d) (k := k) (D := D) (z3 := z3) (by omega) hz3 h ⟨h0, by omega⟩ (by unfold St.ver; rw [if_neg q]; exact hx) hn
          obtain ⟨m', g1, g2, g3, g4⟩ := ih m1 (k + 1) (pR (vA A k)) rfl (by omega) (by omega) (by omega) f1
          have e : vA A k = A (100 + k) := if_neg q
          rw [e] at f3 g1
          exact ⟨m', st _ (by rw [r1, hx, if_neg (show ¬ b2i (some D).isSome = 0 from (by decide : ¬ b2i true = 0))]; exact f3 _ g1), g2, by rw [g3, f2.1], by rw [g4, f2.2]⟩
  have hz := h.1.tz
  have hX := h.2.1
  obtain ⟨⟨hD, hc, -⟩, ⟨q15, q16⟩, hb, ⟨hO, hN, hDC⟩, hHB, -⟩ := h.2.2.2.2.2.2.2.2.2.1
  obtain ⟨m', g1, g2, g3, g4⟩ := key 9 m (-1) pU rfl rfl (by decide) (by decide) h
  have hr : 0 ≤ vl m (A 12) 0 ∧ vl m (A 12) 0 < 65536 := by
    obtain ⟨bs, ⟨y1, -, -, -, y5⟩, -⟩ := hN
    rcases y1 with ⟨z, -⟩ | ⟨h', ch, -, -, z, -⟩
    · rw [z]; decide
    · have := y5 (vl m (A 12) 0) (by rw [z]; exact List.mem_cons_self)
      omega
  have hnl := hDC.2.1
  obtain ⟨r1, r2, r3, r4, r5, r6⟩ := hHB.rd (by omega) hr (by omega)
  have e159 := (c159 (d := d - 1) (b := g.sq % 2) (by omega) hz hD hc (by omega)).1 ⟨r1, r6⟩
  refine ⟨m', q50 (by omega) hz _ ?_, g2, g3, g4⟩
  rw [gd_of hX.1, nm_eq, hX.f (by omega), gd_of hX.a9, q15, pAnd_1, bI_eq e159, if_neg (by decide)]
  exact g1
/-- counts -/
theorem c49 {w : Int} (hd : 50 ≤ d) (h : CPt n m X A s g) (hn : n ≤ 64) : CRi n m X A s g (cl d 49 [pR X, pI w] m) exA (oCount s w) (some (pI (oCount s w).2.1)) := by
  have hz := h.1.tz
  have hX := h.2.1
  have fl := h.2.2.2.1
  have sk := h.2.2.2.2.1.1
  unfold oCount
  by_cases hw : 0 ≤ w ∧ w < 4
  rotate_left
  · rw [if_pos hw]
    exact CRi.thr h (t := 202) (by decide) (q49 (by omega) hz _ (by rw [nd_no hz hw])) (by decide)
  rw [if_neg (fun z => z hw)]
  by_cases w0 : w = 0
  · refine ⟨m, g, h.suc, CST.same (by omega) (by omega) (Nat.le_refl _), fun _ => q49 (by omega) hz _ ?_, fun z => absurd rfl z⟩
    rw [nd_ok hz hw, if_pos w0, gd_of hX.1, h.2.2.1.1]
    dsimp only
    rw [if_pos w0]
  · by_cases w1 : w = 1
    · refine ⟨m, g, h.suc, CST.same (by omega) (by omega) (Nat.le_refl _), fun _ => q49 (by omega) hz _ ?_, fun z => absurd rfl z⟩
      rw [nd_ok hz hw, if_neg w0, if_pos w1, gd_of hX.1, nm_eq, gd_of sk.1, sk.2.2.2.1]
      dsimp only
      rw [if_neg w0, if_pos w1]
    · by_cases w2 : w = 2
      · refine ⟨m, g, h.suc, CST.same (by omega) (by omega) (Nat.le_refl _), fun _ => q49 (by omega) hz _ ?_, fun z => absurd rfl z⟩
        rw [nd_ok hz hw, if_neg w0, if_neg w1, if_pos w2, gd_of hX.1, fl.2.2]
        dsimp only
        rw [if_neg w0, if_neg w1, if_pos w2]
      · obtain ⟨m', e50, cp, n1, n2⟩ := c50 (d := d - 1) (by omega) h hn
        refine ⟨m', g, cp.suc, CST.same (by omega) (by omega) (Nat.le_refl _), fun _ => q49 (by omega) hz _ ?_, fun z => absurd rfl z⟩
        rw [nd_ok hz hw, if_neg w0, if_neg w1, if_neg w2, gd_of hX.1, bI_eq e50]
        dsimp only
        rw [if_neg w0, if_neg w1, if_neg w2]
/-- the disk is mounted -/
theorem c17 (hd : 6 ≤ d) (h : CPt n m X A s g) (hn : n ≤ 64) : ∃ m', cl d 17 [pR X] m = some (.inl (some (pI (oMount s).2.1)), m') ∧ CPt n m' X A (oMount s).2.2 g ∧ nx m' = nx m ∧ sl m' = sl m := by
  have hz := h.1.tz
  have hX := h.2.1
  have fl := h.2.2.2.1
  obtain ⟨hDR, ⟨q15, q16⟩, hb, ⟨hO, hN, hDC⟩, hHB, hOH, hRd⟩ := h.2.2.2.2.2.2.2.2.2.1
  have hr : 0 ≤ vl m (A 12) 0 ∧ vl m (A 12) 0 < 65536 := by
    obtain ⟨bs, ⟨y1, -, -, -, y5⟩, -⟩ := hN
    rcases y1 with ⟨z, -⟩ | ⟨h', ch, -, -, z, -⟩
    · rw [z]; decide
    · have := y5 (vl m (A 12) 0) (by rw [z]; exact List.mem_cons_self)
      omega
  have hnl := hDC.2.1
  obtain ⟨r1, r2, r3, r4, r5, r6⟩ := hHB.rd (by omega) hr (by omega)
  have hm2 : g.sq % 2 = 0 ∨ g.sq % 2 = 1 := by omega
  -- the memory behind the flags
  have k0 : NC (· = X) m (mst (mst m X 18 (-1)) X 17 0) := (NC.set (S := (· = X)) rfl).trans (NC.set rfl)
  have ot : ∀ a f, a ≠ X → vl (mst (mst m X 18 (-1)) X 17 0) a f = vl m a f := fun a f ha => k0.2.2.2 a f ha
  have xo : ∀ f, f ≠ 17 → f ≠ 18 → vl (mst (mst m X 18 (-1)) X 17 0) X f = vl m X f := fun f h1 h2 => by rw [vl_mst, if_neg (fun z => h1 z.2), vl_mst, if_neg (fun z => h2 z.2)]
  have x17 : vl (mst (mst m X 18 (-1)) X 17 0) X 17 = 0 := by rw [vl_mst, if_pos ⟨rfl, rfl⟩]
  have x18 : vl (mst (mst m X 18 (-1)) X 17 0) X 18 = -1 := by rw [vl_mst, if_neg (by omega), vl_mst, if_pos ⟨rfl, rfl⟩]
  generalize hM : mst (mst m X 18 (-1)) X 17 0 = M at *
  have u0 : UT (noX ++ [10] ++ dkT) m M := UT.nc k0 fun a z => by rw [z, hX.1]; decide
  have hzM : TZ M := u0.tz hz
  have hXM : XP M X A := hX.kp u0.1 hz fun f hp => xo f (by omega) (by omega)
  have hDRM := hDR.ut u0 hz (by decide)
  have hD := hDRM.1
  have hc := hDRM.2.1
  have hdy : (g.c (g.sq % 2) 0 = 4 ∧ SLD (g.c (g.sq % 2))) := ⟨r1, r6⟩
  have e159 := (c159 (d := d - 1) (b := g.sq % 2) (by omega) hzM hD hc (by omega)).1 hdy
  have e161 := c161 (d := d - 1) (b := g.sq % 2) (by omega) hzM hD hc (by omega) r2
  rw [r3] at e161
  have e163 := c163 (d := d - 1) (b := g.sq % 2) (by omega) hzM hD hc (by omega)
  have e164 := c164 (d := d - 1) (b := g.sq % 2) (by omega) hzM hD hc (by omega)
  -- the loop
  have stp : ∀ (a1 a2 : Int) Z, a2 < 2 → 0 ≤ a2 → (bI (cl (d - 1) 159 [pR (A 9), pI a2] M) fun v2 m2 => if v2 = 0 then (rn d 17 14 [pR X, pI a1, pI (a2 + 1)] [] m2) else if a1 < 0 then (rn d 17 14 [pR X, pI a2, pI (a2 + 1)] [] m2) else nm (vl m2 X 9) fun v6 => gd (tg m2 v6 = 9) <| bI (cl (d - 1) 161 [pR v6, pI a2] m2) fun v3 m3 => nm (vl m3 X 9) fun v7 => gd (tg m3 v7 = 9) <| bI (cl (d - 1) 161 [pR v7, pI a1] m3) fun v4 m4 => if v4 < v3 then (rn d 17 14 [pR X, pI a2, pI (a2 + 1)] [] m4) else rn d 17 14 [pR X, pI a1, pI (a2 + 1)] [] m4) = some Z → rn d 17 14 [pR X, pI a1, pI a2] [] M = some Z := fun a1 a2 Z h2 h0 hZ => by
    refine q17_14 (by omega) hzM _ ?_
    rw [if_pos h2, gd_of hXM.1, nm_eq, hXM.f (by omega), gd_of hXM.a9, (w32_of (by omega) (by omega) : w32 (a2 + 1) = a2 + 1)]
    exact hZ
  have best : ∀ Z, rn d 17 14 [pR X, pI (g.sq % 2), pI 2] [] M = some Z → rn d 17 14 [pR X, pI (-1), pI 0] [] M = some Z := fun Z hZ => by
    have oh := hOH.1
    rcases hm2 with q | q
    · rw [q] at e159 e161 hZ oh
      rw [show (1 : Int) - 0 = 1 from rfl] at oh
      refine stp _ _ _ (by decide) (by decide) ?_
      rw [bI_eq e159, if_neg (by decide), if_pos (by decide)]
      refine stp _ _ _ (by decide) (by decide) ?_
      by_cases y : g.c 1 0 = 4 ∧ SLD (g.c 1)
      · rcases oh with w | ⟨w1, w2, w3, w4⟩
        · exact absurd y w
        · have f159 := (c159 (d := d - 1) (b := 1) (by omega) hzM hD hc (by omega)).1 y
          have f161 := c161 (d := d - 1) (b := 1) (by omega) hzM hD hc (by omega) w3
          rw [w4] at f161
          rw [show (0 : Int) + 1 = 1 from rfl, bI_eq f159, if_neg (by decide), if_neg (by decide), nm_eq, hXM.f (by omega), gd_of hXM.a9, bI_eq f161, nm_eq, hXM.f (by omega), gd_of hXM.a9, bI_eq e161, if_neg (by omega)]
          exact hZ
      · have f159 := (c159 (d := d - 1) (b := 1) (by omega) hzM hD hc (by omega)).2 y
        rw [show (0 : Int) + 1 = 1 from rfl, bI_eq f159, if_pos rfl]
        exact hZ
    · rw [q] at e159 e161 hZ oh
      rw [show (1 : Int) - 1 = 0 from rfl] at oh
      refine stp _ _ _ (by decide) (by decide) ?_
      by_cases y : g.c 0 0 = 4 ∧ SLD (g.c 0)
      · rcases oh with w | ⟨w1, w2, w3, w4⟩
        · exact absurd y w
        · have f159 := (c159 (d := d - 1) (b := 0) (by omega) hzM hD hc (by omega)).1 y
          have f161 := c161 (d := d - 1) (b := 0) (by omega) hzM hD hc (by omega) w3
          rw [w4] at f161
          rw [bI_eq f159, if_neg (by decide), if_pos (by decide)]
          refine stp _ _ _ (by decide) (by decide) ?_
          rw [show (0 : Int) + 1 = 1 from rfl, bI_eq e159, if_neg (by decide), if_neg (by decide), nm_eq, hXM.f (by omega), gd_of hXM.a9, bI_eq e161, nm_eq, hXM.f (by omega), gd_of hXM.a9, bI_eq f161, if_pos (by omega)]
          exact hZ
      · have f159 := (c159 (d := d - 1) (b := 0) (by omega) hzM hD hc (by omega)).2 y
        rw [bI_eq f159, if_pos rfl]
        refine stp _ _ _ (by decide) (by decide) ?_
        rw [show (0 : Int) + 1 = 1 from rfl, bI_eq e159, if_neg (by decide), if_pos (by decide)]
        exact hZ
  -- the end: what is there already is written
  have tM12 : tg M (A 12) = 10 := hXM.a12
  have n12X : A 12 ≠ X := fun z => by rw [z, hXM.1] at tM12; omega
  have v12 : ∀ f, vl M (A 12) f = vl m (A 12) f := fun f => ot _ f n12X
  have fin : ∀ m4 : Mem, m4 = mst (mst (mst M X 15 g.sq) (A 12) 0 (vl m (A 12) 0)) (A 12) 1 s.now.length → CPt n m4 X A (oMount s).2.2 g ∧ vl m4 (A 12) 1 = s.now.length := by
    intro m4 hm4
    have nc : NC (fun a => a = X ∨ a = A 12) m m4 := by
      subst hm4
      exact (k0.imp fun a z => Or.inl z).trans (((NC.set (Or.inl rfl)).trans (NC.set (Or.inr rfl))).trans (NC.set (Or.inr rfl)))
    have e12 : ∀ f, vl m4 (A 12) f = vl m (A 12) f := fun f => by
      subst hm4
      rw [vl_mst]
      by_cases f1 : f = 1
      · rw [if_pos ⟨rfl, f1⟩, f1]
        obtain ⟨bs, y1, y2, y3⟩ := hN
        exact y2.symm
      · rw [if_neg (fun z => f1 z.2), vl_mst]
        by_cases f0 : f = 0
        · rw [if_pos ⟨rfl, f0⟩, f0]
        · rw [if_neg (fun z => f0 z.2), vl_mst, if_neg (fun z => n12X z.1), v12]
    have eX : ∀ f, f ≠ 17 → f ≠ 18 → vl m4 X f = vl m X f := fun f h1 h2 => by
      subst hm4
      rw [vl_mst, if_neg (fun z => n12X z.1.symm), vl_mst, if_neg (fun z => n12X z.1.symm), vl_mst]
      by_cases f1 : f = 15
      · rw [if_pos ⟨rfl, f1⟩, f1, q15]
      · rw [if_neg (fun z => f1 z.2), xo f h1 h2]
    have eX17 : vl m4 X 17 = 0 := by
      subst hm4
      rw [vl_mst, if_neg (fun z => n12X z.1.symm), vl_mst, if_neg (fun z => n12X z.1.symm), vl_mst, if_neg (by omega), x17]
    have eX18 : vl m4 X 18 = -1 := by
      subst hm4
      rw [vl_mst, if_neg (fun z => n12X z.1.symm), vl_mst, if_neg (fun z => n12X z.1.symm), vl_mst, if_neg (by omega), x18]
    have t12 : tg m (A 12) = 10 := hX.a12
    have bb := h.1.nc nc fun a ha => by
      rcases ha with z | z
      · rw [z, hX.1]; decide
      · rw [z, t12]; decide
    have u : UT (noX ++ dkT) m m4 := UT.nc nc fun a ha => by
      rcases ha with z | z
      · rw [z, hX.1]; decide
      · rw [z, t12]; decide
    have gv : ∀ v f, tg m v = 10 → vl m4 v f = vl m v f := fun v f hv => by
      by_cases q : v = A 12
      · rw [q]; exact e12 f
      · exact nc.2.2.2 v f (by
          rintro (z | z)
          · rw [z, hX.1] at hv; omega
          · exact q z)
    have vn : ∀ v D, tg m v = 10 → VNI m g.c g.hist g.srl v D → VNI m4 g.c g.hist g.srl v D := fun v D hv q => by
      obtain ⟨bs, q1, q2, q3⟩ := q
      exact ⟨bs, by rw [gv v 0 hv]; exact q1, by rw [gv v 1 hv]; exact q2, by rw [gv v 2 hv]; exact q3⟩
    refine ⟨h.cmt (s' := (oMount s).2.2) (g' := g) (u.sub (by decide)) bb (fun f f0 f1 n1 n2 n3 n4 _ => eX f n3 n4) ⟨eX17, eX18, by rw [eX 19 (by decide) (by decide)]; exact fl.2.2⟩ ⟨hDR.ut u hz (by decide), ⟨by rw [eX 15 (by decide) (by decide)]; exact q15, by rw [eX 16 (by decide) (by decide)]; exact q16⟩, hb, ⟨⟨fun k k0 k1 => ⟨by rw [u.a hz hX.a13.1 (by decide) (by decide)]; exact (hO.1 k k0 k1).1, u.t hz (hO.1 k k0 k1).2 (by decide)⟩, hO.2⟩, vn _ _ t12 hN, hDC⟩, by rw [e12]; exact hHB, hOH, fun k k0 k1 => ?_⟩ ⟨rfl, rfl, rfl⟩ rfl (Int.le_refl _) (fun _ _ => rfl), ?_⟩
    · have tv := (hO.1 k k0 k1).2
      exact ⟨by rw [gv _ 3 tv]; exact (hRd k k0 k1).1, fun D hD => ⟨vn _ _ tv ((hRd k k0 k1).2 D hD).1, ((hRd k k0 k1).2 D hD).2⟩⟩
    · rw [e12]
      obtain ⟨bs, y1, y2, y3⟩ := hN
      exact y2
  obtain ⟨f1, f2⟩ := fin _ rfl
  refine ⟨_, q17 hz _ ?_, f1, by show nx M = _; exact k0.1, by show sl M = _; exact k0.2.1⟩
  rw [gd_of hX.1, hM]
  refine best _ (q17_14 (by omega) hzM _ ?_)
  have hX1 : tg (mst M X 15 g.sq) X = 1 := hXM.1
  have e1 : ∀ f, f ≠ 15 → vl (mst M X 15 g.sq) X f = vl M X f := fun f hf => by rw [vl_mst, if_neg (fun z => hf z.2)]
  have k15 : NC (· = X) M (mst M X 15 g.sq) := NC.set rfl
  have hDR2 : DR (mst M X 15 g.sq) (A 9) g.c g.ns := hDRM.ut (UT.nc (ts := dkT) k15 fun a z => by rw [z, hXM.1]; decide) hzM (by decide)
  have hz2 : TZ (mst M X 15 g.sq) := hzM
  have g163 := c163 (d := d - 1) (b := g.sq % 2) (by omega) hz2 hDR2.1 hDR2.2.1 (by omega)
  rw [r4] at g163
  have k12 : NC (· = A 12) (mst M X 15 g.sq) (mst (mst M X 15 g.sq) (A 12) 0 (vl m (A 12) 0)) := NC.set rfl
  have hDR3 : DR (mst (mst M X 15 g.sq) (A 12) 0 (vl m (A 12) 0)) (A 9) g.c g.ns := hDR2.ut (UT.nc k12 fun a z => by rw [z]; show tg M (A 12) ∉ dkT; rw [tM12]; decide) hz2 (by decide)
  have g164 := c164 (d := d - 1) (b := g.sq % 2) (by omega) (show TZ (mst (mst M X 15 g.sq) (A 12) 0 (vl m (A 12) 0)) from hzM) hDR3.1 hDR3.2.1 (by omega)
  rw [r5] at g164
  have o9 : vl (mst M X 15 g.sq) X 9 = A 9 := by rw [e1 9 (by decide)]; exact hXM.f (by omega)
  have o12 : vl (mst M X 15 g.sq) X 12 = A 12 := by rw [e1 12 (by decide)]; exact hXM.f (by omega)
  have p9 : vl (mst (mst M X 15 g.sq) (A 12) 0 (vl m (A 12) 0)) X 9 = A 9 := by rw [vl_mst, if_neg (fun z => n12X z.1.symm)]; exact o9
  have p12 : vl (mst (mst M X 15 g.sq) (A 12) 0 (vl m (A 12) 0)) X 12 = A 12 := by rw [vl_mst, if_neg (fun z => n12X z.1.symm)]; exact o12
  rw [if_neg (by decide), gd_of hXM.1, nm_eq, hXM.f (by omega), gd_of hXM.a9, bI_eq e161, xo 15 (by decide) (by decide), q15, if_pos rfl]
  refine q17_94 (by omega) hzM _ ?_
  rw [gd_of hXM.1, nm_eq, hXM.f (by omega), gd_of hXM.a9, bI_eq e161, nm_eq, hXM.f (by omega), nm_eq, hXM.f (by omega), gd_of hXM.a9, bI_eq g163, gd_of (show tg (mst M X 15 g.sq) (A 12) = 10 from tM12), nm_eq, o12, nm_eq, o9, gd_of (show tg (mst M X 15 g.sq) (A 9) = 9 from hXM.a9), bI_eq g164, gd_of (show tg (mst (mst M X 15 g.sq) (A 12) 0 (vl m (A 12) 0)) (A 12) = 10 from tM12), nm_eq, p12, gd_of (show tg (mst (mst M X 15 g.sq) (A 12) 0 (vl m (A 12) 0)) (A 12) = 10 from tM12), f2]
  rfl
end
