/-! the component: a change begins -/
set_option maxRecDepth 100000
set_option maxHeartbeats 4000000
theorem flB_len {ch : CH} : (∀ x ∈ ch, x.2.2.length + 1 ≤ 2 * x.2.1.length) → (flB ch).length + ch.length ≤ 2 * (flL ch).length := by
  induction ch with
  | nil => intro _; exact Nat.le_refl _
  | cons x ch ih =>
    intro h
    have h1 := h x List.mem_cons_self
    have h2 := ih fun y hy => h y (List.mem_cons_of_mem _ hy)
    rw [flB_cons, flL_cons, List.length_append, List.length_append, List.length_cons]
    omega
theorem VTr.len {c : RF} : ∀ {h : Nat} {b : Int} {L : DL} {bs : List Int}, VTr c h b L bs → bs.length + 1 ≤ 2 * L.length := by
  intro h
  induction h with
  | zero =>
    rintro b L bs ⟨rfl, id, xs, rfl, -⟩
    exact Nat.le_refl _
  | succ h ih =>
    rintro b L bs ⟨ch, -, rfl, rfl, hl, hv⟩
    have := flB_len fun x hx => ih (hv x hx)
    rw [List.length_cons]
    omega
theorem VsO.len {c : RF} {root : Int} {L : DL} {bs : List Int} (h : VsO c root L bs) : bs.length ≤ 2 * L.length := by
  rcases h.1 with ⟨-, rfl, rfl⟩ | ⟨h, ch, -, rfl, rfl, hl, hv⟩
  · exact Nat.le_refl _
  · have := flB_len fun x hx => (hv x hx).len
    rw [List.length_cons]
    omega
theorem VsO.lev {c : RF} {root : Int} {L : DL} {bs : List Int} (_ : VsO c root L bs) (hL : L.length ≤ 100) : ∀ (h : Nat) (ch : CH), chV c h ch → L = flL ch → 1 ≤ ch.length ∧ (0 < h → 2 ≤ ch.length) → h ≤ 200 := fun h ch hv e hl => by
  have := lev_le hv hl (by rw [← e]; exact hL)
  omega
theorem UM.cg {m : Mem} {K : Int} {u u' : List Int} (h : UM m K u) (he : ∀ x, x ∈ u ↔ x ∈ u') : UM m K u' := fun b b0 b1 => by
  rw [h b b0 b1]
  by_cases q : b ∈ u
  · rw [if_pos q, if_pos ((he b).mp q)]
  · rw [if_neg q, if_neg (fun z => q ((he b).mpr z))]
theorem SAT.cg {c : RF} {u u' P : List Int} (h : SAT c u P) (he : ∀ x, x ∈ u ↔ x ∈ u') : SAT c u' P := fun b hb hp hh bs hv x hx => (he x).mp (h b ((he b).mpr hb) hp hh bs hv x hx)
theorem encD_len {D : DC} : (encD D).length = D.length := by unfold encD mpL; rw [List.length_map]
section
variable {d n : Nat} {m m1 : Mem} {X : Int} {A : Int → Int} {s : St} {g : GH}
/-- only marks and counts of the disk have changed -/
def MKo (K : Int) (m m1 : Mem) : Prop := (nx m1 = nx m ∧ sl m1 = sl m ∧ ∀ a, tg m1 a = tg m a ∧ ln m1 a = ln m a) ∧ (∀ a j, a ≠ K → a ≠ vl m K 5 → vl m1 a j = vl m a j) ∧ ∀ f, f ≠ 4 → f ≠ 8 → vl m1 K f = vl m K f
theorem MKo.refl {K : Int} : MKo K m m := ⟨⟨rfl, rfl, fun _ => ⟨rfl, rfl⟩⟩, fun _ _ _ _ => rfl, fun _ _ _ => rfl⟩
theorem MKo.trans {K : Int} {m2 : Mem} (h : MKo K m m1) (h' : MKo K m1 m2) : MKo K m m2 := by
  obtain ⟨⟨a1, a2, a3⟩, a4, a5⟩ := h
  obtain ⟨⟨b1, b2, b3⟩, b4, b5⟩ := h'
  refine ⟨⟨by rw [b1, a1], by rw [b2, a2], fun a => ⟨by rw [(b3 a).1, (a3 a).1], by rw [(b3 a).2, (a3 a).2]⟩⟩, fun a j h1 h2 => ?_, fun f f4 f8 => by rw [b5 f f4 f8, a5 f f4 f8]⟩
  rw [b4 a j h1 (by rw [a5 5 (by decide) (by decide)]; exact h2), a4 a j h1 h2]
theorem MKo.ao {K : Int} (hD : DA m K) (k : AO (vl m K 5) m m1) : MKo K m m1 := ⟨⟨k.1, k.2.1, k.2.2.1⟩, fun a j _ h => k.2.2.2 a j h, fun f _ _ => k.2.2.2 K f (by intro z; have := hD.1; rw [z, hD.2.2.2.2.2.1.1] at this; omega)⟩
/-- the disk through it -/
theorem DA.mk {K : Int} (hD : DA m K) (k : MKo K m m1) : DA m1 K := by
  obtain ⟨⟨a1, a2, a3⟩, a4, a5⟩ := k
  obtain ⟨h1, h2, h3, h4, h5, h6, h7, h8⟩ := hD
  exact ⟨by rw [(a3 _).1]; exact h1, by rw [a5 0 (by decide) (by decide), (a3 _).1, (a3 _).2]; exact h2, by rw [a5 1 (by decide) (by decide), (a3 _).1, (a3 _).2]; exact h3, by rw [a5 2 (by decide) (by decide), (a3 _).1, (a3 _).2]; exact h4, by rw [a5 3 (by decide) (by decide), (a3 _).1, (a3 _).2]; exact h5, by rw [a5 5 (by decide) (by decide), (a3 _).1, (a3 _).2]; exact h6, by rw [a5 7 (by decide) (by decide), (a3 _).1, (a3 _).2]; exact h7, by rw [a5 0 (by decide) (by decide), a5 1 (by decide) (by decide), a5 2 (by decide) (by decide)]; exact h8⟩
theorem BC.mk {K : Int} {c : RF} (hc : BC m K c) (hD : DA m K) (k : MKo K m m1) : BC m1 K c := fun b j b0 b1 j0 j1 => by
  have n1 : vl m K 0 ≠ K := by intro z; have := hD.1; rw [← z, hD.2.1.1] at this; omega
  have n2 : vl m K 0 ≠ vl m K 5 := by intro z; have := hD.2.1.1; rw [z, hD.2.2.2.2.2.1.1] at this; omega
  rw [k.2.2 0 (by decide) (by decide), k.2.1 _ _ n1 n2]; exact hc b j b0 b1 j0 j1
theorem MKo.ut {K : Int} {ts : List Int} (h9 : tg m K = 9) (h5 : tg m (vl m K 5) = 153105) (k : MKo K m m1) (h1 : (9 : Int) ∉ ts) (h2 : (153105 : Int) ∉ ts) : UT ts m m1 := UT.nc (S := fun a => a = K ∨ a = vl m K 5) ⟨k.1.1, k.1.2.1, k.1.2.2, fun a j ha => k.2.1 a j (fun z => ha (Or.inl z)) fun z => ha (Or.inr z)⟩ fun a ha => by
  rcases ha with z | z
  · rw [z, h9]; exact h1
  · rw [z, h5]; exact h2
/-- all opened readers' blocks are marked -/
theorem c28_31 {A13 : Int} (h : CPt n m X A s g) (hn : n ≤ 64) (hd : 302 ≤ d) : ∀ (N : Nat) (m1 : Mem) (k : Int) (z : PV) (u : List Int), cat z = 1 → (8 - k).toNat = N → 0 ≤ k → k ≤ 8 → MKo (A 9) m m1 → UM m1 (A 9) u → SAT g.c u [0, 1] → u.length ≤ 130 + 128 * k.toNat → (vl m1 (A 9) 4 = 0 ∧ vl m1 (A 9) 8 = 0) → (∀ j, 0 ≤ j → j < k → ∀ D, s.rd j = some D → ∃ bs, VsO g.c (vl m (A (100 + j)) 0) (encD D) bs ∧ ∀ b ∈ bs, b ∈ u) → ∃ m' u', rn d 28 31 [pR X, pR (A 13), pI 8, pI k, z] [] m1 = some (.inl none, m') ∧ MKo (A 9) m m' ∧ UM m' (A 9) u' ∧ u'.length ≤ 130 + 128 * 8 ∧ (vl m' (A 9) 4 = 0 ∧ vl m' (A 9) 8 = 0) ∧ (∀ b ∈ u, b ∈ u') ∧ ∀ j, 0 ≤ j → j < 8 → ∀ D, s.rd j = some D → ∃ bs, VsO g.c (vl m (A (100 + j)) 0) (encD D) bs ∧ ∀ b ∈ bs, b ∈ u' := by
  have hX := h.2.1
  have b0 := h.1
  obtain ⟨⟨hD, hc, h6, cnt, hN⟩, a2, a3, ⟨a4, a5, a6⟩, a7, a8, a9⟩ := h.2.2.2.2.2.2.2.2.2.1
  have t5 := hD.2.2.2.2.2.1.1
  intro N
  induction N with
  | zero =>
    intro m1 k z u hz hN h0 h1 hk hU hS hl h48 hr
    have : k = 8 := by omega
    subst this
    have hz1 : TZ m1 := (hk.ut (ts := []) hD.1 t5 (by simp) (by simp)).tz b0.tz
    refine ⟨m1, u, q28_31 (by omega) hz1 hz _ ?_, hk, hU, hl, h48, fun b hb => hb, hr⟩
    rw [if_neg (by omega)]
  | succ N ih =>
    intro m1 k z u hz hN h0 h1 hk hU hS hl h48 hr
    have u1 := hk.ut (ts := [1, 10, 17115]) hD.1 t5 (by decide) (by decide)
    have hz1 := u1.tz b0.tz
    have hX1 := hX.ut u1 b0.tz (by decide)
    have hD1 := hD.mk hk
    have hc1 := hc.mk hD hk
    obtain ⟨v1, v2⟩ := a4.1 k h0 (by omega)
    have tk := u1.t b0.tz v2 (by decide)
    have g10 : ∀ f, 0 ≤ f → f < 4 → vl m1 (A (100 + k)) f = vl m (A (100 + k)) f := fun f f0 f1 => u1.f b0.tz v2 (by decide) (by decide) (by
      have : nF 10 = 4 := by decide
      rw [this]; omega)
    have e13 : vl m1 (A 13) k = A (100 + k) := by rw [u1.a b0.tz hX.a13.1 (by decide) (by decide)]; exact v1
    obtain ⟨r1, r2⟩ := a9 k h0 (by omega)
    have st : ∀ Z, (if (vl m1 (A (100 + k)) 3) = 0 then (rn d 28 31 [pR X, pR (A 13), pI 8, pI (k + 1), pR (A (100 + k))] [] m1) else bV (cl (d - 1) 168 [pR (A 9), pI (vl m1 (A (100 + k)) 0)] m1) fun m2 => rn d 28 31 [pR X, pR (A 13), pI 8, pI (k + 1), pR (A (100 + k))] [] m2) = some Z → rn d 28 31 [pR X, pR (A 13), pI 8, pI k, z] [] m1 = some Z := fun Z hZ => by
      refine q28_31 (by omega) hz1 hz _ ?_
      rw [if_pos (by omega), gd_of hX1.a13.1, gd_of ⟨h0, by rw [hX1.a13.2]; omega⟩, nm_eq, e13, gd_of tk, (w32_of (by omega) (by omega) : w32 (k + 1) = k + 1), gd_of hX1.1, nm_eq, hX1.f (by omega), gd_of hD1.1]
      exact hZ
    cases hx : s.rd k with
    | none =>
      have r1' : vl m1 (A (100 + k)) 3 = 0 := by rw [g10 3 (by decide) (by decide), r1, hx]; rfl
      obtain ⟨m', u', e1, e2, e3, e4, e5, e6, e7⟩ := ih m1 (k + 1) (pR (A (100 + k))) u rfl (by omega) (by omega) (by omega) hk hU hS (by omega) h48 (fun j j0 j1 D hD' => by
        by_cases q : j = k
        · rw [q, hx] at hD'; cases hD'
        · exact hr j j0 (by omega) D hD')
      exact ⟨m', u', st _ (by rw [if_pos r1']; exact e1), e2, e3, e4, e5, e6, e7⟩
    | some D =>
      have r1' : vl m1 (A (100 + k)) 3 = 1 := by rw [g10 3 (by decide) (by decide), r1, hx]; rfl
      obtain ⟨⟨bs, w1, w2, w3⟩, w4⟩ := r2 D hx
      have hLl : (encD D).length ≤ 64 := by rw [encD_len]; have := w4.2.1; omega
      obtain ⟨m2, u2, e168, k2, U2, S2, i2⟩ := c168_v (d := d - 1) (m := m1) (K := A 9) (c := g.c) (u := u) (by omega) hz1 hD1 hc1 w1 (w1.lev (by omega)) hU hS
      have e2' : ∀ x, x ∈ u2 ↔ x ∈ u ++ bs := fun x => by rw [i2 x, List.mem_append]
      have kk := MKo.ao hD1 k2
      have hk2 := hk.trans kk
      have k4 : ∀ f, vl m2 (A 9) f = vl m1 (A 9) f := fun f => k2.2.2.2 (A 9) f (by intro y; have := hD1.1; rw [y, hD1.2.2.2.2.2.1.1] at this; omega)
      have lb := w1.len
      obtain ⟨m', u', e1, e2, e3, e4, e5, e6, e7⟩ := ih m2 (k + 1) (pR (A (100 + k))) (u ++ bs) rfl (by omega) (by omega) (by omega) hk2 (U2.cg e2') (S2.cg e2') (by rw [List.length_append]; omega) (by rw [k4, k4]; exact h48) (fun j j0 j1 D' hD' => by
        by_cases q : j = k
        · rw [q, hx] at hD'
          cases hD'
          rw [q]
          exact ⟨bs, w1, fun b hb => List.mem_append_right _ hb⟩
        · obtain ⟨bs', y1, y2⟩ := hr j j0 (by omega) D' hD'
          exact ⟨bs', y1, fun b hb => List.mem_append_left _ (y2 b hb)⟩)
      refine ⟨m', u', st _ ?_, e2, e3, e4, e5, fun b hb => e6 b (List.mem_append_left _ hb), e7⟩
      rw [if_neg (by omega), g10 0 (by decide) (by decide), bV_eq e168]
      exact e1
/-- a change begins: what is in use is marked -/
theorem c28 (h : CPt n m X A s g) (hn : n ≤ 64) (hd : 303 ≤ d) : ∃ m1 u, cl d 28 [pR X] m = some (.inl none, m1) ∧ MKo (A 9) m m1 ∧ DSt m1 (A 9) g.c g.c [] u g.ns 0 ∧ u.length ≤ 1154 ∧ (∃ bs, VsO g.c (vl m (A 12) 0) (encD s.now) bs ∧ ∀ b ∈ bs, b ∈ u) ∧ ∀ j, 0 ≤ j → j < 8 → ∀ D, s.rd j = some D → ∃ bs, VsO g.c (vl m (A (100 + j)) 0) (encD D) bs ∧ ∀ b ∈ bs, b ∈ u := by
  have hX := h.2.1
  have b0 := h.1
  obtain ⟨⟨hD, hc, h6, cnt, hN⟩, a2, a3, ⟨a4, a5, a6⟩, a7, a8, a9⟩ := h.2.2.2.2.2.2.2.2.2.1
  have t5 := hD.2.2.2.2.2.1.1
  obtain ⟨m1, e153, p1, p2, p3, p4, p5⟩ := c153 (d := d - 1) b0.tz hD
  have k1 : MKo (A 9) m m1 := ⟨p1, p2, p3⟩
  have u1 := k1.ut (ts := [1, 10, 17115]) hD.1 t5 (by decide) (by decide)
  have hz1 := u1.tz b0.tz
  have hX1 := hX.ut u1 b0.tz (by decide)
  have hD1 := hD.mk k1
  have hc1 := hc.mk hD k1
  obtain ⟨bs, w1, w2, w3⟩ := a5
  have g12 : vl m1 (A 12) 0 = vl m (A 12) 0 := u1.f b0.tz hX.a12 (by decide) (by decide) (by decide)
  have hLl : (encD s.now).length ≤ 64 := by rw [encD_len]; have := a6.2.1; omega
  obtain ⟨m2, u2, e168, k2, U2, S2, i2⟩ := c168_v (d := d - 1) (m := m1) (K := A 9) (c := g.c) (u := [0, 1]) (by omega) hz1 hD1 hc1 w1 (w1.lev (by omega)) p5 (fun b hb hp => absurd hb hp)
  have e2' : ∀ x, x ∈ u2 ↔ x ∈ [0, 1] ++ bs := fun x => by rw [i2 x, List.mem_append]
  have kk := MKo.ao hD1 k2
  have hk2 := k1.trans kk
  have k4 : ∀ f, vl m2 (A 9) f = vl m1 (A 9) f := fun f => k2.2.2.2 (A 9) f (by intro y; have := hD1.1; rw [y, hD1.2.2.2.2.2.1.1] at this; omega)
  have lb := w1.len
  have hX2 := hX.ut (hk2.ut (ts := [1]) hD.1 t5 (by decide) (by decide)) b0.tz (by decide)
  obtain ⟨m', u', e1, e2, e3, e4, e5, e6, e7⟩ := c28_31 (d := d) (A13 := A 13) h hn (by omega) 8 m2 0 pU ([0, 1] ++ bs) rfl rfl (by decide) (by decide) hk2 (U2.cg e2') (S2.cg e2') (by rw [List.length_append]; simp; omega) (by rw [k4, k4]; exact p4) (fun j j0 j1 => absurd j1 (by omega))
  have ok' : OK m' := (e2.ut (ts := []) hD.1 t5 (by simp) (by simp)).ok b0.1
  have hD' := hD.mk e2
  have hc' := hc.mk hD e2
  have f9 : ∀ f, f ≠ 4 → f ≠ 8 → vl m' (A 9) f = vl m (A 9) f := e2.2.2
  have nK : ∀ a, tg m a ≠ 9 → tg m a ≠ 153105 → ∀ j, vl m' a j = vl m a j := fun a q1 q2 j => e2.2.1 a j (fun z => q1 (by rw [z]; exact hD.1)) fun z => q2 (by rw [z]; exact t5)
  refine ⟨m', u', q28 (by omega) b0.tz _ ?_, e2, ⟨ok', hD', hc', ⟨⟨by rw [e5.1]; rfl, by simp⟩, fun i i0 i1 => absurd i1 (by simp; omega), fun i j i0 i1 => absurd i1 (by simp; omega), List.nodup_nil, fun b hb => (by cases hb), fun b _ => rfl⟩, e3, ⟨e6 0 (by simp), e6 1 (by simp)⟩, by rw [f9 6 (by decide) (by decide)]; exact h6, ?_⟩, by omega, ⟨bs, w1, fun b hb => e6 b (List.mem_append_right _ hb)⟩, e7⟩
  · rw [gd_of hX.1, nm_eq, hX.f (by omega), gd_of hD.1, bV_eq e153, nm_eq, nm_eq, hX1.f (by omega), hX1.f (by omega), gd_of hX1.a12, gd_of hD1.1, g12, bV_eq e168, nm_eq, hX2.f (by omega), gd_of hX2.a13.1, hX2.a13.2]
    exact e1
  · obtain ⟨s1, s2, s3, s4, s5, s6, s7⟩ := hN
    have t7 := hD.2.2.2.2.2.2.1.1
    have n7 := nK (vl m (A 9) 7) (by rw [t7]; decide) (by rw [t7]; decide)
    have gp : ∀ p ∈ g.ns, ∀ f, vl m' p f = vl m p f := fun p hp f => nK p (by rw [(s6 p hp).1]; decide) (by rw [(s6 p hp).1]; decide) f
    have tt : ∀ a, tg m' a = tg m a ∧ ln m' a = ln m a := e2.1.2.2
    refine ⟨by rw [e5.2]; rfl, ⟨Nat.zero_le _, s2.2⟩, fun i i0 i1 => by rw [f9 7 (by decide) (by decide), n7]; exact s3 i i0 i1, fun i i0 i1 => by rw [f9 7 (by decide) (by decide), n7]; exact s4 i i0 i1, s5, fun p hp => ?_, fun p hp q hq hne => ?_⟩
    · obtain ⟨q1, q2, q3, q4⟩ := s6 p hp
      exact ⟨by rw [(tt _).1]; exact q1, by rw [gp p hp, (tt _).1, (tt _).2]; exact q2, by rw [gp p hp, (tt _).1, (tt _).2]; exact q3, by rw [gp p hp, gp p hp]; exact q4⟩
    · rw [gp p hp, gp p hp, gp q hq, gp q hq]; exact s7 p hp q hq hne
end
