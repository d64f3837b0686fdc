/-! the component: documents are found by a value -/
set_option maxRecDepth 100000
set_option maxHeartbeats 4000000
theorem dl_ln : ∀ (k : Nat) (u : Int), (dl k u).length = k + 1 := by
  intro k
  induction k with
  | zero => intro u; rfl
  | succ k ih =>
    intro u
    unfold dl
    rw [List.length_cons, ih]
theorem prN_l19 (v : Int) : (prN v).length ≤ 19 := by
  unfold prN
  split
  · rw [List.length_cons, dl_ln]; have := kd_le 17 (-v); omega
  · rw [dl_ln]; have := kd_le 17 v; omega
theorem flt_gt {k : Int} {B : List (Int × Int)} (hB : ∀ x ∈ B, k < x.1) : B.filter (·.1 == k) = [] := by
  rw [List.filter_eq_nil_iff]
  intro x hx
  have := hB x hx
  rw [beq_iff_eq]
  omega
theorem flt_eq {k : Int} {x : Int × Int} {B : List (Int × Int)} (h : x.1 = k) : (x :: B).filter (·.1 == k) = x :: B.filter (·.1 == k) := by
  rw [List.filter_cons, if_pos (by rw [beq_iff_eq]; exact h)]
section
variable {d n : Nat} {m m1 : Mem} {X : Int} {A : Int → Int} {s : St} {g : GH} {o : Int} {S : Fo}
/-- entries of the key, from the first on -/
theorem q44_all {a1 a3 t r : Int} {D : DC} {T : ND × Fo} (hd : 1930 ≤ d) (hS : QSi S) (hr : -1 ≤ r ∧ r < 8) (hD : s.ver r = some D) (hW : wfF (foC T.1 T.2 foN) ∧ (enV T.1 T.2).length < 60000) : ∀ (B Z : List (Int × Int)) (m : Mem) (g : GH) (k : Int) (out : List Int), g.xs = enV T.1 T.2 → CPt n m X A (s.wres out) g → vl m t 0 = o → QOb m A o S → TBl m t (Z ++ B) → srK B → (∀ x ∈ B, kyV T.1 T.2 ≤ x.1) → (∀ x ∈ B, x.1 = kyV T.1 T.2 → ∃ v, lkL x.2 D = some v ∧ ∃ u, chs S v = some u) → (∀ x ∈ B, 0 ≤ x.2 ∧ x.2 < 10000) → (0 ≤ k ∧ k + B.length ≤ 128) → out.length + 20 * B.length ≤ 32768 →
    ∃ m' g', rn d 44 107 [pR X, pI a1, pI r, pI a3, pR (vA A r), pR t, pI k, pL (kyV T.1 T.2), pU, pI Z.length] [] m = some (.inl (some (pI (k + ((B.filter (·.1 == kyV T.1 T.2)).filterMap (hT S T D)).length))), m') ∧ CPt n m' X A (s.wres (out ++ ((B.filter (·.1 == kyV T.1 T.2)).filterMap (hT S T D)).flatMap fun i => prN i ++ [10])) g' ∧ (pcG g ≤ pcG g' ∧ 16 * (nx m' - nx m) ≤ pcG g' - pcG g ∧ sl m' - sl m ≤ 2 * (pcG g' - pcG g)) := by
  intro B
  induction B with
  | nil =>
    intro Z m g k out hx h h0 hq hTB hs hge hok hid hk hol
    have hO := hTB.1
    have h4 := hTB.2.1
    rw [List.append_nil] at h4
    refine ⟨m, g, q44_107 (by omega) h.1.tz _ ?_, ?_, ⟨Int.le_refl _, by omega, by omega⟩⟩
    · rw [gd_of hO.1, h4, if_neg (by omega)]
      show _ = some (Sum.inl (some (pI (k + ((0 : Nat) : Int)))), m)
      rw [show k + ((0 : Nat) : Int) = k by omega]
    · show CPt n m X A (s.wres (out ++ [])) g
      rw [List.append_nil]; exact h
  | cons x B ih =>
    intro Z m g k out hx h h0 hq hTB hs hge hok hid hk hol
    have hz := h.1.tz
    have hX := h.2.1
    obtain ⟨hO, h4, h128, h5, h6⟩ := id hTB
    rw [List.length_append, List.length_cons] at h4 h128 h5 h6
    rw [List.length_cons] at hk hol
    push_cast at h4 h128 h5 h6 hk
    have e2 : vl m (vl m t 2) Z.length = x.1 := by
      rw [h5 Z.length (by omega) (by omega), List.map_append, gi_app_r (by rw [List.length_map]; omega), List.length_map, Int.sub_self]; rfl
    have e3 : vl m (vl m t 3) Z.length = x.2 := by
      rw [h6 Z.length (by omega) (by omega), List.map_append, gi_app_r (by rw [List.length_map]; omega), List.length_map, Int.sub_self]; rfl
    have hge0 := hge x List.mem_cons_self
    by_cases hk1 : x.1 = kyV T.1 T.2
    rotate_left
    · have hf : ((x :: B).filter (·.1 == kyV T.1 T.2)) = [] := flt_gt fun y hy => by
        rcases List.mem_cons.mp hy with z | z
        · rw [z]; omega
        · have := hs.1 y z; omega
      refine ⟨m, g, q44_107 (by omega) hz _ ?_, ?_, ⟨Int.le_refl _, by omega, by omega⟩⟩
      · rw [hf, gd_of hO.1, h4, if_pos (by omega), nm_eq, gd_of hO.2.1.1, gd_of ⟨by omega, by rw [hO.2.1.2]; omega⟩, e2, if_neg hk1]
        show _ = some (Sum.inl (some (pI (k + ((0 : Nat) : Int)))), m)
        rw [show k + ((0 : Nat) : Int) = k by omega]
      · rw [hf]
        show CPt n m X A (s.wres (out ++ [])) g
        rw [List.append_nil]; exact h
    · rw [flt_eq hk1]
      obtain ⟨v, hv, u, hu⟩ := hok x List.mem_cons_self hk1
      have hid0 := hid x List.mem_cons_self
      obtain ⟨v1, v2, v3⟩ := h.vni (r := r) (D := D) hr hD
      obtain ⟨pl, e165, -, fv⟩ := h.findv (r := r) (D := D) (d := d - 1) hr hD (by omega) x.2
      obtain ⟨l3, l2⟩ := fv v hv
      have hdok := v2.lk hv
      obtain ⟨m1, c', e178, cp1, ⟨gr1, gr2, gr3⟩, hl⟩ := h.load (d := d - 1) (x := v) (by omega) l3 l2
      have u178 := ut_cl (ts := [1, 17101, 6, 7, 2, 52103, 10, 17115] ++ tbT ++ qyT) e178 (by decide +kernel)
      have hX1 := cp1.2.1
      have q1 : QOb m1 A o S := by
        have hr' : RKp A m m1 := by
          obtain ⟨⟨hD', hc, -⟩, -⟩ := h.2.2.2.2.2.2.2.2.2.1
          obtain ⟨r1, r2⟩ := h.2.2.2.2.2.2.1
          obtain ⟨m9, c9, e9, -, e3', -⟩ := c178 (d := d - 1) (b := pl) (r := A 11) (by omega) h.1.1 h.1.2.1 hD' hc (by omega) r1 l2
          cases e178.symm.trans e9
          refine ⟨fun N xs cN _ n11 _ hw => e3'.2 N n11 xs cN hw, fun r => ?_⟩
          have gg : ∀ f, 0 ≤ f → f < 17 → vl m1 (A 8) f = vl m (A 8) f := fun f f0 f1 => u178.f hz hX.a8 (by decide) (by decide) (by
            have : nF 7 = 17 := by decide
            rw [this]; omega)
          unfold pRw
          rw [gg 5 (by decide) (by decide), gg 6 (by decide) (by decide), gg 7 (by decide) (by decide), gg 8 (by decide) (by decide), gg 9 (by decide) (by decide)]
        exact hq.keep (QKp.ut u178 hz (by decide)) hr'
      obtain ⟨hT1, f1⟩ := hTB.ut u178 hz (by decide)
      obtain ⟨m2, cap', b, e46, cp2, q2, u2, ⟨g1, g2, g3⟩, -, kk2⟩ := cp1.node (d := d - 1) (v := v) (by omega) rfl hdok q1 hS
      have hz1 := cp1.1.tz
      have hX2 := cp2.2.1
      have hz2 := cp2.1.tz
      obtain ⟨hT2, f2⟩ := hT1.ut u2 hz1 (by decide)
      have g1' : g.cap ≤ cap' := g1
      have g2' : nx m2 - nx m1 ≤ (cap' - g.cap) / 16 := g2
      have g3' : sl m2 - sl m1 ≤ 2 * (cap' - g.cap) := g3
      have pg2 : pcG (g.c, g.ns, g.sq, g.srl, g.hist, (g.xs, g.c1), (enV v.1 v.2, c'), g.k, cap') = pcG g + (c' - g.c2) + (cap' - g.cap) := by unfold pcG; show g.c1 + c' + g.k + cap' + 48 * (g.ns.length : Int) = _; omega
      have v0 : vl m2 t 0 = o := by rw [f2 0 (by decide) (by decide), f1 0 (by decide) (by decide)]; exact h0
      obtain ⟨⟨b0, hAt⟩, hw, hdp⟩ := kk2 u hu
      have r11 := cp2.2.2.2.2.2.2.1.1
      have r10 : RW m2 (A 10) (enV T.1 T.2) g.c1 := by
        have := cp2.2.2.2.2.2.1.1
        rw [← hx]; exact this
      have e147 := c147 (d := d - 1) (nd := u.1) (l := u.2) (nd' := T.1) (l' := T.2) (a := b) (b := 0) (by omega) hz2 r11 r10 (by show (enV v.1 v.2).length < 60000; omega) hW.2 hw hW.1 hAt At.self
      have t11 : tg m2 (A 11) = 8 := r11.1
      have st : ∀ Z', (if b2i (smV u.1 u.2 T.1 T.2) = 0 then (rn d 44 107 [pR X, pI a1, pI r, pI a3, pR (vA A r), pR t, pI k, pL (kyV T.1 T.2), pU, pI (Z.length + 1)] [] m2) else nm (vl m2 X 2) fun v11 => nm (vl m2 t 3) fun v12 => gd (tg m2 v12 = 344101) <| gd ((0 : Int) ≤ Z.length ∧ (Z.length : Int) < ln m2 v12) <| gd (tg m2 v11 = 2) <| bV (cl (d - 1) 55 [pR v11, pL (vl m2 v12 Z.length)] m2) fun m5 => nm (vl m5 X 2) fun v13 => gd (tg m5 v13 = 2) <| bV (cl (d - 1) 54 [pR v13, pI 10] m5) fun m6 => rn d 44 107 [pR X, pI a1, pI r, pI a3, pR (vA A r), pR t, pI (k + 1), pL (kyV T.1 T.2), pU, pI (Z.length + 1)] [] m6) = some Z' → rn d 44 107 [pR X, pI a1, pI r, pI a3, pR (vA A r), pR t, pI k, pL (kyV T.1 T.2), pU, pI Z.length] [] m = some Z' := fun Z' hZ => by
        refine q44_107 (by omega) hz _ ?_
        rw [gd_of hO.1, h4, if_pos (by omega), nm_eq, gd_of hO.2.1.1, gd_of ⟨by omega, by rw [hO.2.1.2]; omega⟩, e2, if_pos hk1, gd_of hX.1, nm_eq, hX.f (by omega), gd_of v3, nm_eq, gd_of hO.2.2.1, gd_of ⟨by omega, by rw [hO.2.2.2]; omega⟩, gd_of hX.a9, e3, bI_eq e165, hX.f (by omega), bV_eq e178, nm_eq, hX1.f (by omega), f1 0 (by decide) (by decide), h0, bI_eq e46, gd_of t11, hX2.f (by omega), bI_eq e147, (w32_of (by omega) (by omega) : w32 ((Z.length : Int) + 1) = (Z.length : Int) + 1), (w32_of (by omega) (by omega) : w32 (k + 1) = k + 1)]
        exact hZ
      have hTx : hT S T D x = if smV u.1 u.2 T.1 T.2 then some x.2 else none := by
        unfold hT
        rw [hv]
        dsimp only
        rw [hu]
      have eZ : Z ++ x :: B = (Z ++ [x]) ++ B := by simp
      have lZ : ((Z ++ [x]).length : Int) = Z.length + 1 := by simp
      rw [List.filterMap_cons, hTx]
      cases hsm : smV u.1 u.2 T.1 T.2 with
      | false =>
        rw [hsm] at st
        rw [if_neg (by decide)]
        dsimp only
        obtain ⟨m3, g3, e5, cp3, y1, y2, y3⟩ := ih (Z ++ [x]) m2 (g.c, g.ns, g.sq, g.srl, g.hist, (g.xs, g.c1), (enV v.1 v.2, c'), g.k, cap') k out hx cp2 v0 q2 (by rw [← eZ]; exact hT2) hs.2 (fun y hy => hge y (List.mem_cons_of_mem _ hy)) (fun y hy => hok y (List.mem_cons_of_mem _ hy)) (fun y hy => hid y (List.mem_cons_of_mem _ hy)) ⟨hk.1, by omega⟩ (by omega)
        rw [lZ] at e5
        rw [pg2] at y1 y2 y3
        exact ⟨m3, g3, st _ (by rw [if_pos (show b2i false = 0 from rfl)]; exact e5), cp3, by omega, by omega, by omega⟩
      | true =>
        rw [hsm] at st
        rw [if_pos rfl]
        dsimp only
        obtain ⟨o1, o2, o3⟩ := hT2.1
        have x3 : vl m2 (vl m2 t 3) Z.length = x.2 := by
          have w := hT2.2.2.2.2 Z.length (by omega) (by rw [List.length_append, List.length_cons]; push_cast; omega)
          rw [w, List.map_append, gi_app_r (by rw [List.length_map]; omega), List.length_map, Int.sub_self]; rfl
        have sk2 := cp2.2.2.2.2.1.1
        obtain ⟨p1, -⟩ := c55 (d := d - 1) (v := x.2) (by omega) cp2.1.1 cp2.1.2.2.1 sk2 (by omega) (by omega)
        have hl19 := prN_l19 x.2
        obtain ⟨m5, e55, s5⟩ := p1 (by show (out.length : Int) + _ ≤ _; omega)
        have u5 := ut_cl (ts := noS) e55 (by decide +kernel)
        have b5 := cp2.1.ca e55 (by decide +kernel)
        have cp5 := cp2.snk2 u5 b5 s5
        have hX5 := cp5.2.1
        have x5 : vl m5 X 2 = vl m2 X 2 := hX2.fld u5 hz2 (by decide) (by decide)
        have sk5 := cp5.2.2.2.2.1.1
        have hz5 := cp5.1.tz
        obtain ⟨p2, -⟩ := c54 (d := d - 1) (b := 10) cp5.1.1 cp5.1.2.2.1 sk5
        obtain ⟨m6, e54, s6⟩ := p2 (by show (((out ++ prN x.2).length : Nat) : Int) + (1 : Nat) ≤ _; rw [List.length_append]; push_cast; omega)
        have u6 := ut_cl (ts := noS) e54 (by decide +kernel)
        have b6 := cp5.1.ca e54 (by decide +kernel)
        have cp6 := cp5.snk2 u6 b6 s6
        have u26 := u5.trans u6
        obtain ⟨hT6, f6⟩ := hT2.ut u26 hz2 (by decide)
        have q6 := q2.keep (QKp.ut u26 hz2 (by decide)) (cp2.rkp (u26.sub (by decide)))
        have ew : w8 10 = 10 := by decide
        have es : (out ++ prN x.2) ++ [w8 10] = out ++ (prN x.2 ++ [10]) := by rw [ew, List.append_assoc]
        have cp6' : CPt n m6 X A (s.wres (out ++ (prN x.2 ++ [10]))) (g.c, g.ns, g.sq, g.srl, g.hist, (g.xs, g.c1), (enV v.1 v.2, c'), g.k, cap') := by rw [← es]; exact cp6
        obtain ⟨m3, g3, e5, cp3, y1, y2, y3⟩ := ih (Z ++ [x]) m6 (g.c, g.ns, g.sq, g.srl, g.hist, (g.xs, g.c1), (enV v.1 v.2, c'), g.k, cap') (k + 1) (out ++ (prN x.2 ++ [10])) hx cp6' (by rw [f6 0 (by decide) (by decide)]; exact v0) q6 (by rw [← eZ]; exact hT6) hs.2 (fun y hy => hge y (List.mem_cons_of_mem _ hy)) (fun y hy => hok y (List.mem_cons_of_mem _ hy)) (fun y hy => hid y (List.mem_cons_of_mem _ hy)) ⟨by omega, by omega⟩ (by simp only [List.length_append, List.length_cons, List.length_nil]; omega)
        rw [lZ] at e5
        rw [pg2] at y1 y2 y3
        have z1 := s5.2.2.2.1
        have z2 := s5.2.2.2.2
        have z3 := s6.2.2.2.1
        have z4 := s6.2.2.2.2
        refine ⟨m3, g3, st _ ?_, ?_, by omega, by omega, by omega⟩
        · rw [if_neg (by decide), nm_eq, nm_eq, gd_of o3.1, gd_of ⟨by omega, by rw [o3.2]; omega⟩, gd_of sk2.1, x3, bV_eq e55, nm_eq, gd_of sk5.1, bV_eq e54, e5, List.length_cons, show ∀ q : Nat, k + 1 + (q : Int) = k + ((q + 1 : Nat) : Int) from fun q => by push_cast; omega]
        · rw [List.flatMap_cons, ← List.append_assoc]; exact cp3
/-- documents are found -/
theorem c44 {k r : Int} (hd : 1940 ≤ d) (h : CPt n m X A s g) (hA : A 60 = 0) (hr : pin r (-2147483648) 2147483648) (hn : n ≤ 64) : CRi n m X A s g (cl d 44 [pR X, pI k, pI r] m) exA (oFind s k r) (some (pI (oFind s k r).2.1)) := by
  have hz := h.1.tz
  have hX := h.2.1
  have t1 := h.2.2.1
  have i9 := in9 hr
  have e22 := c22 (d := d - 1) (a := k) (b := 4) hz
  have e22' := c22 (d := d - 1) (a := w32 (r + 1)) (b := 9) hz
  unfold oFind
  have st24 : ∀ Z, rn d 44 24 [pR X, pI k, pI r, pU, pU, pU, pU, pU, pU, pU] [pI (b2i (decide ((0 ≤ k ∧ k < 4) ∧ -1 ≤ r ∧ r < 8)))] m = some Z → cl d 44 [pR X, pI k, pI r] m = some Z := fun Z hZ => by
    refine q44 (by omega) hz _ ?_
    rw [bI_eq e22]
    by_cases a : 0 ≤ k ∧ k < 4
    · rw [decide_eq_true a, if_neg (by decide), bI_eq e22']
      by_cases b : -1 ≤ r ∧ r < 8
      · rw [decide_eq_true (i9.mpr b), if_neg (by decide)]
        rw [decide_eq_true ⟨a, b⟩] at hZ; exact hZ
      · rw [decide_eq_false (fun z => b (i9.mp z)), if_pos (show b2i false = 0 from rfl)]
        rw [decide_eq_false (fun z => b z.2)] at hZ; exact hZ
    · rw [decide_eq_false a, if_pos (show b2i false = 0 from rfl)]
      rw [decide_eq_false (fun z => a z.1)] at hZ; exact hZ
  by_cases hid : (0 ≤ k ∧ k < 4) ∧ -1 ≤ r ∧ r < 8
  rotate_left
  · rw [if_pos hid]
    rw [decide_eq_false hid] at st24
    exact CRi.thr h (t := 202) (by decide) (st24 _ (q44_24 (by omega) hz _ (by rw [bV_xq (by rw [c23 (b := false) hz]; rfl)]))) (by decide)
  rw [if_neg (fun z => z hid)]
  rw [decide_eq_true hid] at st24
  obtain ⟨hk, hrr⟩ := hid
  have e25 := c25 (d := d - 1) (by omega) h
  have st0 : ∀ Z, (bI (cl (d - 1) 25 [pR X] m) fun v2 m2 => bR (cl (d - 1) 31 [pR X, pI r] m2) fun v3 m3 => nm (vl m3 X 14) fun v4 => gd (tg m3 v4 = 17116) <| gd ((0 : Int) ≤ k ∧ k < ln m3 v4) <| if (vl m3 v4 k) = 0 then (rn d 44 53 [pR X, pI k, pI r, pI v2, pR v3, pU, pU, pU, pU, pU] [pI 0] m3) else rn d 44 53 [pR X, pI k, pI r, pI v2, pR v3, pU, pU, pU, pU, pU] [pI 1] m3) = some Z → cl d 44 [pR X, pI k, pI r] m = some Z := fun Z hZ => st24 Z (q44_24 (by omega) hz _ (by
    rw [bV_eq (show cl (d - 1) 23 [pI (b2i true)] m = some (.inl none, m) from c23 (b := true) hz), gd_of hX.1]; exact hZ))
  cases hdk : s.dk with
  | true =>
    rw [hdk, if_pos rfl] at e25
    rw [if_pos rfl]
    exact CRi.thr' h.tape0 (t := 203) (by decide) (st0 _ (by rw [bI_xq e25])) (by decide) ⟨rfl, rfl⟩ (Nat.zero_le _)
  | false =>
    rw [hdk, if_neg (by decide)] at e25
    rw [if_neg (by decide)]
    have h2 := h.tape0
    have hX2 := h2.2.1
    have hz2 := h2.1.tz
    have q1 : nx (mst m X 1 0) = nx m := rfl
    have q2 : sl (mst m X 1 0) = sl m := rfl
    have e31 := c31 (d := d - 1) (r := r) (by omega) h2 hrr
    have ev : (s.wtp []).ver r = s.ver r := rfl
    rw [ev] at e31
    cases hv : s.ver r with
    | none =>
      rw [hv] at e31
      exact CRi.thr' h2 (t := 203) (by decide) (st0 _ (by rw [bI_eq e25, bR_xq (e31.trans rfl)])) (by decide) ⟨rfl, rfl⟩ (Nat.zero_le _)
    | some D =>
      rw [hv] at e31
      have e31' : cl (d - 1) 31 [pR X, pI r] (mst m X 1 0) = some (.inl (some (pR (vA A r))), mst m X 1 0) := e31
      dsimp only
      have tb2 := h2.2.2.2.2.2.2.2.2.2.2
      have st1 : ∀ Z, (if (vl (mst m X 1 0) (A 14) k) = 0 then (rn d 44 53 [pR X, pI k, pI r, pI s.tp.length, pR (vA A r), pU, pU, pU, pU, pU] [pI 0] (mst m X 1 0)) else rn d 44 53 [pR X, pI k, pI r, pI s.tp.length, pR (vA A r), pU, pU, pU, pU, pU] [pI 1] (mst m X 1 0)) = some Z → cl d 44 [pR X, pI k, pI r] m = some Z := fun Z hZ => st0 Z (by
        rw [bI_eq e25, bR_eq e31', nm_eq, hX2.f (by omega), gd_of hX2.a14.1, gd_of ⟨hk.1, by rw [hX2.a14.2]; exact hk.2⟩]
        exact hZ)
      cases hix : s.ix k with
      | none =>
        have e0 : vl (mst m X 1 0) (A 14) k = 0 := (tb2.1 k hk.1 hk.2).1 hix
        exact CRi.thr' h2 (t := 203) (by decide) (st1 _ (by rw [if_pos e0]; exact q44_53 (by omega) hz2 _ (by rw [bV_xq (show cl (d - 1) 26 [pI 0] (mst m X 1 0) = some (.inr 203, mal (mst m X 1 0) 203 6) from c26 (b := false) hz2)]))) (by decide) ⟨rfl, rfl⟩ (Nat.zero_le _)
      | some S =>
        dsimp only
        obtain ⟨L0, N0, xs0, cN0, w1, -⟩ := (tb2.1 k hk.1 hk.2).2 S hix
        have e0 : vl (mst m X 1 0) (A 14) k ≠ 0 := fun z => by have := w1.1.1; rw [z, h2.1.1.2.1] at this; omega
        have ne : A 0 ≠ X := fun z => by have := hX.a0.1; rw [z, hX.1] at this; omega
        obtain ⟨k1, k2⟩ := c27 (d := d - 1) (by omega) h2 rfl (tp := s.tp) t1.2.1 (fun j j0 j1 => by rw [vl_mst, if_neg (fun z => ne z.1)]; exact t1.2.2 j j0 j1)
        have st2 : ∀ Z, (bV (cl (d - 1) 27 [pR X, pI s.tp.length] (mst m X 1 0)) fun m2 => nm (vl m2 X 14) fun v6 => gd (tg m2 v6 = 17116) <| gd ((0 : Int) ≤ k ∧ k < ln m2 v6) <| nm (vl m2 v6 k) fun v7 => bV (cl (d - 1) 45 [pR X, pR v7, pR (vA A r)] m2) fun m3 => nm (vl m3 X 2) fun v8 => gd (tg m3 v8 = 2) <| bL (cl (d - 1) 344 [pR (vl m3 X 10), pI 0] (mst m3 v8 1 0)) fun v4 m4 => gd (tg m4 v7 = 30) <| bI (cl (d - 1) 348 [pR v7, pL v4] m4) fun v5 m5 => rn d 44 107 [pR X, pI k, pI r, pI s.tp.length, pR (vA A r), pR v7, pI 0, pL v4, pU, pI v5] [] m5) = some Z → cl d 44 [pR X, pI k, pI r] m = some Z := fun Z hZ => st1 Z (by
          rw [if_neg e0]
          refine q44_53 (by omega) hz2 _ ?_
          rw [bV_eq (show cl (d - 1) 26 [pI 1] (mst m X 1 0) = some (.inl none, mst m X 1 0) from c26 (b := true) hz2), gd_of hX2.1]
          exact hZ)
        cases hE : sRdT s.tp with
        | none => exact absurd hE (sRdT_some _)
        | some w =>
          cases w with
          | inl p =>
            obtain ⟨m3, xs, c', e27, cp3, n1, n2, n3⟩ := k2 p hE
            refine ⟨m3, _, cp3.suc, ?_, fun q => absurd q (show (3 : Int) ≠ 0 by decide), fun _ => st2 _ (by rw [bV_xq e27]; rfl)⟩
            unfold CST PN PSl pcG
            show 16 * nx m3 + 640 * ((0 : Nat) : Int) - (c' + g.c2 + g.k + g.cap + 48 * (g.ns.length : Int)) ≤ _ ∧ sl m3 + 40 * ((0 : Nat) : Int) - 2 * (c' + g.c2 + g.k + g.cap + 48 * (g.ns.length : Int)) ≤ _
            omega
          | inr F =>
            obtain ⟨nd, l, rfl, e2, e3, e4, m3, c', e27, cp3, ⟨gr1, gr2, gr3⟩⟩ := k1 F hE
            have hdv : hdV (foC nd l foN) = (nd, l) := rfl
            dsimp only
            rw [hdv]
            try dsimp only
            obtain ⟨gv1, gv2, gv3, gv4⟩ := rd_gv hE e3
            rw [hdv] at gv1 gv3 gv4
            dsimp only at gv1 gv3 gv4
            have hX3 := cp3.2.1
            have t12 := t1.2.1
            obtain ⟨m4, g4, e45, cp4, ⟨z1, z2, z3⟩, ⟨z4, z5, z6⟩, z7, z8, z9, z10, z11⟩ := cp3.build (d := d - 1) (k := k) (r := r) (D := D) (S := S) (by omega) hA hk hix hrr hv hn
            have z2 : g4.xs = enV nd l := z2
            have z3 : g4.c1 = c' := z3
            have hX4 := cp4.2.1
            have hz4 := cp4.1.tz
            obtain ⟨cp5, x5⟩ := cp4.clr2
            have sk4 := cp4.2.2.2.2.1.1
            have t2 := sk4.1
            have u5 : UT (noS ++ [17101]) m4 (mst m4 (vl m4 X 2) 1 0) := UT.mst (by rw [t2]; decide)
            have n5 : nx (mst m4 (vl m4 X 2) 1 0) = nx m4 ∧ sl (mst m4 (vl m4 X 2) 1 0) = sl m4 := ⟨rfl, rfl⟩
            have hX5 := cp5.2.1
            have hz5 := cp5.1.tz
            generalize hM : mst m4 (vl m4 X 2) 1 0 = M at *
            have r10 : RW M (A 10) (enV nd l) g4.c1 := by rw [← z2]; exact cp5.2.2.2.2.2.1.1
            have hdp : dpF l ≤ 33 := by
              rcases Nat.lt_or_ge nd.1 5 with q | q
              · rw [e3.2.2.1 q]; show 0 ≤ 33; omega
              · unfold dpV at gv3; rw [if_neg (by omega)] at gv3; omega
            have e344 := c344 (d := d - 1) (m := M) (nd := nd) (l := l) (a := 0) (by omega) hz5 r10 (by omega) e3 At.self
            generalize htt : vl m3 (A 14) k = t at *
            obtain ⟨hT5, f5⟩ := z8.ut u5 hz4 (by decide)
            obtain ⟨AA, BB, eAB, hAA, hBB⟩ := srK_spl (k := kyV nd l) (bldT_sr (S := S) (D := D)).1
            have lenT := (bldT_sr (S := S) (D := D)).2
            have lD := (cp3.vni (r := r) (D := D) hrr hv).2.1
            rw [eAB] at hT5 lenT
            have e348 := c348 (d := d - 1) hz5 hT5 hAA hBB
            have q5 := z9.keep (QKp.ut u5 hz4 (by decide)) (cp4.rkp (u5.sub (by decide)))
            have sAB : srK (AA ++ BB) := by rw [← eAB]; exact bldT_sr.1
            have sB : srK BB := by
              have : ∀ (AA : List (Int × Int)), srK (AA ++ BB) → srK BB := by
                intro AA
                induction AA with
                | nil => intro hh; exact hh
                | cons y AA ihA => intro hh; exact ihA hh.2
              exact this AA sAB
            -- what stands in the table comes from documents
            have src : ∀ x ∈ bldT S D, (∃ v, lkL x.2 D = some v ∧ ∃ u, chs S v = some u) ∧ 0 ≤ x.2 ∧ x.2 < 10000 := by
              have key : ∀ (E : DC) (L : List (Int × Int)), (∀ y ∈ E, y ∈ D) → (∀ x ∈ L, (∃ v, lkL x.2 D = some v ∧ ∃ u, chs S v = some u) ∧ 0 ≤ x.2 ∧ x.2 < 10000) → ∀ x ∈ E.foldl (bldS S) L, (∃ v, lkL x.2 D = some v ∧ ∃ u, chs S v = some u) ∧ 0 ≤ x.2 ∧ x.2 < 10000 := by
                intro E
                induction E with
                | nil => intro L _ hL x hx; exact hL x hx
                | cons y E ihE =>
                  intro L hE' hL
                  refine ihE (bldS S L y) (fun z hz => hE' z (List.mem_cons_of_mem _ hz)) fun x hx => ?_
                  unfold bldS at hx
                  cases hc : chs S y.2 with
                  | none => rw [hc] at hx; exact hL x hx
                  | some u =>
                    rw [hc] at hx
                    rcases inK_mem hx with z | z
                    · have hy := hE' y List.mem_cons_self
                      rw [z]
                      exact ⟨⟨y.2, srt_lk lD.1 y hy, u, hc⟩, (lD.2.2 y hy).1⟩
                    · exact hL x z
              exact key D [] (fun _ h => h) (fun x hx => by cases hx)
            have mB : ∀ x ∈ BB, x ∈ bldT S D := fun x hx => by rw [eAB]; exact List.mem_append_right _ hx
            have cp5' : CPt n M X A (((s.wtp []).wpl (-1)).wres []) g4 := cp5
            rw [List.length_append] at lenT
            have lD2 := lD.2.1
            obtain ⟨m6, g6, e6, cp6, y1, y2, y3⟩ := q44_all (d := d) (s := (s.wtp []).wpl (-1)) (a1 := k) (a3 := s.tp.length) (t := t) (T := (nd, l)) (D := D) (o := vl m4 t 0) (by omega) z10 hrr hv ⟨e3, by show (enV nd l).length < 60000; omega⟩ BB AA M g4 0 [] z2 cp5' (f5 0 (by decide) (by decide)) q5 hT5 sB hBB (fun x hx _ => (src x (mB x hx)).1) (fun x hx => (src x (mB x hx)).2) ⟨by decide, by omega⟩ (by show 0 + _ ≤ _; omega)
            have hflt : (bldT S D).filter (·.1 == kyV nd l) = BB.filter (·.1 == kyV nd l) := by
              rw [eAB, List.filter_append]
              have : AA.filter (·.1 == kyV nd l) = [] := by
                rw [List.filter_eq_nil_iff]
                intro x hx
                have := hAA x hx
                rw [beq_iff_eq]; omega
              rw [this]; rfl
            have hh : (BB.filter (·.1 == kyV nd l)).filterMap (hT S (nd, l) D) = hits S (nd, l) D := by
              rw [← hflt, bldT_flt]
              refine (hits_eq lD.1 e3 fun x hx u hu => ?_).symm
              -- what is found is well-formed
              obtain ⟨ys, w', hy, hl1⟩ := sg_qDoc z10.1 z10.2.2 x.2
              have hdx := (lD.2.2 x hx).2
              have hNV : NVn (enV x.2.1 x.2.2) [(0, 0, x.2.1, x.2.2, 0)] := ⟨_, [], rfl, ⟨At.self, hdx.1.1.2.2.1⟩, by have := hdx.dp; show dpF x.2.2 ≤ 40; omega⟩
              have hok := (evX_ok hNV (foC (20, 1, [], []) S foN)).2.2 _ hNV 0 ys w' hy
              unfold chs at hu
              rw [hy] at hu
              dsimp only at hu
              cases ys with
              | nil => cases hu
              | cons y ys =>
                cases ys with
                | nil =>
                  obtain ⟨q, tt, rfl, hN, -⟩ := hok y List.mem_cons_self
                  cases hu
                  exact hN.2
                | cons y' ys' => simp at hl1
            have hT30 : tg M t = 30 := hT5.1.1
            have e3x : (g.c, g.ns, g.sq, g.srl, g.hist, (enV nd l, c'), (g.ls, g.c2), g.k, g.cap) = ((g.c, g.ns, g.sq, g.srl, g.hist, (enV nd l, c'), (g.ls, g.c2), g.k, g.cap) : GH) := rfl
            have pg : pcG (g.c, g.ns, g.sq, g.srl, g.hist, (enV nd l, c'), (g.ls, g.c2), g.k, g.cap) = pcG g + (c' - g.c1) := by unfold pcG; show c' + g.c2 + g.k + g.cap + 48 * (g.ns.length : Int) = _; omega
            rw [pg] at z4 z5 z6
            rw [hh] at e6 cp6
            refine ⟨m6, g6, cp6.suc, ?_, fun _ => st2 _ ?_, fun q => absurd rfl q⟩
            · have ln0 : ((([] : List Int).length : Nat) : Int) = 0 := rfl
              unfold CST PN PSl
              show 16 * nx m6 + 640 * ((0 : Nat) : Int) - pcG g6 ≤ _ ∧ sl m6 + 40 * ((0 : Nat) : Int) - 2 * pcG g6 ≤ _
              omega
            · rw [bV_eq e27, nm_eq, hX3.f (by omega), gd_of hX3.a14.1, gd_of ⟨hk.1, by rw [hX3.a14.2]; exact hk.2⟩, nm_eq, htt, bV_eq e45, nm_eq, gd_of t2, hX4.f (by omega), hM, bL_eq e344, gd_of hT30, bI_eq e348, e6]
              show some (Sum.inl (some (pI (0 + ((hits S (nd, l) D).length : Int)))), m6) = _
              rw [Int.zero_add]
end
