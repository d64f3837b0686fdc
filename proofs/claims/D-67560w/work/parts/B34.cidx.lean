/-! the component: a table for a query is made -/
set_option maxRecDepth 100000
set_option maxHeartbeats 4000000
/-- all tags but the tables' -/
abbrev noT : List Int := [1, 31, 103, 17103, 6, 7, 2, 52103] ++ rwT ++ [10, 17115] ++ dkT ++ qyT
section
variable {d n : Nat} {m m1 : Mem} {X : Int} {A : Int → Int} {s : St} {g : GH} {o : Int} {S : Fo}
theorem CPt.tbs {ix' : Int → Option Fo} (h : CPt n m X A s g) (u : UT noT m m1) (b : BSm m1) (tb : TBI m1 A g.srl g.hist ix') : CPt n m1 X A (s.wix ix') g := by
  obtain ⟨b0, x, t1, fl, k, r1, r2, rn, p, dk, tb0⟩ := h
  have hz := b0.tz
  obtain ⟨p1, p2⟩ := p.ut u b.2.1 (by decide) (by decide) fun ys q => ⟨ys, q.ut u hz (by decide) (by decide)⟩
  exact ⟨b, x.ut u hz (by decide), t1.ut x u hz (by decide) (by decide), fl.ut x u hz (by decide), k.ut x u hz (by decide) (by decide) (by decide), ⟨r1.1.ut u hz (by decide) (by decide) (by decide), r1.2⟩, ⟨r2.1.ut u hz (by decide) (by decide) (by decide), r2.2⟩, rn.ut u hz (by decide), p1, dk.ut x u hz (by decide) (by decide) (by decide) (by decide), tb⟩
/-- the patcher's rows stand, and rows keep what they have -/
theorem CPt.rkp (h : CPt n m X A s g) (u : UT ([7] ++ rwT) m m1) : RKp A m m1 := ⟨fun N xs cN _ _ _ hw => hw.ut u h.1.tz (by decide) (by decide) (by decide), fun rr => by
  have gg : ∀ f, 0 ≤ f → f < 17 → vl m1 (A 8) f = vl m (A 8) f := fun f f0 f1 => u.f h.1.tz h.2.1.a8 (by decide) (by decide) (by
    have : nF 7 = 17 := by decide
    rw [this]; omega)
  unfold pRw
  rw [gg 5 (by decide) (by decide), gg 6 (by decide) (by decide), gg 7 (by decide) (by decide), gg 8 (by decide) (by decide), gg 9 (by decide) (by decide)]⟩
theorem TBI.obj {srl j : Int} {hist : Int → DC} {ix : Int → Option Fo} (h : TBI m A srl hist ix) (j0 : 0 ≤ j) (j1 : j < 4) (hn : vl m (A 14) j ≠ 0) : TbO m (vl m (A 14) j) := by
  cases hx : ix j with
  | none => exact absurd ((h.1 j j0 j1).1 hx) hn
  | some S =>
    obtain ⟨L, N, xs, cN, b1, -⟩ := (h.1 j j0 j1).2 S hx
    exact b1.1
/-- a query's table is made -/
theorem c43 {k : Int} (hd : 520 ≤ d) (h : CPt n m X A s g) : CRi n m X A s g (cl d 43 [pR X, pI k] m) exA (oIndex s k) none := by
  have hz := h.1.tz
  have hX := h.2.1
  have t1 := h.2.2.1
  unfold oIndex
  by_cases hid : 0 ≤ k ∧ k < 4
  rotate_left
  · rw [if_pos hid]
    exact CRi.thr h (t := 202) (by decide) (q43 (by omega) hz _ (by rw [nd_no hz hid])) (by decide)
  rw [if_neg (fun z => z hid)]
  have e25 := c25 (d := d - 1) (by omega) h
  have st0 : ∀ Z, (bI (cl (d - 1) 25 [pR X] m) fun v3 m3 => bR (cl (d - 1) 39 [pR X, pI v3] m3) fun v4 m4 => gd (tg m4 v4 = 15) <| if (vl m4 v4 1) = 0 then (some (.inr 204, mal (mst m4 X 19 v3) 204 6)) else nm (vl m4 X 14) fun v7 => nw (nx m4) (mal m4 30 5) fun o5 m5 => bV (cl (d - 1) 343 [pR o5, pR v4] m5) fun m6 => gd (tg m6 v7 = 17116) <| gd ((0 : Int) ≤ k ∧ k < ln m6 v7) <| gd (aOk (tg m6 v7 % 1000) (tg m6 o5) = true) <| some (.inl none, (mst m6 v7 k o5))) = some Z → cl d 43 [pR X, pI k] m = some Z := fun Z hZ => by
    refine q43 (by omega) hz _ ?_
    rw [nd_ok hz hid, gd_of hX.1]; exact hZ
  cases hdk : s.dk with
  | true =>
    rw [hdk, if_pos rfl] at e25
    rw [if_pos rfl]
    exact CRi.thr' h.tape0 (t := 203) (by decide) (st0 _ (by rw [bI_xq e25])) (by decide) ⟨rfl, rfl⟩ (Nat.zero_le _)
  | false =>
    rw [hdk, if_neg (by decide)] at e25
    rw [if_neg (by decide)]
    have h2 := h.tape0
    have q1 : nx (mst m X 1 0) = nx m := rfl
    have q2 : sl (mst m X 1 0) = sl m := rfl
    have ne : A 0 ≠ X := fun z => by have := hX.a0.1; rw [z, hX.1] at this; omega
    obtain ⟨k1, k2⟩ := c39 (d := d - 1) (by omega) h2 (tp := s.tp) t1.2.1 (fun j j0 j1 => by rw [vl_mst, if_neg (fun z => ne z.1)]; exact t1.2.2 j j0 j1)
    cases hE : sQuT s.tp with
    | none => exact absurd hE (sQuT_some _)
    | some z =>
      cases z with
      | inl p =>
        obtain ⟨m3, e39, cp3, n1, n2⟩ := k2 p hE
        refine ⟨m3, g, cp3.suc, ?_, fun q => absurd q (show (3 : Int) ≠ 0 by decide), fun _ => st0 _ (by rw [bI_eq e25, bR_xq e39]; rfl)⟩
        unfold CST PN PSl
        show 16 * nx m3 + 640 * ((0 : Nat) : Int) - pcG g ≤ _ ∧ sl m3 + 40 * ((0 : Nat) : Int) - 2 * pcG g ≤ _
        omega
      | inr S =>
        obtain ⟨m3, o, e39, cp3, cq, n1, n2⟩ := k1 S hE
        dsimp only
        have hq3 := cq.ob h2 e39
        have hS : okF 2 S ∧ hQ S ≤ 1700 := sQu_ok (t := gtp s.tp) (e := s.tp.length) (n := 8 * s.tp.length + 10) hE
        have hc : (cntF S : Int) ≤ s.tp.length := sQu_cnt hE
        have t12 := t1.2.1
        obtain ⟨N, xs, cN', q3, q4, q5, q6, q7, q8⟩ := cq
        have hX3 := cp3.2.1
        have hz3 := cp3.1.tz
        cases hsg : sgF S with
        | false =>
          rw [if_neg (by decide)]
          rw [hsg] at q8
          have cp4 := (cp3.place (p := (s.tp.length : Int))).exc (t := 204) (by decide)
          have cp4 : CPt n (mal (mst m3 X 19 (s.tp.length : Int)) 204 6) X A ((s.wtp []).wpl s.tp.length) g := cp4
          refine ⟨_, g, cp4.suc, ?_, fun q => absurd q (show (3 : Int) ≠ 0 by decide), fun _ => st0 _ ?_⟩
          · unfold CST PN PSl
            show 16 * (nx m3 + 1) + 640 * ((0 : Nat) : Int) - pcG g ≤ _ ∧ sl m3 + 6 + 40 * ((0 : Nat) : Int) - 2 * pcG g ≤ _
            omega
          · rw [bI_eq e25, bR_eq e39, gd_of q7, q8, if_pos (show b2i false = 0 from rfl)]; try rfl
        | true =>
          rw [if_pos rfl]
          rw [hsg] at q8
          have hzA : TZ (mal m3 30 5) := (UT.mal (ts := [])).tz hz3
          have tA : tg (mal m3 30 5) (nx m3) = 30 := by rw [tg_mal, if_pos rfl]
          have nA : nx (mal m3 30 5) = nx m3 + 1 := rfl
          have sA : sl (mal m3 30 5) = sl m3 + 5 := rfl
          obtain ⟨m6, e343, c1, c2, c3, ⟨f0, f1, f2, f3⟩, hTO⟩ := c343 (d := d - 1) (m := mal m3 30 5) (t := nx m3) (q := o) hzA tA
          have uA : ∀ ts, UT ts m3 m6 := fun ts => ⟨((UT.mal (ts := [])).trans (ut_cl (ts := []) e343 (by decide +kernel))).1, fun a ha _ j _ => by rw [(c3 a (by omega)).2.2 j (fun z => by omega), vl_mal, if_neg (by omega)]⟩
          have b6 : BSm m6 := (cp3.1.mal (t := 30) (k := 5) (by decide) (by decide) (by decide)).ca e343 (by decide +kernel)
          have cp6 := cp3.all (uA _) b6
          have hX6 := cp6.2.1
          have hz6 := b6.tz
          have t6 : tg m6 (nx m3) = 30 := by rw [(c3 (nx m3) (by omega)).1]; exact tA
          have a14 : tg m6 (A 14) = 17116 := hX6.a14.1
          have u7 : UT ((noS ++ [2, 52103]).filter (· != 17116)) m6 (mst m6 (A 14) k (nx m3)) := UT.mst (by rw [a14]; decide)
          have b7 : BSm (mst m6 (A 14) k (nx m3)) := b6.mst (by omega)
          have hq6 := (hq3.keep (QKp.ut (uA _) hz3 (fun _ h => h)) (cp3.rkp (uA _)))
          have hq7 := hq6.keep (QKp.ut u7 hz6 (by decide)) (cp6.rkp (u7.sub (by decide)))
          have v14 : ∀ j, vl (mst m6 (A 14) k (nx m3)) (A 14) j = if j = k then nx m3 else vl m6 (A 14) j := fun j => by
            rw [vl_mst]
            by_cases z : j = k
            · rw [if_pos ⟨rfl, z⟩, if_pos z]
            · rw [if_neg (fun w => z w.2), if_neg z]
          have nT : A 14 ≠ nx m3 := fun z => by rw [z, t6] at a14; omega
          have vT : ∀ j, vl (mst m6 (A 14) k (nx m3)) (nx m3) j = vl m6 (nx m3) j := fun j => by rw [vl_mst, if_neg (fun z => nT z.1.symm)]
          have nA2 : A 14 ≠ nx m3 + 1 ∧ A 14 ≠ nx m3 + 2 := by
            have h14 := tz_lt hz3 (by have := hX3.a14.1; omega : tg m3 (A 14) ≠ 0)
            omega
          have old : ∀ j, 0 ≤ j → j < 4 → vl m6 (A 14) j ≠ 0 → (vl m6 (A 14) j < nx m3 ∧ tg m6 (vl m6 (A 14) j) = 30) ∧ vl m6 (vl m6 (A 14) j) 2 < nx m3 ∧ vl m6 (vl m6 (A 14) j) 3 < nx m3 := fun j j0 j1 hn => by
            have e14 : vl m6 (A 14) j = vl m3 (A 14) j := (uA [17116]).a hz3 hX3.a14.1 (by decide) (by decide)
            rw [e14] at hn ⊢
            have hO := cp3.2.2.2.2.2.2.2.2.2.2.obj j0 j1 hn
            have g2 : ∀ f, 0 ≤ f → f < 5 → vl m6 (vl m3 (A 14) j) f = vl m3 (vl m3 (A 14) j) f := fun f f0 f1 => (uA [30]).f hz3 hO.1 (by decide) (by decide) (by
              have : nF 30 = 5 := by decide
              rw [this]; omega)
            rw [g2 2 (by decide) (by decide), g2 3 (by decide) (by decide)]
            exact ⟨⟨tz_lt hz3 (by rw [hO.1]; decide), (uA []).t hz3 hO.1 (by decide)⟩, tz_lt hz3 (by rw [hO.2.1.1]; decide), tz_lt hz3 (by rw [hO.2.2.1]; decide)⟩
          have tb6 := cp6.2.2.2.2.2.2.2.2.2.2
          have tb7 : TBI (mst m6 (A 14) k (nx m3)) A g.srl g.hist (fun j => if j = k then some S else ((s.wtp []).wpl (-1)).ix j) := by
            refine ⟨fun j j0 j1 => ?_, fun i j i0 i1 j0 j1 hne z1 z2 => ?_⟩
            · by_cases z : j = k
              · subst z
                refine ⟨fun hn => ?_, fun S' hS' => ?_⟩
                · dsimp only at hn
                  rw [if_pos rfl] at hn; cases hn
                · dsimp only at hS'
                  rw [if_pos rfl] at hS'
                  cases hS'
                  rw [v14, if_pos rfl]
                  obtain ⟨N, xs, cN', w1, w2⟩ := hq7
                  have nA3 : ∀ f, (f = 2 ∨ f = 3) → A 14 ≠ vl m6 (nx m3) f := fun f hf => by
                    rcases hf with rfl | rfl
                    · rw [f2]; omega
                    · rw [f3]; omega
                  refine ⟨[], N, xs, cN', ⟨?_, ?_, by decide, fun i i0 i1 => absurd i1 (by show ¬ i < ((0 : Nat) : Int); omega), fun i i0 i1 => absurd i1 (by show ¬ i < ((0 : Nat) : Int); omega)⟩, trivial, Or.inl ⟨by rw [vT]; exact f1, rfl⟩, w1, ?_, hsg, hS, by omega⟩
                  · obtain ⟨o1, o2, o3⟩ := hTO
                    exact ⟨o1, by rw [vT]; exact o2, by rw [vT]; exact o3⟩
                  · rw [vT, (c3 (nx m3) (by omega)).2.2 4 (fun _ => by decide), vl_mal, if_pos rfl]; rfl
                  · have e : (fun _ : Nat => vl (mst m6 (A 14) j (nx m3)) (nx m3) 0) = fun _ => o := by funext _; rw [vT, f0]
                    rw [e]; exact w2
              · have e14 : vl (mst m6 (A 14) k (nx m3)) (A 14) j = vl m6 (A 14) j := by rw [v14, if_neg z]
                rw [e14]
                refine ⟨fun hn => ?_, fun S' hS' => ?_⟩
                · dsimp only at hn
                  rw [if_neg z] at hn
                  exact (tb6.1 j j0 j1).1 hn
                · dsimp only at hS'
                  rw [if_neg z] at hS'
                  exact ((tb6.1 j j0 j1).2 S' hS').keep u7 hz6 (by decide) (QKp.ut u7 hz6 (by decide)) (cp6.rkp (u7.sub (by decide)))
            · have vO : ∀ a f, a ≠ A 14 → vl (mst m6 (A 14) k (nx m3)) a f = vl m6 a f := fun a f ha => by rw [vl_mst, if_neg (fun z => ha z.1)]
              have n14 : ∀ a, tg m6 a = 30 → a ≠ A 14 := fun a ha z => by rw [z, a14] at ha; omega
              rw [v14] at z1 z2
              rw [v14, v14]
              by_cases zi : i = k
              · have zj : ¬ j = k := fun z => hne (zi.trans z.symm)
                rw [if_neg zj] at z2
                rw [if_pos zi, if_neg zj]
                obtain ⟨⟨y1, y4⟩, y2, y3⟩ := old j j0 j1 z2
                rw [vT, vT, vO _ 2 (n14 _ y4), vO _ 3 (n14 _ y4), f2, f3]
                omega
              · rw [if_neg zi] at z1 ⊢
                by_cases zj : j = k
                · rw [if_pos zj]
                  obtain ⟨⟨y1, y4⟩, y2, y3⟩ := old i i0 i1 z1
                  rw [vT, vT, vO _ 2 (n14 _ y4), vO _ 3 (n14 _ y4), f2, f3]
                  omega
                · rw [if_neg zj] at z2 ⊢
                  obtain ⟨⟨y1, y4⟩, -⟩ := old i i0 i1 z1
                  obtain ⟨⟨y1', y4'⟩, -⟩ := old j j0 j1 z2
                  rw [vO _ 2 (n14 _ y4), vO _ 3 (n14 _ y4), vO _ 2 (n14 _ y4'), vO _ 3 (n14 _ y4')]
                  exact tb6.2 i j i0 i1 j0 j1 hne z1 z2
          have cp7 := cp6.tbs (u7.sub (by decide)) b7 tb7
          refine ⟨_, g, cp7.suc, ?_, fun _ => st0 _ ?_, fun q => absurd rfl q⟩
          · unfold CST PN PSl
            show 16 * nx m6 + 640 * ((0 : Nat) : Int) - pcG g ≤ _ ∧ sl m6 + 40 * ((0 : Nat) : Int) - 2 * pcG g ≤ _
            omega
          · rw [bI_eq e25, bR_eq e39, gd_of q7, q8, if_neg (by decide), nm_eq, nw_eq, hX3.f (by omega), bV_eq e343, gd_of a14, gd_of ⟨hid.1, by rw [hX6.a14.2]; exact hid.2⟩, gd_of (by rw [a14, t6]; decide)]
end
