/-! the component: a query over the documents of a version -/
set_option maxRecDepth 100000
set_option maxHeartbeats 4000000
/-- X prints zs and goes on with K, or throws; I is kept -/
def PRK (I : Mem → Prop) (X : RM) (K : Mem → RM) (s : Int) (m : Mem) (ys : List Int) (cap : Int) (zs : List Int) : Prop :=
  ((ys.length : Int) + zs.length ≤ cap → ∃ m', (∀ Z, K m' = some Z → X = some Z) ∧ SKS s m m' (ys ++ zs) cap 0 ∧ I m') ∧ (cap < (ys.length : Int) + zs.length → ∃ m' ws, X = some (.inr 201, m') ∧ SKS s m m' ws cap 1 ∧ I m')
theorem PRK.bind {I : Mem → Prop} {c : RM} {f K : Mem → RM} {s cap : Int} {m : Mem} {ys z1 z2 : List Int} (h : PRC c s m ys cap z1) (hI : ∀ r m1 ws k, c = some (r, m1) → SKS s m m1 ws cap k → I m1) (h' : ∀ m1, I m1 → SK m1 s (ys ++ z1) cap → PRK I (f m1) K s m1 (ys ++ z1) cap z2) : PRK I (bV c f) K s m ys cap (z1 ++ z2) := by
  refine ⟨fun hl => ?_, fun hl => ?_⟩
  · rw [List.length_append] at hl
    obtain ⟨m1, e1, g1⟩ := h.1 (by omega)
    obtain ⟨m2, e2, g2, g3⟩ := (h' m1 (hI _ _ _ _ e1 g1) g1.1).1 (by rw [List.length_append]; omega)
    refine ⟨m2, fun Z hZ => by rw [bV_eq e1]; exact e2 Z hZ, ?_, g3⟩
    rw [← List.append_assoc]; exact g1.trans g2
  · rw [List.length_append] at hl
    by_cases hf : cap < (ys.length : Int) + z1.length
    · obtain ⟨m1, ws, e1, g1⟩ := h.2 hf
      exact ⟨m1, ws, bV_xq e1, g1, hI _ _ _ _ e1 g1⟩
    · obtain ⟨m1, e1, g1⟩ := h.1 (by omega)
      obtain ⟨m2, ws, e2, g2, g3⟩ := (h' m1 (hI _ _ _ _ e1 g1) g1.1).2 (by rw [List.length_append]; omega)
      exact ⟨m2, ws, by rw [bV_eq e1]; exact e2, g1.trans g2, g3⟩
theorem PRK.last {I : Mem → Prop} {K : Mem → RM} {s cap : Int} {m : Mem} {ys : List Int} (hI : I m) (h : SK m s ys cap) (hS : SI m) : PRK I (K m) K s m ys cap [] := by
  refine ⟨fun _ => ⟨m, fun Z hZ => hZ, ?_, hI⟩, fun hl => absurd hl (by have := h.2.2.2.2.1; simp; omega)⟩
  rw [List.append_nil]
  exact ⟨h, SO.refl hS, FRM.refl, by omega, by omega⟩
theorem PRK.imp {I : Mem → Prop} {X Y : RM} {K : Mem → RM} {s cap : Int} {m : Mem} {ys zs : List Int} (h : PRK I X K s m ys cap zs) (hXY : ∀ q, X = some q → Y = some q) : PRK I Y K s m ys cap zs := by
  refine ⟨fun hl => ?_, fun hl => ?_⟩
  · obtain ⟨m1, e1, g1⟩ := h.1 hl
    exact ⟨m1, fun Z hZ => hXY _ (e1 Z hZ), g1⟩
  · obtain ⟨m1, ws, e1, g1⟩ := h.2 hl
    exact ⟨m1, ws, hXY _ e1, g1⟩
theorem PRK.cast {I : Mem → Prop} {X : RM} {K : Mem → RM} {s cap : Int} {m : Mem} {ys zs zs' : List Int} (h : PRK I X K s m ys cap zs) (e : zs = zs') : PRK I X K s m ys cap zs' := e ▸ h
/-- and then more -/
theorem PRK.seq {I : Mem → Prop} {X : RM} {K K2 : Mem → RM} {s cap : Int} {m : Mem} {ys z1 z2 : List Int} (h : PRK I X K s m ys cap z1) (h' : ∀ m1, I m1 → SK m1 s (ys ++ z1) cap → PRK I (K m1) K2 s m1 (ys ++ z1) cap z2) : PRK I X K2 s m ys cap (z1 ++ z2) := by
  refine ⟨fun hl => ?_, fun hl => ?_⟩
  · rw [List.length_append] at hl
    obtain ⟨m1, e1, g1, i1⟩ := h.1 (by omega)
    obtain ⟨m2, e2, g2, g3⟩ := (h' m1 i1 g1.1).1 (by rw [List.length_append]; omega)
    refine ⟨m2, fun Z hZ => e1 Z (e2 Z hZ), ?_, g3⟩
    rw [← List.append_assoc]; exact g1.trans g2
  · rw [List.length_append] at hl
    by_cases hf : cap < (ys.length : Int) + z1.length
    · exact h.2 hf
    · obtain ⟨m1, e1, g1, i1⟩ := h.1 (by omega)
      obtain ⟨m2, ws, e2, g2, g3⟩ := (h' m1 i1 g1.1).2 (by rw [List.length_append]; omega)
      exact ⟨m2, ws, e1 _ e2, g1.trans g2, g3⟩
/-- all tags but the sinks', with the runner's -/
abbrev noQ : List Int := noS ++ [104101, 107101, 17101]
section
variable {d n : Nat} {m m1 : Mem} {X : Int} {A : Int → Int} {s : St} {g : GH} {o : Int} {S : Fo}
/-- something is printed into the spare sink -/
theorem CPt.snk3 {ws : List Int} {kk : Int} (h : CPt n m X A s g) (u : UT noS m m1) (b : BSm m1) (hs : SKS (vl m X 3) m m1 ws 32768 kk) : CPt n m1 X A s g := by
  obtain ⟨a1, ⟨zs, a2⟩, ⟨w0, a3⟩, a4, a5, a6, a7, a8, a9⟩ := h.2.2.2.2.1
  have e2 := h.2.1.fld (f := 2) u h.1.tz (by decide) (by decide)
  have e3 := h.2.1.fld (f := 3) u h.1.tz (by decide) (by decide)
  have so := hs.2.1.2
  exact h.nos (res := s.res) u b ⟨by rw [e2]; exact so _ a4 _ _ a1, ⟨ws, by rw [e3]; exact hs.1⟩, ⟨w0, so _ (fun z => a6 z.symm) _ _ a3⟩, by rw [e2, e3]; exact ⟨a4, a5, a6, a7, a8, a9⟩⟩ fun ys q => ⟨ys, so _ a8 _ _ q⟩
theorem CPt.clr3 (h : CPt n m X A s g) : CPt n (mst m (vl m X 3) 1 0) X A s g ∧ SK (mst m (vl m X 3) 1 0) (vl m X 3) [] 32768 ∧ (∀ f, vl (mst m (vl m X 3) 1 0) X f = vl m X f) ∧ UT noQ m (mst m (vl m X 3) 1 0) := by
  obtain ⟨zs, a1⟩ := h.2.2.2.2.1.2.1
  have b := h.1
  have t2 := a1.1
  have hs := a1.clear b.2.2.1
  have u : UT noQ m (mst m (vl m X 3) 1 0) := UT.mst (by rw [t2]; decide)
  exact ⟨h.snk3 (u.sub (by decide)) ⟨b.1, b.2.1.mT (by omega), hs.2.1.1, b.2.2.2.1, b.2.2.2.2.ut u b.tz (by decide) (by decide)⟩ hs, hs.1, fun f => by rw [vl_mst, if_neg (fun z => by have := h.2.1.1; rw [z.1, t2] at this; omega)], u⟩
/-- while lines are printed -/
def LQ (n : Nat) (X : Int) (A : Int → Int) (s : St) (g : GH) (o : Int) (S : Fo) (v : ND × Fo) (stk : List Int) (w W : Int) (m0 m : Mem) : Prop := CPt n m X A s g ∧ EC m (A 7) (A 11) (enV v.1 v.2) g.c2 0 stk w g.cap ∧ QOb m A o S ∧ vl m X 3 = W ∧ UT [1, 17101] m0 m
theorem LQ.stp {q : Nat} {as : List PV} {r : Rs} {v : ND × Fo} {stk ws : List Int} {w W kk : Int} {m0 : Mem} (h : LQ n X A s g o S v stk w W m0 m) (e : cl d q as m = some (r, m1)) (hs : SKS W m m1 ws 32768 kk) (hb : bsN (eM q) = true) (hu : utN (eM q) noQ = true) : LQ n X A s g o S v stk w W m0 m1 := by
  obtain ⟨h1, h2, h3, h4, h5⟩ := h
  have u := ut_cl e hu
  have hz := h1.1.tz
  have b := h1.1.ca e hb
  have hX := h1.2.1
  have e3 := hX.fld (f := 3) u hz (by decide) (by decide)
  have c1 := h1.snk3 (u.sub (by decide)) b (by rw [h4]; exact hs)
  have p := h1.2.2.2.2.2.2.2.2.1
  have hk := (p.gen (u.sub (ts' := [7]) (by decide)) b.2.1 (by decide) (fun r ys c _ _ hw => hw.ut u hz (by decide) (by decide) (by decide)) fun ys q => by
    obtain ⟨-, -, -, -, -, -, -, a8, -⟩ := h1.2.2.2.2.1
    exact ⟨ys, hs.2.1.2 _ (by rw [← h4]; exact a8) _ _ q⟩).2
  exact ⟨c1, h2.ut u (by decide) (by decide) (by decide) (by decide), h3.keep (QKp.ut u hz (by decide)) hk, by rw [e3]; exact h4, h5.trans (u.sub (by decide))⟩
theorem w8_id {b : Int} (h0 : -128 ≤ b) (h1 : b < 128) : w8 b = b := by unfold w8; omega
/-- lines of one document -/
theorem qq122 {a1 a2 a3 i id k w W : Int} {v : ND × Fo} {zz : List Int} {ys : List Nd} {m0 : Mem} (hd : 130 ≤ d) (hv : DKv v) (hi : (0 ≤ i ∧ i < 128) ∧ vl m0 (A 20) i = id ∧ tg m0 (A 20) = 17101 ∧ TZ m0) (hid : 0 ≤ id ∧ id < 10000) (hk : 0 ≤ k ∧ k ≤ 100000) (hok : ∀ y ∈ ys, NVn (enV v.1 v.2) y ∧ chN (0, 0, v.1, v.2, 0) y) :
    ∀ (rest done : List Nd) (m : Mem) (out : List Int), ys = done ++ rest → LQ n X A s g o S v (zz ++ ys.map ofN) w W m0 m → SK m W out 32768 →
      PRK (LQ n X A s g o S v (zz ++ ys.map ofN) w W m0) (rn d 38 122 [pR X, pI a1, pI a2, pR a3, pR o, pI k, pI i, pI ys.length, pI (zz.length + done.length)] [] m) (fun m' => rn d 38 59 [pR X, pI a1, pI a2, pR a3, pR o, pI (k + ys.length), pI (i + 1), pI ys.length, pI (zz.length + ys.length)] [] m') W m out 32768 (rest.flatMap (lnQ id)) := by
  have lk : ∀ {m : Mem}, LQ n X A s g o S v (zz ++ ys.map ofN) w W m0 m → (zz.length : Int) + ys.length ≤ 10001 ∧ vl m (A 7) 3 = zz.length + ys.length := fun h => by
    have e := h.2.1
    have e8 := e.2.2.2.2.2.2.1
    have e9 := e.2.2.2.2.2.2.2.2.1
    rw [List.length_append, List.length_map] at e8 e9
    push_cast at e8 e9
    exact ⟨by omega, e8⟩
  intro rest
  induction rest with
  | nil =>
    intro done m out hy hI hS
    rw [List.append_nil] at hy
    have hX := hI.1.2.1
    obtain ⟨l1, l2⟩ := lk hI
    have hz := hI.1.1.tz
    refine (PRK.last (K := fun m' => rn d 38 59 [pR X, pI a1, pI a2, pR a3, pR o, pI (k + ys.length), pI (i + 1), pI ys.length, pI (zz.length + ys.length)] [] m') hI hS hI.1.1.2.2.1).imp fun q hq => q38_122 (by omega) hz _ ?_
    rw [gd_of hX.1, nm_eq, hX.f (by omega), gd_of hX.a7, l2, ← hy, if_neg (by omega), (w32_of (by omega) (by omega) : w32 (k + ys.length) = k + ys.length), (w32_of (by omega) (by omega) : w32 (i + 1) = i + 1)]
    exact hq
  | cons y rest ih =>
    intro done m out hy hI hS
    obtain ⟨l1, l2⟩ := lk hI
    have hz := hI.1.1.tz
    have hX := hI.1.2.1
    have ly : (ys.length : Int) = done.length + rest.length + 1 := by rw [hy]; simp; omega
    obtain ⟨hn, hc⟩ := hok y (by rw [hy]; exact List.mem_append_right _ List.mem_cons_self)
    obtain ⟨q, t, rfl, hq, hqd⟩ := hn
    have hl : (enV v.1 v.2).length < 60000 := by have : 2 * (enV v.1 v.2).length ≤ 3 * (prV v.1 v.2).length + 1 := en_pr hv.1.1.2.2.1; have := hv.2.2; omega
    -- at each stage
    have a20 : ∀ {m : Mem}, LQ n X A s g o S v (zz ++ ys.map ofN) w W m0 m → vl m (A 20) i = id := fun h => by
      rw [h.2.2.2.2.a hi.2.2.2 hi.2.2.1 (by decide) (by decide)]; exact hi.2.1
    have stk : ∀ {m : Mem}, LQ n X A s g o S v (zz ++ ys.map ofN) w W m0 m → (tg m (vl m (A 7) 2) = 104101 ∨ tg m (vl m (A 7) 2) = 107101) ∧ ((0 : Int) ≤ zz.length + done.length ∧ (zz.length : Int) + done.length < ln m (vl m (A 7) 2)) ∧ vl m (vl m (A 7) 2) (zz.length + done.length) = q.1 := fun {m} h => by
      obtain ⟨-, -, -, -, -, ⟨c1, c2⟩, -, c3, -, c4⟩ := h.2.1
      have lz : ((zz ++ ys.map ofN).length : Int) = zz.length + ys.length := by simp
      refine ⟨c1, ⟨by omega, by omega⟩, ?_⟩
      rw [c4 _ (by omega) (by omega)]
      have e : (zz ++ ys.map ofN : List Int) = (zz ++ done.map ofN) ++ (q.1 :: rest.map ofN) := by rw [hy]; simp [ofN]
      have el : (zz.length : Int) + done.length = ((zz ++ done.map ofN).length : Int) := by simp
      rw [e, el, gi_app_r (by omega), Int.sub_self, gi_zero]
    have sI : ∀ {m : Mem}, LQ n X A s g o S v (zz ++ ys.map ofN) w W m0 m → SI m := fun h => h.1.1.2.2.1
    have t2 : ∀ {m : Mem} {out : List Int}, SK m W out 32768 → tg m W = 2 := fun h => h.1
    -- the text of a line
    refine PRK.cast (zs := prN id ++ ([w8 32] ++ (prP (q :: t) ++ ([w8 32] ++ (prV q.2.2.1 q.2.2.2.1 ++ ([w8 10] ++ rest.flatMap (lnQ id))))))) (PRK.imp (X := nm (vl m X 3) fun v8 => nm (vl m X 20) fun v9 => gd (tg m v9 = 17101) <| gd ((0 : Int) ≤ i ∧ i < ln m v9) <| gd (tg m v8 = 2) <| bV (cl (d - 1) 55 [pR v8, pL (vl m v9 i)] m) fun m1 => nm (vl m1 X 3) fun v10 => gd (tg m1 v10 = 2) <| bV (cl (d - 1) 54 [pR v10, pI 32] m1) fun m2 => nm (vl m2 X 7) fun v11 => gd (tg m2 v11 = 6) <| nm (vl m2 v11 2) fun v12 => gd (tg m2 v12 = 104101 ∨ tg m2 v12 = 107101) <| gd ((0 : Int) ≤ zz.length + done.length ∧ (zz.length : Int) + done.length < ln m2 v12) <| bV (cl (d - 1) 110 [pR v11, pR (vl m2 X 3), pI (vl m2 v12 (zz.length + done.length))] m2) fun m3 => nm (vl m3 X 3) fun v13 => gd (tg m3 v13 = 2) <| bV (cl (d - 1) 54 [pR v13, pI 32] m3) fun m4 => nm (vl m4 X 3) fun v14 => nm (vl m4 X 7) fun v15 => gd (tg m4 v15 = 6) <| nm (vl m4 v15 2) fun v16 => gd (tg m4 v16 = 104101 ∨ tg m4 v16 = 107101) <| gd ((0 : Int) ≤ zz.length + done.length ∧ (zz.length : Int) + done.length < ln m4 v16) <| gd (tg m4 v14 = 2) <| bV (cl (d - 1) 52 [pR v14, pR (vl m4 X 11), pI (vl m4 v16 (zz.length + done.length))] m4) fun m5 => nm (vl m5 X 3) fun v17 => gd (tg m5 v17 = 2) <| bV (cl (d - 1) 54 [pR v17, pI 10] m5) fun m6 => rn d 38 122 [pR X, pI a1, pI a2, pR a3, pR o, pI k, pI i, pI ys.length, pI (w32 (zz.length + done.length + 1))] [] m6) ?_ fun Z hZ => q38_122 (by omega) hz _ (by
      rw [gd_of hX.1, nm_eq, hX.f (by omega), gd_of hX.a7, l2, if_pos (by omega)]; exact hZ)) ?_
    · -- 55
      rw [nm_eq, hI.2.2.2.1, nm_eq, hX.f (by omega), gd_of hX.a20.1, gd_of ⟨hi.1.1, by rw [hX.a20.2]; exact hi.1.2⟩, gd_of (t2 hS), a20 hI]
      refine PRK.bind (c55 (d := d - 1) (by omega) hI.1.1.1 (sI hI) hS (by omega) (by omega)) (fun r m1 ws kk e g1 => hI.stp e g1 (by decide +kernel) (by decide +kernel)) fun m1 I1 S1 => ?_
      -- 54
      rw [nm_eq, I1.2.2.2.1, gd_of (t2 S1)]
      refine PRK.bind (c54 (d := d - 1) I1.1.1.1 (sI I1) S1) (fun r m2 ws kk e g1 => I1.stp e g1 (by decide +kernel) (by decide +kernel)) fun m2 I2 S2 => ?_
      -- 110
      have x2 := I2.1.2.1
      obtain ⟨k1, k2, k3⟩ := stk I2
      rw [nm_eq, x2.f (by omega), gd_of x2.a7, nm_eq, gd_of k1, gd_of k2, k3, I2.2.2.2.1]
      have ec2 := I2.2.1
      refine PRK.bind (c110 (d := d - 1) (rN := (0, 0, v.1, v.2, 0)) (x := q :: t) (rt := 0) (c := g.c2) (by omega) hl ⟨At.self, hv.1.1.2.2.1⟩ rfl hc I2.1.1.1 (sI I2) ⟨ec2.2.1, ec2.2.2.1, ec2.2.2.2.1⟩ ec2.2.2.2.2.1 S2) (fun r m3 ws kk e g1 => I2.stp e g1 (by decide +kernel) (by decide +kernel)) fun m3 I3 S3 => ?_
      rw [nm_eq, I3.2.2.2.1, gd_of (t2 S3)]
      refine PRK.bind (c54 (d := d - 1) I3.1.1.1 (sI I3) S3) (fun r m4 ws kk e g1 => I3.stp e g1 (by decide +kernel) (by decide +kernel)) fun m4 I4 S4 => ?_
      have x4 := I4.1.2.1
      obtain ⟨k4, k5, k6⟩ := stk I4
      rw [nm_eq, nm_eq, I4.2.2.2.1, x4.f (by omega), gd_of x4.a7, nm_eq, gd_of k4, gd_of k5, gd_of (t2 S4), k6, x4.f (by omega)]
      refine PRK.bind (c52 (d := d - 1) (nd := q.2.2.1) (l := q.2.2.2.1) (by omega) hq.2 (I4.1.1.2.2.2.2.pre I4.1.1.1) (sI I4) S4 I4.2.1.2.2.2.2.1 hl hq.1) (fun r m5 ws kk e g1 => I4.stp e g1 (by decide +kernel) (by decide +kernel)) fun m5 I5 S5 => ?_
      rw [nm_eq, I5.2.2.2.1, gd_of (t2 S5)]
      refine PRK.bind (c54 (d := d - 1) I5.1.1.1 (sI I5) S5) (fun r m6 ws kk e g1 => I5.stp e g1 (by decide +kernel) (by decide +kernel)) fun m6 I6 S6 => ?_
      have := ih (done ++ [q :: t]) m6 _ (by rw [hy]; simp) I6 S6
      rw [(w32_of (by omega) (by omega) : w32 ((zz.length : Int) + done.length + 1) = (zz.length : Int) + done.length + 1)]
      rw [show ((zz.length : Int) + ((done ++ [q :: t]).length : Nat)) = (zz.length : Int) + done.length + 1 by simp; omega] at this
      exact this
    · rw [List.flatMap_cons, w8_id (by decide) (by decide), w8_id (by decide) (by decide)]
      show _ = (prN id ++ (32 :: (prP (q :: t) ++ (32 :: (prV q.2.2.1 q.2.2.2.1 ++ [10]))))) ++ _
      simp
/-- the spare sink becomes the answer -/
theorem CPt.swp {out : List Int} (h : CPt n m X A s g) (hs : SK m (vl m X 3) out 32768) : CPt n (mst (mst m X 2 (vl m X 3)) X 3 (vl m X 2)) X A (s.wres out) g := by
  obtain ⟨b, x, t1, fl, k, r1, r2, rn, p, dk, tb⟩ := h
  have hz := b.tz
  have hX := x.1
  have nc : NC (· = X) m (mst (mst m X 2 (vl m X 3)) X 3 (vl m X 2)) := (NC.set (S := (· = X)) rfl).trans (NC.set rfl)
  have w2 : vl (mst (mst m X 2 (vl m X 3)) X 3 (vl m X 2)) X 2 = vl m X 3 := by rw [vl_mst, if_neg (by omega), vl_mst, if_pos ⟨rfl, rfl⟩]
  have w3 : vl (mst (mst m X 2 (vl m X 3)) X 3 (vl m X 2)) X 3 = vl m X 2 := by rw [vl_mst, if_pos ⟨rfl, rfl⟩]
  have g0 : ∀ j, j ≠ 2 → j ≠ 3 → vl (mst (mst m X 2 (vl m X 3)) X 3 (vl m X 2)) X j = vl m X j := fun j j2 j3 => by rw [vl_mst, if_neg (fun z => j3 z.2), vl_mst, if_neg (fun z => j2 z.2)]
  generalize mst (mst m X 2 (vl m X 3)) X 3 (vl m X 2) = M at *
  have u : UT ([31, 103, 17103, 2, 52103, 6, 7, 10, 17115] ++ rwT ++ dkT ++ tbT ++ qyT) m M := UT.nc nc fun a ha => by rw [ha, hX]; decide
  have bb : BSm M := b.nc nc fun a ha => by rw [ha, hX]; decide
  have xx : XP M X A := x.kp u.1 hz fun f hp => g0 f (by omega) (by omega)
  obtain ⟨a1, ⟨zs, a2⟩, ⟨ws, a3⟩, a4, a5, a6, a7, a8, a9⟩ := k
  have k' : SKI M X A out := ⟨by rw [w2]; exact hs.ut u hz (by decide) (by decide), ⟨s.res, by rw [w3]; exact a1.ut u hz (by decide) (by decide)⟩, ⟨ws, a3.ut u hz (by decide) (by decide)⟩, by rw [w2, w3]; exact ⟨a4.symm, a6, a5, a8, a7, a9⟩⟩
  obtain ⟨p1, p2⟩ := p.ut u bb.2.1 (by decide) (by decide) fun ys q => ⟨ys, q.ut u hz (by decide) (by decide)⟩
  refine ⟨bb, xx, ⟨by rw [g0 1 (by decide) (by decide)]; exact t1.1, t1.2.1, fun j j0 j1 => by rw [u.a hz x.a0.1 (by decide) (by decide)]; exact t1.2.2 j j0 j1⟩, ⟨by rw [g0 17 (by decide) (by decide)]; exact fl.1, by rw [g0 18 (by decide) (by decide)]; exact fl.2.1, by rw [g0 19 (by decide) (by decide)]; exact fl.2.2⟩, k', ⟨r1.1.ut u hz (by decide) (by decide) (by decide), r1.2⟩, ⟨r2.1.ut u hz (by decide) (by decide) (by decide), r2.2⟩, rn.ut u hz (by decide), p1, ?_, tb.keep x u hz (by decide) (QKp.ut u hz (by decide)) p2⟩
  obtain ⟨d1, d2, d3, ⟨d4, d5, d6⟩, d7, d8, d9⟩ := dk
  have gv : ∀ v' j, tg m v' = 10 → vl M v' j = vl m v' j := fun v' j hv => nc.2.2.2 v' j fun z => by rw [z, hX] at hv; omega
  have vn : ∀ v' D, tg m v' = 10 → VNI m g.c g.hist g.srl v' D → VNI M g.c g.hist g.srl v' D := fun v' D hv q => by
    obtain ⟨bs, q1, q2, q3⟩ := q
    exact ⟨bs, by rw [gv v' 0 hv]; exact q1, by rw [gv v' 1 hv]; exact q2, by rw [gv v' 2 hv]; exact q3⟩
  refine ⟨d1.ut u hz (by decide), ⟨by rw [g0 15 (by decide) (by decide)]; exact d2.1, by rw [g0 16 (by decide) (by decide)]; exact d2.2⟩, d3, ⟨d4.ut x u hz (by decide), vn _ _ x.a12 d5, d6⟩, by rw [gv _ 0 x.a12]; exact d7, d8, fun k k0 k1 => ?_⟩
  have tv := (d4.1 k k0 k1).2
  exact ⟨by rw [gv _ 3 tv]; exact (d9 k k0 k1).1, fun D hD => ⟨vn _ _ tv ((d9 k k0 k1).2 D hD).1, ((d9 k k0 k1).2 D hD).2⟩⟩
theorem encD_cons {x : Int × ND × Fo} {D : DC} : encD (x :: D) = (x.1, enV x.2.1 x.2.2) :: encD D := rfl
/-- over all documents -/
theorem qq59 {a1 a2 a3 : Int} (hd : 1905 ≤ d) (hS : okF 2 S ∧ hQ S ≤ 1700) : ∀ (L : DC) (i : Nat) (m : Mem) (g : GH) (w k : Int) (out : List Int) (z7 z8 : PV), cat z7 = 1 → cat z8 = 1 → CPt n m X A s g → QOb m A o S → SK m (vl m X 3) out 32768 → (vl m (A 7) 4 = w ∧ 0 ≤ w ∧ w ≤ 10000) → (vl m X 22 = i + L.length ∧ i + L.length ≤ 128) → LsE m A g.c i (encD L) → (∀ x ∈ L, DKv x.2 ∧ 0 ≤ x.1 ∧ x.1 < 10000) → (0 ≤ k ∧ k ≤ out.length) →
    (∀ out' k', qAll S L w out k = some (out', k') → ∃ m' g', rn d 38 59 [pR X, pI a1, pI a2, pR a3, pR o, pI k, pI i, z7, z8] [] m = some (.inl (some (pI k')), m') ∧ CPt n m' X A (s.wres out') g' ∧ (pcG g ≤ pcG g' ∧ 16 * (nx m' - nx m) ≤ pcG g' - pcG g + 16 ∧ sl m' - sl m ≤ 2 * (pcG g' - pcG g) + 6)) ∧
    (qAll S L w out k = none → ∃ m' g', rn d 38 59 [pR X, pI a1, pI a2, pR a3, pR o, pI k, pI i, z7, z8] [] m = some (.inr 201, m') ∧ CPt n m' X A s g' ∧ (pcG g ≤ pcG g' ∧ 16 * (nx m' - nx m) ≤ pcG g' - pcG g + 16 ∧ sl m' - sl m ≤ 2 * (pcG g' - pcG g) + 6)) := by
  intro L
  induction L with
  | nil =>
    intro i m g w k out z7 z8 c7 c8 h hq hs hw h22 hL hx hk
    have hz := h.1.tz
    have hX := h.2.1
    refine ⟨fun out' k' hy => ?_, fun hy => (by cases hy)⟩
    obtain ⟨rfl, rfl⟩ : out = out' ∧ k = k' := by
      have : some (out, k) = some (out', k') := hy
      injection this with e
      exact ⟨congrArg (·.1) e, congrArg (·.2) e⟩
    have e42 : cl (d - 1) 42 [pR X] m = some (.inl none, mst (mst m X 2 (vl m X 3)) X 3 (vl m X 2)) := q42 hz _ (by rw [gd_of hX.1])
    refine ⟨_, g, q38_59 (by omega) hz c7 c8 _ ?_, h.swp hs, ⟨Int.le_refl _, ?_, ?_⟩⟩
    · rw [gd_of hX.1, if_neg (by rw [h22.1]; simp), bV_eq e42]
    · show 16 * (nx m - nx m) ≤ _; omega
    · show sl m - sl m ≤ _; omega
  | cons x L ih =>
    intro i m g w k out z7 z8 c7 c8 h hq hs hw h22 hL hx hk
    have hz := h.1.tz
    have hX := h.2.1
    obtain ⟨hx1, hx2⟩ := hx x List.mem_cons_self
    rw [List.length_cons] at h22
    obtain ⟨l1, l2, l3, l4⟩ := hL
    obtain ⟨m1, c', e178, cp1, ⟨gr1, gr2, gr3⟩, hl⟩ := h.load (d := d - 1) (x := x.2) (by omega) l3 l2
    have u178 := ut_cl (ts := [1, 17101, 6, 2, 52103] ++ qyT) e178 (by decide +kernel)
    have hX1 := cp1.2.1
    have f3 : vl m1 X 3 = vl m X 3 := hX.fld u178 hz (by decide) (by decide)
    have s1 : SK m1 (vl m X 3) out 32768 := hs.ut u178 hz (by decide) (by decide)
    have q1 : QOb m1 A o S := by
      have hr : RKp A m m1 := by
        obtain ⟨⟨hD, hc, -⟩, -⟩ := h.2.2.2.2.2.2.2.2.2.1
        obtain ⟨r1, r2⟩ := h.2.2.2.2.2.2.1
        obtain ⟨m9, c9, e9, -, e3, -⟩ := c178 (d := d - 1) (b := vl m (A 21) i) (r := A 11) (by omega) h.1.1 h.1.2.1 hD hc (by omega) r1 l2
        cases e178.symm.trans e9
        refine ⟨fun N xs cN _ n11 _ hw => e3.2 N n11 xs cN hw, fun r => ?_⟩
        have u7 := ut_cl (ts := [7]) e178 (by decide +kernel)
        have gg : ∀ f, 0 ≤ f → f < 17 → vl m1 (A 8) f = vl m (A 8) f := fun f f0 f1 => u7.f hz hX.a8 (by decide) (by decide) (by
          have : nF 7 = 17 := by decide
          rw [this]; omega)
        unfold pRw
        rw [gg 5 (by decide) (by decide), gg 6 (by decide) (by decide), gg 7 (by decide) (by decide), gg 8 (by decide) (by decide), gg 9 (by decide) (by decide)]
      exact hq.keep (QKp.ut u178 hz (by decide)) hr
    have w1 : vl m1 (A 7) 4 = w := by rw [u178.f hz hX.a7 (by decide) (by decide) (by decide)]; exact hw.1
    obtain ⟨m2, e104, cp2, k1, k2⟩ := cp1.evl (d := d - 1) (o := o) (S := S) (w := w) (v := x.2) (by omega) rfl hx1 q1 hS ⟨w1, hw.2⟩
    have hX2 := cp2.2.1
    have st : ∀ Z, (bI (cl (d - 1) 105 [pR (A 7), pR o, pI 0] m2) fun v4 m4 => nm (vl m4 X 7) fun v9 => gd (tg m4 v9 = 6) <| rn d 38 122 [pR X, pI a1, pI a2, pR a3, pR o, pI k, pI i, pI v4, pI (w32 ((vl m4 v9 3) - v4))] [] m4) = some Z → rn d 38 59 [pR X, pI a1, pI a2, pR a3, pR o, pI k, pI i, z7, z8] [] m = some Z := fun Z hZ => by
      refine q38_59 (by omega) hz c7 c8 _ ?_
      rw [gd_of hX.1, if_pos (by rw [h22.1]; push_cast; omega), nm_eq, hX.f (by omega), nm_eq, hX.f (by omega), gd_of hX.a21.1, gd_of ⟨by omega, by rw [hX.a21.2]; omega⟩, gd_of hX.a9, hX.f (by omega), bV_eq e178, nm_eq, hX1.f (by omega), gd_of hX1.a7, hX1.f (by omega), bV_eq e104, nm_eq, hX2.f (by omega), gd_of hX2.a7]
      exact hZ
    have pg1 : pcG (g.c, g.ns, g.sq, g.srl, g.hist, (g.xs, g.c1), (enV x.2.1 x.2.2, c'), g.k, g.cap) = pcG g + (c' - g.c2) := by unfold pcG; show g.c1 + c' + g.k + g.cap + 48 * (g.ns.length : Int) = _; omega
    have pg2 : ∀ cap', pcG (g.c, g.ns, g.sq, g.srl, g.hist, (g.xs, g.c1), (enV x.2.1 x.2.2, c'), g.k, cap') = pcG g + (c' - g.c2) + (cap' - g.cap) := fun cap' => by unfold pcG; show g.c1 + c' + g.k + cap' + 48 * (g.ns.length : Int) = _; omega
    cases hE : qDoc S x.2 w with
    | none =>
      obtain ⟨m3, cap', e105, cp3, g1, g2, g3⟩ := k2 hE
      have hn : qAll S (x :: L) w out k = none := by
        show (match qDoc S x.2 w with
          | none => none
          | some (xs, w') => if 32768 < (out ++ xs.flatMap (lnQ x.1)).length then none else qAll S L w' (out ++ xs.flatMap (lnQ x.1)) (k + xs.length)) = none
        rw [hE]
      refine ⟨fun out' k' hy => absurd (hn.symm.trans hy) (by simp), fun _ => ⟨m3, _, st _ (by rw [bI_xq e105]), cp3, ?_⟩⟩
      have g1' : g.cap ≤ cap' := g1
      have g2' : nx m3 - nx m1 ≤ (cap' - g.cap) / 16 + 1 := g2
      have g3' : sl m3 - sl m1 ≤ 2 * (cap' - g.cap) + 6 := g3
      have := pg2 cap'
      show pcG g ≤ pcG (g.c, g.ns, g.sq, g.srl, g.hist, (g.xs, g.c1), (enV x.2.1 x.2.2, c'), g.k, cap') ∧ 16 * (nx m3 - nx m) ≤ pcG (g.c, g.ns, g.sq, g.srl, g.hist, (g.xs, g.c1), (enV x.2.1 x.2.2, c'), g.k, cap') - pcG g + 16 ∧ sl m3 - sl m ≤ 2 * (pcG (g.c, g.ns, g.sq, g.srl, g.hist, (g.xs, g.c1), (enV x.2.1 x.2.2, c'), g.k, cap') - pcG g) + 6
      rw [this]
      omega
    | some z =>
      obtain ⟨ys, w'⟩ := z
      obtain ⟨w0', m3, cap', zz, e105, cp3, hEC, hq3, u3, ⟨g1, g2, g3⟩, hok⟩ := k1 ys w' hE
      have g1' : g.cap ≤ cap' := g1
      have g2' : nx m3 - nx m1 ≤ (cap' - g.cap) / 16 := g2
      have g3' : sl m3 - sl m1 ≤ 2 * (cap' - g.cap) := g3
      have hX3 := cp3.2.1
      have v3 : vl m3 X 3 = vl m X 3 := by rw [hX1.fld u3 cp1.1.tz (by decide) (by decide), f3]
      have s3 : SK m3 (vl m X 3) out 32768 := s1.ut u3 cp1.1.tz (by decide) (by decide)
      have hn : qAll S (x :: L) w out k = if 32768 < (out ++ ys.flatMap (lnQ x.1)).length then none else qAll S L w' (out ++ ys.flatMap (lnQ x.1)) (k + ys.length) := by
        show (match qDoc S x.2 w with
          | none => none
          | some (xs, w') => if 32768 < (out ++ xs.flatMap (lnQ x.1)).length then none else qAll S L w' (out ++ xs.flatMap (lnQ x.1)) (k + xs.length)) = _
        rw [hE]
      have e3c := hEC.2.2.2.2.2.2.1
      rw [List.length_append, List.length_map] at e3c
      push_cast at e3c
      have e3w := hEC.2.2.2.2.2.2.2.2.1
      rw [List.length_append, List.length_map] at e3w
      push_cast at e3w
      have v20 : vl m3 (A 20) i = x.1 := by
        rw [u3.a cp1.1.tz hX1.a20.1 (by decide) (by decide), u178.a hz hX.a20.1 (by decide) (by decide)]; exact l1
      have I3 : LQ n X A s (g.c, g.ns, g.sq, g.srl, g.hist, (g.xs, g.c1), (enV x.2.1 x.2.2, c'), g.k, cap') o S x.2 (zz ++ ys.map ofN) w' (vl m X 3) m3 m3 := ⟨cp3, hEC, hq3, v3, UT.refl⟩
      have hos := s3.2.2.2.2.1
      have p := qq122 (d := d) (a1 := a1) (a2 := a2) (a3 := a3) (i := i) (id := x.1) (k := k) (zz := zz) (ys := ys) (m0 := m3) (by omega) hx1 ⟨⟨by omega, by omega⟩, v20, hX3.a20.1, cp3.1.tz⟩ hx2 ⟨hk.1, by omega⟩ hok ys [] m3 out rfl I3 s3
      have st2 : ∀ Z, rn d 38 122 [pR X, pI a1, pI a2, pR a3, pR o, pI k, pI i, pI ys.length, pI (zz.length + ([] : List Nd).length)] [] m3 = some Z → rn d 38 59 [pR X, pI a1, pI a2, pR a3, pR o, pI k, pI i, z7, z8] [] m = some Z := fun Z hZ => st Z (by
        rw [bI_eq e105, nm_eq, hX3.f (by omega), gd_of hX3.a7, e3c, (w32_of (by omega) (by omega) : w32 ((zz.length : Int) + ys.length - ys.length) = (zz.length : Int) + ys.length - ys.length), show (zz.length : Int) + ys.length - ys.length = zz.length + ([] : List Nd).length by first | (simp; done) | (simp <;> omega)]
        exact hZ)
      have fl : (out ++ ys.flatMap (lnQ x.1)).length = out.length + (ys.flatMap (lnQ x.1)).length := List.length_append
      rw [hn]
      by_cases hf : 32768 < (out ++ ys.flatMap (lnQ x.1)).length
      · rw [if_pos hf]
        obtain ⟨m4, ws, e4, g4, i4⟩ := p.2 (by omega)
        refine ⟨fun out' k' hy => (by cases hy), fun _ => ⟨m4, _, st2 _ e4, i4.1, ?_⟩⟩
        have y1 := g4.2.2.2.1
        have y2 := g4.2.2.2.2
        rw [pg2]
        omega
      · rw [if_neg hf]
        obtain ⟨m4, e4, g4, i4⟩ := p.1 (by omega)
        have y1 := g4.2.2.2.1
        have y2 := g4.2.2.2.2
        have cp4 := i4.1
        have hX4 := cp4.2.1
        have u04 : UT [1, 17101] m m4 := ((u178.sub (by decide)).trans (u3.sub (by decide))).trans i4.2.2.2.2
        have LL : ∀ y : Nd, 1 ≤ (lnQ x.1 y).length := fun y => by unfold lnQ; simp; omega
        have lf : ys.length ≤ (ys.flatMap (lnQ x.1)).length := by
          have : ∀ l : List Nd, l.length ≤ (l.flatMap (lnQ x.1)).length := by
            intro l
            induction l with
            | nil => simp
            | cons y l ihl => rw [List.flatMap_cons, List.length_append, List.length_cons]; have := LL y; omega
          exact this ys
        have nxt := ih (i + 1) m4 _ w' (k + ys.length) (out ++ ys.flatMap (lnQ x.1)) (pI ys.length) (pI (zz.length + ys.length)) rfl rfl cp4 i4.2.2.1 (by rw [i4.2.2.2.1]; exact g4.1) ⟨i4.2.1.2.2.2.2.2.2.2.2.1.1, w0'⟩ ⟨by rw [hX.fld (f := 22) u04 hz (by decide) (by decide), h22.1]; push_cast; omega, by omega⟩ (by
          have e : ((i + 1 : Nat) : Int) = (i : Int) + 1 := by push_cast; rfl
          rw [e]
          exact l4.imp fun j j0 j1 => ⟨u04.a hz hX.a20.1 (by decide) (by decide), u04.a hz hX.a21.1 (by decide) (by decide)⟩) (fun y hy => hx y (List.mem_cons_of_mem _ hy)) ⟨by omega, by omega⟩
        have ei : (((i + 1 : Nat) : Nat) : Int) = (i : Int) + 1 := by push_cast; rfl
        rw [ei] at nxt
        refine ⟨fun out' k' hy => ?_, fun hy => ?_⟩
        · obtain ⟨m5, g5, e5, cp5, g6, g7, g8⟩ := nxt.1 out' k' hy
          rw [pg2] at g6 g7 g8
          exact ⟨m5, g5, st2 _ (e4 _ e5), cp5, by omega, by omega, by omega⟩
        · obtain ⟨m5, g5, e5, cp5, g6, g7, g8⟩ := nxt.2 hy
          rw [pg2] at g6 g7 g8
          exact ⟨m5, g5, st2 _ (e4 _ e5), cp5, by omega, by omega, by omega⟩
/-- a query over a version -/
theorem c38 {r : Int} (hd : 1910 ≤ d) (h : CPt n m X A s g) (hr : pin r (-2147483648) 2147483648) (hn : n ≤ 64) : CRi n m X A s g (cl d 38 [pR X, pI r] m) exA (oQuery s r) (some (pI (oQuery s r).2.1)) := by
  have hz := h.1.tz
  have hX := h.2.1
  have t1 := h.2.2.1
  have i9 := in9 hr
  have e22 := c22 (d := d - 1) (a := w32 (r + 1)) (b := 9) hz
  unfold oQuery
  by_cases hid : -1 ≤ r ∧ r < 8
  rotate_left
  · rw [if_pos hid]
    exact CRi.thr h (t := 202) (by decide) (q38 (by omega) hz _ (by rw [nd_no hz (fun z => hid (i9.mp z))])) (by decide)
  rw [if_neg (fun z => z hid)]
  have e25 := c25 (d := d - 1) (by omega) h
  have st0 : ∀ Z, (bI (cl (d - 1) 25 [pR X] m) fun v3 m3 => bR (cl (d - 1) 31 [pR X, pI r] m3) fun v4 m4 => bR (cl (d - 1) 39 [pR X, pI v3] m4) fun v5 m5 => nm (vl m5 X 3) fun v7 => gd (tg m5 v7 = 2) <| nm (vl m5 X 7) fun v8 => gd (tg m5 v8 = 6) <| gd (tg m5 v4 = 10) <| bV (cl (d - 1) 40 [pR X, pI (vl m5 v4 0)] (mst (mst m5 v7 1 0) v8 4 0)) fun m6 => rn d 38 59 [pR X, pI r, pI v3, pR v4, pR v5, pI 0, pI 0, pU, pU] [] m6) = some Z → cl d 38 [pR X, pI r] m = some Z := fun Z hZ => by
    refine q38 (by omega) hz _ ?_
    rw [nd_ok hz (i9.mpr hid), gd_of hX.1]; exact hZ
  cases hdk : s.dk with
  | true =>
    rw [hdk, if_pos rfl] at e25
    rw [if_pos rfl]
    exact CRi.thr' h.tape0 (t := 203) (by decide) (st0 _ (by rw [bI_xq e25])) (by decide) ⟨rfl, rfl⟩ (Nat.zero_le _)
  | false =>
    rw [hdk, if_neg (by decide)] at e25
    rw [if_neg (by decide)]
    have h2 := h.tape0
    have hX2 := h2.2.1
    have q1 : nx (mst m X 1 0) = nx m := rfl
    have q2 : sl (mst m X 1 0) = sl m := rfl
    have e31 := c31 (d := d - 1) (r := r) (by omega) h2 hid
    have ev : (s.wtp []).ver r = s.ver r := rfl
    rw [ev] at e31
    cases hv : s.ver r with
    | none =>
      rw [hv] at e31
      exact CRi.thr' h2 (t := 203) (by decide) (st0 _ (by rw [bI_eq e25, bR_xq (e31.trans rfl)])) (by decide) ⟨rfl, rfl⟩ (Nat.zero_le _)
    | some D =>
      rw [hv] at e31
      have e31' : cl (d - 1) 31 [pR X, pI r] (mst m X 1 0) = some (.inl (some (pR (vA A r))), mst m X 1 0) := e31
      have ne : A 0 ≠ X := fun z => by have := hX.a0.1; rw [z, hX.1] at this; omega
      obtain ⟨k1, k2⟩ := c39 (d := d - 1) (by omega) h2 (tp := s.tp) t1.2.1 (fun j j0 j1 => by rw [vl_mst, if_neg (fun z => ne z.1)]; exact t1.2.2 j j0 j1)
      dsimp only
      have ln0 : ((([] : List Int).length : Nat) : Int) = 0 := rfl
      cases hE : sQuT s.tp with
      | none => exact absurd hE (sQuT_some _)
      | some z =>
        cases z with
        | inl p =>
          obtain ⟨m3, e39, cp3, n1, n2⟩ := k2 p hE
          refine ⟨m3, g, cp3.suc, ?_, fun q => absurd q (show (3 : Int) ≠ 0 by decide), fun _ => st0 _ (by rw [bI_eq e25, bR_eq e31', bR_xq e39]; rfl)⟩
          unfold CST PN PSl
          show 16 * nx m3 + 640 * ((0 : Nat) : Int) - pcG g ≤ _ ∧ sl m3 + 40 * ((0 : Nat) : Int) - 2 * pcG g ≤ _
          omega
        | inr S =>
          obtain ⟨m3, o, e39, cp3, cq, n1, n2⟩ := k1 S hE
          dsimp only
          have hq3 := cq.ob h2 e39
          have hS : okF 2 S ∧ hQ S ≤ 1700 := sQu_ok (t := gtp s.tp) (e := s.tp.length) (n := 8 * s.tp.length + 10) hE
          have hX3 := cp3.2.1
          obtain ⟨v1, v2, v3⟩ := cp3.vni (r := r) (D := D) hid hv
          obtain ⟨bs, hV, -, -⟩ := v1
          obtain ⟨cp4, s4, x4, u4⟩ := cp3.clr3
          have hX4 := cp4.2.1
          have hz4 := cp4.1.tz
          have p34 : RKp A m3 (mst m3 (vl m3 X 3) 1 0) := ⟨fun N xs cN _ _ _ hw => hw.ut u4 cp3.1.tz (by decide) (by decide) (by decide), fun rr => by
            have gg : ∀ f, 0 ≤ f → f < 17 → vl (mst m3 (vl m3 X 3) 1 0) (A 8) f = vl m3 (A 8) f := fun f f0 f1 => u4.f cp3.1.tz hX3.a8 (by decide) (by decide) (by
              have : nF 7 = 17 := by decide
              rw [this]; omega)
            unfold pRw
            rw [gg 5 (by decide) (by decide), gg 6 (by decide) (by decide), gg 7 (by decide) (by decide), gg 8 (by decide) (by decide), gg 9 (by decide) (by decide)]⟩
          have hq4 := hq3.keep (QKp.ut u4 cp3.1.tz (by decide)) p34
          -- the work is none
          obtain ⟨r6, ⟨ra, rl⟩, rc1, rc2⟩ := cp4.2.2.2.2.2.2.2.1
          have u5 : UT noRn (mst m3 (vl m3 X 3) 1 0) (mst (mst m3 (vl m3 X 3) 1 0) (A 7) 4 0) := UT.mst (by rw [r6]; decide)
          obtain ⟨cp5, k5⟩ := cp4.run (cap' := g.cap) u5 (cp4.1.mst (by omega)) ⟨r6, by rw [vl_mst, if_neg (by omega)]; exact ⟨ra, rl⟩, rc1, rc2⟩
          have cp5 : CPt n (mst (mst m3 (vl m3 X 3) 1 0) (A 7) 4 0) X A ((s.wtp []).wpl (-1)) g := cp5
          have hq5 := hq4.keep (QKp.ut u5 hz4 (by decide)) k5
          have x5 : ∀ f, 0 ≤ f → f < 23 → vl (mst (mst m3 (vl m3 X 3) 1 0) (A 7) 4 0) X f = vl m3 X f := fun f f0 f1 => by rw [hX4.fld u5 hz4 (by decide) ⟨f0, f1⟩, x4]
          have s5 : SK (mst (mst m3 (vl m3 X 3) 1 0) (A 7) 4 0) (vl m3 X 3) [] 32768 := s4.ut u5 hz4 (by decide) (by decide)
          have w5 : vl (mst (mst m3 (vl m3 X 3) 1 0) (A 7) 4 0) (A 7) 4 = 0 := by rw [vl_mst, if_pos ⟨rfl, rfl⟩]
          have n5 : nx (mst (mst m3 (vl m3 X 3) 1 0) (A 7) 4 0) = nx m3 ∧ sl (mst (mst m3 (vl m3 X 3) 1 0) (A 7) 4 0) = sl m3 := ⟨rfl, rfl⟩
          have t3 : tg m3 (vl m3 X 3) = 2 := s4.1
          generalize hM : mst (mst m3 (vl m3 X 3) 1 0) (A 7) 4 0 = M at *
          obtain ⟨m6, e40, cp6, lf6, c22', hL⟩ := c40 (d := d - 1) (by omega) cp5 hV (by have := v2.2.1; omega)
          have hX5 := cp5.2.1
          have u6 := lf6.ut (ts := noQ.filter (fun t => t != 1 && t != 17101)) hX5 (by decide) (by decide)
          have hz5 := cp5.1.tz
          have q6 : QOb m6 A o S := hq5.keep (QKp.ut u6 hz5 (by decide)) ⟨fun N xs cN _ _ _ hw => hw.ut u6 hz5 (by decide) (by decide) (by decide), fun rr => by
            have gg : ∀ f, 0 ≤ f → f < 17 → vl m6 (A 8) f = vl M (A 8) f := fun f f0 f1 => u6.f hz5 hX5.a8 (by decide) (by decide) (by
              have : nF 7 = 17 := by decide
              rw [this]; omega)
            unfold pRw
            rw [gg 5 (by decide) (by decide), gg 6 (by decide) (by decide), gg 7 (by decide) (by decide), gg 8 (by decide) (by decide), gg 9 (by decide) (by decide)]⟩
          have x6 : vl m6 X 3 = vl m3 X 3 := by rw [lf6.2 3 (by decide), x5 3 (by decide) (by decide)]
          have u26 := lf6.ut (ts := [2, 52103]) hX5 (by decide) (by decide)
          have s6 : SK m6 (vl m6 X 3) [] 32768 := by rw [x6]; exact s5.ut u26 hz5 (by decide) (by decide)
          have w6 : vl m6 (A 7) 4 = 0 := by rw [u6.f hz5 hX5.a7 (by decide) (by decide) (by decide)]; exact w5
          have n6 : nx m6 = nx M ∧ sl m6 = sl M := ⟨lf6.1.1, lf6.1.2.1⟩
          have main := qq59 (d := d) (a1 := r) (a2 := s.tp.length) (a3 := vA A r) (by omega) hS D 0 m6 g 0 0 [] pU pU rfl rfl cp6 q6 s6 ⟨w6, by decide, by decide⟩ ⟨by rw [c22']; simp, by have := v2.2.1; simp; omega⟩ hL (fun y hy => ⟨(v2.2.2 y hy).2, (v2.2.2 y hy).1⟩) ⟨by decide, by decide⟩
          have st1 : ∀ Z, rn d 38 59 [pR X, pI r, pI s.tp.length, pR (vA A r), pR o, pI 0, pI ((0 : Nat) : Int), pU, pU] [] m6 = some Z → cl d 38 [pR X, pI r] m = some Z := fun Z hZ => st0 Z (by
            rw [bI_eq e25, bR_eq e31', bR_eq e39, nm_eq, gd_of t3, nm_eq, hX3.f (by omega), gd_of hX3.a7, gd_of v3, hM, bV_eq e40]
            exact hZ)
          have cost : ∀ (m9 : Mem) (g9 : GH), (pcG g ≤ pcG g9 ∧ 16 * (nx m9 - nx m6) ≤ pcG g9 - pcG g + 16 ∧ sl m9 - sl m6 ≤ 2 * (pcG g9 - pcG g) + 6) → CST m s.tp (pcG g) m9 ([] : List Int) (pcG g9) := fun m9 g9 hc => by
            unfold CST PN PSl
            rw [ln0]
            omega
          cases hA : qAll S D 0 [] 0 with
          | none =>
            obtain ⟨m9, g9, e9, cp9, hc⟩ := main.2 hA
            exact ⟨m9, g9, cp9.suc, cost _ _ hc, fun q => absurd q (show (4 : Int) ≠ 0 by decide), fun _ => st1 _ e9⟩
          | some z =>
            obtain ⟨out, k⟩ := z
            obtain ⟨m9, g9, e9, cp9, hc⟩ := main.1 out k hA
            exact ⟨m9, g9, cp9.suc, cost _ _ hc, fun _ => st1 _ e9, fun q => absurd rfl q⟩
end
