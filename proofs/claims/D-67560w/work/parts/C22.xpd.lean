/-! the patcher and the disk are made (printed by tools/gen_xctor.py) -/
set_option maxRecDepth 100000
set_option maxHeartbeats 8000000
/-- a patcher in the making -/
def PMK (m0 m : Mem) (N S : Int) (xs : List Int) : Prop := OLD m0 m ∧ BX m ∧ tg m N = 7 ∧ (vl m N 5 = N + 3 ∧ vl m N 6 = N + 5 ∧ vl m N 7 = N + 7 ∧ vl m N 8 = N + 9 ∧ vl m N 9 = N + 11 ∧ vl m N 10 = N + 13 ∧ vl m N 12 = N + 14 ∧ vl m N 0 = N + 1 ∧ vl m N 15 = N + 15 ∧ vl m (N + 1) 0 = N + 2) ∧ (tg m (N + 13) = 112101 ∧ ln m (N + 13) = 16384 ∧ tg m (N + 14) = 112101 ∧ ln m (N + 14) = 33) ∧ (RW m (N + 3) [] 1024 ∧ RW m (N + 5) [] 1024 ∧ RW m (N + 7) [] 1024 ∧ RW m (N + 9) [] 1024 ∧ RW m (N + 11) [] 1024 ∧ RW m (N + 1) xs 64) ∧ SK m (N + 15) [] 480 ∧ nx m = N + 17 ∧ sl m = S
theorem ne_ad0 {x a : Int} (h : 0 ≠ a) : x ≠ x + a := by omega
section
variable {d : Nat} {m m0 m1 : Mem} {N S : Int} {xs : List Int}
theorem PMK.w {a : Int} {cs : List Int} (hd : 6 ≤ d) (h : PMK m0 m N S xs) (hN : nx m0 = N) (hs : SC m a cs) (hl : (xs.length : Int) + 2 + cs.length ≤ 64) : ∃ m1, cl d 112 [pR N, pR a] m = some (.inl (some (pI xs.length)), m1) ∧ PMK m0 m1 N S (xs ++ (0 :: (cs.length : Int) :: cs)) ∧ ∀ j, vl m1 N j = vl m N j := by
  obtain ⟨h1, h2, h3, ⟨f5, f6, f7, f8, f9, f10, f12, f0, f15, fr⟩, ⟨r1, r2, r3, r4⟩, ⟨w3, w5, w7, w9, w11, w1⟩, h6, h7, h8⟩ := h
  obtain ⟨m1, e, g1, g2, g3, g4⟩ := c112 (c := 64) hd h2 h3 f0 hs w1 ⟨hl, by decide⟩ (by omega)
  have hz := h2.tz
  have tr := w1.1
  have tb := w1.2.1
  have tc := w3.1
  rw [fr] at g3 g4 tb
  have vv : ∀ b, b ≠ N + 1 → b ≠ N + 2 → ∀ j, vl m1 b j = vl m b j := fun b q1 q2 j => g3.2.2.2 b j fun z => z.elim q1 q2
  have vN : ∀ j, vl m1 N j = vl m N j := fun j => vv N (by omega) (by omega) j
  have tt : ∀ b, tg m1 b = tg m b := fun b => (g3.2.2.1 b).1
  have ll : ∀ b, ln m1 b = ln m b := fun b => (g3.2.2.1 b).2
  have sk := h6.ut (UT.nc (ts := [2, 52103]) g3 fun x hx => by rcases hx with rfl | rfl <;> simp <;> omega) hz (by simp) (by simp)
  refine ⟨m1, e, ⟨?_, h2.row w1 (by rw [fr]; exact g3) g2, by rw [tt]; exact h3, by rw [vN, vN, vN, vN, vN, vN, vN, vN, vN, g4]; exact ⟨f5, f6, f7, f8, f9, f10, f12, f0, f15, rfl⟩, by rw [tt, tt, ll, ll]; exact ⟨r1, r2, r3, r4⟩, ⟨g2.2 _ (by omega) _ _ w3, g2.2 _ (by omega) _ _ w5, g2.2 _ (by omega) _ _ w7, g2.2 _ (by omega) _ _ w9, g2.2 _ (by omega) _ _ w11, g1⟩, sk, by rw [g3.1]; exact h7, by rw [g3.2.1]; exact h8⟩, vN⟩
  exact ⟨h1.1.trans (UT.nc (ts := []) g3 fun _ _ => by simp).1, fun b j hb _ => by rw [vv b (by omega) (by omega)]; exact h1.2 b j hb id⟩
theorem PMK.set {f v : Int} (h : PMK m0 m N S xs) (hN : nx m0 = N) (hf : 1 ≤ f ∧ f ≤ 4) : PMK m0 (mst m N f v) N S xs ∧ ∀ j, vl (mst m N f v) N j = if j = f then v else vl m N j := by
  obtain ⟨h1, h2, h3, ⟨f5, f6, f7, f8, f9, f10, f12, f0, f15, fr⟩, r, ⟨w3, w5, w7, w9, w11, w1⟩, h6, h7, h8⟩ := h
  have hz := h2.tz
  have u : UT [2, 52103, 8, 130103, 132103] m (mst m N f v) := UT.mst (by rw [h3]; simp)
  have vv : ∀ j, vl (mst m N f v) N j = if j = f then v else vl m N j := fun j => by
    rw [vl_mst]
    by_cases q : j = f
    · rw [if_pos ⟨rfl, q⟩, if_pos q]
    · rw [if_neg (fun z => q z.2), if_neg q]
  have v0 : ∀ j, j ≠ f → vl (mst m N f v) N j = vl m N j := fun j hj => by rw [vv, if_neg hj]
  refine ⟨⟨h1.mst' (by omega), h2.mst' (by rw [h3]; decide), h3, ⟨?_, ?_, ?_, ?_, ?_, ?_, ?_, ?_, ?_, ?_⟩, r, ⟨w3.ut u hz (by simp) (by simp) (by simp), w5.ut u hz (by simp) (by simp) (by simp), w7.ut u hz (by simp) (by simp) (by simp), w9.ut u hz (by simp) (by simp) (by simp), w11.ut u hz (by simp) (by simp) (by simp), w1.ut u hz (by simp) (by simp) (by simp)⟩, h6.ut u hz (by simp) (by simp), h7, h8⟩, vv⟩
  · rw [v0 5 (by omega)]; exact f5
  · rw [v0 6 (by omega)]; exact f6
  · rw [v0 7 (by omega)]; exact f7
  · rw [v0 8 (by omega)]; exact f8
  · rw [v0 9 (by omega)]; exact f9
  · rw [v0 10 (by omega)]; exact f10
  · rw [v0 12 (by omega)]; exact f12
  · rw [v0 0 (by omega)]; exact f0
  · rw [v0 15 (by omega)]; exact f15
  · rw [vl_mst, if_neg (by omega)]; exact fr
/-- its places -/
def PVW (m : Mem) (N : Int) : Prop := vl m N 0 = N + 1 ∧ vl m N 5 = N + 3 ∧ vl m N 6 = N + 5 ∧ vl m N 7 = N + 7 ∧ vl m N 8 = N + 9 ∧ vl m N 9 = N + 11 ∧ vl m N 15 = N + 15

theorem c111 (hd : 8 ≤ d) (hb : BX m) : ∃ m', cl d 111 [pR (nx m)] (mal m 7 17) = some (.inl none, m') ∧ OLD m m' ∧ BX m' ∧ PB m' (nx m) [] none none 5120 ∧ PVW m' (nx m) ∧ SK m' (nx m + 15) [] 480 ∧ nx m' = nx m + 17 ∧ sl m' = sl m + 22112 := by
  have o0 : OLD m (mal m 7 17) := OLD.rfl'.mal'
  have b0 : BX (mal m 7 17) := hb.mal' (by decide) (by decide) (by decide)
  have t0 : tg (mal m 7 17) (nx m) = 7 := by rw [tg_mal, if_pos rfl]
  have a0 : nx (mal m 7 17) = nx m + 1 := rfl
  have s0 : sl (mal m 7 17) = sl m + 17 := rfl
  generalize mal m 7 17 = p0 at *
  obtain ⟨N, hN⟩ : ∃ N, nx m = N := ⟨_, rfl⟩
  obtain ⟨T, hT⟩ : ∃ T, sl m = T := ⟨_, rfl⟩
  rw [hN] at t0 a0 ⊢
  rw [hT] at s0 ⊢
  obtain ⟨r1, e1, ⟨k1, v1, b1, t1⟩, x1, n1, l1⟩ := sx_row (d := d - 1) (W := N) (w := 7) (f := 0) (c := 64) b0 t0 (by decide) (by decide)
  generalize gq1 : mst r1 N 0 (nx p0) = p1 at *
  have a1 : nx p1 = N + 3 := nxs n1 a0
  have s1 : sl p1 = T + 83 := nxs l1 s0
  obtain ⟨r2, e2, ⟨k2, v2, b2, t2⟩, x2, n2, l2⟩ := sx_row (d := d - 1) (W := N) (w := 7) (f := 5) (c := 1024) b1 t1 (by decide) (by decide)
  generalize gq2 : mst r2 N 5 (nx p1) = p2 at *
  have a2 : nx p2 = N + 5 := nxs n2 a1
  have s2 : sl p2 = T + 1109 := nxs l2 s1
  obtain ⟨r3, e3, ⟨k3, v3, b3, t3⟩, x3, n3, l3⟩ := sx_row (d := d - 1) (W := N) (w := 7) (f := 6) (c := 1024) b2 t2 (by decide) (by decide)
  generalize gq3 : mst r3 N 6 (nx p2) = p3 at *
  have a3 : nx p3 = N + 7 := nxs n3 a2
  have s3 : sl p3 = T + 2135 := nxs l3 s2
  obtain ⟨r4, e4, ⟨k4, v4, b4, t4⟩, x4, n4, l4⟩ := sx_row (d := d - 1) (W := N) (w := 7) (f := 7) (c := 1024) b3 t3 (by decide) (by decide)
  generalize gq4 : mst r4 N 7 (nx p3) = p4 at *
  have a4 : nx p4 = N + 9 := nxs n4 a3
  have s4 : sl p4 = T + 3161 := nxs l4 s3
  obtain ⟨r5, e5, ⟨k5, v5, b5, t5⟩, x5, n5, l5⟩ := sx_row (d := d - 1) (W := N) (w := 7) (f := 8) (c := 1024) b4 t4 (by decide) (by decide)
  generalize gq5 : mst r5 N 8 (nx p4) = p5 at *
  have a5 : nx p5 = N + 11 := nxs n5 a4
  have s5 : sl p5 = T + 4187 := nxs l5 s4
  obtain ⟨r6, e6, ⟨k6, v6, b6, t6⟩, x6, n6, l6⟩ := sx_row (d := d - 1) (W := N) (w := 7) (f := 9) (c := 1024) b5 t5 (by decide) (by decide)
  generalize gq6 : mst r6 N 9 (nx p5) = p6 at *
  have a6 : nx p6 = N + 13 := nxs n6 a5
  have s6 : sl p6 = T + 5213 := nxs l6 s5
  obtain ⟨⟨k7, v7, b7, t7⟩, x7, y7, n7, l7⟩ := sw_arr (W := N) (w := 7) (f := 10) (t := 112101) (n := 16384) b6 t6 (by decide) (by decide) (by decide) (by decide)
  generalize gq7 : mst (mal p6 112101 16384) N 10 (nx p6) = p7 at *
  have a7 : nx p7 = N + 14 := nxs n7 a6
  have s7 : sl p7 = T + 21597 := nxs l7 s6
  obtain ⟨⟨k8, v8, b8, t8⟩, x8, y8, n8, l8⟩ := sw_arr (W := N) (w := 7) (f := 12) (t := 112101) (n := 33) b7 t7 (by decide) (by decide) (by decide) (by decide)
  generalize gq8 : mst (mal p7 112101 33) N 12 (nx p7) = p8 at *
  have a8 : nx p8 = N + 15 := nxs n8 a7
  have s8 : sl p8 = T + 21630 := nxs l8 s7
  obtain ⟨r9, e9, ⟨k9, v9, b9, t9⟩, x9, n9, l9⟩ := sx_snk (d := d - 1) (W := N) (w := 7) (f := 15) (c := 480) b8 t8 (by decide) (by decide)
  generalize gq9 : mst r9 N 15 (nx p8) = p9 at *
  have a9 : nx p9 = N + 17 := nxs n9 a8
  have s9 : sl p9 = T + 22112 := nxs l9 s8
  have c9 : SFr (fun a _ => a = N) p9 p9 := ⟨KP.refl, fun _ _ _ _ => rfl⟩
  have c8 := SFr.tr1 k9 c9
  have c7 := SFr.tr1 k8 c8
  have c6 := SFr.tr1 k7 c7
  have c5 := SFr.tr1 k6 c6
  have c4 := SFr.tr1 k5 c5
  have c3 := SFr.tr1 k4 c4
  have c2 := SFr.tr1 k3 c3
  have c1 := SFr.tr1 k2 c2
  have c0 := SFr.tr1 k1 c1
  have F0 : vl p9 N 0 = N + 1 := by rw [v9, if_neg (by decide), v8, if_neg (by decide), v7, if_neg (by decide), v6, if_neg (by decide), v5, if_neg (by decide), v4, if_neg (by decide), v3, if_neg (by decide), v2, if_neg (by decide), v1, if_pos rfl]; exact a0
  have F5 : vl p9 N 5 = N + 3 := by rw [v9, if_neg (by decide), v8, if_neg (by decide), v7, if_neg (by decide), v6, if_neg (by decide), v5, if_neg (by decide), v4, if_neg (by decide), v3, if_neg (by decide), v2, if_pos rfl]; exact a1
  have F6 : vl p9 N 6 = N + 5 := by rw [v9, if_neg (by decide), v8, if_neg (by decide), v7, if_neg (by decide), v6, if_neg (by decide), v5, if_neg (by decide), v4, if_neg (by decide), v3, if_pos rfl]; exact a2
  have F7 : vl p9 N 7 = N + 7 := by rw [v9, if_neg (by decide), v8, if_neg (by decide), v7, if_neg (by decide), v6, if_neg (by decide), v5, if_neg (by decide), v4, if_pos rfl]; exact a3
  have F8 : vl p9 N 8 = N + 9 := by rw [v9, if_neg (by decide), v8, if_neg (by decide), v7, if_neg (by decide), v6, if_neg (by decide), v5, if_pos rfl]; exact a4
  have F9 : vl p9 N 9 = N + 11 := by rw [v9, if_neg (by decide), v8, if_neg (by decide), v7, if_neg (by decide), v6, if_pos rfl]; exact a5
  have F10 : vl p9 N 10 = N + 13 := by rw [v9, if_neg (by decide), v8, if_neg (by decide), v7, if_pos rfl]; exact a6
  have F12 : vl p9 N 12 = N + 14 := by rw [v9, if_neg (by decide), v8, if_pos rfl]; exact a7
  have F15 : vl p9 N 15 = N + 15 := by rw [v9, if_pos rfl]; exact a8
  have X0 := x1.1.ut (c1.utw (ts := [2, 52103, 8, 130103, 132103]) t1 (by simp)) b1.tz (by simp) (by simp) (by simp)
  rw [a0] at X0
  have X5 := x2.1.ut (c2.utw (ts := [2, 52103, 8, 130103, 132103]) t2 (by simp)) b2.tz (by simp) (by simp) (by simp)
  rw [a1] at X5
  have X6 := x3.1.ut (c3.utw (ts := [2, 52103, 8, 130103, 132103]) t3 (by simp)) b3.tz (by simp) (by simp) (by simp)
  rw [a2] at X6
  have X7 := x4.1.ut (c4.utw (ts := [2, 52103, 8, 130103, 132103]) t4 (by simp)) b4.tz (by simp) (by simp) (by simp)
  rw [a3] at X7
  have X8 := x5.1.ut (c5.utw (ts := [2, 52103, 8, 130103, 132103]) t5 (by simp)) b5.tz (by simp) (by simp) (by simp)
  rw [a4] at X8
  have X9 := x6.1.ut (c6.utw (ts := [2, 52103, 8, 130103, 132103]) t6 (by simp)) b6.tz (by simp) (by simp) (by simp)
  rw [a5] at X9
  have X10 := c7.l b7.tz x7 (by decide)
  rw [a6] at X10
  have X12 := c8.l b8.tz x8 (by decide)
  rw [a7] at X12
  have X15 := x9.ut (c9.utw (ts := [2, 52103, 8, 130103, 132103]) t9 (by simp)) b9.tz (by simp) (by simp)
  rw [a8] at X15
  have V0 : vl p9 (N + 1) 0 = N + 2 := by
    have q := (c1.utw (ts := [8]) t1 (by simp)).f b1.tz x1.1.1 (by decide) (by simp) (j := 0) (by decide)
    rw [x1.2, a0] at q; rw [q]; exact Int.add_assoc _ _ _
  have O : OLD m p9 := ⟨o0.1.trans c0.1, fun b j hb' _ => by rw [c0.2 b j (by rw [a0, ← hN]; exact Int.lt_trans hb' (Int.lt_succ _)) (by rw [← hN]; exact Int.ne_of_lt hb'), o0.2 b j hb' id]⟩
  have P0 : PMK m p9 N (T + 22112) [] := ⟨O, b9, t9, ⟨F5, F6, F7, F8, F9, F10, F12, F0, F15, V0⟩, ⟨X10.1, X10.2, X12.1, X12.2⟩, ⟨X5, X6, X7, X8, X9, X0⟩, X15, a9, s9⟩
  have S1 : SC p9 2 wOp := P0.2.1.1.2.2.2.2 0 (by decide)
  obtain ⟨g1, d1, P1', U1⟩ := P0.w (d := d - 1) (Nat.le_sub_of_add_le (Nat.le_trans (by decide) hd)) hN S1 (by decide)
  obtain ⟨P1, Z1⟩ := P1'.set (f := 1) (v := 0) hN (by decide)
  have d1' : cl (d - 1) 112 [pR N, pR 2] p9 = some (.inl (some (pI 0)), g1) := d1
  generalize w1 : mst g1 N 1 (0) = h1 at *
  have S2 : SC h1 4 wPath := P1.2.1.1.2.2.2.2 1 (by decide)
  obtain ⟨g2, d2, P2', U2⟩ := P1.w (d := d - 1) (Nat.le_sub_of_add_le (Nat.le_trans (by decide) hd)) hN S2 (by decide)
  obtain ⟨P2, Z2⟩ := P2'.set (f := 2) (v := 4) hN (by decide)
  have d2' : cl (d - 1) 112 [pR N, pR 4] h1 = some (.inl (some (pI 4)), g2) := d2
  generalize w2 : mst g2 N 2 (4) = h2 at *
  have S3 : SC h2 6 wVal := P2.2.1.1.2.2.2.2 2 (by decide)
  obtain ⟨g3, d3, P3', U3⟩ := P2.w (d := d - 1) (Nat.le_sub_of_add_le (Nat.le_trans (by decide) hd)) hN S3 (by decide)
  obtain ⟨P3, Z3⟩ := P3'.set (f := 3) (v := 10) hN (by decide)
  have d3' : cl (d - 1) 112 [pR N, pR 6] h2 = some (.inl (some (pI 10)), g3) := d3
  generalize w3 : mst g3 N 3 (10) = h3 at *
  have S4 : SC h3 8 wFrom := P3.2.1.1.2.2.2.2 3 (by decide)
  obtain ⟨g4, d4, P4', U4⟩ := P3.w (d := d - 1) (Nat.le_sub_of_add_le (Nat.le_trans (by decide) hd)) hN S4 (by decide)
  obtain ⟨P4, Z4⟩ := P4'.set (f := 4) (v := 17) hN (by decide)
  have d4' : cl (d - 1) 112 [pR N, pR 8] h3 = some (.inl (some (pI 17)), g4) := d4
  generalize w4 : mst g4 N 4 (17) = h4 at *
  refine ⟨h4, ?_, P4.1, P4.2.1, ?_⟩
  · refine q111 (Nat.lt_of_lt_of_le (by decide) hd) b0.tz _ ?_
    rw [gd_of t0, nw_eq, bV_eq e1, gq1, nw_eq, bV_eq e2, gq2, nw_eq, bV_eq e3, gq3, nw_eq, bV_eq e4, gq4, nw_eq, bV_eq e5, gq5, nw_eq, bV_eq e6, gq6, nw_eq, gq7, nw_eq, gq8, nw_eq, bV_eq e9, gq9, bI_eq d1', w1, bI_eq d2', w2, bI_eq d3', w3, bI_eq d4', w4]
  · obtain ⟨-, hB, h3, ⟨f5, f6, f7, f8, f9, f10, f12, f0, f15, fr⟩, ⟨r1, r2, r3, r4⟩, ⟨w3, w5, w7, w9, w11, w1⟩, hk, hx, hs⟩ := P4
    refine ⟨⟨N + 3, N + 5, N + 7, N + 9, N + 11, N + 13, N + 14, N + 1, 1024, 1024, 1024, 1024, 1024, 64, [], [], [], [], hB.1.1, hB.1.2.1, h3, ⟨f5, f6, f7, f8, f9, f10, f12, f0⟩, ⟨by rw [Z4, if_neg (by decide), U4, Z3, if_neg (by decide), U3, Z2, if_neg (by decide), U2, Z1, if_pos rfl], by rw [Z4, if_neg (by decide), U4, Z3, if_neg (by decide), U3, Z2, if_pos rfl], by rw [Z4, if_neg (by decide), U4, Z3, if_pos rfl], by rw [Z4, if_pos rfl]⟩, ⟨r1, r2, r3, r4, ne_add (by decide)⟩, ⟨w3, w5, w7, w9, w11, w1⟩, ⟨ne_add (by decide), ne_add (by decide), ne_add (by decide), ne_add (by decide), ne_add (by decide), ne_add (by decide), ne_add (by decide), ne_add (by decide), ne_add (by decide), ne_add (by decide)⟩, ⟨ne_add (by decide), ne_add (by decide), ne_add (by decide), ne_add (by decide), ne_add (by decide)⟩, by decide, fun _ q => (by cases q), fun _ q => (by cases q)⟩, ⟨f0, f5, f6, f7, f8, f9, f15⟩, hk, hx, hs⟩
/-- the disk is made -/
theorem c152 (hb : BX m) : ∃ m', cl d 152 [pR (nx m)] (mal m 9 9) = some (.inl none, m') ∧ OLD m m' ∧ BX m' ∧ DA m' (nx m) ∧ BC m' (nx m) (fun _ _ => 0) ∧ (∀ j, vl m' (vl m' (nx m) 7) j = 0) ∧ (vl m' (nx m) 4 = 0 ∧ vl m' (nx m) 6 = 0 ∧ vl m' (nx m) 8 = 0) ∧ nx m' = nx m + 7 ∧ sl m' = sl m + 1227177 := by
  have o0 : OLD m (mal m 9 9) := OLD.rfl'.mal'
  have b0 : BX (mal m 9 9) := hb.mal' (by decide) (by decide) (by decide)
  have t0 : tg (mal m 9 9) (nx m) = 9 := by rw [tg_mal, if_pos rfl]
  have f0 : ∀ j, vl (mal m 9 9) (nx m) j = 0 := fun j => by rw [vl_mal, if_pos rfl]
  have a0 : nx (mal m 9 9) = nx m + 1 := rfl
  have s0 : sl (mal m 9 9) = sl m + 9 := rfl
  generalize mal m 9 9 = p0 at *
  obtain ⟨N, hN⟩ : ∃ N, nx m = N := ⟨_, rfl⟩
  obtain ⟨T, hT⟩ : ∃ T, sl m = T := ⟨_, rfl⟩
  rw [hN] at t0 a0 f0 ⊢
  rw [hT] at s0 ⊢
  obtain ⟨⟨k1, v1, b1, t1⟩, x1, y1, n1, l1⟩ := sw_arr (W := N) (w := 9) (f := 0) (t := 153103) (n := 1177600) b0 t0 (by decide) (by decide) (by decide) (by decide)
  generalize gq1 : mst (mal p0 153103 1177600) N 0 (nx p0) = p1 at *
  have a1 : nx p1 = N + 2 := nxs n1 a0
  have s1 : sl p1 = T + 1177609 := nxs l1 s0
  obtain ⟨⟨k2, v2, b2, t2⟩, x2, y2, n2, l2⟩ := sw_arr (W := N) (w := 9) (f := 1) (t := 153103) (n := 736) b1 t1 (by decide) (by decide) (by decide) (by decide)
  generalize gq2 : mst (mal p1 153103 736) N 1 (nx p1) = p2 at *
  have a2 : nx p2 = N + 3 := nxs n2 a1
  have s2 : sl p2 = T + 1178345 := nxs l2 s1
  obtain ⟨⟨k3, v3, b3, t3⟩, x3, y3, n3, l3⟩ := sw_arr (W := N) (w := 9) (f := 2) (t := 153103) (n := 47104) b2 t2 (by decide) (by decide) (by decide) (by decide)
  generalize gq3 : mst (mal p2 153103 47104) N 2 (nx p2) = p3 at *
  have a3 : nx p3 = N + 4 := nxs n3 a2
  have s3 : sl p3 = T + 1225449 := nxs l3 s2
  obtain ⟨⟨k4, v4, b4, t4⟩, x4, y4, n4, l4⟩ := sw_arr (W := N) (w := 9) (f := 3) (t := 153101) (n := 64) b3 t3 (by decide) (by decide) (by decide) (by decide)
  generalize gq4 : mst (mal p3 153101 64) N 3 (nx p3) = p4 at *
  have a4 : nx p4 = N + 5 := nxs n4 a3
  have s4 : sl p4 = T + 1225513 := nxs l4 s3
  obtain ⟨⟨k5, v5, b5, t5⟩, x5, y5, n5, l5⟩ := sw_arr (W := N) (w := 9) (f := 5) (t := 153105) (n := 1600) b4 t4 (by decide) (by decide) (by decide) (by decide)
  generalize gq5 : mst (mal p4 153105 1600) N 5 (nx p4) = p5 at *
  have a5 : nx p5 = N + 6 := nxs n5 a4
  have s5 : sl p5 = T + 1227113 := nxs l5 s4
  obtain ⟨⟨k6, v6, b6, t6⟩, x6, y6, n6, l6⟩ := sw_arr (W := N) (w := 9) (f := 7) (t := 153114) (n := 64) b5 t5 (by decide) (by decide) (by decide) (by decide)
  generalize gq6 : mst (mal p5 153114 64) N 7 (nx p5) = p6 at *
  have a6 : nx p6 = N + 7 := nxs n6 a5
  have s6 : sl p6 = T + 1227177 := nxs l6 s5
  have c6 : SFr (fun a _ => a = N) p6 p6 := ⟨KP.refl, fun _ _ _ _ => rfl⟩
  have c5 := SFr.tr1 k6 c6
  have c4 := SFr.tr1 k5 c5
  have c3 := SFr.tr1 k4 c4
  have c2 := SFr.tr1 k3 c3
  have c1 := SFr.tr1 k2 c2
  have c0 := SFr.tr1 k1 c1
  have F0 : vl p6 N 0 = N + 1 := by rw [v6, if_neg (by decide), v5, if_neg (by decide), v4, if_neg (by decide), v3, if_neg (by decide), v2, if_neg (by decide), v1, if_pos rfl]; exact a0
  have X0 := c1.l b1.tz x1 (by decide)
  rw [a0] at X0
  have Z0 : ∀ j, vl p6 (N + 1) j = 0 := fun j => by
    have q := y1 j
    rw [a0] at q
    rw [c1.v b1.tz (a := N + 1) (by rw [← a0, x1.1]; decide) (ne_ad0 (by decide)).symm]; exact q
  have F1 : vl p6 N 1 = N + 2 := by rw [v6, if_neg (by decide), v5, if_neg (by decide), v4, if_neg (by decide), v3, if_neg (by decide), v2, if_pos rfl]; exact a1
  have X1 := c2.l b2.tz x2 (by decide)
  rw [a1] at X1
  have Z1 : ∀ j, vl p6 (N + 2) j = 0 := fun j => by
    have q := y2 j
    rw [a1] at q
    rw [c2.v b2.tz (a := N + 2) (by rw [← a1, x2.1]; decide) (ne_ad0 (by decide)).symm]; exact q
  have F2 : vl p6 N 2 = N + 3 := by rw [v6, if_neg (by decide), v5, if_neg (by decide), v4, if_neg (by decide), v3, if_pos rfl]; exact a2
  have X2 := c3.l b3.tz x3 (by decide)
  rw [a2] at X2
  have Z2 : ∀ j, vl p6 (N + 3) j = 0 := fun j => by
    have q := y3 j
    rw [a2] at q
    rw [c3.v b3.tz (a := N + 3) (by rw [← a2, x3.1]; decide) (ne_ad0 (by decide)).symm]; exact q
  have F3 : vl p6 N 3 = N + 4 := by rw [v6, if_neg (by decide), v5, if_neg (by decide), v4, if_pos rfl]; exact a3
  have X3 := c4.l b4.tz x4 (by decide)
  rw [a3] at X3
  have Z3 : ∀ j, vl p6 (N + 4) j = 0 := fun j => by
    have q := y4 j
    rw [a3] at q
    rw [c4.v b4.tz (a := N + 4) (by rw [← a3, x4.1]; decide) (ne_ad0 (by decide)).symm]; exact q
  have F5 : vl p6 N 5 = N + 5 := by rw [v6, if_neg (by decide), v5, if_pos rfl]; exact a4
  have X5 := c5.l b5.tz x5 (by decide)
  rw [a4] at X5
  have Z5 : ∀ j, vl p6 (N + 5) j = 0 := fun j => by
    have q := y5 j
    rw [a4] at q
    rw [c5.v b5.tz (a := N + 5) (by rw [← a4, x5.1]; decide) (ne_ad0 (by decide)).symm]; exact q
  have F7 : vl p6 N 7 = N + 6 := by rw [v6, if_pos rfl]; exact a5
  have X7 := c6.l b6.tz x6 (by decide)
  rw [a5] at X7
  have Z7 : ∀ j, vl p6 (N + 6) j = 0 := fun j => by
    have q := y6 j
    rw [a5] at q
    rw [c6.v b6.tz (a := N + 6) (by rw [← a5, x6.1]; decide) (ne_ad0 (by decide)).symm]; exact q
  have F4 : vl p6 N 4 = 0 := by rw [v6, if_neg (by decide), v5, if_neg (by decide), v4, if_neg (by decide), v3, if_neg (by decide), v2, if_neg (by decide), v1, if_neg (by decide)]; exact f0 _
  have F6 : vl p6 N 6 = 0 := by rw [v6, if_neg (by decide), v5, if_neg (by decide), v4, if_neg (by decide), v3, if_neg (by decide), v2, if_neg (by decide), v1, if_neg (by decide)]; exact f0 _
  have F8 : vl p6 N 8 = 0 := by rw [v6, if_neg (by decide), v5, if_neg (by decide), v4, if_neg (by decide), v3, if_neg (by decide), v2, if_neg (by decide), v1, if_neg (by decide)]; exact f0 _
  have O : OLD m p6 := ⟨o0.1.trans c0.1, fun b j hb' _ => by rw [c0.2 b j (by rw [a0, ← hN]; exact Int.lt_trans hb' (Int.lt_succ _)) (by rw [← hN]; exact Int.ne_of_lt hb'), o0.2 b j hb' id]⟩
  refine ⟨p6, ?_, O, b6, ⟨t6, by rw [F0]; exact X0, by rw [F1]; exact X1, by rw [F2]; exact X2, by rw [F3]; exact X3, by rw [F5]; exact X5, by rw [F7]; exact X7, by rw [F0, F1]; exact ne_add (by decide), by rw [F0, F2]; exact ne_add (by decide), by rw [F1, F2]; exact ne_add (by decide)⟩, fun b j _ _ _ _ => by rw [F0]; exact Z0 _, fun j => by rw [F7]; exact Z7 j, ⟨F4, F6, F8⟩, a6, s6⟩
  refine q152 b0.tz _ ?_
  rw [gd_of t0, nw_eq, gq1, nw_eq, gq2, nw_eq, gq3, nw_eq, gq4, nw_eq, gq5, nw_eq, gq6]
end
