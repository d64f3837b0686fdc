/-! the component is made (printed by tools/gen_xctor.py) -/
set_option maxRecDepth 100000
set_option maxHeartbeats 8000000
/-- all but the component, the disk, the readers' list -/
abbrev zT : List Int := [31, 103, 17103, 17101, 2, 52103, 8, 130103, 132103, 6, 104101, 107101, 7, 112101, 10, 17116]
theorem vso0 {c : RF} : VsO c 0 [] [] := ⟨Or.inl ⟨rfl, rfl, rfl⟩, trivial, fun x hx => (by cases hx), List.nodup_nil, fun b hb => (by cases hb)⟩
theorem ohd0 : OHd (fun _ => 0) 1 := ⟨Or.inl fun z => absurd z.1 (by decide), fun _ _ _ => rfl, Or.inl ⟨rfl, fun _ _ _ => rfl⟩⟩
theorem npr {m : Mem} {N r a k : Int} (h : PVW m (N + a)) (hr : r = N + k) (hk : a + 17 ≤ k) : ¬ pRw m (N + a) r ∧ vl m (N + a) 0 ≠ r := by
  obtain ⟨v0, v5, v6, v7, v8, v9, v15⟩ := h
  unfold pRw
  rw [v0, v5, v6, v7, v8, v9, hr]
  omega
theorem ne_kk {N a b k : Int} (h : a ≠ b + k) : N + a ≠ N + b + k := by omega
theorem vA_ne {x y j k : Int} {Q : Int} (h : x < Q) (j0 : -1 ≤ j) (k0 : -1 ≤ k) (hne : j ≠ k) : (if j < 0 then x else Q + j) ≠ (if k < 0 then x else Q + k) := by
  by_cases z1 : j < 0
  · rw [if_pos z1]
    by_cases z2 : k < 0
    · omega
    · rw [if_neg z2]; omega
  · rw [if_neg z1]
    by_cases z2 : k < 0
    · rw [if_pos z2]; omega
    · rw [if_neg z2]; omega
theorem a_100 {Q z k : Int} (hk : 0 ≤ k) : (if 100 ≤ 100 + k then Q + (100 + k - 100) else z) = Q + k := by rw [if_pos (by omega)]; omega
theorem pf_lt {f : Int} (h : pf f) : f < 50 := by omega
theorem lt_add {N a b : Int} (h : a < b) : N + a < N + b := by omega
theorem lt50 {f : Int} (h : f < 50) : ¬ 100 ≤ f ∧ ¬ f = 50 ∧ ¬ f = 60 := by omega
theorem not_lt_add {N a b : Int} (h : b ≤ a) : ¬ N + a < N + b := by omega
theorem nfin (x : Int) : x + 44 + 8 = x + 52 := by omega
theorem sfin (x : Int) : x + 1334291 + 4 * (8 - 0) = x + 1334323 := by omega
section
variable {d : Nat} {m : Mem} {X : Int}

theorem c16 (hd : 12 ≤ d) (hb : BX m) (hX : tg m X = 1) (hf : ∀ f, vl m X f = 0) : ∃ m' A g, cl d 16 [pR X] m = some (.inl none, m') ∧ CPt 0 m' X A ([], [], -1, false, -1, [], (fun _ => none), fun _ => none) g ∧ A 60 = 0 ∧ SFr (fun a _ => a = X ∨ tg m a = 9 ∨ tg m a = 153103 ∨ tg m a = 153105) m m' ∧ pcG g = 7424 ∧ nx m' = nx m + 52 ∧ sl m' = sl m + 1334323 := by
  have hz := hb.tz
  have a0 : nx m = nx m + 0 := (Int.add_zero _).symm
  have s0 : sl m = sl m + 0 := (Int.add_zero _).symm
  obtain ⟨p0, hp⟩ : ∃ p0, p0 = m := ⟨_, rfl⟩
  obtain ⟨N, hN⟩ : ∃ N, nx m = N := ⟨_, rfl⟩
  obtain ⟨T, hT⟩ : ∃ T, sl m = T := ⟨_, rfl⟩
  have a0 : nx p0 = N + 0 := by rw [hp, hN]; exact (Int.add_zero _).symm
  have s0 : sl p0 = T + 0 := by rw [hp, hT]; exact (Int.add_zero _).symm
  have b0 : BX p0 := by rw [hp]; exact hb
  have t0 : tg p0 X = 1 := by rw [hp]; exact hX
  have f0 : ∀ f, vl p0 X f = 0 := by rw [hp]; exact hf
  obtain ⟨⟨k1, v1, b1, t1⟩, x1, y1, n1, l1⟩ := sw_arr (W := X) (w := 1) (f := 0) (t := 17103) (n := 16384) b0 t0 (by decide) (by decide) (by decide) (by decide)
  generalize gq1 : mst (mal p0 17103 16384) X 0 (nx p0) = p1 at *
  have a1 : nx p1 = N + 1 := nxs n1 a0
  have s1 : sl p1 = T + 16384 := nxs l1 s0
  obtain ⟨r2, e2, ⟨k2, v2, b2, t2⟩, x2, n2, l2⟩ := sx_snk (d := d - 1) (W := X) (w := 1) (f := 2) (c := 32768) b1 t1 (by decide) (by decide)
  generalize gq2 : mst r2 X 2 (nx p1) = p2 at *
  have a2 : nx p2 = N + 3 := nxs n2 a1
  have s2 : sl p2 = T + 49154 := nxs l2 s1
  obtain ⟨r3, e3, ⟨k3, v3, b3, t3⟩, x3, n3, l3⟩ := sx_snk (d := d - 1) (W := X) (w := 1) (f := 3) (c := 32768) b2 t2 (by decide) (by decide)
  generalize gq3 : mst r3 X 3 (nx p2) = p3 at *
  have a3 : nx p3 = N + 5 := nxs n3 a2
  have s3 : sl p3 = T + 81924 := nxs l3 s2
  obtain ⟨r4, e4, ⟨k4, v4, b4, t4⟩, x4, n4, l4⟩ := sx_snk (d := d - 1) (W := X) (w := 1) (f := 4) (c := 480) b3 t3 (by decide) (by decide)
  generalize gq4 : mst r4 X 4 (nx p3) = p4 at *
  have a4 : nx p4 = N + 7 := nxs n4 a3
  have s4 : sl p4 = T + 82406 := nxs l4 s3
  obtain ⟨r5, e5, ⟨k5, v5, b5, t5⟩, x5, n5, l5⟩ := sx_o74 (d := d - 1) (X := X) (f := 5) (Nat.le_sub_of_add_le (Nat.le_trans (by decide) hd)) b4 t4
  generalize gq5 : mst r5 X 5 (nx p4) = p5 at *
  have a5 : nx p5 = N + 8 := nxs n5 a4
  have s5 : sl p5 = T + 82411 := nxs l5 s4
  obtain ⟨r6, e6, ⟨k6, v6, b6, t6⟩, x6, n6, l6⟩ := sx_o80 (d := d - 1) (X := X) (f := 6) (Nat.le_sub_of_add_le (Nat.le_trans (by decide) hd)) b5 t5
  generalize gq6 : mst r6 X 6 (nx p5) = p6 at *
  have a6 : nx p6 = N + 9 := nxs n6 a5
  have s6 : sl p6 = T + 82417 := nxs l6 s5
  obtain ⟨r7, e7, ⟨k7, v7, b7, t7⟩, x7, n7, l7⟩ := sx_o103 (d := d - 1) (X := X) (f := 7)  b6 t6
  generalize gq7 : mst r7 X 7 (nx p6) = p7 at *
  have a7 : nx p7 = N + 11 := nxs n7 a6
  have s7 : sl p7 = T + 82678 := nxs l7 s6
  obtain ⟨r8, e8, ⟨k8, v8, b8, t8⟩, x8, n8, l8⟩ := sx_o111 (d := d - 1) (X := X) (f := 8) (Nat.le_sub_of_add_le (Nat.le_trans (by decide) hd)) b7 t7
  generalize gq8 : mst r8 X 8 (nx p7) = p8 at *
  have a8 : nx p8 = N + 28 := nxs n8 a7
  have s8 : sl p8 = T + 104790 := nxs l8 s7
  obtain ⟨r9, e9, ⟨k9, v9, b9, t9⟩, x9, n9, l9⟩ := sx_o152 (d := d - 1) (X := X) (f := 9)  b8 t8
  generalize gq9 : mst r9 X 9 (nx p8) = p9 at *
  have a9 : nx p9 = N + 35 := nxs n9 a8
  have s9 : sl p9 = T + 1331967 := nxs l9 s8
  obtain ⟨r10, e10, ⟨k10, v10, b10, t10⟩, x10, n10, l10⟩ := sx_row (d := d - 1) (W := X) (w := 1) (f := 10) (c := 1024) b9 t9 (by decide) (by decide)
  generalize gq10 : mst r10 X 10 (nx p9) = p10 at *
  have a10 : nx p10 = N + 37 := nxs n10 a9
  have s10 : sl p10 = T + 1332993 := nxs l10 s9
  obtain ⟨r11, e11, ⟨k11, v11, b11, t11⟩, x11, n11, l11⟩ := sx_row (d := d - 1) (W := X) (w := 1) (f := 11) (c := 1024) b10 t10 (by decide) (by decide)
  generalize gq11 : mst r11 X 11 (nx p10) = p11 at *
  have a11 : nx p11 = N + 39 := nxs n11 a10
  have s11 : sl p11 = T + 1334019 := nxs l11 s10
  obtain ⟨r12, e12, ⟨k12, v12, b12, t12⟩, x12, n12, l12⟩ := sx_o184 (d := d - 1) (X := X) (f := 12)  b11 t11
  generalize gq12 : mst r12 X 12 (nx p11) = p12 at *
  have a12 : nx p12 = N + 40 := nxs n12 a11
  have s12 : sl p12 = T + 1334023 := nxs l12 s11
  obtain ⟨⟨k13, v13, b13, t13⟩, x13, y13, n13, l13⟩ := sw_arr (W := X) (w := 1) (f := 13) (t := 17115) (n := 8) b12 t12 (by decide) (by decide) (by decide) (by decide)
  generalize gq13 : mst (mal p12 17115 8) X 13 (nx p12) = p13 at *
  have a13 : nx p13 = N + 41 := nxs n13 a12
  have s13 : sl p13 = T + 1334031 := nxs l13 s12
  obtain ⟨⟨k14, v14, b14, t14⟩, x14, y14, n14, l14⟩ := sw_arr (W := X) (w := 1) (f := 14) (t := 17116) (n := 4) b13 t13 (by decide) (by decide) (by decide) (by decide)
  generalize gq14 : mst (mal p13 17116 4) X 14 (nx p13) = p14 at *
  have a14 : nx p14 = N + 42 := nxs n14 a13
  have s14 : sl p14 = T + 1334035 := nxs l14 s13
  obtain ⟨⟨k15, v15, b15, t15⟩, n15, l15⟩ := sx_set (W := X) (w := 1) (f := 18) (v := (-1)) b14 t14 (by decide)
  generalize gq15 : mst p14 X 18 ((-1)) = p15 at *
  have a15 : nx p15 = N + 42 := n15.trans a14
  have s15 : sl p15 = T + 1334035 := l15.trans s14
  obtain ⟨⟨k16, v16, b16, t16⟩, n16, l16⟩ := sx_set (W := X) (w := 1) (f := 19) (v := (-1)) b15 t15 (by decide)
  generalize gq16 : mst p15 X 19 ((-1)) = p16 at *
  have a16 : nx p16 = N + 42 := n16.trans a15
  have s16 : sl p16 = T + 1334035 := l16.trans s15
  obtain ⟨⟨k17, v17, b17, t17⟩, x17, y17, n17, l17⟩ := sw_arr (W := X) (w := 1) (f := 20) (t := 17101) (n := 128) b16 t16 (by decide) (by decide) (by decide) (by decide)
  generalize gq17 : mst (mal p16 17101 128) X 20 (nx p16) = p17 at *
  have a17 : nx p17 = N + 43 := nxs n17 a16
  have s17 : sl p17 = T + 1334163 := nxs l17 s16
  obtain ⟨⟨k18, v18, b18, t18⟩, x18, y18, n18, l18⟩ := sw_arr (W := X) (w := 1) (f := 21) (t := 17101) (n := 128) b17 t17 (by decide) (by decide) (by decide) (by decide)
  generalize gq18 : mst (mal p17 17101 128) X 21 (nx p17) = p18 at *
  have a18 : nx p18 = N + 44 := nxs n18 a17
  have s18 : sl p18 = T + 1334291 := nxs l18 s17
  have c18 : SFr (fun a _ => a = X) p18 p18 := ⟨KP.refl, fun _ _ _ _ => rfl⟩
  have c17 := SFr.tr1 k18 c18
  have c16 := SFr.tr1 k17 c17
  have c15 := SFr.tr1 k16 c16
  have c14 := SFr.tr1 k15 c15
  have c13 := SFr.tr1 k14 c14
  have c12 := SFr.tr1 k13 c13
  have c11 := SFr.tr1 k12 c12
  have c10 := SFr.tr1 k11 c11
  have c9 := SFr.tr1 k10 c10
  have c8 := SFr.tr1 k9 c9
  have c7 := SFr.tr1 k8 c8
  have c6 := SFr.tr1 k7 c7
  have c5 := SFr.tr1 k6 c6
  have c4 := SFr.tr1 k5 c5
  have c3 := SFr.tr1 k4 c4
  have c2 := SFr.tr1 k3 c3
  have c1 := SFr.tr1 k2 c2
  have c0 := SFr.tr1 k1 c1
  have R13 : vl p18 X 13 = N + 40 := by rw [v18, if_neg (by decide), v17, if_neg (by decide), v16, if_neg (by decide), v15, if_neg (by decide), v14, if_neg (by decide), v13, if_pos rfl]; exact a12
  have tR := c13.l b13.tz x13 (by decide)
  rw [a12] at tR
  obtain ⟨m1, st, kR, bR, nR, lR, hr⟩ := c16_rd (d := d) (X := X) (N0 := N + 44) (R := N + 40) 8 p18 0 (by decide) (by decide) (by decide) b18 t18 R13 tR (a18.trans (Int.add_zero _).symm) (fun j j0 j1 => (i_lt j0 j1).elim)
  have XR : X ≠ N + 40 := fun z => absurd (t18.symm.trans ((congrArg (tg p18) z).trans tR.1)) (by decide)
  have vR : ∀ j, vl m1 X j = vl p18 X j := fun j => kR.v b18.tz (by rw [t18]; decide) XR
  have tX1 : tg m1 X = 1 := kR.t b18.tz t18 (by decide)
  have D9 := x9.ut ((c9.utw (ts := dkT) t9 (by decide)).trans (kR.utw (ts := dkT) tR.1 (by decide))) b9.tz (fun _ h => h)
  rw [a8] at D9
  obtain ⟨m', c, e', nc, vX, dr, hB, hc0⟩ := dk0 (d := d) (Nat.le_trans (by decide) hd) bR tX1 (by rw [vR, v18, if_neg (by decide), v17, if_neg (by decide), v16, if_neg (by decide), v15, if_neg (by decide), v14, if_neg (by decide), v13, if_neg (by decide), v12, if_neg (by decide), v11, if_neg (by decide), v10, if_neg (by decide), v9, if_pos rfl]; exact a8) D9
  have bs : BSm m' := bR.1.nc nc fun a ha => by
    rcases ha with z | z | z | z
    · rw [z, tX1]; decide
    all_goals (rw [z]; decide)
  have uN : UT zT m1 m' := UT.nc nc fun a ha => by
    rcases ha with z | z | z | z
    · rw [z, tX1]; decide
    all_goals (rw [z]; decide)
  have uZ : UT zT p18 m' := (kR.utw (ts := zT) tR.1 (by decide)).trans uN
  have U0 := (c1.utw (ts := zT) t1 (by decide)).trans uZ
  have U2 := (c2.utw (ts := zT) t2 (by decide)).trans uZ
  have U3 := (c3.utw (ts := zT) t3 (by decide)).trans uZ
  have U4 := (c4.utw (ts := zT) t4 (by decide)).trans uZ
  have U5 := (c5.utw (ts := zT) t5 (by decide)).trans uZ
  have U6 := (c6.utw (ts := zT) t6 (by decide)).trans uZ
  have U7 := (c7.utw (ts := zT) t7 (by decide)).trans uZ
  have U8 := (c8.utw (ts := zT) t8 (by decide)).trans uZ
  have U10 := (c10.utw (ts := zT) t10 (by decide)).trans uZ
  have U11 := (c11.utw (ts := zT) t11 (by decide)).trans uZ
  have U12 := (c12.utw (ts := zT) t12 (by decide)).trans uZ
  have U14 := (c14.utw (ts := zT) t14 (by decide)).trans uZ
  have U20 := (c17.utw (ts := zT) t17 (by decide)).trans uZ
  have U21 := (c18.utw (ts := zT) t18 (by decide)).trans uZ
  have F0 : vl m' X 0 = N + 0 := by rw [vX, if_neg (by decide), vR, v18, if_neg (by decide), v17, if_neg (by decide), v16, if_neg (by decide), v15, if_neg (by decide), v14, if_neg (by decide), v13, if_neg (by decide), v12, if_neg (by decide), v11, if_neg (by decide), v10, if_neg (by decide), v9, if_neg (by decide), v8, if_neg (by decide), v7, if_neg (by decide), v6, if_neg (by decide), v5, if_neg (by decide), v4, if_neg (by decide), v3, if_neg (by decide), v2, if_neg (by decide), v1, if_pos rfl]; exact a0
  have F1 : vl m' X 1 = 0 := by rw [vX, if_neg (by decide), vR, v18, if_neg (by decide), v17, if_neg (by decide), v16, if_neg (by decide), v15, if_neg (by decide), v14, if_neg (by decide), v13, if_neg (by decide), v12, if_neg (by decide), v11, if_neg (by decide), v10, if_neg (by decide), v9, if_neg (by decide), v8, if_neg (by decide), v7, if_neg (by decide), v6, if_neg (by decide), v5, if_neg (by decide), v4, if_neg (by decide), v3, if_neg (by decide), v2, if_neg (by decide), v1, if_neg (by decide)]; exact f0 _
  have F2 : vl m' X 2 = N + 1 := by rw [vX, if_neg (by decide), vR, v18, if_neg (by decide), v17, if_neg (by decide), v16, if_neg (by decide), v15, if_neg (by decide), v14, if_neg (by decide), v13, if_neg (by decide), v12, if_neg (by decide), v11, if_neg (by decide), v10, if_neg (by decide), v9, if_neg (by decide), v8, if_neg (by decide), v7, if_neg (by decide), v6, if_neg (by decide), v5, if_neg (by decide), v4, if_neg (by decide), v3, if_neg (by decide), v2, if_pos rfl]; exact a1
  have F3 : vl m' X 3 = N + 3 := by rw [vX, if_neg (by decide), vR, v18, if_neg (by decide), v17, if_neg (by decide), v16, if_neg (by decide), v15, if_neg (by decide), v14, if_neg (by decide), v13, if_neg (by decide), v12, if_neg (by decide), v11, if_neg (by decide), v10, if_neg (by decide), v9, if_neg (by decide), v8, if_neg (by decide), v7, if_neg (by decide), v6, if_neg (by decide), v5, if_neg (by decide), v4, if_neg (by decide), v3, if_pos rfl]; exact a2
  have F4 : vl m' X 4 = N + 5 := by rw [vX, if_neg (by decide), vR, v18, if_neg (by decide), v17, if_neg (by decide), v16, if_neg (by decide), v15, if_neg (by decide), v14, if_neg (by decide), v13, if_neg (by decide), v12, if_neg (by decide), v11, if_neg (by decide), v10, if_neg (by decide), v9, if_neg (by decide), v8, if_neg (by decide), v7, if_neg (by decide), v6, if_neg (by decide), v5, if_neg (by decide), v4, if_pos rfl]; exact a3
  have F5 : vl m' X 5 = N + 7 := by rw [vX, if_neg (by decide), vR, v18, if_neg (by decide), v17, if_neg (by decide), v16, if_neg (by decide), v15, if_neg (by decide), v14, if_neg (by decide), v13, if_neg (by decide), v12, if_neg (by decide), v11, if_neg (by decide), v10, if_neg (by decide), v9, if_neg (by decide), v8, if_neg (by decide), v7, if_neg (by decide), v6, if_neg (by decide), v5, if_pos rfl]; exact a4
  have F6 : vl m' X 6 = N + 8 := by rw [vX, if_neg (by decide), vR, v18, if_neg (by decide), v17, if_neg (by decide), v16, if_neg (by decide), v15, if_neg (by decide), v14, if_neg (by decide), v13, if_neg (by decide), v12, if_neg (by decide), v11, if_neg (by decide), v10, if_neg (by decide), v9, if_neg (by decide), v8, if_neg (by decide), v7, if_neg (by decide), v6, if_pos rfl]; exact a5
  have F7 : vl m' X 7 = N + 9 := by rw [vX, if_neg (by decide), vR, v18, if_neg (by decide), v17, if_neg (by decide), v16, if_neg (by decide), v15, if_neg (by decide), v14, if_neg (by decide), v13, if_neg (by decide), v12, if_neg (by decide), v11, if_neg (by decide), v10, if_neg (by decide), v9, if_neg (by decide), v8, if_neg (by decide), v7, if_pos rfl]; exact a6
  have F8 : vl m' X 8 = N + 11 := by rw [vX, if_neg (by decide), vR, v18, if_neg (by decide), v17, if_neg (by decide), v16, if_neg (by decide), v15, if_neg (by decide), v14, if_neg (by decide), v13, if_neg (by decide), v12, if_neg (by decide), v11, if_neg (by decide), v10, if_neg (by decide), v9, if_neg (by decide), v8, if_pos rfl]; exact a7
  have F9 : vl m' X 9 = N + 28 := by rw [vX, if_neg (by decide), vR, v18, if_neg (by decide), v17, if_neg (by decide), v16, if_neg (by decide), v15, if_neg (by decide), v14, if_neg (by decide), v13, if_neg (by decide), v12, if_neg (by decide), v11, if_neg (by decide), v10, if_neg (by decide), v9, if_pos rfl]; exact a8
  have F10 : vl m' X 10 = N + 35 := by rw [vX, if_neg (by decide), vR, v18, if_neg (by decide), v17, if_neg (by decide), v16, if_neg (by decide), v15, if_neg (by decide), v14, if_neg (by decide), v13, if_neg (by decide), v12, if_neg (by decide), v11, if_neg (by decide), v10, if_pos rfl]; exact a9
  have F11 : vl m' X 11 = N + 37 := by rw [vX, if_neg (by decide), vR, v18, if_neg (by decide), v17, if_neg (by decide), v16, if_neg (by decide), v15, if_neg (by decide), v14, if_neg (by decide), v13, if_neg (by decide), v12, if_neg (by decide), v11, if_pos rfl]; exact a10
  have F12 : vl m' X 12 = N + 39 := by rw [vX, if_neg (by decide), vR, v18, if_neg (by decide), v17, if_neg (by decide), v16, if_neg (by decide), v15, if_neg (by decide), v14, if_neg (by decide), v13, if_neg (by decide), v12, if_pos rfl]; exact a11
  have F13 : vl m' X 13 = N + 40 := by rw [vX, if_neg (by decide), vR, v18, if_neg (by decide), v17, if_neg (by decide), v16, if_neg (by decide), v15, if_neg (by decide), v14, if_neg (by decide), v13, if_pos rfl]; exact a12
  have F14 : vl m' X 14 = N + 41 := by rw [vX, if_neg (by decide), vR, v18, if_neg (by decide), v17, if_neg (by decide), v16, if_neg (by decide), v15, if_neg (by decide), v14, if_pos rfl]; exact a13
  have F15 : vl m' X 15 = 1 := by rw [vX, if_pos rfl]
  have F16 : vl m' X 16 = 0 := by rw [vX, if_neg (by decide), vR, v18, if_neg (by decide), v17, if_neg (by decide), v16, if_neg (by decide), v15, if_neg (by decide), v14, if_neg (by decide), v13, if_neg (by decide), v12, if_neg (by decide), v11, if_neg (by decide), v10, if_neg (by decide), v9, if_neg (by decide), v8, if_neg (by decide), v7, if_neg (by decide), v6, if_neg (by decide), v5, if_neg (by decide), v4, if_neg (by decide), v3, if_neg (by decide), v2, if_neg (by decide), v1, if_neg (by decide)]; exact f0 _
  have F17 : vl m' X 17 = 0 := by rw [vX, if_neg (by decide), vR, v18, if_neg (by decide), v17, if_neg (by decide), v16, if_neg (by decide), v15, if_neg (by decide), v14, if_neg (by decide), v13, if_neg (by decide), v12, if_neg (by decide), v11, if_neg (by decide), v10, if_neg (by decide), v9, if_neg (by decide), v8, if_neg (by decide), v7, if_neg (by decide), v6, if_neg (by decide), v5, if_neg (by decide), v4, if_neg (by decide), v3, if_neg (by decide), v2, if_neg (by decide), v1, if_neg (by decide)]; exact f0 _
  have F18 : vl m' X 18 = -1 := by rw [vX, if_neg (by decide), vR, v18, if_neg (by decide), v17, if_neg (by decide), v16, if_neg (by decide), v15, if_pos rfl]
  have F19 : vl m' X 19 = -1 := by rw [vX, if_neg (by decide), vR, v18, if_neg (by decide), v17, if_neg (by decide), v16, if_pos rfl]
  have F20 : vl m' X 20 = N + 42 := by rw [vX, if_neg (by decide), vR, v18, if_neg (by decide), v17, if_pos rfl]; exact a16
  have F21 : vl m' X 21 = N + 43 := by rw [vX, if_neg (by decide), vR, v18, if_pos rfl]; exact a17
  have X0 : tg m' (N + 0) = 17103 ∧ ln m' (N + 0) = 16384 := by
    rw [← a0]; exact ⟨U0.t b1.tz x1.1 (by decide), (U0.l b1.tz (by rw [x1.1]; decide)).trans x1.2⟩
  have X2 := x2.ut U2 b2.tz (by simp) (by simp)
  rw [a1] at X2
  have X3 := x3.ut U3 b3.tz (by simp) (by simp)
  rw [a2] at X3
  have X4 := x4.ut U4 b4.tz (by simp) (by simp)
  rw [a3] at X4
  have X5 := U5.t b5.tz x5 (by decide)
  rw [a4] at X5
  have X6 := U6.t b6.tz x6 (by decide)
  rw [a5] at X6
  have X7 := x7.ut U7 b7.tz (by simp)
  rw [a6] at X7
  obtain ⟨X8, P2, -⟩ := x8.1.gen U8 bs.2.1 (by simp) (fun r ys c _ hw => hw.ut U8 b8.tz (by simp) (by simp) (by simp))
  have S8 := x8.2.2.ut U8 b8.tz (by simp) (by simp)
  have V8 : PVW m' (nx p7) := by
    obtain ⟨v0, v5, v6, v7, v8, v9, v15⟩ := x8.2.1
    exact ⟨(P2 0 (by decide) (by decide)).trans v0, (P2 5 (by decide) (by decide)).trans v5, (P2 6 (by decide) (by decide)).trans v6, (P2 7 (by decide) (by decide)).trans v7, (P2 8 (by decide) (by decide)).trans v8, (P2 9 (by decide) (by decide)).trans v9, (P2 15 (by decide) (by decide)).trans v15⟩
  rw [a7] at X8 S8 V8
  have X10 := x10.1.ut U10 b10.tz (by simp) (by simp) (by simp)
  rw [a9] at X10
  have X11 := x11.1.ut U11 b11.tz (by simp) (by simp) (by simp)
  rw [a10] at X11
  have X12 := U12.t b12.tz x12.1 (by decide)
  have Y12_0 := (U12.f b12.tz x12.1 (by decide) (by simp) (j := 0) (by decide)).trans (x12.2 0)
  rw [a11] at Y12_0
  have Y12_1 := (U12.f b12.tz x12.1 (by decide) (by simp) (j := 1) (by decide)).trans (x12.2 1)
  rw [a11] at Y12_1
  have Y12_2 := (U12.f b12.tz x12.1 (by decide) (by simp) (j := 2) (by decide)).trans (x12.2 2)
  rw [a11] at Y12_2
  rw [a11] at X12
  have X14 : tg m' (N + 41) = 17116 ∧ ln m' (N + 41) = 4 := by
    rw [← a13]; exact ⟨U14.t b14.tz x14.1 (by decide), (U14.l b14.tz (by rw [x14.1]; decide)).trans x14.2⟩
  have X20 : tg m' (N + 42) = 17101 ∧ ln m' (N + 42) = 128 := by
    rw [← a16]; exact ⟨U20.t b17.tz x17.1 (by decide), (U20.l b17.tz (by rw [x17.1]; decide)).trans x17.2⟩
  have X21 : tg m' (N + 43) = 17101 ∧ ln m' (N + 43) = 128 := by
    rw [← a17]; exact ⟨U21.t b18.tz x18.1 (by decide), (U21.l b18.tz (by rw [x18.1]; decide)).trans x18.2⟩
  have Z14 : ∀ j, vl m' (N + 41) j = 0 := fun j => by
    rw [← a13]; exact (U14.a b14.tz x14.1 (by decide) (by simp)).trans (y14 j)
  have X13 : tg m' (N + 40) = 17115 ∧ ln m' (N + 40) = 8 := by
    rw [(nc.2.2.1 _).1, (nc.2.2.1 _).2]; exact kR.l b18.tz tR (by decide)
  have rd : ∀ k, 0 ≤ k → k < 8 → vl m' (N + 40) k = N + 44 + k ∧ tg m' (N + 44 + k) = 10 ∧ vl m' (N + 44 + k) 3 = 0 := fun k k0 k1 => by
    obtain ⟨h1, h2, h3⟩ := hr k k0 k1
    refine ⟨?_, by rw [(nc.2.2.1 _).1]; exact h2, (uN.f bR.tz h2 (by decide) (by simp) (j := 3) (by decide)).trans (h3 3)⟩
    rw [← h1]; exact nc.2.2.2 _ _ fun z => by
      have z : N + 40 = X ∨ tg m1 (N + 40) = 9 ∨ tg m1 (N + 40) = 153103 ∨ tg m1 (N + 40) = 153105 := z
      rw [(kR.l b18.tz tR (by decide)).1] at z
      rcases z with z | z | z | z
      · exact XR z.symm
      all_goals exact absurd z (by decide)
  generalize hA : (fun f : Int => if 100 ≤ f then N + 44 + (f - 100) else if f = 50 then N + 11 + 15 else if f = 60 then 0 else vl m' X f) = A
  have hAf : ∀ f, pf f → vl m' X f = A f := fun f hf => by
    have := pf_lt hf
    rw [← hA]
    show _ = if 100 ≤ f then N + 44 + (f - 100) else if f = 50 then N + 11 + 15 else if f = 60 then 0 else vl m' X f
    rw [if_neg (lt50 this).1, if_neg (lt50 this).2.1, if_neg (lt50 this).2.2]
  have G50 : A 50 = N + 11 + 15 := by rw [← hA]; rfl
  have G60 : A 60 = 0 := by rw [← hA]; rfl
  have Gr : ∀ k, 0 ≤ k → A (100 + k) = N + 44 + k := fun k hk => by rw [← hA]; exact a_100 hk
  have G0 : A 0 = N + 0 := (hAf 0 (by decide)).symm.trans F0
  have G4 : A 4 = N + 5 := (hAf 4 (by decide)).symm.trans F4
  have G5 : A 5 = N + 7 := (hAf 5 (by decide)).symm.trans F5
  have G6 : A 6 = N + 8 := (hAf 6 (by decide)).symm.trans F6
  have G7 : A 7 = N + 9 := (hAf 7 (by decide)).symm.trans F7
  have G8 : A 8 = N + 11 := (hAf 8 (by decide)).symm.trans F8
  have G9 : A 9 = N + 28 := (hAf 9 (by decide)).symm.trans F9
  have G10 : A 10 = N + 35 := (hAf 10 (by decide)).symm.trans F10
  have G11 : A 11 = N + 37 := (hAf 11 (by decide)).symm.trans F11
  have G12 : A 12 = N + 39 := (hAf 12 (by decide)).symm.trans F12
  have G13 : A 13 = N + 40 := (hAf 13 (by decide)).symm.trans F13
  have G14 : A 14 = N + 41 := (hAf 14 (by decide)).symm.trans F14
  have G20 : A 20 = N + 42 := (hAf 20 (by decide)).symm.trans F20
  have G21 : A 21 = N + 43 := (hAf 21 (by decide)).symm.trans F21
  have adr : ∀ k, vA A k = if k < 0 then N + 39 else N + 44 + k := fun k => by
    by_cases z : k < 0
    · rw [if_pos z]; exact (if_pos z).trans G12
    · rw [if_neg z]; exact (if_neg z).trans (Gr k (Int.not_lt.mp z))
  refine ⟨m', A, (c, [], 1, 0, fun _ => [], ([], 1024), ([], 1024), 5120, 256), ?_, ⟨bs, ⟨?_, hAf, by rw [G0]; exact X0, by rw [G4]; exact X4.1, by rw [G5]; exact X5, by rw [G6]; exact X6, by rw [G7]; exact X7.1, by rw [G8]; exact X8.ok.2.2.1, by rw [G9]; exact dr.1.1, by rw [G10]; exact X10.1, by rw [G11]; exact X11.1, by rw [G10, G11]; exact ne_add (by decide), by rw [G12]; exact X12, by rw [G13]; exact X13, by rw [G14]; exact X14, by rw [G20]; exact X20, by rw [G21]; exact X21, by rw [G20, G21]; exact ne_add (by decide)⟩, ⟨F1, by decide, fun j j0 j1 => (nolen j0 j1).elim⟩, ⟨F17, F18, F19⟩, ⟨by rw [F2]; exact X2, ⟨[], by rw [F3]; exact X3⟩, ⟨[], by rw [G4]; exact X4⟩, by rw [F2, F3]; exact ne_add (by decide), by rw [F2, G4]; exact ne_add (by decide), by rw [F3, G4]; exact ne_add (by decide), by rw [F2, G50]; exact (ne_kk (by decide)).symm, by rw [F3, G50]; exact (ne_kk (by decide)).symm, by rw [G4, G50]; exact (ne_kk (by decide)).symm⟩, ⟨by rw [G10]; exact X10, (show (1024 : Int) ≤ 12000 by decide)⟩, ⟨by rw [G11]; exact X11, (show (1024 : Int) ≤ 12000 by decide)⟩, by rw [G7]; exact X7, ⟨⟨[], by rw [G8]; exact X8⟩, by rw [G8, G50]; exact V8.2.2.2.2.2.2, ⟨[], by rw [G50]; exact S8⟩, by rw [G8]; exact (npr V8 G10 (by decide)).1, by rw [G8]; exact (npr V8 G11 (by decide)).1, by rw [G8]; exact (npr V8 G10 (by decide)).2, by rw [G8]; exact (npr V8 G11 (by decide)).2⟩, ⟨by rw [G9]; exact dr, ⟨F15, F16⟩, (show (1 : Int) ≤ 1 ∧ (1 : Int) ≤ ((0 : Nat) : Int) + 1 ∧ (0 : Int) ≤ 0 ∧ (0 : Int) ≤ ((0 : Nat) : Int) by decide), ⟨⟨fun k k0 k1 => by rw [G13, Gr k k0]; exact ⟨(rd k k0 k1).1, (rd k k0 k1).2.1⟩, fun j k j0 _ k0 _ hne => by rw [adr, adr]; exact vA_ne (y := 0) (lt_add (by decide)) j0 k0 hne⟩, ⟨[], by rw [G12, Y12_0]; exact vso0, by rw [G12]; exact Y12_1, by rw [G12, Y12_2]; exact ⟨(show (0 : Int) ≤ 0 by decide), (show (0 : Int) ≤ 0 by decide), rfl⟩⟩, DCK.nil⟩, by rw [G12, Y12_0]; exact hB, ?_, fun k k0 k1 => ⟨by rw [Gr k k0]; exact (rd k k0 k1).2.2, fun D hD => (by cases hD)⟩⟩, ⟨fun k k0 k1 => ⟨fun _ => by rw [G14]; exact Z14 k, fun S hS => (by cases hS)⟩, fun j k _ _ _ _ _ h => absurd (by rw [G14]; exact Z14 j) h⟩⟩, G60, ?_, (show (1024 : Int) + 1024 + 5120 + 256 + 48 * ((0 : Nat) : Int) = 7424 by decide), ?_, ?_⟩
  · refine q16 (Nat.lt_of_lt_of_le (by decide) hd) hz _ ?_
    rw [← hp, gd_of t0, nw_eq, gq1, nw_eq, bV_eq e2, gq2, nw_eq, bV_eq e3, gq3, nw_eq, bV_eq e4, gq4, nw_eq, bV_eq e5, gq5, nw_eq, bV_eq e6, gq6, nw_eq, bV_eq e7, gq7, nw_eq, bV_eq e8, gq8, nw_eq, bV_eq e9, gq9, nw_eq, bV_eq e10, gq10, nw_eq, bV_eq e11, gq11, nw_eq, bV_eq e12, gq12, nw_eq, gq13, nw_eq, gq14, gq15, gq16, nw_eq, gq17, nw_eq, gq18]
    exact st _ e' (Nat.le_trans (by decide) hd)
  · rw [(nc.2.2.1 X).1]; exact tX1
  · show OHd (c 0) 1
    rw [hc0]; exact ohd0
  · have kk := c0.1.trans kR.1
    have kn := UT.nc (ts := []) nc (fun _ _ => by simp)
    rw [← hp]
    refine ⟨kk.trans kn.1, fun a j ha hj => ?_⟩
    have ta := (kk.2.2 a ha).1
    rw [nc.2.2.2 a j (fun z => hj (show a = X ∨ tg p0 a = 9 ∨ tg p0 a = 153103 ∨ tg p0 a = 153105 by rw [← ta]; exact z)), kR.2 a j (Int.lt_of_lt_of_le ha c0.1.2.1) (fun z => absurd (z ▸ ha) (by rw [a0]; exact not_lt_add (by decide))), c0.2 a j ha (fun z => hj (Or.inl z))]
  · rw [nc.1, nR, hN]; exact nfin _
  · rw [nc.2.1, lR, s18, hT]; exact sfin _
end
