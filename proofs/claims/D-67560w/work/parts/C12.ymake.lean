/-! the twin is made -/
set_option maxRecDepth 100000
set_option maxHeartbeats 8000000
/-- a field of the twin is set, in the making -/
def STP (M f v : Int) (m m' : Mem) : Prop := SFr (fun a _ => a = M) m m' ∧ (∀ j, vl m' M j = if j = f then v else vl m M j) ∧ BTm m' ∧ tg m' M = 11
section
variable {d : Nat} {m m0 m1 : Mem} {M : Int}
theorem STP.of {f : Int} (h : OLD m m1) (hb : BTm m1) (hM : tg m M = 11) (hz : TZ m) : STP M f (nx m) m (mst m1 M f (nx m)) := by
  have t := h.t hz hM (by decide)
  have lt := tz_lt hz (by omega : tg m M ≠ 0)
  have k := h.trans (SFr.mst (m := m1) (M := M) (f := f) (v := nx m))
  refine ⟨⟨k.1, fun a j ha hj => k.2 a j ha fun z => z.elim id fun z => hj z.1⟩, fun j => ?_, hb.mst (by omega), t⟩
  rw [vl_mst]
  by_cases q : j = f
  · rw [if_pos ⟨rfl, q⟩, if_pos q]
  · rw [if_neg (fun z => q z.2), if_neg q]; exact h.2 M j lt id
theorem BTm.mal' {t n : Int} (hb : BTm m) (ht : t ≠ 13) (hn : n ≤ 2000000) : BTm (mal m t n) := by
  have o : OLD m (mal m t n) := OLD.rfl'.mal'
  exact ⟨o.ok hb.1, TI_mal hb.2.1 hb.tz ht, lb_mal hb.2.2.1 hn, hb.2.2.2.ut (o.ut (ts := strT)) hb.tz (by simp) (by simp)⟩
theorem sa_arr {f t n : Int} (hb : BTm m) (hM : tg m M = 11) (ht : t ≠ 13) (hn : n ≤ 2000000) : STP M f (nx m) m (mst (mal m t n) M f (nx m)) ∧ (tg (mst (mal m t n) M f (nx m)) (nx m) = t ∧ ln (mst (mal m t n) M f (nx m)) (nx m) = n) ∧ (∀ j, vl (mst (mal m t n) M f (nx m)) (nx m) j = 0) ∧ nx (mst (mal m t n) M f (nx m)) = nx m + 1 ∧ sl (mst (mal m t n) M f (nx m)) = sl m + n := by
  have lt := tz_lt hb.tz (by omega : tg m M ≠ 0)
  refine ⟨STP.of OLD.rfl'.mal' (hb.mal' ht hn) hM hb.tz, ⟨?_, ?_⟩, fun j => ?_, rfl, rfl⟩
  · show tg (mal m t n) (nx m) = t; rw [tg_mal, if_pos rfl]
  · show ln (mal m t n) (nx m) = n; rw [ln_mal, if_pos rfl]
  · rw [vl_mst, if_neg (by omega), vl_mal, if_pos rfl]
theorem sa_tree {f : Int} (hb : BTm m) (hM : tg m M = 11) : ∃ m2, cl d 283 [pR (nx m)] (mal m 13 13) = some (.inl none, m2) ∧ STP M f (nx m) m (mst m2 M f (nx m)) ∧ TW (mst m2 M f (nx m)) (nx m) 0 [] 256 ∧ uC (mst m2 M f (nx m)) (nx m) = 512 ∧ nx (mst m2 M f (nx m)) = nx m + 12 ∧ sl (mst m2 M f (nx m)) = sl m + 3085 := by
  obtain ⟨m2, e, h1, h2, h3, h4, h5, h6⟩ := c283 (d := d) hb
  have lt := tz_lt hb.tz (by omega : tg m M ≠ 0)
  have tM := h1.t hb.tz hM (by decide)
  obtain ⟨w1, -, w3⟩ := h2.sf (SFr.mst (m := m2) (M := M) (f := f) (v := nx m)) h6.tz ⟨fun f _ _ z => by have := z.1; omega, fun a j ha z => by rw [z.1, tM] at ha; unfold trA at ha; omega⟩
  exact ⟨m2, e, STP.of h1 h6 hM hb.tz, w1, w3.trans h3, h4, h5⟩
/-- a new store -/
def NST (m : Mem) (s : Int) : Prop := SVs m s [] ∧ vl m s 0 = s + 1 ∧ vl m s 1 = s + 2 ∧ vl m s 2 = s + 3 ∧ vl m s 4 = 0
theorem NST.sf {S : Int → Int → Prop} {s : Int} (h : NST m s) (k : SFr S m m1) (hz : TZ m) (hS : ∀ a j, tg m a = 12 ∨ stA (tg m a) → ¬ S a j) : NST m1 s := by
  have t := h.1.1.1
  exact ⟨h.1.sf k hz ⟨fun f _ _ => hS s f (Or.inl t), fun a j ha => hS a j (Or.inr ha)⟩, by rw [k.v hz (by omega) (hS s 0 (Or.inl t))]; exact h.2.1, by rw [k.v hz (by omega) (hS s 1 (Or.inl t))]; exact h.2.2.1, by rw [k.v hz (by omega) (hS s 2 (Or.inl t))]; exact h.2.2.2.1, by rw [k.v hz (by omega) (hS s 4 (Or.inl t))]; exact h.2.2.2.2⟩
theorem sa_sto (hb : BTm m) : ∃ m2, cl d 277 [pR (nx m)] (mal m 12 5) = some (.inl none, m2) ∧ OLD m m2 ∧ NST m2 (nx m) ∧ nx m2 = nx m + 104 ∧ sl m2 = sl m + 48305 ∧ BTm m2 := by
  obtain ⟨m2, e, h1, h2, ⟨h3, h4, h5, h6⟩, h7, h8, h9⟩ := c277 (d := d) hb
  exact ⟨m2, e, h1, ⟨h2, h3, h4, h5, h6⟩, h7, h8, h9⟩
/-- the readers are made -/
theorem c185_178 {N0 R : Int} (hd : 1 ≤ d) : ∀ (N : Nat) (m : Mem) (k : Int), (8 - k).toNat = N → 0 ≤ k → k ≤ 8 → BTm m → tg m M = 11 → vl m M 9 = R → (tg m R = 186117 ∧ ln m R = 8) → nx m = N0 + 104 * k → (∀ j, 0 ≤ j → j < k → vl m R j = N0 + 104 * j ∧ NST m (N0 + 104 * j)) → ∃ m', rn d 185 178 [pR M, pI k] [] m = some (.inl none, m') ∧ SFr (fun a _ => a = R) m m' ∧ BTm m' ∧ nx m' = N0 + 832 ∧ sl m' = sl m + 48305 * (8 - k) ∧ ∀ j, 0 ≤ j → j < 8 → vl m' R j = N0 + 104 * j ∧ NST m' (N0 + 104 * j) := by
  intro N
  induction N with
  | zero =>
    intro m k hN k0 k1 hb hM h9 hR hx hj
    have : k = 8 := by omega
    subst this
    exact ⟨m, q185_178 (by omega) hb.tz _ (by rw [if_neg (by decide)]), ⟨KP.refl, fun _ _ _ _ => rfl⟩, hb, by omega, by omega, hj⟩
  | succ N ih =>
    intro m k hN k0 k1 hb hM h9 hR hx hj
    have hz := hb.tz
    obtain ⟨m2, e, h1, h2, h3, h4, h5⟩ := sa_sto (d := d - 1) hb
    have R2 := h1.l hz hR (by decide)
    have M2 := h1.t hz hM (by decide)
    have t12 := h2.1.1.1
    have ltR := tz_lt hz (by omega : tg m R ≠ 0)
    have ltM := tz_lt hz (by omega : tg m M ≠ 0)
    have nMR : M ≠ R := fun z => by rw [z] at hM; omega
    have S : SFr (fun a _ => a = R) m2 (mst m2 R k (nx m)) := ⟨(SFr.mst (m := m2) (M := R) (f := k) (v := nx m)).1, fun a j ha hj => by rw [vl_mst, if_neg (fun z => hj z.1)]⟩
    have no : ∀ (a j : Int), tg m2 a = 12 ∨ stA (tg m2 a) → ¬ a = R := fun a j ha z => by rw [z, R2.1] at ha; unfold stA at ha; omega
    obtain ⟨m', f1, f2, f3, f4, f5, f6⟩ := ih (mst m2 R k (nx m)) (k + 1) (by omega) (by omega) (by omega) (h5.mst (by rw [R2.1]; decide)) M2 (by rw [vl_mst, if_neg (fun z => nMR z.1), h1.2 M 9 ltM id]; exact h9) R2 (by show nx m2 = _; omega) (fun j j0 j1 => by
      by_cases q : j = k
      · subst q
        rw [← hx]
        exact ⟨by rw [vl_mst, if_pos ⟨rfl, rfl⟩], h2.sf S h5.tz no⟩
      · obtain ⟨g1, g2⟩ := hj j j0 (by omega)
        exact ⟨by rw [vl_mst, if_neg (fun z => q z.2), h1.2 R j ltR id]; exact g1, (g2.sf h1 hz fun _ _ _ => id).sf S h5.tz no⟩)
    have kk := (h1.trans S).trans f2
    refine ⟨m', q185_178 (by omega) hz _ ?_, ⟨kk.1, fun a j ha hj => kk.2 a j ha fun z => z.elim (fun z => z.elim id hj) hj⟩, f3, f4, by rw [f5]; show sl m2 + _ = _; omega, f6⟩
    rw [if_pos (by omega), gd_of hM, nm_eq, h9, nw_eq, bV_eq e, gd_of R2.1, gd_of ⟨k0, by rw [R2.2]; omega⟩, gd_of (by rw [R2.1, t12]; decide), (w32_of (by omega) (by omega) : w32 (k + 1) = k + 1)]
    exact f1
theorem TW.kM {t n C : Int} {us : List Int} (h : TW m t n us C) (k : SFr (fun a _ => a = M) m m1) (hz : TZ m) (hM : tg m M = 11) : TW m1 t n us C ∧ uC m1 t = uC m t := by
  have t13 := h.1
  obtain ⟨a, -, b⟩ := h.sf k hz ⟨fun f _ _ z => by rw [z, hM] at t13; omega, fun a j ha z => by rw [z, hM] at ha; unfold trA at ha; omega⟩
  exact ⟨a, b⟩
theorem TW.kR {t n C R : Int} {us : List Int} (h : TW m t n us C) (k : SFr (fun a _ => a = R) m m1) (hz : TZ m) (hR : tg m R = 186117) : TW m1 t n us C ∧ uC m1 t = uC m t := by
  have t13 := h.1
  obtain ⟨a, -, b⟩ := h.sf k hz ⟨fun f _ _ z => by rw [z, hR] at t13; omega, fun a j ha z => by rw [z, hR] at ha; unfold trA at ha; omega⟩
  exact ⟨a, b⟩
theorem NST.kM {s : Int} (h : NST m s) (k : SFr (fun a _ => a = M) m m1) (hz : TZ m) (hM : tg m M = 11) : NST m1 s := h.sf k hz fun a j ha z => by rw [z, hM] at ha; unfold stA at ha; omega
theorem NST.kR {s R : Int} (h : NST m s) (k : SFr (fun a _ => a = R) m m1) (hz : TZ m) (hR : tg m R = 186117) : NST m1 s := h.sf k hz fun a j ha z => by rw [z, hR] at ha; unfold stA at ha; omega
theorem SFr.zM {a t j : Int} (k : SFr (fun a _ => a = M) m m1) (hz : TZ m) (hM : tg m M = 11) (ha : tg m a = t) (h0 : t ≠ 0) (h1 : t ≠ 11) : vl m1 a j = vl m a j := k.v hz (by rw [ha]; exact h0) fun z => h1 (by rw [← ha, z, hM])
theorem SFr.zR {a t j R : Int} (k : SFr (fun a _ => a = R) m m1) (hz : TZ m) (hR : tg m R = 186117) (ha : tg m a = t) (h0 : t ≠ 0) (h1 : t ≠ 186117) : vl m1 a j = vl m a j := k.v hz (by rw [ha]; exact h0) fun z => h1 (by rw [← ha, z, hR])
theorem nxs {x y z k k' : Int} (h : x = y + k) (h' : y = z + k') : x = z + (k' + k) := by omega
theorem ne_add {x a b : Int} (h : a ≠ b) : x + a ≠ x + b := by omega
theorem qf_lt {f : Int} (hf : qf f) : f < 100 := by unfold qf at hf; omega
theorem nolen {j : Int} (h0 : 0 ≤ j) (h : j < ((([] : List Int).length : Nat) : Int)) : False := by
  have : j < ((0 : Nat) : Int) := h
  omega
theorem bB_r {Q z k : Int} (hk : 0 ≤ k) : (if 100 ≤ 100 + k then Q + 104 * (100 + k - 100) else z) = Q + 104 * k := by rw [if_pos (by omega)]; omega
theorem adr_dj {P Q j k : Int} (h : P + 104 ≤ Q) (j0 : -1 ≤ j) (k0 : -1 ≤ k) (hne : j ≠ k) : (if j < 0 then P else Q + 104 * j) ≠ (if k < 0 then P else Q + 104 * k) ∧ ((if j < 0 then P else Q + 104 * j) + 1 ≠ (if k < 0 then P else Q + 104 * k) + 1 ∧ (if j < 0 then P else Q + 104 * j) + 1 ≠ (if k < 0 then P else Q + 104 * k) + 2 ∧ (if j < 0 then P else Q + 104 * j) + 2 ≠ (if k < 0 then P else Q + 104 * k) + 1 ∧ (if j < 0 then P else Q + 104 * j) + 2 ≠ (if k < 0 then P else Q + 104 * k) + 2) ∧ ((if j < 0 then P else Q + 104 * j) + 3 + 100 < (if k < 0 then P else Q + 104 * k) + 3 ∨ (if k < 0 then P else Q + 104 * k) + 3 + 100 < (if j < 0 then P else Q + 104 * j) + 3) := by
  by_cases z1 : j < 0
  · rw [if_pos z1]
    by_cases z2 : k < 0
    · omega
    · rw [if_neg z2]; omega
  · rw [if_neg z1]
    by_cases z2 : k < 0
    · rw [if_pos z2]; omega
    · rw [if_neg z2]; omega
theorem lt_ne {x a k : Int} (h : a < x) (hk : 0 ≤ k) : a ≠ x + k := by omega
theorem i_lt {j : Int} (h0 : 0 ≤ j) (h1 : j < 0) : False := by omega
theorem ORD (x : Int) : x + 2 + 104 ≤ x + 175 := by omega
theorem NFIN (x : Int) : x + 175 + 832 ≤ x + 2000 := by omega
theorem SFIN (x : Int) : x + 199724 + 48305 * (8 - 0) = x + 586164 := by omega
/-- the twin is made -/
theorem c185 (hd : 2 ≤ d) (hb : BTm m) (hM : tg m M = 11) (hf : ∀ f, vl m M f = 0) : ∃ m' B c, cl d 185 [pR M] m = some (.inl none, m') ∧ TWt m' M B ([], [], -1, false, -1, [], (fun _ => none), (fun _ => none)) c 64 ∧ SFr (fun a _ => a = M) m m' ∧ (pcT c 64 = 28864 ∧ nx m' ≤ nx m + 2000 ∧ sl m' = sl m + 586164) := by
  have hz := hb.tz
  obtain ⟨⟨k1, v1, b1, t1⟩, x1, y1, n1, l1⟩ := sa_arr (M := M) (f := 0) (t := 186103) (n := 16384) hb hM (by decide) (by decide)
  generalize q1 : mst (mal m 186103 16384) M 0 (nx m) = p1 at *
  obtain ⟨⟨k2, v2, b2, t2⟩, x2, y2, n2, l2⟩ := sa_arr (M := M) (f := 2) (t := 186103) (n := 32768) b1 t1 (by decide) (by decide)
  generalize q2 : mst (mal p1 186103 32768) M 2 (nx p1) = p2 at *
  have k3 : SFr (fun a _ => a = M) p2 (mst p2 M 5 (-1)) := ⟨(SFr.mst (m := p2) (M := M) (f := 5) (v := -1)).1, fun a j ha hj => by rw [vl_mst, if_neg (fun z => hj z.1)]⟩
  have v3 : ∀ j, vl (mst p2 M 5 (-1)) M j = if j = 5 then (-1) else vl p2 M j := fun j => by
    rw [vl_mst]
    by_cases z : j = 5
    · rw [if_pos ⟨rfl, z⟩, if_pos z]
    · rw [if_neg (fun w => z w.2), if_neg z]
  have b3 : BTm (mst p2 M 5 (-1)) := b2.mst (by omega)
  have t3 : tg (mst p2 M 5 (-1)) M = 11 := t2
  have n3 : nx (mst p2 M 5 (-1)) = nx p2 := rfl
  have l3 : sl (mst p2 M 5 (-1)) = sl p2 := rfl
  generalize q3 : mst p2 M 5 (-1) = p3 at *
  have k4 : SFr (fun a _ => a = M) p3 (mst p3 M 7 (-1)) := ⟨(SFr.mst (m := p3) (M := M) (f := 7) (v := -1)).1, fun a j ha hj => by rw [vl_mst, if_neg (fun z => hj z.1)]⟩
  have v4 : ∀ j, vl (mst p3 M 7 (-1)) M j = if j = 7 then (-1) else vl p3 M j := fun j => by
    rw [vl_mst]
    by_cases z : j = 7
    · rw [if_pos ⟨rfl, z⟩, if_pos z]
    · rw [if_neg (fun w => z w.2), if_neg z]
  have b4 : BTm (mst p3 M 7 (-1)) := b3.mst (by omega)
  have t4 : tg (mst p3 M 7 (-1)) M = 11 := t3
  have n4 : nx (mst p3 M 7 (-1)) = nx p3 := rfl
  have l4 : sl (mst p3 M 7 (-1)) = sl p3 := rfl
  generalize q4 : mst p3 M 7 (-1) = p4 at *
  obtain ⟨r5, e5, o5, w5, n5, l5, g5⟩ := sa_sto (d := d - 1) b4
  obtain ⟨k5, v5, b5, t5⟩ := STP.of (f := 8) o5 g5 t4 b4.tz
  have x5 := w5.sf (SFr.mst (m := r5) (M := M) (f := 8) (v := nx p4)) g5.tz (fun a j ha z => by rw [z.1, show tg r5 M = 11 from t5] at ha; unfold stA at ha; omega)
  have n5' : nx (mst r5 M 8 (nx p4)) = nx p4 + 104 := n5
  have l5' : sl (mst r5 M 8 (nx p4)) = sl p4 + 48305 := l5
  generalize q5 : mst r5 M 8 (nx p4) = p5 at *
  clear n5 l5
  have n5 := n5'
  have l5 := l5'
  obtain ⟨⟨k6, v6, b6, t6⟩, x6, y6, n6, l6⟩ := sa_arr (M := M) (f := 9) (t := 186117) (n := 8) b5 t5 (by decide) (by decide)
  generalize q6 : mst (mal p5 186117 8) M 9 (nx p5) = p6 at *
  obtain ⟨⟨k7, v7, b7, t7⟩, x7, y7, n7, l7⟩ := sa_arr (M := M) (f := 10) (t := 186118) (n := 4) b6 t6 (by decide) (by decide)
  generalize q7 : mst (mal p6 186118 4) M 10 (nx p6) = p7 at *
  obtain ⟨⟨k8, v8, b8, t8⟩, x8, y8, n8, l8⟩ := sa_arr (M := M) (f := 15) (t := 186103) (n := 32776) b7 t7 (by decide) (by decide)
  generalize q8 : mst (mal p7 186103 32776) M 15 (nx p7) = p8 at *
  obtain ⟨r9, e9, ⟨k9, v9, b9, t9⟩, x9, y9, n9, l9⟩ := sa_tree (d := d - 1) (M := M) (f := 18) b8 t8
  generalize q9 : mst r9 M 18 (nx p8) = p9 at *
  obtain ⟨r10, e10, ⟨k10, v10, b10, t10⟩, x10, y10, n10, l10⟩ := sa_tree (d := d - 1) (M := M) (f := 19) b9 t9
  generalize q10 : mst r10 M 19 (nx p9) = p10 at *
  obtain ⟨⟨k11, v11, b11, t11⟩, x11, y11, n11, l11⟩ := sa_arr (M := M) (f := 20) (t := 186103) (n := 480) b10 t10 (by decide) (by decide)
  generalize q11 : mst (mal p10 186103 480) M 20 (nx p10) = p11 at *
  obtain ⟨⟨k12, v12, b12, t12⟩, x12, y12, n12, l12⟩ := sa_arr (M := M) (f := 22) (t := 186101) (n := 16385) b11 t11 (by decide) (by decide)
  generalize q12 : mst (mal p11 186101 16385) M 22 (nx p11) = p12 at *
  obtain ⟨⟨k13, v13, b13, t13⟩, x13, y13, n13, l13⟩ := sa_arr (M := M) (f := 23) (t := 186101) (n := 16385) b12 t12 (by decide) (by decide)
  generalize q13 : mst (mal p12 186101 16385) M 23 (nx p12) = p13 at *
  obtain ⟨r14, e14, ⟨k14, v14, b14, t14⟩, x14, y14, n14, l14⟩ := sa_tree (d := d - 1) (M := M) (f := 25) b13 t13
  generalize q14 : mst r14 M 25 (nx p13) = p14 at *
  obtain ⟨⟨k15, v15, b15, t15⟩, x15, y15, n15, l15⟩ := sa_arr (M := M) (f := 27) (t := 186101) (n := 512) b14 t14 (by decide) (by decide)
  generalize q15 : mst (mal p14 186101 512) M 27 (nx p14) = p15 at *
  obtain ⟨⟨k16, v16, b16, t16⟩, x16, y16, n16, l16⟩ := sa_arr (M := M) (f := 28) (t := 186102) (n := 192) b15 t15 (by decide) (by decide)
  generalize q16 : mst (mal p15 186102 192) M 28 (nx p15) = p16 at *
  obtain ⟨r17, e17, ⟨k17, v17, b17, t17⟩, x17, y17, n17, l17⟩ := sa_tree (d := d - 1) (M := M) (f := 30) b16 t16
  generalize q17 : mst r17 M 30 (nx p16) = p17 at *
  obtain ⟨⟨k18, v18, b18, t18⟩, x18, y18, n18, l18⟩ := sa_arr (M := M) (f := 32) (t := 186101) (n := 20100) b17 t17 (by decide) (by decide)
  generalize q18 : mst (mal p17 186101 20100) M 32 (nx p17) = p18 at *
  obtain ⟨r19, e19, ⟨k19, v19, b19, t19⟩, x19, y19, n19, l19⟩ := sa_tree (d := d - 1) (M := M) (f := 37) b18 t18
  generalize q19 : mst r19 M 37 (nx p18) = p19 at *
  have a0 : nx m = nx m + 0 := (Int.add_zero _).symm
  have s0 : sl m = sl m + 0 := (Int.add_zero _).symm
  have a1 : nx p1 = nx m + 1 := nxs n1 a0
  have s1 : sl p1 = sl m + 16384 := nxs l1 s0
  have a2 : nx p2 = nx m + 2 := nxs n2 a1
  have s2 : sl p2 = sl m + 49152 := nxs l2 s1
  have a3 : nx p3 = nx m + 2 := n3.trans a2
  have s3 : sl p3 = sl m + 49152 := l3.trans s2
  have a4 : nx p4 = nx m + 2 := n4.trans a3
  have s4 : sl p4 = sl m + 49152 := l4.trans s3
  have a5 : nx p5 = nx m + 106 := nxs n5 a4
  have s5 : sl p5 = sl m + 97457 := nxs l5 s4
  have a6 : nx p6 = nx m + 107 := nxs n6 a5
  have s6 : sl p6 = sl m + 97465 := nxs l6 s5
  have a7 : nx p7 = nx m + 108 := nxs n7 a6
  have s7 : sl p7 = sl m + 97469 := nxs l7 s6
  have a8 : nx p8 = nx m + 109 := nxs n8 a7
  have s8 : sl p8 = sl m + 130245 := nxs l8 s7
  have a9 : nx p9 = nx m + 121 := nxs n9 a8
  have s9 : sl p9 = sl m + 133330 := nxs l9 s8
  have a10 : nx p10 = nx m + 133 := nxs n10 a9
  have s10 : sl p10 = sl m + 136415 := nxs l10 s9
  have a11 : nx p11 = nx m + 134 := nxs n11 a10
  have s11 : sl p11 = sl m + 136895 := nxs l11 s10
  have a12 : nx p12 = nx m + 135 := nxs n12 a11
  have s12 : sl p12 = sl m + 153280 := nxs l12 s11
  have a13 : nx p13 = nx m + 136 := nxs n13 a12
  have s13 : sl p13 = sl m + 169665 := nxs l13 s12
  have a14 : nx p14 = nx m + 148 := nxs n14 a13
  have s14 : sl p14 = sl m + 172750 := nxs l14 s13
  have a15 : nx p15 = nx m + 149 := nxs n15 a14
  have s15 : sl p15 = sl m + 173262 := nxs l15 s14
  have a16 : nx p16 = nx m + 150 := nxs n16 a15
  have s16 : sl p16 = sl m + 173454 := nxs l16 s15
  have a17 : nx p17 = nx m + 162 := nxs n17 a16
  have s17 : sl p17 = sl m + 176539 := nxs l17 s16
  have a18 : nx p18 = nx m + 163 := nxs n18 a17
  have s18 : sl p18 = sl m + 196639 := nxs l18 s17
  have a19 : nx p19 = nx m + 175 := nxs n19 a18
  have s19 : sl p19 = sl m + 199724 := nxs l19 s18
  have c19 : SFr (fun a _ => a = M) p19 p19 := ⟨KP.refl, fun _ _ _ _ => rfl⟩
  have tr : ∀ {u v w : Mem}, SFr (fun a _ => a = M) u v → SFr (fun a _ => a = M) v w → SFr (fun a _ => a = M) u w := fun h h' => ⟨(h.trans h').1, fun a j ha hj => (h.trans h').2 a j ha fun z => z.elim hj hj⟩
  have c18 := tr k19 c19
  have c17 := tr k18 c18
  have c16 := tr k17 c17
  have c15 := tr k16 c16
  have c14 := tr k15 c15
  have c13 := tr k14 c14
  have c12 := tr k13 c13
  have c11 := tr k12 c12
  have c10 := tr k11 c11
  have c9 := tr k10 c10
  have c8 := tr k9 c9
  have c7 := tr k8 c8
  have c6 := tr k7 c7
  have c5 := tr k6 c6
  have c4 := tr k5 c5
  have c3 := tr k4 c4
  have c2 := tr k3 c3
  have c1 := tr k2 c2
  have c0 := tr k1 c1
  have R9 : vl p19 M 9 = nx p5 := by rw [v19, if_neg (by decide), v18, if_neg (by decide), v17, if_neg (by decide), v16, if_neg (by decide), v15, if_neg (by decide), v14, if_neg (by decide), v13, if_neg (by decide), v12, if_neg (by decide), v11, if_neg (by decide), v10, if_neg (by decide), v9, if_neg (by decide), v8, if_neg (by decide), v7, if_neg (by decide), v6, if_pos rfl]
  have tR := c6.l b6.tz x6 (by decide)
  obtain ⟨m', e, kR, bf, nf, lf, hr⟩ := c185_178 (d := d) (M := M) (N0 := nx p19) (R := nx p5) (Nat.le_trans (by decide) hd) 8 p19 0 (by decide) (by decide) (by decide) b19 t19 R9 tR (Int.add_zero _).symm (fun j j0 j1 => (i_lt j0 j1).elim)
  have hzl := b19.tz
  have tM := kR.t hzl t19 (by decide)
  have F0 : vl m' M 0 = nx m := by rw [kR.zR hzl tR.1 t19 (by decide) (by decide), v19, if_neg (by decide), v18, if_neg (by decide), v17, if_neg (by decide), v16, if_neg (by decide), v15, if_neg (by decide), v14, if_neg (by decide), v13, if_neg (by decide), v12, if_neg (by decide), v11, if_neg (by decide), v10, if_neg (by decide), v9, if_neg (by decide), v8, if_neg (by decide), v7, if_neg (by decide), v6, if_neg (by decide), v5, if_neg (by decide), v4, if_neg (by decide), v3, if_neg (by decide), v2, if_neg (by decide), v1, if_pos rfl]
  have F1 : vl m' M 1 = 0 := by rw [kR.zR hzl tR.1 t19 (by decide) (by decide), v19, if_neg (by decide), v18, if_neg (by decide), v17, if_neg (by decide), v16, if_neg (by decide), v15, if_neg (by decide), v14, if_neg (by decide), v13, if_neg (by decide), v12, if_neg (by decide), v11, if_neg (by decide), v10, if_neg (by decide), v9, if_neg (by decide), v8, if_neg (by decide), v7, if_neg (by decide), v6, if_neg (by decide), v5, if_neg (by decide), v4, if_neg (by decide), v3, if_neg (by decide), v2, if_neg (by decide), v1, if_neg (by decide), hf]
  have F2 : vl m' M 2 = nx p1 := by rw [kR.zR hzl tR.1 t19 (by decide) (by decide), v19, if_neg (by decide), v18, if_neg (by decide), v17, if_neg (by decide), v16, if_neg (by decide), v15, if_neg (by decide), v14, if_neg (by decide), v13, if_neg (by decide), v12, if_neg (by decide), v11, if_neg (by decide), v10, if_neg (by decide), v9, if_neg (by decide), v8, if_neg (by decide), v7, if_neg (by decide), v6, if_neg (by decide), v5, if_neg (by decide), v4, if_neg (by decide), v3, if_neg (by decide), v2, if_pos rfl]
  have F3 : vl m' M 3 = 0 := by rw [kR.zR hzl tR.1 t19 (by decide) (by decide), v19, if_neg (by decide), v18, if_neg (by decide), v17, if_neg (by decide), v16, if_neg (by decide), v15, if_neg (by decide), v14, if_neg (by decide), v13, if_neg (by decide), v12, if_neg (by decide), v11, if_neg (by decide), v10, if_neg (by decide), v9, if_neg (by decide), v8, if_neg (by decide), v7, if_neg (by decide), v6, if_neg (by decide), v5, if_neg (by decide), v4, if_neg (by decide), v3, if_neg (by decide), v2, if_neg (by decide), v1, if_neg (by decide), hf]
  have F5 : vl m' M 5 = (-1) := by rw [kR.zR hzl tR.1 t19 (by decide) (by decide), v19, if_neg (by decide), v18, if_neg (by decide), v17, if_neg (by decide), v16, if_neg (by decide), v15, if_neg (by decide), v14, if_neg (by decide), v13, if_neg (by decide), v12, if_neg (by decide), v11, if_neg (by decide), v10, if_neg (by decide), v9, if_neg (by decide), v8, if_neg (by decide), v7, if_neg (by decide), v6, if_neg (by decide), v5, if_neg (by decide), v4, if_neg (by decide), v3, if_pos rfl]
  have F6 : vl m' M 6 = 0 := by rw [kR.zR hzl tR.1 t19 (by decide) (by decide), v19, if_neg (by decide), v18, if_neg (by decide), v17, if_neg (by decide), v16, if_neg (by decide), v15, if_neg (by decide), v14, if_neg (by decide), v13, if_neg (by decide), v12, if_neg (by decide), v11, if_neg (by decide), v10, if_neg (by decide), v9, if_neg (by decide), v8, if_neg (by decide), v7, if_neg (by decide), v6, if_neg (by decide), v5, if_neg (by decide), v4, if_neg (by decide), v3, if_neg (by decide), v2, if_neg (by decide), v1, if_neg (by decide), hf]
  have F7 : vl m' M 7 = (-1) := by rw [kR.zR hzl tR.1 t19 (by decide) (by decide), v19, if_neg (by decide), v18, if_neg (by decide), v17, if_neg (by decide), v16, if_neg (by decide), v15, if_neg (by decide), v14, if_neg (by decide), v13, if_neg (by decide), v12, if_neg (by decide), v11, if_neg (by decide), v10, if_neg (by decide), v9, if_neg (by decide), v8, if_neg (by decide), v7, if_neg (by decide), v6, if_neg (by decide), v5, if_neg (by decide), v4, if_pos rfl]
  have F8 : vl m' M 8 = nx p4 := by rw [kR.zR hzl tR.1 t19 (by decide) (by decide), v19, if_neg (by decide), v18, if_neg (by decide), v17, if_neg (by decide), v16, if_neg (by decide), v15, if_neg (by decide), v14, if_neg (by decide), v13, if_neg (by decide), v12, if_neg (by decide), v11, if_neg (by decide), v10, if_neg (by decide), v9, if_neg (by decide), v8, if_neg (by decide), v7, if_neg (by decide), v6, if_neg (by decide), v5, if_pos rfl]
  have F9 : vl m' M 9 = nx p5 := by rw [kR.zR hzl tR.1 t19 (by decide) (by decide), v19, if_neg (by decide), v18, if_neg (by decide), v17, if_neg (by decide), v16, if_neg (by decide), v15, if_neg (by decide), v14, if_neg (by decide), v13, if_neg (by decide), v12, if_neg (by decide), v11, if_neg (by decide), v10, if_neg (by decide), v9, if_neg (by decide), v8, if_neg (by decide), v7, if_neg (by decide), v6, if_pos rfl]
  have F10 : vl m' M 10 = nx p6 := by rw [kR.zR hzl tR.1 t19 (by decide) (by decide), v19, if_neg (by decide), v18, if_neg (by decide), v17, if_neg (by decide), v16, if_neg (by decide), v15, if_neg (by decide), v14, if_neg (by decide), v13, if_neg (by decide), v12, if_neg (by decide), v11, if_neg (by decide), v10, if_neg (by decide), v9, if_neg (by decide), v8, if_neg (by decide), v7, if_pos rfl]
  have F15 : vl m' M 15 = nx p7 := by rw [kR.zR hzl tR.1 t19 (by decide) (by decide), v19, if_neg (by decide), v18, if_neg (by decide), v17, if_neg (by decide), v16, if_neg (by decide), v15, if_neg (by decide), v14, if_neg (by decide), v13, if_neg (by decide), v12, if_neg (by decide), v11, if_neg (by decide), v10, if_neg (by decide), v9, if_neg (by decide), v8, if_pos rfl]
  have F18 : vl m' M 18 = nx p8 := by rw [kR.zR hzl tR.1 t19 (by decide) (by decide), v19, if_neg (by decide), v18, if_neg (by decide), v17, if_neg (by decide), v16, if_neg (by decide), v15, if_neg (by decide), v14, if_neg (by decide), v13, if_neg (by decide), v12, if_neg (by decide), v11, if_neg (by decide), v10, if_neg (by decide), v9, if_pos rfl]
  have F19 : vl m' M 19 = nx p9 := by rw [kR.zR hzl tR.1 t19 (by decide) (by decide), v19, if_neg (by decide), v18, if_neg (by decide), v17, if_neg (by decide), v16, if_neg (by decide), v15, if_neg (by decide), v14, if_neg (by decide), v13, if_neg (by decide), v12, if_neg (by decide), v11, if_neg (by decide), v10, if_pos rfl]
  have F20 : vl m' M 20 = nx p10 := by rw [kR.zR hzl tR.1 t19 (by decide) (by decide), v19, if_neg (by decide), v18, if_neg (by decide), v17, if_neg (by decide), v16, if_neg (by decide), v15, if_neg (by decide), v14, if_neg (by decide), v13, if_neg (by decide), v12, if_neg (by decide), v11, if_pos rfl]
  have F22 : vl m' M 22 = nx p11 := by rw [kR.zR hzl tR.1 t19 (by decide) (by decide), v19, if_neg (by decide), v18, if_neg (by decide), v17, if_neg (by decide), v16, if_neg (by decide), v15, if_neg (by decide), v14, if_neg (by decide), v13, if_neg (by decide), v12, if_pos rfl]
  have F23 : vl m' M 23 = nx p12 := by rw [kR.zR hzl tR.1 t19 (by decide) (by decide), v19, if_neg (by decide), v18, if_neg (by decide), v17, if_neg (by decide), v16, if_neg (by decide), v15, if_neg (by decide), v14, if_neg (by decide), v13, if_pos rfl]
  have F25 : vl m' M 25 = nx p13 := by rw [kR.zR hzl tR.1 t19 (by decide) (by decide), v19, if_neg (by decide), v18, if_neg (by decide), v17, if_neg (by decide), v16, if_neg (by decide), v15, if_neg (by decide), v14, if_pos rfl]
  have F27 : vl m' M 27 = nx p14 := by rw [kR.zR hzl tR.1 t19 (by decide) (by decide), v19, if_neg (by decide), v18, if_neg (by decide), v17, if_neg (by decide), v16, if_neg (by decide), v15, if_pos rfl]
  have F28 : vl m' M 28 = nx p15 := by rw [kR.zR hzl tR.1 t19 (by decide) (by decide), v19, if_neg (by decide), v18, if_neg (by decide), v17, if_neg (by decide), v16, if_pos rfl]
  have F29 : vl m' M 29 = 0 := by rw [kR.zR hzl tR.1 t19 (by decide) (by decide), v19, if_neg (by decide), v18, if_neg (by decide), v17, if_neg (by decide), v16, if_neg (by decide), v15, if_neg (by decide), v14, if_neg (by decide), v13, if_neg (by decide), v12, if_neg (by decide), v11, if_neg (by decide), v10, if_neg (by decide), v9, if_neg (by decide), v8, if_neg (by decide), v7, if_neg (by decide), v6, if_neg (by decide), v5, if_neg (by decide), v4, if_neg (by decide), v3, if_neg (by decide), v2, if_neg (by decide), v1, if_neg (by decide), hf]
  have F30 : vl m' M 30 = nx p16 := by rw [kR.zR hzl tR.1 t19 (by decide) (by decide), v19, if_neg (by decide), v18, if_neg (by decide), v17, if_pos rfl]
  have F32 : vl m' M 32 = nx p17 := by rw [kR.zR hzl tR.1 t19 (by decide) (by decide), v19, if_neg (by decide), v18, if_pos rfl]
  have F37 : vl m' M 37 = nx p18 := by rw [kR.zR hzl tR.1 t19 (by decide) (by decide), v19, if_pos rfl]
  have X0 := kR.l hzl (c1.l b1.tz x1 (by decide)) (by decide)
  have X2 := kR.l hzl (c2.l b2.tz x2 (by decide)) (by decide)
  have X8 := (x5.kM c5 b5.tz t5).kR kR hzl tR.1
  have X9 := kR.l hzl (c6.l b6.tz x6 (by decide)) (by decide)
  have X10 := kR.l hzl (c7.l b7.tz x7 (by decide)) (by decide)
  have X15 := kR.l hzl (c8.l b8.tz x8 (by decide)) (by decide)
  obtain ⟨X18', U18⟩ := x9.kM c9 b9.tz t9
  obtain ⟨X18, U18'⟩ := X18'.kR kR hzl tR.1
  have V18 := (U18'.trans U18).trans y9
  obtain ⟨X19', U19⟩ := x10.kM c10 b10.tz t10
  obtain ⟨X19, U19'⟩ := X19'.kR kR hzl tR.1
  have V19 := (U19'.trans U19).trans y10
  have X20 := kR.l hzl (c11.l b11.tz x11 (by decide)) (by decide)
  have X22 := kR.l hzl (c12.l b12.tz x12 (by decide)) (by decide)
  have X23 := kR.l hzl (c13.l b13.tz x13 (by decide)) (by decide)
  obtain ⟨X25', U25⟩ := x14.kM c14 b14.tz t14
  obtain ⟨X25, U25'⟩ := X25'.kR kR hzl tR.1
  have V25 := (U25'.trans U25).trans y14
  have X27 := kR.l hzl (c15.l b15.tz x15 (by decide)) (by decide)
  have X28 := kR.l hzl (c16.l b16.tz x16 (by decide)) (by decide)
  obtain ⟨X30', U30⟩ := x17.kM c17 b17.tz t17
  obtain ⟨X30, U30'⟩ := X30'.kR kR hzl tR.1
  have V30 := (U30'.trans U30).trans y17
  have X32 := kR.l hzl (c18.l b18.tz x18 (by decide)) (by decide)
  obtain ⟨X37', U37⟩ := x19.kM c19 b19.tz t19
  obtain ⟨X37, U37'⟩ := X37'.kR kR hzl tR.1
  have V37 := (U37'.trans U37).trans y19
  have Z10 : ∀ j, vl m' (nx p6) j = 0 := fun j => by
    have t10 := c7.l b7.tz x7 (by decide)
    rw [kR.zR hzl tR.1 t10.1 (by decide) (by decide), c7.zM b7.tz t7 x7.1 (by decide) (by decide), y7]
  refine ⟨m', fun f => if 100 ≤ f then nx p19 + 104 * (f - 100) else vl m' M f, fun _ => 5632, ?_, ?_, ?_, ?_⟩
  · refine q185 (Nat.lt_of_lt_of_le (by decide) hd) hz _ ?_
    rw [gd_of hM, nw_eq, q1, nw_eq, q2, q3, q4, nw_eq, bV_eq e5, q5, nw_eq, q6, nw_eq, q7, nw_eq, q8, nw_eq, bV_eq e9, q9, nw_eq, bV_eq e10, q10, nw_eq, q11, nw_eq, q12, nw_eq, q13, nw_eq, bV_eq e14, q14, nw_eq, q15, nw_eq, q16, nw_eq, bV_eq e17, q17, nw_eq, q18, nw_eq, bV_eq e19, q19]
    exact e
  · generalize hB : (fun f : Int => if 100 ≤ f then nx p19 + 104 * (f - 100) else vl m' M f) = B
    have hBf : ∀ f, f < 100 → B f = vl m' M f := fun f hf => by rw [← hB]; exact if_neg (Int.not_le.mpr hf)
    have hBr : ∀ k, 0 ≤ k → B (100 + k) = nx p19 + 104 * k := fun k hk => by rw [← hB]; exact bB_r hk
    have G0 : B 0 = nx m := (hBf 0 (by decide)).trans F0
    have G2 : B 2 = nx p1 := (hBf 2 (by decide)).trans F2
    have G8 : B 8 = nx p4 := (hBf 8 (by decide)).trans F8
    have G9 : B 9 = nx p5 := (hBf 9 (by decide)).trans F9
    have G10 : B 10 = nx p6 := (hBf 10 (by decide)).trans F10
    have G15 : B 15 = nx p7 := (hBf 15 (by decide)).trans F15
    have G18 : B 18 = nx p8 := (hBf 18 (by decide)).trans F18
    have G19 : B 19 = nx p9 := (hBf 19 (by decide)).trans F19
    have G20 : B 20 = nx p10 := (hBf 20 (by decide)).trans F20
    have G22 : B 22 = nx p11 := (hBf 22 (by decide)).trans F22
    have G23 : B 23 = nx p12 := (hBf 23 (by decide)).trans F23
    have G25 : B 25 = nx p13 := (hBf 25 (by decide)).trans F25
    have G27 : B 27 = nx p14 := (hBf 27 (by decide)).trans F27
    have G28 : B 28 = nx p15 := (hBf 28 (by decide)).trans F28
    have G30 : B 30 = nx p16 := (hBf 30 (by decide)).trans F30
    have G32 : B 32 = nx p17 := (hBf 32 (by decide)).trans F32
    have G37 : B 37 = nx p18 := (hBf 37 (by decide)).trans F37
    have adr : ∀ k, vB B k = (if k < 0 then nx p4 else nx p19 + 104 * k) := fun k => by
      by_cases z : k < 0
      · rw [vB_n z, G8, if_pos z]
      · rw [vB_p (Int.not_lt.mp z), hBr k (Int.not_lt.mp z), if_neg z]
    have nst : ∀ k, -1 ≤ k → k < 8 → NST m' (vB B k) := fun k k0 k1 => by
      rw [adr]
      by_cases z : k < 0
      · rw [if_pos z]; exact X8
      · rw [if_neg z]; exact (hr k (Int.not_lt.mp z) k1).2
    have ord : nx p4 + 104 ≤ nx p19 := by rw [a4, a19]; exact ORD _
    refine ⟨bf, ⟨tM, fun f hf => (hBf f (qf_lt hf)).symm, ⟨by rw [G0]; exact X0, by rw [G2]; exact X2, by rw [G15]; exact X15, by rw [G20]; exact X20⟩, ⟨by rw [G22]; exact X22, by rw [G23]; exact X23, by rw [G32]; exact X32, by rw [G22, G23, a11, a12]; exact ne_add (by decide)⟩, ⟨by rw [G9]; exact kR.l hzl tR (by decide), by rw [G10]; exact X10⟩, ⟨by rw [G18, G19, a8, a9]; exact ne_add (by decide), by rw [G18, G25, a8, a13]; exact ne_add (by decide), by rw [G18, G30, a8, a16]; exact ne_add (by decide), by rw [G18, G37, a8, a18]; exact ne_add (by decide), by rw [G19, G25, a9, a13]; exact ne_add (by decide), by rw [G19, G30, a9, a16]; exact ne_add (by decide), by rw [G19, G37, a9, a18]; exact ne_add (by decide), by rw [G25, G30, a13, a16]; exact ne_add (by decide), by rw [G25, G37, a13, a18]; exact ne_add (by decide), by rw [G30, G37, a16, a18]; exact ne_add (by decide)⟩⟩, ⟨F1, by decide, fun j j0 j1 => (nolen j0 j1).elim⟩, ⟨F3, by decide, fun b hb => (by cases hb), fun j j0 j1 => (nolen j0 j1).elim⟩, ⟨F6, F7, F5⟩, ⟨⟨⟨0, [], 256, by rw [G18]; exact X18, by unfold tC; rw [G18, V18]; rfl, by decide, by rw [G18, V18]; decide⟩, ⟨0, [], 256, by rw [G19]; exact X19, by unfold tC; rw [G19, V19]; rfl, by decide, by rw [G19, V19]; decide⟩, ⟨0, [], 256, by rw [G25]; exact X25, by unfold tC; rw [G25, V25]; rfl, by decide, by rw [G25, V25]; decide⟩, ⟨0, [], 256, by rw [G30]; exact X30, by unfold tC; rw [G30, V30]; rfl, by decide, by rw [G30, V30]; decide⟩⟩, 256, by rw [G37]; exact X37, by unfold tC; rw [G37, V37]; rfl, by decide, by rw [G37, V37]; decide⟩, ⟨0, tM, F29, by rw [F27]; exact ⟨Or.inl X27.1, X27.2⟩, by rw [F28]; exact ⟨Or.inl X28.1, X28.2⟩, by decide, by rw [F27, F32, a14, a17]; exact ne_add (by decide), by rw [F32]; exact X32.1⟩, ⟨by rw [G8]; exact X8.1, fun k k0 k1 => ?_, fun j k j0 j1 k0 k1 hne => ?_⟩, fun k k0 k1 => ⟨fun _ => by rw [G10]; exact Z10 k, fun Q hQ => (by cases hQ)⟩⟩
    · obtain ⟨h1, h2⟩ := hr k k0 k1
      rw [G9, hBr k k0]
      exact ⟨h1, h2.2.2.2.2, [], h2.1, fun D hD => (by cases hD)⟩
    · obtain ⟨-, a0, a1, a2, -⟩ := nst j j0 j1
      obtain ⟨-, b0, b1', b2, -⟩ := nst k k0 k1
      unfold DJ
      rw [a0, a1, a2, b0, b1', b2, adr j, adr k]
      exact adr_dj ord j0 k0 hne
  · have lt : ∀ a, a < nx m → a ≠ nx p5 := fun a ha => by rw [a5]; exact lt_ne ha (by decide)
    exact ⟨c0.1.trans kR.1, fun a j ha hj => by rw [kR.2 a j (Int.lt_of_lt_of_le ha c0.1.2.1) (lt a ha), c0.2 a j ha hj]⟩
  · refine ⟨rfl, ?_, ?_⟩
    · rw [nf, a19]; exact NFIN _
    · rw [lf, s19]; exact SFIN _
end
