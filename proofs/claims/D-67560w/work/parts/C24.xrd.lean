/-! the component is made: its smaller things, readers, the empty disk -/
set_option maxRecDepth 100000
set_option maxHeartbeats 8000000
section
variable {d : Nat} {m m0 m1 : Mem} {X K : Int}
theorem sx_o74 {f : Int} (hd : 2 ≤ d) (hb : BX m) (hX : tg m X = 1) : ∃ m2, cl d 74 [pR (nx m)] (mal m 4 5) = some (.inl none, m2) ∧ STW X 1 f (nx m) m (mst m2 X f (nx m)) ∧ tg (mst m2 X f (nx m)) (nx m) = 4 ∧ nx (mst m2 X f (nx m)) = nx m + 1 ∧ sl (mst m2 X f (nx m)) = sl m + 5 := by
  obtain ⟨k, x, -, n, l⟩ := sw_arr (W := X) (w := 1) (f := f) (t := 4) (n := 5) hb hX (by decide) (by decide) (by decide) (by decide)
  have z1 : TZ (mal m 4 5) := (UT.mal (ts := []) (m := m) (t := 4) (n := 5)).1.1 hb.tz
  have t : tg (mal m 4 5) (nx m) = 4 := by rw [tg_mal, if_pos rfl]
  have e : cl (d - 1) 60 [pR (nx m)] (mal m 4 5) = some (.inl none, mal m 4 5) := q60 z1 _ (by rw [gd_of (Or.inl t)])
  exact ⟨mal m 4 5, q74 (by omega) z1 _ (by rw [gd_of (Or.inl t), bV_eq e]), k, x.1, n, l⟩
theorem sx_o80 {f : Int} (hd : 2 ≤ d) (hb : BX m) (hX : tg m X = 1) : ∃ m2, cl d 80 [pR (nx m)] (mal m 5 6) = some (.inl none, m2) ∧ STW X 1 f (nx m) m (mst m2 X f (nx m)) ∧ tg (mst m2 X f (nx m)) (nx m) = 5 ∧ nx (mst m2 X f (nx m)) = nx m + 1 ∧ sl (mst m2 X f (nx m)) = sl m + 6 := by
  obtain ⟨k, x, -, n, l⟩ := sw_arr (W := X) (w := 1) (f := f) (t := 5) (n := 6) hb hX (by decide) (by decide) (by decide) (by decide)
  have z1 : TZ (mal m 5 6) := (UT.mal (ts := []) (m := m) (t := 5) (n := 6)).1.1 hb.tz
  have t : tg (mal m 5 6) (nx m) = 5 := by rw [tg_mal, if_pos rfl]
  have e : cl (d - 1) 60 [pR (nx m)] (mal m 5 6) = some (.inl none, mal m 5 6) := q60 z1 _ (by rw [gd_of (Or.inr t)])
  exact ⟨mal m 5 6, q80 (by omega) z1 _ (by rw [gd_of (Or.inr t), bV_eq e]), k, x.1, n, l⟩
theorem sx_o184 {f : Int} (hb : BX m) (hX : tg m X = 1) : ∃ m2, cl d 184 [pR (nx m)] (mal m 10 4) = some (.inl none, m2) ∧ STW X 1 f (nx m) m (mst m2 X f (nx m)) ∧ (tg (mst m2 X f (nx m)) (nx m) = 10 ∧ ∀ j, vl (mst m2 X f (nx m)) (nx m) j = 0) ∧ nx (mst m2 X f (nx m)) = nx m + 1 ∧ sl (mst m2 X f (nx m)) = sl m + 4 := by
  obtain ⟨k, x, y, n, l⟩ := sw_arr (W := X) (w := 1) (f := f) (t := 10) (n := 4) hb hX (by decide) (by decide) (by decide) (by decide)
  have z1 : TZ (mal m 10 4) := (UT.mal (ts := []) (m := m) (t := 10) (n := 4)).1.1 hb.tz
  have t : tg (mal m 10 4) (nx m) = 10 := by rw [tg_mal, if_pos rfl]
  exact ⟨mal m 10 4, q184 z1 _ (by rw [gd_of t]), k, ⟨x.1, y⟩, n, l⟩
theorem sx_o103 {f : Int} (hb : BX m) (hX : tg m X = 1) : ∃ m2, cl d 103 [pR (nx m)] (mal m 6 5) = some (.inl none, m2) ∧ STW X 1 f (nx m) m (mst m2 X f (nx m)) ∧ RNI (mst m2 X f (nx m)) (nx m) 256 ∧ nx (mst m2 X f (nx m)) = nx m + 2 ∧ sl (mst m2 X f (nx m)) = sl m + 261 := by
  have b0 : BX (mal m 6 5) := hb.mal' (by decide) (by decide) (by decide)
  have t0 : tg (mal m 6 5) (nx m) = 6 := by rw [tg_mal, if_pos rfl]
  obtain ⟨k, x, y, n, l⟩ := sw_arr (W := nx m) (w := 6) (f := 2) (t := 104101) (n := 256) b0 t0 (by decide) (by decide) (by decide) (by decide)
  have e : cl d 103 [pR (nx m)] (mal m 6 5) = some (.inl none, mst (mal (mal m 6 5) 104101 256) (nx m) 2 (nx (mal m 6 5))) := q103 b0.tz _ (by rw [gd_of t0, nw_eq])
  have o : OLD m (mst (mal (mal m 6 5) 104101 256) (nx m) 2 (nx (mal m 6 5))) := (OLD.rfl'.mal').mal'.mst' (Int.le_refl _)
  have w2 := k.2.1 2
  rw [if_pos rfl] at w2
  have hn : nx (mal m 6 5) = nx m + 1 := rfl
  have hl : sl (mal m 6 5) = sl m + 5 := rfl
  revert e o k x n l w2
  generalize mst (mal (mal m 6 5) 104101 256) (nx m) 2 (nx (mal m 6 5)) = m2
  intro k x n l e o w2
  have lt := tz_lt hb.tz (by omega : tg m X ≠ 0)
  refine ⟨m2, e, STW.of o k.2.2.1 hX (by decide) hb.tz, ⟨k.2.2.2, ⟨?_, ?_⟩, by decide, by decide⟩, ?_, ?_⟩
  · rw [vl_mst, if_neg (by omega), w2]; exact Or.inl x.1
  · rw [vl_mst, if_neg (by omega), w2]; exact x.2
  · show nx m2 = _; omega
  · show sl m2 = _; omega
theorem sx_o111 {f : Int} (hd : 8 ≤ d) (hb : BX m) (hX : tg m X = 1) : ∃ m2, cl d 111 [pR (nx m)] (mal m 7 17) = some (.inl none, m2) ∧ STW X 1 f (nx m) m (mst m2 X f (nx m)) ∧ (PB (mst m2 X f (nx m)) (nx m) [] none none 5120 ∧ PVW (mst m2 X f (nx m)) (nx m) ∧ SK (mst m2 X f (nx m)) (nx m + 15) [] 480) ∧ nx (mst m2 X f (nx m)) = nx m + 17 ∧ sl (mst m2 X f (nx m)) = sl m + 22112 := by
  obtain ⟨m2, e, o, b, p, v, s, n, l⟩ := c111 hd hb
  have t := o.t hb.tz hX (by decide)
  have k := STW.of (f := f) (v := nx m) o b hX (by decide) hb.tz
  have u : UT [2, 52103, 7, 8, 130103, 132103] m2 (mst m2 X f (nx m)) := UT.mst (by rw [t]; simp)
  obtain ⟨p1, p2, -⟩ := p.gen u k.2.2.1.1.2.1 (by simp) fun r ys c _ hw => hw.ut u b.tz (by simp) (by simp) (by simp)
  obtain ⟨v0, v5, v6, v7, v8, v9, v15⟩ := v
  exact ⟨m2, e, k, ⟨p1, ⟨by rw [p2 0 (by decide) (by decide)]; exact v0, by rw [p2 5 (by decide) (by decide)]; exact v5, by rw [p2 6 (by decide) (by decide)]; exact v6, by rw [p2 7 (by decide) (by decide)]; exact v7, by rw [p2 8 (by decide) (by decide)]; exact v8, by rw [p2 9 (by decide) (by decide)]; exact v9, by rw [p2 15 (by decide) (by decide)]; exact v15⟩, s.ut u b.tz (by simp) (by simp)⟩, n, l⟩
abbrev zBC : RF := fun _ _ => 0
theorem sx_o152 {f : Int} (hb : BX m) (hX : tg m X = 1) : ∃ m2, cl d 152 [pR (nx m)] (mal m 9 9) = some (.inl none, m2) ∧ STW X 1 f (nx m) m (mst m2 X f (nx m)) ∧ DR (mst m2 X f (nx m)) (nx m) zBC [] ∧ nx (mst m2 X f (nx m)) = nx m + 7 ∧ sl (mst m2 X f (nx m)) = sl m + 1227177 := by
  obtain ⟨m2, e, o, b, hD, hc, h7, ⟨-, h6, h8⟩, n, l⟩ := c152 (d := d) hb
  have t := o.t hb.tz hX (by decide)
  have k := STW.of (f := f) (v := nx m) o b hX (by decide) hb.tz
  have u : UT dkT m2 (mst m2 X f (nx m)) := UT.mst (by rw [t]; simp)
  have dr : DR m2 (nx m) zBC [] := ⟨hD, hc, by rw [h6]; decide, 0, h8, by decide, fun i i0 i1 => (nolen i0 i1).elim, fun i _ _ => h7 i, List.nodup_nil, fun p hp => (by cases hp), fun p hp => (by cases hp)⟩
  exact ⟨m2, e, k, dr.ut u b.tz (fun _ h => h), n, l⟩
/-- a reader that isn't open -/
def RDn (m : Mem) (a : Int) : Prop := tg m a = 10 ∧ ∀ j, vl m a j = 0
theorem c16_rd {N0 R : Int} : ∀ (N : Nat) (m : Mem) (k : Int), (8 - k).toNat = N → 0 ≤ k → k ≤ 8 → BX m → tg m X = 1 → vl m X 13 = R → (tg m R = 17115 ∧ ln m R = 8) → nx m = N0 + k → (∀ j, 0 ≤ j → j < k → vl m R j = N0 + j ∧ RDn m (N0 + j)) → ∃ m', (∀ Z, rn d 16 194 [pR X, pI 8] [] m' = some Z → 1 ≤ d → rn d 16 194 [pR X, pI k] [] m = some Z) ∧ SFr (fun a _ => a = R) m m' ∧ BX m' ∧ nx m' = N0 + 8 ∧ sl m' = sl m + 4 * (8 - k) ∧ ∀ j, 0 ≤ j → j < 8 → vl m' R j = N0 + j ∧ RDn m' (N0 + j) := by
  intro N
  induction N with
  | zero =>
    intro m k hN k0 k1 hb hX h13 hR hx hj
    have : k = 8 := by omega
    subst this
    exact ⟨m, fun Z hZ _ => hZ, ⟨KP.refl, fun _ _ _ _ => rfl⟩, hb, by omega, by omega, hj⟩
  | succ N ih =>
    intro m k hN k0 k1 hb hX h13 hR hx hj
    have hz := hb.tz
    have t10 : tg (mal m 10 4) (nx m) = 10 := by rw [tg_mal, if_pos rfl]
    have hv : ∀ j, vl (mal m 10 4) (nx m) j = 0 := fun j => by rw [vl_mal, if_pos rfl]
    have h1 : OLD m (mal m 10 4) := OLD.rfl'.mal'
    have b2 : BX (mal m 10 4) := hb.mal' (by decide) (by decide) (by decide)
    have e : cl (d - 1) 184 [pR (nx m)] (mal m 10 4) = some (.inl none, mal m 10 4) := q184 b2.tz _ (by rw [gd_of t10])
    have hn : nx (mal m 10 4) = nx m + 1 := rfl
    have hl : sl (mal m 10 4) = sl m + 4 := rfl
    have eq := q16_194 (d := d) (m := m) (a0 := X) (a1 := k)
    have ltR := tz_lt hz (by omega : tg m R ≠ 0)
    have ltX := tz_lt hz (by omega : tg m X ≠ 0)
    have st : ∀ Z, 1 ≤ d → rn d 16 194 [pR X, pI (k + 1)] [] (mst (mal m 10 4) R k (nx m)) = some Z → rn d 16 194 [pR X, pI k] [] m = some Z := fun Z hd hZ => by
      refine eq (by omega) hz _ ?_
      rw [if_pos (by omega), gd_of hX, nm_eq, h13, nw_eq, bV_eq e, gd_of (show tg (mal m 10 4) R = 17115 by rw [tg_mal, if_neg (by omega)]; exact hR.1), gd_of ⟨k0, by rw [ln_mal, if_neg (by omega), hR.2]; omega⟩, gd_of (by rw [t10, show tg (mal m 10 4) R = 17115 by rw [tg_mal, if_neg (by omega)]; exact hR.1]; decide), (w32_of (by omega) (by omega) : w32 (k + 1) = k + 1)]
      exact hZ
    clear eq e
    generalize mal m 10 4 = m2 at *
    have R2 := h1.l hz hR (by decide)
    have X2 := h1.t hz hX (by decide)
    have nXR : X ≠ R := fun z => by rw [z] at hX; omega
    have S : SFr (fun a _ => a = R) m2 (mst m2 R k (nx m)) := ⟨(SFr.mst (m := m2) (M := R) (f := k) (v := nx m)).1, fun a j ha hj => by rw [vl_mst, if_neg (fun z => hj z.1)]⟩
    have kp : ∀ a, RDn m2 a → RDn (mst m2 R k (nx m)) a := fun a ha => ⟨ha.1, fun j => by
      rw [vl_mst, if_neg (fun z => by have := ha.1; rw [z.1, R2.1] at this; omega)]; exact ha.2 j⟩
    obtain ⟨m', f1, f2, f3, f4, f5, f6⟩ := ih (mst m2 R k (nx m)) (k + 1) (by omega) (by omega) (by omega) (b2.mst' (by rw [R2.1]; decide)) X2 (by rw [vl_mst, if_neg (fun z => nXR z.1), h1.2 X 13 ltX id]; exact h13) R2 (by show nx m2 = _; omega) (fun j j0 j1 => by
      by_cases q : j = k
      · subst q
        rw [← hx]
        exact ⟨by rw [vl_mst, if_pos ⟨rfl, rfl⟩], kp _ ⟨t10, hv⟩⟩
      · obtain ⟨g1, g2⟩ := hj j j0 (by omega)
        have lt := tz_lt hz (by rw [g2.1]; decide : tg m (N0 + j) ≠ 0)
        exact ⟨by rw [vl_mst, if_neg (fun z => q z.2), h1.2 R j ltR id]; exact g1, kp _ ⟨h1.t hz g2.1 (by decide), fun i => by rw [h1.2 _ i lt id]; exact g2.2 i⟩⟩)
    have kk := (h1.trans S).trans f2
    exact ⟨m', fun Z hZ hd => st Z hd (f1 Z hZ hd), ⟨kk.1, fun a j ha hj => kk.2 a j ha fun z => z.elim (fun z => z.elim id hj) hj⟩, f3, f4, by rw [f5]; show sl m2 + _ = _; omega, f6⟩
/-- the empty disk -/
theorem dk0 (hd : 4 ≤ d) (hb : BX m) (hX : tg m X = 1) (h9 : vl m X 9 = K) (hD : DR m K zBC []) : ∃ m' c, rn d 16 194 [pR X, pI 8] [] m = some (.inl none, m') ∧ NC (fun a => a = X ∨ tg m a = 9 ∨ tg m a = 153103 ∨ tg m a = 153105) m m' ∧ (∀ j, vl m' X j = if j = 15 then 1 else vl m X j) ∧ DR m' K c [] ∧ HB (c 1) 1 0 0 ∧ c 0 = fun _ => 0 := by
  have hz := hb.tz
  obtain ⟨da, bc, h6, cnt, ns⟩ := hD
  have t9 := da.1
  obtain ⟨m1, e1, ⟨n1, l1, tl1⟩, v1, f1, ⟨g4, g8⟩, um⟩ := c153 (d := d - 1) hz da
  have nc1 : NC (fun a => a = K ∨ a = vl m K 5) m m1 := ⟨n1, l1, tl1, fun a j ha => v1 a j (fun z => ha (Or.inl z)) fun z => ha (Or.inr z)⟩
  have t5 := da.2.2.2.2.2.1.1
  have n05 : ∀ a, tg m a ≠ 9 → tg m a ≠ 153105 → ∀ j, vl m1 a j = vl m a j := fun a h1 h2 j => v1 a j (fun z => h1 (by rw [z]; exact t9)) fun z => h2 (by rw [z]; exact t5)
  have k0 := f1 0 (by decide) (by decide)
  have k1 := f1 1 (by decide) (by decide)
  have k2 := f1 2 (by decide) (by decide)
  have k3 := f1 3 (by decide) (by decide)
  have k5 := f1 5 (by decide) (by decide)
  have k6 := f1 6 (by decide) (by decide)
  have k7 := f1 7 (by decide) (by decide)
  have da1 : DA m1 K := by
    obtain ⟨d9, d0, d1, d2, d3, d5, d7, dn⟩ := da
    have tl : ∀ a t n, (tg m a = t ∧ ln m a = n) → tg m1 a = t ∧ ln m1 a = n := fun a t n h => by rw [(tl1 a).1, (tl1 a).2]; exact h
    exact ⟨by rw [(tl1 K).1]; exact d9, by rw [k0]; exact tl _ _ _ d0, by rw [k1]; exact tl _ _ _ d1, by rw [k2]; exact tl _ _ _ d2, by rw [k3]; exact tl _ _ _ d3, by rw [k5]; exact tl _ _ _ d5, by rw [k7]; exact tl _ _ _ d7, by rw [k0, k1, k2]; exact dn⟩
  obtain ⟨s1, s2, s3, s4, s5, s6, s7⟩ := ns
  have t0 := da.2.1.1
  have t1' := da.2.2.1.1
  have t7 := da.2.2.2.2.2.2.1.1
  have hc0 : cnt = 0 := by have := s2.1; simpa using this
  have bc1 : BC m1 K zBC := fun b j b0 b1 j0 j1 => by rw [k0, n05 _ (by omega) (by omega)]; exact bc b j b0 b1 j0 j1
  have ns1 : NSt m1 K [] 0 := ⟨g8, by decide, fun i i0 i1 => (nolen i0 i1).elim, fun i i0 i1 => by rw [k7, n05 _ (by omega) (by omega)]; exact s4 i i0 i1, List.nodup_nil, fun p hp => (by cases hp), fun p hp => (by cases hp)⟩
  have ds : DSt m1 K zBC zBC [] [0, 1] [] 0 := ⟨nc1.ok hb.1.1, da1, bc1, ⟨⟨g4, by decide⟩, fun i i0 i1 => (nolen i0 i1).elim, fun i j i0 i1 => (nolen i0 i1).elim, List.nodup_nil, fun b hb' => (by cases hb'), fun b _ => rfl⟩, um, by simp, by rw [k6]; exact h6, ns1⟩
  obtain ⟨m2, c, e2, nc2, bc2, cm⟩ := c154 (d := d - 1) (s := 1) (r := 0) (n := 0) (kd := 3) (by omega) ds (by decide) (by decide) (by decide) (by decide)
  obtain ⟨cz, ch⟩ := cm.2.2.2 rfl
  have tX1 : tg m1 X = 1 := by rw [(tl1 X).1]; exact hX
  have t01 : tg m1 (vl m1 K 0) = 153103 := da1.2.1.1
  have t11 : tg m1 (vl m1 K 1) = 153103 := da1.2.2.1.1
  have w2 : ∀ a, tg m1 a ≠ 153103 → ∀ j, vl m2 a j = vl m1 a j := fun a ha j => nc2.2.2.2 a j fun z => by
    rcases z with z | z
    · exact ha (by rw [z]; exact t01)
    · exact ha (by rw [z]; exact t11)
  have tl2 := nc2.2.2.1
  have tK1 : tg m1 K = 9 := da1.1
  have tX2 : tg m2 X = 1 := by rw [(tl2 X).1]; exact tX1
  have kk : ∀ j, vl m2 K j = vl m1 K j := w2 K (by omega)
  have nKX : K ≠ X := fun z => by rw [z] at t9; omega
  have t71 : tg m1 (vl m1 K 7) = 153114 := da1.2.2.2.2.2.2.1.1
  have da2 : DA m2 K := by
    obtain ⟨d9, d0, d1, d2, d3, d5, d7, dn⟩ := da1
    have tl : ∀ a t n, (tg m1 a = t ∧ ln m1 a = n) → tg m2 a = t ∧ ln m2 a = n := fun a t n h => by rw [(tl2 a).1, (tl2 a).2]; exact h
    exact ⟨by rw [(tl2 K).1]; exact d9, by rw [kk]; exact tl _ _ _ d0, by rw [kk]; exact tl _ _ _ d1, by rw [kk]; exact tl _ _ _ d2, by rw [kk]; exact tl _ _ _ d3, by rw [kk]; exact tl _ _ _ d5, by rw [kk]; exact tl _ _ _ d7, by rw [kk, kk, kk]; exact dn⟩
  have dr2 : DR m2 K c [] := ⟨da2, bc2, by rw [kk, k6]; exact h6, 0, by rw [kk]; exact g8, by decide, fun i i0 i1 => (nolen i0 i1).elim, fun i i0 i1 => by rw [kk, w2 _ (by omega), k7, n05 _ (by omega) (by omega)]; exact s4 i i0 i1, List.nodup_nil, fun p hp => (by cases hp), fun p hp => (by cases hp)⟩
  have z2 : TZ m2 := nc2.tz (nc1.tz hz)
  have u3 : UT dkT m2 (mst m2 X 15 1) := UT.mst (by rw [tX2]; simp)
  refine ⟨mst m2 X 15 1, c, ?_, ?_, fun j => ?_, dr2.ut u3 z2 (fun _ h => h), ch, cz 0 (by decide)⟩
  · refine q16_194 (by omega) hz _ ?_
    rw [if_neg (by decide), gd_of hX, nm_eq, h9, gd_of t9, bV_eq e1, nm_eq, n05 X (by omega) (by omega), h9, gd_of tK1, bV_eq e2]
  · refine ⟨nc2.1.trans n1, nc2.2.1.trans l1, fun a => ⟨(tl2 a).1.trans (tl1 a).1, (tl2 a).2.trans (tl1 a).2⟩, fun a j ha => ?_⟩
    rw [vl_mst, if_neg (fun z => ha (Or.inl z.1)), w2 a (by rw [(tl1 a).1]; exact fun z => ha (Or.inr (Or.inr (Or.inl z)))), n05 a (fun z => ha (Or.inr (Or.inl z))) (fun z => ha (Or.inr (Or.inr (Or.inr z))))]
  · rw [vl_mst]
    by_cases q : j = 15
    · rw [if_pos ⟨rfl, q⟩, if_pos q]
    · rw [if_neg (fun z => q z.2), if_neg q, w2 X (by omega), n05 X (by omega) (by omega)]
end
