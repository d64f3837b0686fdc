/-! the disk: blocks are written; nodes are made and read -/
set_option maxRecDepth 100000
set_option maxHeartbeats 4000000
/-- but for the block at hand the change is as it was -/
theorem DSt.blk {m m' : Mem} {K : Int} {c c' : RF} {sg u ns : List Int} {cnt : Nat} (h : DSt m K c c' sg u ns cnt) (k : AO (vl m K 1) m m') : DSt m' K c c' sg u ns cnt ∧ NC (dS m K) m m' ∧ ∀ f, vl m' K f = vl m K f := by
  obtain ⟨ok, hD, hc, ⟨s1, s2, s3, s4, s5, s6⟩, hU, h01, h6, hN⟩ := h
  have hD1 := hD
  obtain ⟨hK, a0, a1, a2, a3, a5, a7, n01, n02, n12⟩ := hD1
  have nK1 : K ≠ vl m K 1 := by intro z; rw [z] at hK; rw [a1.1] at hK; omega
  have g : ∀ f, vl m' K f = vl m K f := fun f => k.2.2.2 K f nK1
  have kk : NC (dS m K) m m' := k.nc (Or.inr (Or.inl rfl))
  refine ⟨⟨k.ok ok, hD.ao k (by omega), hc.ao k nK1 n01, ⟨by rw [g]; exact s1, fun i i0 i1 => by rw [g, k.2.2.2 _ _ (fun z => by rw [z, a1.1] at a3; omega)]; exact s2 i i0 i1, fun i j i0 i1 j0 j1 => by rw [g, k.2.2.2 _ _ (fun z => n12 z.symm)]; exact s3 i j i0 i1 j0 j1, s4, s5, s6⟩, fun b b0 b1 => by rw [g, k.2.2.2 _ _ (fun z => by rw [z, a1.1] at a5; omega)]; exact hU b b0 b1, h01, by rw [g]; exact h6, hN.ds hD kk (g 7) (g 8)⟩, kk, g⟩
section
variable {d : Nat} {K : Int} {c c' : RF} {sg u ns : List Int} {cnt : Nat}
/-- what comes of staging a block -/
def STG (m : Mem) (K : Int) (c c' : RF) (sg u ns : List Int) (cnt : Nat) (X : RM) (P : (Int → Int) → Prop) : Prop := ∃ m' b c'', X = some (.inl (some (pI b)), m') ∧ DSt m' K c c'' (sg ++ [b]) (b :: u) ns cnt ∧ b ∉ u ∧ (2 ≤ b ∧ b < 1600) ∧ (∀ x, x ≠ b → c'' x = c' x) ∧ P (c'' b) ∧ NC (dS m K) m m' ∧ ∀ f, f ≠ 4 → f ≠ 6 → vl m' K f = vl m K f
theorem STG.pre {m m1 : Mem} {X Y : RM} {P : (Int → Int) → Prop} (h : STG m1 K c c' sg u ns cnt X P) (k : NC (dS m K) m m1) (g : ∀ f, vl m1 K f = vl m K f) (hX : ∀ Z, X = some Z → Y = some Z) : STG m K c c' sg u ns cnt Y P := by
  obtain ⟨m', b, c'', h1, h2, h3, h4, h5, h6, h7, h8⟩ := h
  refine ⟨m', b, c'', hX _ h1, h2, h3, h4, h5, h6, k.trans (h7.imp fun a ha => ?_), fun f f4 f6 => by rw [h8 f f4 f6, g]⟩
  rcases ha with q | q | q | q | q
  · exact Or.inl q
  · rw [g] at q; exact Or.inr (Or.inl q)
  · rw [g] at q; exact Or.inr (Or.inr (Or.inl q))
  · rw [g] at q; exact Or.inr (Or.inr (Or.inr (Or.inl q)))
  · rw [g] at q; exact Or.inr (Or.inr (Or.inr (Or.inr q)))
theorem c169_14 {r c0 : Int} {xs : List Int} (hd : 4 ≤ d) (hl : sg.length < 64) (hu : u.length ≤ 1500) (hx : xs.length ≤ 729) : ∀ (N : Nat) (m : Mem) (i : Int), ((xs.length : Int) - i).toNat = N → 0 ≤ i → i ≤ xs.length → DSt m K c c' sg u ns cnt → RW m r xs c0 → (∀ j ∈ xs, -128 ≤ j ∧ j < 128) → vl m (vl m K 1) 0 = 1 → ftw (fun j => vl m (vl m K 1) j) 1 = xs.length → (∀ j : Int, 0 ≤ j → j < i → vl m (vl m K 1) (3 + j) = gi xs j) → STG m K c c' sg u ns cnt (rn d 169 14 [pR K, pR r, pI 0, pI xs.length, pI i] [] m) (fun f => bDoc f xs) := by
  intro N
  induction N with
  | zero =>
    intro m i hN h0 h1 h hR hxs v0 v1 v3
    obtain ⟨m', b, c'', e1, h2, h3, h4, h5, h6, h7, h8, h9⟩ := c170 (d := d - 1) (by omega) h hl hu
    refine ⟨m', b, c'', q169_14 (by omega) h.1.1 _ ?_, h2, h3, h4, h5, ⟨by rw [h6 0 (by decide) (by decide)]; exact v0, ?_, fun j j0 j1 => by rw [h6 _ (by omega) (by omega)]; exact v3 j j0 (by omega), h7, hx⟩, h8, h9⟩
    · rw [if_neg (by omega), gd_of h.2.1.1, bI_eq e1]
    · unfold ftw at v1 ⊢
      rw [h6 1 (by decide) (by decide), h6 (1 + 1) (by decide) (by decide)]; exact v1
  | succ N ih =>
    intro m i hN h0 h1 h hR hxs v0 v1 v3
    have hD := h.2.1
    obtain ⟨t1, l1⟩ := hD.2.2.1
    have hv := hR.2.2.2.2.2.2 i h0 (by omega)
    have hlr := hR.2.2.1
    have hcr := hR.2.2.2.2.1
    have hr8 : -128 ≤ gi xs i ∧ gi xs i < 128 := by
      have : gi xs i ∈ xs := by
        unfold gi
        rw [List.getD_eq_getElem?_getD, List.getElem?_eq_getElem (by omega)]
        exact List.getElem_mem _
      exact hxs _ this
    have ka : AO (vl m K 1) m (mst m (vl m K 1) (3 + i) (gi xs i)) := AO.set
    obtain ⟨i1, i2, i3⟩ := h.blk ka
    have hrB : vl m r 0 ≠ vl m K 1 := by intro z; have := hR.2.1; rw [z, t1] at this; omega
    have hrr : r ≠ vl m K 1 := by intro z; have := hR.1; rw [z, t1] at this; omega
    have hR1 : RW (mst m (vl m K 1) (3 + i) (gi xs i)) r xs c0 := by
      obtain ⟨b1, b2, b3, b4, b5, b6, b7⟩ := hR
      have g : ∀ f, vl (mst m (vl m K 1) (3 + i) (gi xs i)) r f = vl m r f := fun f => ka.2.2.2 r f hrr
      exact ⟨b1, by rw [g]; exact b2, by rw [g]; exact b3, by rw [g]; exact b4, b5, b6, fun j j0 j1 => by rw [g, ka.2.2.2 _ _ hrB]; exact b7 j j0 j1⟩
    have rcc := ih _ (i + 1) (by omega) (by omega) (by omega) i1 hR1 hxs (by rw [i3, vl_mst, if_neg (by omega)]; exact v0) (by
      unfold ftw at v1 ⊢
      dsimp only at v1 ⊢
      rw [i3, vl_mst, if_neg (by omega), vl_mst, if_neg (by omega)]; exact v1) (fun j j0 j1 => by
      rw [i3, vl_mst]
      by_cases z : j = i
      · rw [if_pos ⟨rfl, by omega⟩, z]
      · rw [if_neg (by omega)]; exact v3 j j0 (by omega))
    refine rcc.pre i2 i3 fun Z hZ => q169_14 (by omega) h.1.1 _ ?_
    rw [if_pos (by omega), gd_of hD.1, nm_eq, nm_eq, gd_of hR.1, nm_eq, nm_eq, (w32_of (by omega) (by omega) : w32 (3 + i) = 3 + i), (w32_of (by omega) (by omega) : w32 (0 + i) = 0 + i), Int.zero_add, gd_of hR.2.1, gd_of ⟨h0, by omega⟩, gd_of t1, gd_of ⟨by omega, by rw [l1]; omega⟩, hv, w8_of hr8.1 hr8.2, (w32_of (by omega) (by omega) : w32 (i + 1) = i + 1)]
    exact hZ
/-- a document becomes a block -/
theorem c169 {m : Mem} {r c0 : Int} {xs : List Int} (hd : 4 ≤ d) (hl : sg.length < 64) (hu : u.length ≤ 1500) (hx : xs.length ≤ 729) (h : DSt m K c c' sg u ns cnt) (hR : RW m r xs c0) (hxs : ∀ j ∈ xs, -128 ≤ j ∧ j < 128) : STG m K c c' sg u ns cnt (cl d 169 [pR K, pR r, pI 0, pI xs.length] m) (fun f => bDoc f xs) := by
  obtain ⟨m1, e1, a1, v1⟩ := c155 (d := d - 1) (kd := 1) h.1.1 h.2.1
  obtain ⟨h1, k1, g1⟩ := h.blk a1
  obtain ⟨m2, e2, a2, v2⟩ := c156 (d := d - 1) (a := 1) (v := xs.length) h1.1.1 h1.2.1 (by omega) (by omega)
  obtain ⟨h2, k2, g2⟩ := h1.blk a2
  have tr : ∀ m m' (a : AO (vl m K 1) m m'), DA m K → RW m r xs c0 → RW m' r xs c0 := fun m m' a hD hR => by
    have t1 := hD.2.2.1.1
    have hrB : vl m r 0 ≠ vl m K 1 := by intro z; have := hR.2.1; rw [z, t1] at this; omega
    have hrr : r ≠ vl m K 1 := by intro z; have := hR.1; rw [z, t1] at this; omega
    obtain ⟨b1, b2, b3, b4, b5, b6, b7⟩ := hR
    have g : ∀ f, vl m' r f = vl m r f := fun f => a.2.2.2 r f hrr
    exact ⟨by rw [(a.2.2.1 r).1]; exact b1, by rw [g, (a.2.2.1 _).1]; exact b2, by rw [g, (a.2.2.1 _).2]; exact b3, by rw [g]; exact b4, b5, b6, fun j j0 j1 => by rw [g, a.2.2.2 _ _ hrB]; exact b7 j j0 j1⟩
  have hR2 := tr _ _ a2 h1.2.1 (tr _ _ a1 h.2.1 hR)
  have w1 : ∀ j, vl m2 (vl m2 K 1) j = if j = 1 then w8 (xs.length / 256) else if j = 1 + 1 then w8 xs.length else vl m1 (vl m1 K 1) j := fun j => by rw [g2]; exact v2 j
  have w0 : ∀ j : Int, 0 ≤ j → j < 736 → vl m1 (vl m1 K 1) j = if j = 0 then w8 1 else 0 := fun j j0 j1 => by rw [g1]; exact v1 j j0 j1
  have key := c169_14 (d := d) (K := K) hd hl hu hx _ m2 0 rfl (by omega) (by omega) h2 hR2 hxs (by rw [w1, if_neg (by decide), if_neg (by decide), w0 0 (by decide) (by decide), if_pos rfl]; decide) (ftw_of (by (try dsimp only); rw [w1, if_pos rfl]) (by (try dsimp only); rw [w1, if_neg (by decide), if_pos rfl]) (by omega)) (fun j j0 j1 => absurd j1 (by omega))
  refine (key.pre k2 g2 (fun Z hZ => hZ)).pre k1 g1 fun Z hZ => q169 (by omega) h.1.1 _ ?_
  rw [gd_of h.2.1.1, bV_eq e1, bV_eq e2]
  exact hZ
theorem c176_27 {p : Int} {lf : Bool} {es : List (Int × Int)} (hd : 4 ≤ d) (hl : sg.length < 64) (hu : u.length ≤ 1500) (hes : es.length ≤ 8) (hr : ∀ e ∈ es, (0 ≤ e.1 ∧ e.1 < 65536) ∧ 0 ≤ e.2 ∧ e.2 < 65536) : ∀ (N : Nat) (m : Mem) (i : Nat), es.length - i = N → i ≤ es.length → DSt m K c c' sg u ns cnt → ND1 m p lf es → vl m (vl m K 1) 0 = (if lf then 2 else 3) → ftw (fun j => vl m (vl m K 1) j) 1 = es.length → (∀ (j : Nat) (e : Int × Int), j < i → es[j]? = some e → ftw (fun j => vl m (vl m K 1) j) (3 + 4 * j) = e.1 ∧ ftw (fun j => vl m (vl m K 1) j) (5 + 4 * j) = e.2) → STG m K c c' sg u ns cnt (rn d 176 27 [pR K, pR p, pI i] [] m) (fun f => bNode f lf es) := by
  intro N
  induction N with
  | zero =>
    intro m i hN h1 h hn v0 v1 v3
    have hi : i = es.length := by omega
    obtain ⟨m', b, c'', e1, h2, h3, h4, h5, h6, h7, h8, h9⟩ := c170 (d := d - 1) (by omega) h hl hu
    refine ⟨m', b, c'', q176_27 (by omega) h.1.1 _ ?_, h2, h3, h4, h5, ⟨by rw [h6 0 (by decide) (by decide)]; exact v0, ?_, fun j e he => ?_, h7⟩, h8, h9⟩
    · rw [gd_of hn.1.1, hn.2.2.1, if_neg (by omega), gd_of h.2.1.1, bI_eq e1]
    · unfold ftw at v1 ⊢
      rw [h6 1 (by decide) (by decide), h6 (1 + 1) (by decide) (by decide)]; exact v1
    · have hj : j < es.length := (List.getElem?_eq_some_iff.mp he).1
      have := v3 j e (by omega) he
      unfold ftw at this ⊢
      rw [h6 _ (by omega) (by omega), h6 _ (by omega) (by omega), h6 _ (by omega) (by omega), h6 _ (by omega) (by omega)]
      exact this
  | succ N ih =>
    intro m i hN h1 h hn v0 v1 v3
    have hD := h.2.1
    have hie : es[i]? = some es[i] := List.getElem?_eq_getElem (by omega)
    have hm := hr es[i] (List.getElem_mem _)
    have x1 := hn.2.2.2.2.1 i (by omega) (by omega)
    have x2 := hn.2.2.2.2.2 i (by omega) (by omega)
    have y1 : gi (es.map (·.1)) i = es[i].1 := by unfold gi; rw [Int.toNat_natCast, List.getD_eq_getElem?_getD, List.getElem?_map, hie]; rfl
    have y2 : gi (es.map (·.2)) i = es[i].2 := by unfold gi; rw [Int.toNat_natCast, List.getD_eq_getElem?_getD, List.getElem?_map, hie]; rfl
    rw [y1] at x1
    rw [y2] at x2
    obtain ⟨m1, e1, a1, w1⟩ := c156 (d := d - 1) (a := 3 + 4 * i) (v := es[i].1) h.1.1 hD (by omega) (by omega)
    obtain ⟨h1', k1, g1⟩ := h.blk a1
    have hn1 := hn.ds hD k1
    obtain ⟨m2, e2, a2, w2⟩ := c156 (d := d - 1) (a := 5 + 4 * i) (v := es[i].2) h1'.1.1 h1'.2.1 (by omega) (by omega)
    obtain ⟨h2', k2, g2⟩ := h1'.blk a2
    have hn2 := hn1.ds h1'.2.1 k2
    have w : ∀ j, vl m2 (vl m2 K 1) j = if j = 5 + 4 * i then w8 (es[i].2 / 256) else if j = 5 + 4 * i + 1 then w8 es[i].2 else if j = 3 + 4 * i then w8 (es[i].1 / 256) else if j = 3 + 4 * i + 1 then w8 es[i].1 else vl m (vl m K 1) j := fun j => by
      rw [g2, w2 j, g1, w1 j]
    have old : ∀ j : Int, (j < 3 + 4 * (i : Int)) → vl m2 (vl m2 K 1) j = vl m (vl m K 1) j := fun j hj => by rw [w, if_neg (by omega), if_neg (by omega), if_neg (by omega), if_neg (by omega)]
    have rcc := ih m2 (i + 1) (by omega) (by omega) h2' hn2 (by rw [old 0 (by omega)]; exact v0) (by unfold ftw at v1 ⊢; dsimp only at v1 ⊢; rw [old 1 (by omega), old (1 + 1) (by omega)]; exact v1) (fun j e hj he => by
      by_cases z : j = i
      · subst z
        rw [hie] at he
        cases he
        refine ⟨ftw_of ?_ ?_ hm.1, ftw_of ?_ ?_ hm.2⟩
        · (try dsimp only); rw [w, if_neg (by omega), if_neg (by omega), if_pos rfl]
        · (try dsimp only); rw [w, if_neg (by omega), if_neg (by omega), if_neg (by omega), if_pos rfl]
        · (try dsimp only); rw [w, if_pos rfl]
        · (try dsimp only); rw [w, if_neg (by omega), if_pos rfl]
      · have := v3 j e (by omega) he
        unfold ftw at this ⊢
        dsimp only at this ⊢
        rw [old _ (by omega), old _ (by omega), old _ (by omega), old _ (by omega)]
        exact this)
    refine ((rcc.pre k2 g2 (fun Z hZ => hZ)).pre k1 g1) fun Z hZ => q176_27 (by omega) h.1.1 _ ?_
    obtain ⟨n1, n2, n3, n4⟩ := hn.1
    have q1 := hn1.1
    have q2 : vl m1 (vl m1 p 2) i = es[i].2 := by
      have := hn1.2.2.2.2.2 i (by omega) (by omega)
      rw [y2] at this; exact this
    rw [gd_of n1, hn.2.2.1, if_pos (by omega), nm_eq, gd_of n2.1, gd_of ⟨by omega, by rw [n2.2]; omega⟩, gd_of hD.1, (w32_of (by omega) (by omega) : w32 (4 * (i : Int)) = 4 * i), (w32_of (by omega) (by omega) : w32 (3 + 4 * (i : Int)) = 3 + 4 * i), (w32_of (by omega) (by omega) : w32 (5 + 4 * (i : Int)) = 5 + 4 * i), x1, bV_eq e1, nm_eq, gd_of q1.2.2.1.1, gd_of ⟨by omega, by rw [q1.2.2.1.2]; omega⟩, q2, bV_eq e2, (w32_of (by omega) (by omega) : w32 ((i : Int) + 1) = ((i + 1 : Nat) : Int))]
    exact hZ
/-- a node becomes a block -/
theorem c176 {m : Mem} {p : Int} {lf : Bool} {es : List (Int × Int)} (hd : 5 ≤ d) (hl : sg.length < 64) (hu : u.length ≤ 1500) (hes : es.length ≤ 8) (hr : ∀ e ∈ es, (0 ≤ e.1 ∧ e.1 < 65536) ∧ 0 ≤ e.2 ∧ e.2 < 65536) (h : DSt m K c c' sg u ns cnt) (hn : ND1 m p lf es) : STG m K c c' sg u ns cnt (cl d 176 [pR K, pR p] m) (fun f => bNode f lf es) := by
  obtain ⟨m1, e1, a1, v1⟩ := c155 (d := d - 1) (kd := if lf then 2 else 3) h.1.1 h.2.1
  obtain ⟨h1, k1, g1⟩ := h.blk a1
  have hn1 := hn.ds h.2.1 k1
  obtain ⟨m2, e2, a2, v2⟩ := c156 (d := d - 1) (a := 1) (v := es.length) h1.1.1 h1.2.1 (by omega) (by omega)
  obtain ⟨h2, k2, g2⟩ := h1.blk a2
  have hn2 := hn1.ds h1.2.1 k2
  have w1 : ∀ j, vl m2 (vl m2 K 1) j = if j = 1 then w8 (es.length / 256) else if j = 1 + 1 then w8 es.length else vl m1 (vl m1 K 1) j := fun j => by rw [g2]; exact v2 j
  have w0 : ∀ j : Int, 0 ≤ j → j < 736 → vl m1 (vl m1 K 1) j = if j = 0 then w8 (if lf then 2 else 3) else 0 := fun j j0 j1 => by rw [g1]; exact v1 j j0 j1
  have key := c176_27 (d := d) (K := K) (by omega) hl hu hes hr _ m2 0 rfl (by omega) h2 hn2 (by rw [w1, if_neg (by decide), if_neg (by decide), w0 0 (by decide) (by decide), if_pos rfl]; cases lf <;> decide) (ftw_of (by (try dsimp only); rw [w1, if_pos rfl]) (by (try dsimp only); rw [w1, if_neg (by decide), if_pos rfl]) (by omega)) (fun j e hj _ => absurd hj (Nat.not_lt_zero j))
  have st : ∀ Z, rn d 176 13 [pR K, pR p, pU] [pI (if lf then 2 else 3), pR K] m = some Z → cl d 176 [pR K, pR p] m = some Z := fun Z hZ => by
    refine q176 h.1.1 _ ?_
    rw [gd_of hn.1.1, hn.2.1]
    cases lf
    · rw [if_pos (by rfl)]; exact hZ
    · rw [if_neg (by decide)]; exact hZ
  refine ((key.pre k2 g2 (fun Z hZ => hZ)).pre k1 g1) fun Z hZ => st Z (q176_13 (by omega) h.1.1 _ ?_)
  rw [gd_of h.2.1.1, bV_eq e1, gd_of hn1.1.1, gd_of h1.2.1.1, hn1.2.2.1, bV_eq e2]
  exact hZ
end
