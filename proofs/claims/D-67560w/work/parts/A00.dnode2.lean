/-! the disk: nodes that are read; what an operation leaves alone -/
set_option maxRecDepth 100000
set_option maxHeartbeats 4000000
theorem LVK.sub {lv lv' : List Int} {S S' : Int → Prop} {m m' : Mem} (h : LVK lv S m m') (hl : ∀ q ∈ lv', q ∈ lv) (hS : ∀ q ∈ lv', S q → S' q) : LVK lv' S' m m' := fun q hq hn lf es he => h q (hl q hq) (fun z => hn (hS q hq z)) lf es he
theorem LVK.trans {lv : List Int} {S : Int → Prop} {m m1 m2 : Mem} (h : LVK lv S m m1) (h' : LVK lv S m1 m2) : LVK lv S m m2 := fun q hq hn lf es he => h' q hq hn lf es (h q hq hn lf es he)
/-- only the node p has changed -/
theorem DSt.nd {m m' : Mem} {K p : Int} {c c' : RF} {sg u ns : List Int} {cnt : Nat} (h : DSt m K c c' sg u ns cnt) (hp : p ∈ ns) (k : NC (nS m p) m m') (h1 : vl m' p 1 = vl m p 1) (h2 : vl m' p 2 = vl m p 2) : DSt m' K c c' sg u ns cnt ∧ LVK ns (· = p) m m' := by
  have h0 := h
  obtain ⟨ok, hD, hc, hS, hU, h01, h6, ⟨a1, a2, a3, a4, a5, a6, a7⟩⟩ := h
  obtain ⟨b1, b2, b3, b4⟩ := a6 p hp
  have t : ∀ b, tg m' b = tg m b := fun b => (k.2.2.1 b).1
  have l : ∀ b, ln m' b = ln m b := fun b => (k.2.2.1 b).2
  have vo : ∀ a j, tg m a ≠ 14 → tg m a ≠ 298101 → vl m' a j = vl m a j := fun a j x1 x2 => k.2.2.2 a j fun z => by
    rcases z with z | z | z
    · rw [z] at x1; exact x1 b1
    · rw [z] at x2; exact x2 b2.1
    · rw [z] at x2; exact x2 b3.1
  have vq : ∀ q ∈ ns, q ≠ p → ∀ f, vl m' q f = vl m q f := fun q hq hne f => k.2.2.2 q f fun z => by
    have := (a6 q hq).1
    rcases z with z | z | z
    · exact hne z
    · rw [z, b2.1] at this; omega
    · rw [z, b3.1] at this; omega
  have v12 : ∀ q ∈ ns, vl m' q 1 = vl m q 1 ∧ vl m' q 2 = vl m q 2 := fun q hq => by
    by_cases z : q = p
    · rw [z]; exact ⟨h1, h2⟩
    · exact ⟨vq q hq z 1, vq q hq z 2⟩
  have hNO : ∀ q ∈ ns, NO m' q := fun q hq => by
    obtain ⟨c1, c2, c3, c4⟩ := a6 q hq
    obtain ⟨d1, d2⟩ := v12 q hq
    exact ⟨by rw [t]; exact c1, by rw [d1, t, l]; exact c2, by rw [d2, t, l]; exact c3, by rw [d1, d2]; exact c4⟩
  have h9 := hD.1
  have t7 := hD.2.2.2.2.2.2.1.1
  have vK : ∀ f, vl m' K f = vl m K f := fun f => vo K f (by omega) (by omega)
  refine ⟨h0.ex (k.ok ok) (fun a _ => ⟨t a, l a⟩) (fun a j ha => vo a j (by omega) (by omega)) (fun f _ => vK f) ⟨by rw [vK]; exact a1, a2, fun i i0 i1 => by rw [vK, vo _ _ (by omega) (by omega)]; exact a3 i i0 i1, fun i i0 i1 => by rw [vK, vo _ _ (by omega) (by omega)]; exact a4 i i0 i1, a5, hNO, fun q hq r hr hne => by rw [(v12 q hq).1, (v12 q hq).2, (v12 r hr).1, (v12 r hr).2]; exact a7 q hq r hr hne⟩, fun q hq hne lf es hn => ?_⟩
  have hd := a7 q hq p hp hne
  obtain ⟨c1, c2, c3, c4⟩ := a6 q hq
  refine hn.ext ⟨t q, vq q hq hne⟩ fun a ha => ⟨t a, l a, fun j => k.2.2.2 a j fun z => ?_⟩
  rcases ha with w | w <;> rcases z with z | z | z
  · rw [w] at z; rw [z, b1] at c2; omega
  · rw [w] at z; exact hd.1 z
  · rw [w] at z; exact hd.2.1 z
  · rw [w] at z; rw [z, b1] at c3; omega
  · rw [w] at z; exact hd.2.2.1 z
  · rw [w] at z; exact hd.2.2.2 z
/-- what an operation comes to: the change goes on; marked blocks are as they were; nodes in use but those of S too -/
def DOR (K : Int) (c c' : RF) (sg u ns : List Int) (cnt : Nat) (S : Int → Prop) (a b : Nat) (m m' : Mem) (c'' : RF) (sg' u' ns' : List Int) (cnt' : Nat) : Prop := DSt m' K c c'' sg' u' ns' cnt' ∧ ((∀ x ∈ u, c'' x = c' x) ∧ ∀ x ∈ u, x ∈ u') ∧ (sg'.length ≤ sg.length + a ∧ u'.length ≤ u.length + a ∧ cnt ≤ cnt' ∧ cnt' ≤ cnt + b) ∧ ns'.take cnt = ns.take cnt ∧ LVK (ns.take cnt) S m m' ∧ NCo m m' ns ns'
theorem take_le {α : Type} {l l' : List α} {a b : Nat} (h : l'.take b = l.take b) (hab : a ≤ b) : l'.take a = l.take a := by
  have := congrArg (List.take a) h
  rw [List.take_take, List.take_take, Nat.min_eq_left hab] at this
  exact this
theorem DOR.trans {K : Int} {c c' c1 c2 : RF} {sg u ns sg1 u1 ns1 sg2 u2 ns2 : List Int} {cnt cnt1 cnt2 a b a' b' : Nat} {S S1 S2 : Int → Prop} {m m1 m2 : Mem} (h : DOR K c c' sg u ns cnt S1 a b m m1 c1 sg1 u1 ns1 cnt1) (h' : DOR K c c1 sg1 u1 ns1 cnt1 S2 a' b' m1 m2 c2 sg2 u2 ns2 cnt2) (hS1 : ∀ q ∈ ns.take cnt, S1 q → S q) (hS2 : ∀ q ∈ ns.take cnt, S2 q → S q) : DOR K c c' sg u ns cnt S (a + a') (b + b') m m2 c2 sg2 u2 ns2 cnt2 := by
  obtain ⟨x1, x2, x3, x4, x5, x6⟩ := h
  obtain ⟨y1, y2, y3, y4, y5, y6⟩ := h'
  have e1 : ns2.take cnt = ns1.take cnt := take_le y4 x3.2.2.1
  refine ⟨y1, ⟨fun x hx => by rw [y2.1 x (x2.2 x hx), x2.1 x hx], fun x hx => y2.2 x (x2.2 x hx)⟩, by omega, by rw [e1, x4], ?_, x6.trans y6⟩
  refine (x5.sub (fun q hq => hq) hS1).trans (y5.sub (fun q hq => ?_) hS2)
  rw [← x4] at hq
  have : (ns1.take cnt1).take cnt = ns1.take cnt := by rw [List.take_take, Nat.min_eq_left x3.2.2.1]
  rw [← this] at hq
  exact List.mem_of_mem_take hq
theorem DOR.mono {K : Int} {c c' c1 : RF} {sg u ns sg1 u1 ns1 : List Int} {cnt cnt1 a b a' b' : Nat} {S S1 : Int → Prop} {m m1 : Mem} (h : DOR K c c' sg u ns cnt S1 a b m m1 c1 sg1 u1 ns1 cnt1) (hS : ∀ q ∈ ns.take cnt, S1 q → S q) (ha : a ≤ a') (hb : b ≤ b') : DOR K c c' sg u ns cnt S a' b' m m1 c1 sg1 u1 ns1 cnt1 := by
  obtain ⟨x1, x2, x3, x4, x5, x6⟩ := h
  exact ⟨x1, x2, by omega, x4, x5.sub (fun q hq => hq) hS, x6⟩
section
variable {d : Nat} {K : Int} {c c' : RF} {sg u ns : List Int} {cnt : Nat}
/-- a node changed -/
theorem DOR.nd {m m' : Mem} {p : Int} {S : Int → Prop} (h : DSt m K c c' sg u ns cnt) (hp : p ∈ ns) (k : NC (nS m p) m m') (h1 : vl m' p 1 = vl m p 1) (h2 : vl m' p 2 = vl m p 2) (hS : p ∈ ns.take cnt → S p) : DOR K c c' sg u ns cnt S 0 0 m m' c' sg u ns cnt := by
  obtain ⟨g1, g2⟩ := h.nd hp k h1 h2
  refine ⟨g1, ⟨fun _ _ => rfl, fun _ h => h⟩, by omega, rfl, g2.sub (fun q hq => List.mem_of_mem_take hq) (fun q hq z => by rw [z] at hq ⊢; exact hS hq), NCo.refl ⟨k.1, k.2.1⟩⟩
/-- a block was staged -/
theorem STG.op {m : Mem} {X : RM} {P : (Int → Int) → Prop} (h : STG m K c c' sg u ns cnt X P) (hD : DA m K) : ∃ m' b c'', X = some (.inl (some (pI b)), m') ∧ DOR K c c' sg u ns cnt (fun _ => False) 1 0 m m' c'' (sg ++ [b]) (b :: u) ns cnt ∧ b ∉ u ∧ (2 ≤ b ∧ b < 1600) ∧ P (c'' b) := by
  obtain ⟨m', b, c'', h1, h2, h3, h4, h5, h6, h7, h8⟩ := h
  refine ⟨m', b, c'', h1, ⟨h2, ⟨fun x hx => h5 x fun z => h3 (by rw [← z]; exact hx), fun x hx => List.mem_cons_of_mem _ hx⟩, by simp, rfl, fun q _ _ lf es hn => hn.ds hD h7, NCo.refl ⟨h7.1, h7.2.1⟩⟩, h3, h4, h6⟩
/-- what a fresh node's making comes to -/
theorem c172_op {m : Mem} {lf : Bool} (hd : 3 ≤ d) (h : DSt m K c c' sg u ns cnt) (hc : cnt < 64) : ∃ m' p ns', cl d 172 [pR K, pI (b2i lf)] m = some (.inl (some (pR p)), m') ∧ DOR K c c' sg u ns cnt (fun _ => False) 0 1 m m' c' sg u ns' (cnt + 1) ∧ ND1 m' p lf [] ∧ p ∉ ns.take cnt ∧ ns'.take (cnt + 1) = ns.take cnt ++ [p] := by
  obtain ⟨m', p, ns', e1, e2, e3, e4, e5, e6, e7⟩ := c172 (lf := lf) hd h hc
  have hl : cnt ≤ ns.length := h.2.2.2.2.2.2.2.2.1.1
  have ht : ns'.take cnt = ns.take cnt := by
    have := congrArg (List.take cnt) e5
    rw [List.take_take, Nat.min_eq_left (Nat.le_succ _), List.take_append_of_le_length (by rw [List.length_take]; omega), List.take_take, Nat.min_self] at this
    exact this
  exact ⟨m', p, ns', e1, ⟨e2, ⟨fun _ _ => rfl, fun _ h => h⟩, by omega, ht, e6, e7⟩, e3, e4, e5⟩
theorem take_mem {ns ns' : List Int} {cnt : Nat} {p : Int} (h : ns'.take (cnt + 1) = ns.take cnt ++ [p]) : p ∈ ns'.take (cnt + 1) ∧ p ∈ ns' := by
  have : p ∈ ns'.take (cnt + 1) := by rw [h]; simp
  exact ⟨this, List.mem_of_mem_take this⟩
theorem c173_36 {b p : Int} {lf : Bool} {es : List (Int × Int)} (hd : 3 ≤ d) (hb : 2 ≤ b ∧ b < 1600) (hn : bNode (c b) lf es) (hl : es.length ≤ 8) : ∀ (N : Nat) (m : Mem) (i : Nat), es.length - i = N → i ≤ es.length → DSt m K c c' sg u ns cnt → p ∈ ns → vl m p 0 = b2i lf → vl m p 3 = es.length → (∀ j : Int, 0 ≤ j → j < i → vl m (vl m p 1) j = gi (es.map (·.1)) j ∧ vl m (vl m p 2) j = gi (es.map (·.2)) j) → ∃ m', rn d 173 36 [pR K, pI b, pR p, pI i] [] m = some (.inl (some (pR p)), m') ∧ NC (nS m p) m m' ∧ vl m' p 1 = vl m p 1 ∧ vl m' p 2 = vl m p 2 ∧ ND1 m' p lf es := by
  intro N
  induction N with
  | zero =>
    intro m i hN hi h hp v0 v3 hv
    have hNO := h.2.2.2.2.2.2.2.2.2.2.2.2.1 p hp
    have : i = es.length := by omega
    refine ⟨m, q173_36 (by omega) h.1.1 _ ?_, NC.refl, rfl, rfl, hNO, v0, v3, by omega, fun j j0 j1 => (hv j j0 (by omega)).1, fun j j0 j1 => (hv j j0 (by omega)).2⟩
    rw [gd_of hNO.1, v3, if_neg (by omega)]
  | succ N ih =>
    intro m i hN hi h hp v0 v3 hv
    have hNO := h.2.2.2.2.2.2.2.2.2.2.2.2.1 p hp
    obtain ⟨n1, n2⟩ := hNO.ne
    obtain ⟨a1, a2, a3, a4⟩ := hNO
    have hD := h.2.1
    have hie : es[i]? = some es[i] := List.getElem?_eq_getElem (by omega)
    obtain ⟨f1, f2⟩ := hn.2.2.1 i _ hie
    have e1 := c162 (d := d - 1) (a := 3 + 4 * i) h.1.1 hD h.2.2.1 (b := b) ⟨by omega, hb.2⟩ (by omega)
    rw [f1] at e1
    have k1 : NC (nS m p) m (mst m (vl m p 1) i es[i].1) := NC.set (Or.inr (Or.inl rfl))
    have o1 : ∀ f, vl (mst m (vl m p 1) i es[i].1) p f = vl m p f := fun f => by rw [vl_mst, if_neg (fun z => n1 z.1)]
    obtain ⟨h1, -⟩ := h.nd hp k1 (o1 1) (o1 2)
    have e2 := c162 (d := d - 1) (a := 5 + 4 * i) h1.1.1 h1.2.1 h1.2.2.1 (b := b) ⟨by omega, hb.2⟩ (by omega)
    rw [f2] at e2
    have k2 : NC (nS m p) m (mst (mst m (vl m p 1) i es[i].1) (vl m p 2) i es[i].2) := k1.trans (NC.set (Or.inr (Or.inr rfl)))
    have o2 : ∀ f, vl (mst (mst m (vl m p 1) i es[i].1) (vl m p 2) i es[i].2) p f = vl m p f := fun f => by rw [vl_mst, if_neg (fun z => n2 z.1), o1]
    obtain ⟨h2, -⟩ := h.nd hp k2 (o2 1) (o2 2)
    have y1 : gi (es.map (·.1)) i = es[i].1 := by unfold gi; rw [Int.toNat_natCast, List.getD_eq_getElem?_getD, List.getElem?_map, hie]; rfl
    have y2 : gi (es.map (·.2)) i = es[i].2 := by unfold gi; rw [Int.toNat_natCast, List.getD_eq_getElem?_getD, List.getElem?_map, hie]; rfl
    obtain ⟨m', g1, g2, g3, g4, g5⟩ := ih _ (i + 1) (by omega) (by omega) h2 hp (by rw [o2]; exact v0) (by rw [o2]; exact v3) (fun j j0 j1 => by
      rw [o2, o2]
      by_cases z : j = i
      · constructor
        · rw [vl_mst, if_neg (fun y => a4 y.1), vl_mst, if_pos ⟨rfl, z⟩, z, y1]
        · rw [vl_mst, if_pos ⟨rfl, z⟩, z, y2]
      · have := hv j j0 (by push_cast at j1; omega)
        constructor
        · rw [vl_mst, if_neg (fun y => z y.2), vl_mst, if_neg (fun y => z y.2)]; exact this.1
        · rw [vl_mst, if_neg (fun y => z y.2), vl_mst, if_neg (fun y => z y.2)]; exact this.2)
    refine ⟨m', q173_36 (by omega) h.1.1 _ ?_, k2.trans (g2.imp fun a ha => by
      rcases ha with q | q | q
      · exact Or.inl q
      · rw [o2] at q; exact Or.inr (Or.inl q)
      · rw [o2] at q; exact Or.inr (Or.inr q)), by rw [g3, o2], by rw [g4, o2], g5⟩
    rw [gd_of a1, v3, if_pos (by omega), nm_eq, gd_of hD.1, (w32_of (by omega) (by omega) : w32 (4 * (i : Int)) = 4 * i), (w32_of (by omega) (by omega) : w32 (3 + 4 * (i : Int)) = 3 + 4 * i), (w32_of (by omega) (by omega) : w32 (5 + 4 * (i : Int)) = 5 + 4 * i), bI_eq e1, gd_of a2.1, gd_of ⟨by omega, by rw [a2.2]; omega⟩, nm_eq, bI_eq e2, gd_of (show tg (mst m (vl m p 1) (i : Int) es[i].1) (vl m p 2) = 298101 from a3.1), gd_of ⟨by omega, by show (i : Int) < ln m (vl m p 2); rw [a3.2]; omega⟩, (w32_of (by omega) (by omega) : w32 ((i : Int) + 1) = ((i + 1 : Nat) : Int))]
    exact g1
/-- a block is read into a node -/
theorem c173 {m : Mem} {b : Int} {lf : Bool} {es : List (Int × Int)} (hd : 5 ≤ d) (h : DSt m K c c' sg u ns cnt) (hc : cnt < 64) (hb : 2 ≤ b ∧ b < 1600) (hn : bNode (c b) lf es) (hl : es.length ≤ 8) : ∃ m' p ns', cl d 173 [pR K, pI b] m = some (.inl (some (pR p)), m') ∧ DOR K c c' sg u ns cnt (fun _ => False) 0 1 m m' c' sg u ns' (cnt + 1) ∧ ND1 m' p lf es ∧ p ∉ ns.take cnt ∧ ns'.take (cnt + 1) = ns.take cnt ++ [p] := by
  obtain ⟨m1, p, ns1, e1, o1, n1, p1, t1⟩ := c172_op (d := d - 1) (lf := lf) (by omega) h hc
  have h1 := o1.1
  have hpn := (take_mem t1).2
  have e162 := c162 (d := d - 1) (a := 1) h1.1.1 h1.2.1 h1.2.2.1 (b := b) ⟨by omega, hb.2⟩ (by omega)
  rw [hn.2.1] at e162
  have k2 : NC (nS m1 p) m1 (mst m1 p 3 es.length) := NC.set (Or.inl rfl)
  have g2 : ∀ f, f ≠ 3 → vl (mst m1 p 3 es.length) p f = vl m1 p f := fun f hf => by rw [vl_mst, if_neg (fun z => hf z.2)]
  have o2 := DOR.nd (S := fun q => q = p) h1 hpn k2 (g2 1 (by decide)) (g2 2 (by decide)) (fun _ => rfl)
  have h2 := o2.1
  obtain ⟨m3, e3, k3, v1, v2, n3⟩ := c173_36 (d := d) (p := p) (by omega) hb hn hl _ _ 0 rfl (by omega) h2 hpn (by rw [g2 0 (by decide)]; exact n1.2.1) (by rw [vl_mst, if_pos ⟨rfl, rfl⟩]) (fun j j0 j1 => absurd j1 (by omega))
  have o3 := DOR.nd (S := fun q => q = p) h2 hpn k3 v1 v2 (fun _ => rfl)
  have hne : ∀ q ∈ ns.take cnt, q = p → False := fun q hq z => p1 (by rw [← z]; exact hq)
  have o123 := (o1.trans (o2.trans o3 (S := fun q => q = p) (fun q _ z => z) (fun q _ z => z)) (S := fun _ => False) (fun _ _ z => z) hne)
  have st : ∀ Z, rn d 173 20 [pR K, pI b, pU, pU] [pI (b2i lf), pR K] m = some Z → cl d 173 [pR K, pI b] m = some Z := fun Z hZ => by
    obtain ⟨f1, f2, f3⟩ := h.2.1.b0 h.2.2.1 (b := b) ⟨by omega, hb.2⟩
    refine q173 h.1.1 _ ?_
    rw [gd_of h.2.1.1, nm_eq, nm_eq, f1, gd_of h.2.1.2.1.1, gd_of f2, f3, hn.1]
    cases lf
    · rw [if_neg (by decide)]; exact hZ
    · rw [if_pos (by decide)]; exact hZ
  refine ⟨m3, p, ns1, st _ (q173_20 (by omega) h.1.1 _ ?_), o123, n3, p1, t1⟩
  rw [gd_of h.2.1.1, bR_eq e1, gd_of h1.2.1.1, bI_eq e162, gd_of n1.1.1]
  exact e3
end
