/-! evaluation by the twin: down, a query; all together -/
set_option maxRecDepth 100000
set_option maxHeartbeats 4000000
section
variable {E : ZE} {rN : Nd} {n : Nat} {uv : List Int} {a1 : Int} {f : Nd → EV (List Nd)} {D : Nat}
theorem c265_of {d : Nat} {m : Mem} {stk : List Int} {C : Int} {s : Option Int} {x : Nk} {y : Nd} (hd : 3 ≤ d) (hx : DNk E x) (hD : D + 1 ≤ d) (H : ∀ (d' : Nat) (m1 : Mem) (stk1 : List Int) (s1 : Option Int) (C1 : Int) (q : Nk) (z : Nd), D ≤ d' → DNk E q → ZC E s1 m1 stk1 n uv C1 → ZVs E m1 stk1 n uv C1 (cl d' 266 [pR E.M, pI a1, pI q.2.1] m1) (eZ s1 (f (q :: z)))) (h : ZC E s m stk n uv C) (hl : ∀ (m1 : Mem) (stk1 : List Int) (s1 : Option Int) (C1 : Int), ZC E s1 m1 stk1 n uv C1 → ZVs E m1 stk1 n uv C1 (rn d 265 24 [pR E.M, pI a1, pI x.2.1, pI (hdI x.2.2.2.1)] [] m1) (eZ s1 (dwF f (x :: y) (x.2.2.1.1 == 6) x.2.2.2.1 (x.1 + 3) 0))) : ZVs E m stk n uv C (cl d 265 [pR E.M, pI a1, pI x.2.1] m) (eZ s (eB eT fun _ => eB (f (x :: y)) fun a => eB (dwF f (x :: y) (x.2.2.1.1 == 6) x.2.2.2.1 (x.1 + 3) 0) fun b => eR (a ++ b))) := by
  obtain ⟨t1, t2, t3, t4, t5, t6⟩ := hx.1
  refine ZVs.tick (d := d - 1) (Q2 := fun m1 => bV (cl (d - 1) 266 [pR E.M, pI a1, pI x.2.1] m1) fun m2 => nm (vl m2 E.M 18) fun v3 => gd (tg m2 v3 = 13) <| nm (vl m2 v3 4) fun v4 => gd (tg m2 v4 = 284101 ∨ tg m2 v4 = 287101) <| gd ((0 : Int) ≤ (x.2.1 : Int) ∧ (x.2.1 : Int) < ln m2 v4) <| rn d 265 24 [pR E.M, pI a1, pI x.2.1, pI (vl m2 v4 x.2.1)] [] m2) h (fun m' e1 => q265 (by omega) h.bB.tz _ ?_) (fun m' e1 Z hZ => q265 (by omega) h.bB.tz _ ?_) (fun m' w' hlt c1 q1 => ?_)
  · rw [gd_of h.bB.hM, bI_eq e1, if_pos rfl]
  · rw [gd_of h.bB.hM, bI_eq e1, if_neg (by decide)]; exact hZ
  · have key := H (d - 1) m' stk (some w') C x y (by omega) hx c1
    refine ZVc.sS (ZVc.seq (s := some w') (K1 := fun m2 Z => rn d 265 24 [pR E.M, pI a1, pI x.2.1, pI (hdI x.2.2.2.1)] [] m2 = some Z) (key.c fun m2 zs s' C' e2 c2 Z hZ => ?_) (fun m2 zs s' C' c2 q2 => (hl m2 _ s' C' c2).c fun m3 zs3 s3 C3 e3 c3 Z hZ => by rw [hZ]; exact e3))
    obtain ⟨g1, g2, g3⟩ := c2.bB.nf (f := 4) (by decide) t5 t1
    rw [bV_eq e2, nm_eq, c2.bB.vD, gd_of c2.bB.hD.1, nm_eq, gd_of g1, gd_of g2, g3]
    exact hZ
theorem c265_24 (H : ∀ (d' : Nat) (m1 : Mem) (stk1 : List Int) (s1 : Option Int) (C1 : Int) (q : Nk) (z : Nd), D ≤ d' → DNk E q → ZC E s1 m1 stk1 n uv C1 → ZVs E m1 stk1 n uv C1 (cl d' 266 [pR E.M, pI a1, pI q.2.1] m1) (eZ s1 (f (q :: z)))) : ∀ (F : Fo) (d : Nat) (x : Nd) (par p : Int) (ob : Bool) (k : Nat) (m : Mem) (stk : List Int) (C a2 : Int) (s : Option Int), D + 3 + hI F ≤ d → TF E.gD E.ud E.nD par ob F → (∀ y ∈ kdL ob F p k, DNk E y) → ZC E s m stk n uv C → ZVs E m stk n uv C (rn d 265 24 [pR E.M, pI a1, pI a2, pI (hdI F)] [] m) (eZ s (dwF f x ob F p k)) := by
  intro F
  induction F with
  | leaf =>
    intro d x par p ob k m stk C a2 s hd hT hk h
    refine ZVs.nil h (q265_24 (by omega) h.bB.tz _ ?_)
    rw [if_pos (by show (-1 : Int) < 0; decide)]
  | inner i dd u l r ihl ihr =>
    intro d x par p ob k m stk C a2 s hd hT hk h
    obtain ⟨f1, f2, f3, f4, f5, f6, f7, f8, f9, f10⟩ := hT
    have hi : hdI (.inner i dd u l r) = (i : Int) := rfl
    have hh : hI (.inner i dd u l r) = max (1 + hI l) (hI r) := rfl
    rw [hi]
    rw [hh] at hd
    rw [kdL_inner] at hk
    have ee : dwF f x ob (.inner i dd u l r) p k = eB (eB eT fun _ => eB (f ((p + ((if ob then nmB dd.2.2.2 else []).length : Int), i, dd, l, k) :: x)) fun a => eB (dwF f ((p + ((if ob then nmB dd.2.2.2 else []).length : Int), i, dd, l, k) :: x) (dd.1 == 6) l (p + ((if ob then nmB dd.2.2.2 else []).length : Int) + 3) 0) fun b => eR (a ++ b)) fun a => eB (dwF f x ob r (p + ((if ob then nmB dd.2.2.2 else []).length : Int) + (enV dd l).length) (k + 1)) fun b => eR (a ++ b) := rfl
    rw [ee]
    generalize hq : p + ((if ob = true then nmB dd.2.2.2 else []).length : Int) = q at *
    have hq0 := hk _ List.mem_cons_self
    have kids := kdS_dn hq0
    cases s with
    | none =>
      refine ZVs.dead h (q265_24 (by omega) h.bB.tz _ ?_)
      rw [if_neg (by omega), gd_of h.bB.hM, if_neg (by rw [h.dead]; decide)]
    | some w =>
      have key := c265_of (d := d - 1) (y := x) (by omega) hq0 (by omega) H h (fun m1 stk1 s1 C1 c1 => ihl (d - 1) ((q, i, dd, l, k) :: x) (i : Int) (q + 3) (dd.1 == 6) 0 m1 stk1 C1 _ s1 (by omega) f9 kids c1)
      refine ZVc.sS (ZVc.seq (s := some w) (K1 := fun m2 Z => rn d 265 24 [pR E.M, pI a1, pI a2, pI (hdI r)] [] m2 = some Z) (key.c fun m2 zs s' C' e2 c2 Z hZ => q265_24 (by omega) h.bB.tz _ ?_) (fun m2 zs s' C' c2 q2 => (ihr d x par _ ob _ m2 _ C' a2 s' (by omega) f10 (fun y hy => hk y (List.mem_cons_of_mem _ hy)) c2).c fun m3 zs3 s3 C3 e3 c3 Z hZ => by rw [hZ]; exact e3))
      obtain ⟨g1, g2, g3⟩ := c2.bB.nf (f := 5) (by decide) f8 f1
      rw [if_neg (by omega), gd_of h.bB.hM, if_pos h.live.1, bV_eq e2, nm_eq, c2.bB.vD, gd_of c2.bB.hD.1, nm_eq, gd_of g1, gd_of g2, g3]
      exact hZ
/-- down from a node -/
theorem c265 {d : Nat} {m : Mem} {stk : List Int} {C : Int} {s : Option Int} {x : Nk} {y : Nd} (hx : DNk E x) (hd : D + 44 ≤ d) (H : ∀ (d' : Nat) (m1 : Mem) (stk1 : List Int) (s1 : Option Int) (C1 : Int) (q : Nk) (z : Nd), D ≤ d' → DNk E q → ZC E s1 m1 stk1 n uv C1 → ZVs E m1 stk1 n uv C1 (cl d' 266 [pR E.M, pI a1, pI q.2.1] m1) (eZ s1 (f (q :: z)))) (h : ZC E s m stk n uv C) : ZVs E m stk n uv C (cl d 265 [pR E.M, pI a1, pI x.2.1] m) (eZ s (dwn f (x :: y))) :=
  c265_of (by omega) hx (by omega) H h (fun m1 stk1 s1 C1 c1 => c265_24 H x.2.2.2.1 d (x :: y) (x.2.1 : Int) (x.1 + 3) (x.2.2.1.1 == 6) 0 m1 stk1 C1 _ s1 (by have := hx.2.2.2.2; omega) hx.1.2.2.2.2.2 (kdS_dn hx) c1)
/-- one segment over the nodes -/
abbrev K128 (E : ZE) (d : Nat) (a1 a2 base sg en : Int) (m : Mem) (Z : Rs × Mem) : Prop := rn d 262 128 [pR E.M, pI a1, pI a2, pI base, pI sg, pI en, pI (w32 (vl m E.M 33 - en)), pI 0] [] m = some Z
abbrev K56 (E : ZE) (d : Nat) (a1 a2 base sg en i : Int) (m : Mem) (Z : Rs × Mem) : Prop := ∀ z7 : PV, cat z7 = 1 → rn d 262 56 [pR E.M, pI a1, pI a2, pI base, pI sg, pI en, pI i, z7] [] m = some Z
theorem c262_56 {d : Nat} {a2 base sg en : Int} {g : Nd → EV (List Nd)} (hd : 2 ≤ d) (hsg : 0 ≤ sg ∧ sg < E.k) (H : ∀ (m1 : Mem) (stk1 : List Int) (w1 C1 : Int) (q : Nk) (z : Nd), DNk E q → ZC E (some w1) m1 stk1 n uv C1 → ZVs E m1 stk1 n uv C1 (if E.g sg 1 = 1 then cl (d - 1) 265 [pR E.M, pI sg, pI q.2.1] m1 else cl (d - 1) 266 [pR E.M, pI sg, pI q.2.1] m1) (eZ (some w1) (g (q :: z)))) : ∀ (zs : List Nd) (i : Int) (m : Mem) (stk : List Int) (C : Int) (s : Option Int), (∀ z ∈ zs, DNn E z) → At stk i (zs.map idN) → i + zs.length = en → ZC E s m stk n uv C → ZVc E m stk n uv C (K56 E d a1 a2 base sg en i m) (K128 E d a1 a2 base sg en) (eZ s (eL g zs)) := by
  intro zs
  induction zs with
  | nil =>
    intro i m stk C s hv hA hi h
    refine ZVc.nil h fun Z hZ z7 h7 => q262_56 (by omega) h.bB.tz h7 _ ?_
    simp at hi
    rw [if_neg (by omega), gd_of h.bB.hM]
    exact hZ
  | cons z zs ih =>
    intro i m stk C s hv hA hi h
    obtain ⟨q, t, rfl, hq⟩ := hv z List.mem_cons_self
    rw [List.length_cons] at hi
    push_cast at hi
    rw [List.map_cons] at hA
    have hA0 := hA.1
    have hA1 := hA.2.1
    rw [List.length_cons] at hA1
    push_cast at hA1
    obtain ⟨ge, hA'⟩ := hA.cons
    have hl := h.bB.lt
    have hlen := h.len
    have hel := h.at i hA0 (by omega)
    rw [ge] at hel
    have hel' : vl m (vl m E.M 32) i = (q.2.1 : Int) := hel
    cases s with
    | none =>
      refine ZVc.dead h (fun Z hZ z7 h7 => q262_56 (by omega) h.bB.tz h7 _ ?_) rfl
      rw [if_pos (by omega), gd_of h.bB.hM, if_neg (by rw [h.dead]; decide)]
      exact hZ
    | some w =>
      have ee : eL g ((q :: t) :: zs) = eB (g (q :: t)) (fun a => eB (eL g zs) fun b => eR (a ++ b)) := rfl
      rw [ee]
      refine ZVc.seq (s := some w) (K1 := K56 E d a1 a2 base sg en (i + 1)) ((H m stk w C q t hq h).c fun m2 zs2 s2 C2 e2 c2 Z hZ z7 h7 => q262_56 (by omega) h.bB.tz h7 _ ?_) (fun m2 zs2 s2 C2 c2 q2 => ih (i + 1) m2 _ C2 s2 (fun y hy => hv y (List.mem_cons_of_mem _ hy)) ?_ (by omega) c2)
      · rw [if_pos (by omega), gd_of h.bB.hM, if_pos h.live.1, bI_eq (h.bB.rd hsg (by decide))]
        by_cases z1 : E.g sg 1 = 1
        · rw [if_pos z1] at e2
          rw [if_pos z1, nm_eq, gd_of hl.1, gd_of ⟨hA0, by rw [hl.2]; omega⟩, hel', bV_eq e2, (w32_of (by omega) (by omega) : w32 (i + 1) = i + 1)]
          exact hZ z7 h7
        · rw [if_neg z1] at e2
          rw [if_neg z1, nm_eq, gd_of hl.1, gd_of ⟨hA0, by rw [hl.2]; omega⟩, hel', bV_eq e2, (w32_of (by omega) (by omega) : w32 (i + 1) = i + 1)]
          exact hZ z7 h7
      · obtain ⟨x1, x2, x3⟩ := hA'
        refine ⟨x1, by rw [List.length_append]; push_cast; omega, fun j j0 j1 => ?_⟩
        rw [gi_app_l (by omega) (by omega)]; exact x3 j j0 j1
/-- what was found moves down over what it was found from -/
theorem c262_128 {d : Nat} {a2 sg en : Int} {stk zs0 : List Int} {s : Option Int} (hd : 2 ≤ d) (hsg : 0 ≤ sg ∧ sg < E.k) (hen : en = stk.length + zs0.length) : ∀ (N : Nat) (j : Int) (m : Mem) (C : Int) (zs pre : List Int) (tl : List Int), zs.length = pre.length + N → (∃ suf, zs = pre ++ suf) → j = pre.length → ZC E s m tl n uv C → (tl.length : Int) = en + zs.length → (∀ k : Int, 0 ≤ k → k < stk.length → gi tl k = gi stk k) → (∀ k : Int, 0 ≤ k → k < pre.length → gi tl (stk.length + k) = gi zs k) → (∀ k : Int, (pre.length : Int) ≤ k → k < zs.length → gi tl (en + k) = gi zs k) → (∀ x ∈ stk, vD E x) → (∀ x ∈ zs, vD E x) → ∃ m', ZC E s m' (stk ++ zs) n uv C ∧ ZQ E n m C m' C ∧ ∀ Z, (∀ z5 z6 z7 : PV, cat z5 = 1 → cat z6 = 1 → cat z7 = 1 → rn d 262 35 [pR E.M, pI a1, pI a2, pI (stk.length : Int), pI (E.g sg 3), z5, z6, z7] [] m' = some Z) → rn d 262 128 [pR E.M, pI a1, pI a2, pI (stk.length : Int), pI sg, pI en, pI (zs.length : Int), pI j] [] m = some Z := by
  intro N
  induction N with
  | zero =>
    intro j m C zs pre tl hN ⟨suf, hsuf⟩ hj h hlen h1 h2 h3 hv1 hv2
    have hB := h.bB
    have hM := hB.hM
    have hl := hB.lt
    have htl := h.len
    obtain ⟨k1, k2⟩ := hB.mM (b := n) (f := 33) (v := (stk.length : Int) + zs.length) (by omega)
    have g : ∀ f, f ≠ 33 → vl (mst m E.M 33 ((stk.length : Int) + zs.length)) E.M f = vl m E.M f := fun f hf => by rw [vl_mst, if_neg (fun z => hf z.2)]
    have hZ : ZC E s (mst m E.M 33 ((stk.length : Int) + zs.length)) (stk ++ zs) n uv C := by
      refine ⟨k1, ⟨by rw [vl_mst, if_pos ⟨rfl, rfl⟩, List.length_append]; push_cast; rfl, by rw [List.length_append]; push_cast; omega, fun i i0 i1 => ?_, fun x hx => ?_⟩, ?_⟩
      · rw [List.length_append] at i1
        push_cast at i1
        rw [g 32 (by omega), vl_mst, if_neg (fun z => by rw [z.1] at hl; omega), h.at i i0 (by omega)]
        by_cases q : i < stk.length
        · rw [h1 i i0 q, gi_app_l i0 q]
        · have := h2 (i - stk.length) (by omega) (by omega)
          rw [show (stk.length : Int) + (i - stk.length) = i by omega] at this
          rw [this, gi_app_r (by omega)]
      · rcases List.mem_append.mp hx with q | q
        · exact hv1 x q
        · exact hv2 x q
      · cases s with
        | none => show vl _ _ _ = 1; rw [g 35 (by omega)]; exact h.dead
        | some w =>
          obtain ⟨l1, l2, l3, l4⟩ := h.live
          exact ⟨by rw [g 35 (by omega)]; exact l1, by rw [g 34 (by omega)]; exact l2, by rw [List.length_append]; push_cast; omega, l4⟩
    refine ⟨_, hZ, k2, fun Z hZ2 => q262_128 (by omega) hB.tz _ ?_⟩
    have rd := hZ.bB.rd (d := d - 1) hsg (f := 3) (by decide)
    rw [if_neg (by omega), gd_of hM, (w32_of (by omega) (by omega) : w32 ((stk.length : Int) + zs.length) = (stk.length : Int) + zs.length), bI_eq rd]
    exact hZ2 _ _ _ rfl rfl rfl
  | succ N ih =>
    intro j m C zs pre tl hN ⟨suf, hsuf⟩ hj h hlen h1 h2 h3 hv1 hv2
    have hB := h.bB
    have hM := hB.hM
    have hl := hB.lt
    have htl := h.len
    have hjz : (pre.length : Int) < zs.length := by omega
    cases suf with
    | nil => rw [List.append_nil] at hsuf; rw [hsuf] at hjz; omega
    | cons z suf =>
    have hgz : gi zs pre.length = z := by rw [hsuf, gi_app_r (by omega), Int.sub_self]; rfl
    obtain ⟨k1, k2, k3⟩ := hB.mL (b := n) (j := (stk.length : Int) + pre.length) (v := gi zs pre.length)
    -- the list with one place written
    obtain ⟨tl', htl'len, htl'⟩ : ∃ tl' : List Int, tl'.length = tl.length ∧ ∀ i : Int, 0 ≤ i → i < tl.length → gi tl' i = if i = stk.length + pre.length then gi zs pre.length else gi tl i := by
      refine ⟨tl.set (stk.length + pre.length) (gi zs pre.length), List.length_set, fun i i0 i1 => ?_⟩
      unfold gi
      rw [List.getD_eq_getElem?_getD, List.getElem?_set]
      by_cases q : i = stk.length + pre.length
      · rw [if_pos q, if_pos (by omega), if_pos (by omega)]; rfl
      · rw [if_neg q, if_neg (by omega), ← List.getD_eq_getElem?_getD]
    have hel := h.at (en + pre.length) (by omega) (by omega)
    have h3' := h3 pre.length (Int.le_refl _) hjz
    have c1 : ZC E s (mst m (vl m E.M 32) ((stk.length : Int) + pre.length) (gi zs pre.length)) tl' n uv C := by
      refine ⟨k1, ⟨by rw [k3, htl'len]; exact h.top, by rw [htl'len]; exact htl, fun i i0 i1 => ?_, fun x hx => ?_⟩, ?_⟩
      · rw [htl'len] at i1
        rw [k3, vl_mst, htl' i i0 i1]
        by_cases q : i = stk.length + pre.length
        · rw [if_pos ⟨rfl, q⟩, if_pos q]
        · rw [if_neg (fun y => q y.2), if_neg q]; exact h.at i i0 i1
      · obtain ⟨i, hi, rfl⟩ := List.getElem_of_mem hx
        have e0 := htl' i (by omega) (by omega)
        have e1 : gi tl' (i : Int) = tl'[i] := by unfold gi; rw [Int.toNat_natCast, List.getD_eq_getElem?_getD, List.getElem?_eq_getElem hi]; rfl
        rw [← e1, e0]
        by_cases q : (i : Int) = stk.length + pre.length
        · rw [if_pos q, hgz]; exact hv2 z (by rw [hsuf]; simp)
        · rw [if_neg q]
          have hi2 : i < tl.length := by omega
          have e2 : gi tl (i : Int) = tl[i] := by unfold gi; rw [Int.toNat_natCast, List.getD_eq_getElem?_getD, List.getElem?_eq_getElem hi2]; rfl
          rw [e2]; exact h.v _ (List.getElem_mem hi2)
      · cases s with
        | none => show vl _ _ _ = 1; rw [k3]; exact h.dead
        | some w =>
          obtain ⟨l1, l2, l3, l4⟩ := h.live
          exact ⟨by rw [k3]; exact l1, by rw [k3]; exact l2, by rw [htl'len]; exact l3, l4⟩
    obtain ⟨m', g1, g2, g3⟩ := ih (j + 1) _ C zs (pre ++ [z]) tl' (by simp; omega) ⟨suf, by rw [hsuf]; simp⟩ (by simp; omega) c1 (by rw [htl'len]; exact hlen) (fun k k0 k1 => by rw [htl' k k0 (by omega), if_neg (by omega)]; exact h1 k k0 k1) (fun k k0 k1 => by
      simp at k1
      rw [htl' _ (by omega) (by omega)]
      by_cases q : k = pre.length
      · rw [if_pos (by omega), q]
      · rw [if_neg (by omega)]; exact h2 k k0 (by omega)) (fun k k0 k1 => by
      simp at k0
      rw [htl' _ (by omega) (by omega), if_neg (by omega)]; exact h3 k (by omega) k1) hv1 hv2
    refine ⟨m', g1, k2.trans g2 (Int.le_refl _), fun Z hZ => q262_128 (by omega) hB.tz _ ?_⟩
    rw [if_pos (by omega), gd_of hM, nm_eq, nm_eq, nm_eq, hj, (w32_of (by omega) (by omega) : w32 ((stk.length : Int) + pre.length) = (stk.length : Int) + pre.length), (w32_of (by omega) (by omega) : w32 (en + pre.length) = en + pre.length), gd_of hl.1, gd_of (by rw [hl.2]; omega), gd_of (by rw [hl.2]; omega), hel, h3', (w32_of (by omega) (by omega) : w32 ((pre.length : Int) + 1) = (pre.length : Int) + 1), show (pre.length : Int) + 1 = j + 1 by omega]
    exact g3 Z hZ
end
