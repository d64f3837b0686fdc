/-! the disk: a change in the making; a block is staged -/
set_option maxRecDepth 100000
set_option maxHeartbeats 4000000
theorem nd_le : ∀ (l u : List Int), l.Nodup → (∀ x ∈ l, x ∈ u) → l.length ≤ u.length := by
  intro l
  induction l with
  | nil => intro u _ _; exact Nat.zero_le _
  | cons x l ih =>
    intro u hn hs
    rw [List.nodup_cons] at hn
    have hx := hs x List.mem_cons_self
    have := ih (u.erase x) hn.2 fun y hy => (List.mem_erase_of_ne (fun z => hn.1 (by rw [← z]; exact hy))).mpr (hs y (List.mem_cons_of_mem _ hy))
    rw [List.length_erase_of_mem hx] at this
    have h1 : 1 ≤ u.length := by
      cases u with
      | nil => cases hx
      | cons a u => simp
    rw [List.length_cons]; omega
/-- a block that isn't used -/
theorem free_b {u : List Int} (h : u.length ≤ 1500) : ∃ f : Int, 2 ≤ f ∧ f < 1600 ∧ f ∉ u := by
  refine Classical.byContradiction fun hn => ?_
  have hall : ∀ x ∈ (List.range 1598).map (fun i : Nat => (i : Int) + 2), x ∈ u := by
    intro x hx
    obtain ⟨i, hi, rfl⟩ := List.mem_map.mp hx
    have := List.mem_range.mp hi
    refine Classical.byContradiction fun hq => hn ⟨(i : Int) + 2, by omega, by omega, hq⟩
  have hnd : ((List.range 1598).map (fun i : Nat => (i : Int) + 2)).Nodup := by
    rw [List.nodup_iff_pairwise_ne, List.pairwise_map]
    refine List.Pairwise.imp ?_ (List.nodup_iff_pairwise_ne.mp List.nodup_range)
    intro a b hab
    omega
  have := nd_le _ u hnd hall
  rw [List.length_map, List.length_range] at this
  omega
/-- what is staged -/
def SGs (m : Mem) (K : Int) (c c' : RF) (sg u : List Int) : Prop := (vl m K 4 = sg.length ∧ (sg.length : Int) ≤ 64) ∧ (∀ i : Int, 0 ≤ i → i < sg.length → vl m (vl m K 3) i = gi sg i) ∧ (∀ i j : Int, 0 ≤ i → i < sg.length → 0 ≤ j → j < 736 → vl m (vl m K 2) (736 * i + j) = c' (gi sg i) j) ∧ sg.Nodup ∧ (∀ b ∈ sg, b ∈ u ∧ 2 ≤ b ∧ b < 1600) ∧ ∀ b, b ∉ sg → c' b = c b
/-- the nodes there are, the first cnt of them in use -/
def NSt (m : Mem) (K : Int) (ns : List Int) (cnt : Nat) : Prop := vl m K 8 = cnt ∧ (cnt ≤ ns.length ∧ ns.length ≤ 64) ∧ (∀ i : Int, 0 ≤ i → i < ns.length → vl m (vl m K 7) i = gi ns i) ∧ (∀ i : Int, (ns.length : Int) ≤ i → i < 64 → vl m (vl m K 7) i = 0) ∧ ns.Nodup ∧ (∀ p ∈ ns, NO m p) ∧ ∀ p ∈ ns, ∀ q ∈ ns, p ≠ q → vl m p 1 ≠ vl m q 1 ∧ vl m p 1 ≠ vl m q 2 ∧ vl m p 2 ≠ vl m q 1 ∧ vl m p 2 ≠ vl m q 2
/-- a change in the making -/
def DSt (m : Mem) (K : Int) (c c' : RF) (sg u ns : List Int) (cnt : Nat) : Prop := OK m ∧ DA m K ∧ BC m K c ∧ SGs m K c c' sg u ∧ UM m K u ∧ (0 ∈ u ∧ 1 ∈ u) ∧ (0 ≤ vl m K 6 ∧ vl m K 6 < 1600) ∧ NSt m K ns cnt
/-- the disk's places but its blocks and nodes -/
abbrev dS (m : Mem) (K a : Int) : Prop := a = K ∨ a = vl m K 1 ∨ a = vl m K 2 ∨ a = vl m K 3 ∨ a = vl m K 5
theorem dS.tg {m : Mem} {K a : Int} (hD : DA m K) (h : dS m K a) : tg m a = 9 ∨ tg m a = 153103 ∨ tg m a = 153101 ∨ tg m a = 153105 := by
  rcases h with rfl | rfl | rfl | rfl | rfl
  · exact Or.inl hD.1
  · exact Or.inr (Or.inl hD.2.2.1.1)
  · exact Or.inr (Or.inl hD.2.2.2.1.1)
  · exact Or.inr (Or.inr (Or.inl hD.2.2.2.2.1.1))
  · exact Or.inr (Or.inr (Or.inr hD.2.2.2.2.2.1.1))
theorem ND1.ds {m m' : Mem} {K p : Int} {lf : Bool} {es : List (Int × Int)} (hD : DA m K) (h : ND1 m p lf es) (k : NC (dS m K) m m') : ND1 m' p lf es := by
  refine h.nc k (fun z => ?_) (fun z => ?_) (fun z => ?_)
  · have := z.tg hD; have := h.1.1; omega
  · have := z.tg hD; have := h.1.2.1.1; omega
  · have := z.tg hD; have := h.1.2.2.1.1; omega
theorem NSt.ds {m m' : Mem} {K : Int} {ns : List Int} {cnt : Nat} (hD : DA m K) (h : NSt m K ns cnt) (k : NC (dS m K) m m') (h7 : vl m' K 7 = vl m K 7) (h8 : vl m' K 8 = vl m K 8) : NSt m' K ns cnt := by
  obtain ⟨a1, a2, a3, a4, a5, a6, a7⟩ := h
  have n7 : ¬ dS m K (vl m K 7) := fun z => by have := z.tg hD; have := hD.2.2.2.2.2.2.1.1; omega
  have np : ∀ p ∈ ns, ∀ j, vl m' p j = vl m p j := fun p hp j => k.2.2.2 p j fun z => by have := z.tg hD; have := (a6 p hp).1; omega
  have t : ∀ b, tg m' b = tg m b := fun b => (k.2.2.1 b).1
  have l : ∀ b, ln m' b = ln m b := fun b => (k.2.2.1 b).2
  refine ⟨by rw [h8]; exact a1, a2, fun i i0 i1 => by rw [h7, k.2.2.2 _ _ n7]; exact a3 i i0 i1, fun i i0 i1 => by rw [h7, k.2.2.2 _ _ n7]; exact a4 i i0 i1, a5, fun p hp => ?_, fun p hp q hq hpq => ?_⟩
  · obtain ⟨b1, b2, b3, b4⟩ := a6 p hp
    exact ⟨by rw [t]; exact b1, by rw [np p hp, t, l]; exact b2, by rw [np p hp, t, l]; exact b3, by rw [np p hp, np p hp]; exact b4⟩
  · rw [np p hp, np p hp, np q hq, np q hq]; exact a7 p hp q hq hpq
section
variable {d : Nat} {K : Int} {c c' : RF} {sg u ns : List Int} {cnt : Nat}
/-- the next block that isn't used -/
theorem c170_w {f : Int} (hf : 2 ≤ f ∧ f < 1600 ∧ f ∉ u) (h01 : 0 ∈ u ∧ 1 ∈ u) (hd : 1 ≤ d) : ∀ (N : Nat) (m : Mem), TZ m → DA m K → UM m K u → 0 ≤ vl m K 6 → vl m K 6 < 1600 → (if vl m K 6 ≤ f then f - vl m K 6 else 1600 - vl m K 6 + f).toNat ≤ N → ∃ m1, (∀ Z, rn d 170 0 [pR K] [] m1 = some Z → rn d 170 0 [pR K] [] m = some Z) ∧ NC (· = K) m m1 ∧ (∀ j, j ≠ 6 → vl m1 K j = vl m K j) ∧ (2 ≤ vl m1 K 6 ∧ vl m1 K 6 < 1600 ∧ vl m1 K 6 ∉ u) := by
  intro N
  induction N with
  | zero =>
    intro m hz hD hU h0 h1 hN
    have : vl m K 6 = f := by split at hN <;> omega
    exact ⟨m, fun Z hZ => hZ, NC.refl, fun _ _ => rfl, by rw [this]; exact hf⟩
  | succ N ih =>
    intro m hz hD hU h0 h1 hN
    by_cases hx : vl m K 6 ∈ u
    · have hne : vl m K 6 ≠ f := fun z => hf.2.2 (by rw [← z]; exact hx)
      obtain ⟨t5, l5⟩ := hD.2.2.2.2.2.1
      have hu := hU (vl m K 6) h0 h1
      rw [if_pos hx] at hu
      have hK5 : vl m K 5 ≠ K := by intro z; have := hD.1; rw [z, this] at t5; omega
      have step : ∀ v : Int, v = (if vl m K 6 + 1 = 1600 then 2 else vl m K 6 + 1) → (∀ Z, rn d 170 0 [pR K] [] (mst m K 6 v) = some Z → rn d 170 0 [pR K] [] m = some Z) := fun v hv Z hZ => by
        refine q170_0 (by omega) hz _ ?_
        rw [gd_of hD.1, nm_eq, nm_eq, gd_of t5, gd_of ⟨h0, by rw [l5]; exact h1⟩, hu, if_neg (by decide), (w32_of (by omega) (by omega) : w32 (vl m K 6 + 1) = vl m K 6 + 1)]
        by_cases q : vl m K 6 + 1 = 1600
        · rw [if_pos q] at hv ⊢; rw [← hv]; exact hZ
        · rw [if_neg q] at hv ⊢; rw [← hv]; exact hZ
      generalize hv : (if vl m K 6 + 1 = 1600 then (2 : Int) else vl m K 6 + 1) = v at *
      have g : ∀ j, j ≠ 6 → vl (mst m K 6 v) K j = vl m K j := fun j hj => by rw [vl_mst, if_neg (fun z => hj z.2)]
      have g6 : vl (mst m K 6 v) K 6 = v := by rw [vl_mst, if_pos ⟨rfl, rfl⟩]
      have kc : NC (· = K) m (mst m K 6 v) := NC.set rfl
      have hD1 : DA (mst m K 6 v) K := by
        obtain ⟨h1, h2, h3, h4, h5, h6, h7, h8⟩ := hD
        exact ⟨h1, by rw [g 0 (by decide)]; exact h2, by rw [g 1 (by decide)]; exact h3, by rw [g 2 (by decide)]; exact h4, by rw [g 3 (by decide)]; exact h5, by rw [g 5 (by decide)]; exact h6, by rw [g 7 (by decide)]; exact h7, by rw [g 0 (by decide), g 1 (by decide), g 2 (by decide)]; exact h8⟩
      have hU1 : UM (mst m K 6 v) K u := fun b b0 b1 => by rw [g 5 (by decide), vl_mst, if_neg (fun z => hK5 z.1)]; exact hU b b0 b1
      obtain ⟨m1, k1, k2, k3, k4⟩ := ih (mst m K 6 v) (kc.tz hz) hD1 hU1 (by rw [g6, ← hv]; split <;> omega) (by rw [g6, ← hv]; split <;> omega) (by
        rw [g6]
        have hn6 : vl m K 6 ≠ 0 ∨ vl m K 6 = 0 := by omega
        by_cases q : vl m K 6 + 1 = 1600
        · rw [if_pos q] at hv
          rw [if_neg (by omega)] at hN
          rw [if_pos (by omega)]
          omega
        · rw [if_neg q] at hv
          by_cases w : vl m K 6 ≤ f
          · rw [if_pos w] at hN
            rw [if_pos (by omega)]
            omega
          · rw [if_neg w] at hN
            rw [if_neg (by omega)]
            omega)
      exact ⟨m1, fun Z hZ => step v rfl Z (k1 Z hZ), kc.trans k2, fun j hj => by rw [k3 j hj, g j hj], k4⟩
    · have h2 : 2 ≤ vl m K 6 := by
        rcases Int.lt_or_le (vl m K 6) 2 with q | q
        · exfalso
          have : vl m K 6 = 0 ∨ vl m K 6 = 1 := by omega
          rcases this with w | w
          · exact hx (by rw [w]; exact h01.1)
          · exact hx (by rw [w]; exact h01.2)
        · exact q
      exact ⟨m, fun Z hZ => hZ, NC.refl, fun _ _ => rfl, h2, h1, hx⟩
theorem mcp_vl {m : Mem} {s sp a dp n b j : Int} : vl (mcp m s sp a dp n) b j = if b = a ∧ dp ≤ j ∧ j < dp + n then vl m s (sp + (j - dp)) else vl m b j := rfl
/-- the block at hand is staged -/
theorem c170 {m : Mem} (hd : 3 ≤ d) (h : DSt m K c c' sg u ns cnt) (hl : sg.length < 64) (hu : u.length ≤ 1500) : ∃ m' b c'', cl d 170 [pR K] m = some (.inl (some (pI b)), m') ∧ DSt m' K c c'' (sg ++ [b]) (b :: u) ns cnt ∧ b ∉ u ∧ (2 ≤ b ∧ b < 1600) ∧ (∀ x, x ≠ b → c'' x = c' x) ∧ (∀ j : Int, 0 ≤ j → j < 732 → c'' b j = vl m (vl m K 1) j) ∧ SLD (c'' b) ∧ NC (dS m K) m m' ∧ ∀ f, f ≠ 4 → f ≠ 6 → vl m' K f = vl m K f := by
  obtain ⟨ok, hD, hc, ⟨s1, s2, s3, s4, s5, s6⟩, hU, h01, h6, hN⟩ := h
  obtain ⟨f, hf⟩ := free_b hu
  obtain ⟨m1, k1, k2, k3, k4⟩ := c170_w (K := K) (d := d) hf h01 (by omega) _ m ok.1 hD hU h6.1 h6.2 (Nat.le_refl _)
  have ok1 := k2.ok ok
  have nK : ∀ a, tg m a ≠ 9 → ∀ j, vl m1 a j = vl m a j := fun a ha j => k2.2.2.2 a j fun z => ha (by rw [z]; exact hD.1)
  have hD1 : DA m1 K := by
    obtain ⟨h1, h2, h3, h4, h5, h6, h7, h8⟩ := hD
    have t : ∀ b, tg m1 b = tg m b := fun b => (k2.2.2.1 b).1
    have l : ∀ b, ln m1 b = ln m b := fun b => (k2.2.2.1 b).2
    exact ⟨by rw [t]; exact h1, by rw [k3 0 (by decide), t, l]; exact h2, by rw [k3 1 (by decide), t, l]; exact h3, by rw [k3 2 (by decide), t, l]; exact h4, by rw [k3 3 (by decide), t, l]; exact h5, by rw [k3 5 (by decide), t, l]; exact h6, by rw [k3 7 (by decide), t, l]; exact h7, by rw [k3 0 (by decide), k3 1 (by decide), k3 2 (by decide)]; exact h8⟩
  have hU1 : UM m1 K u := fun b b0 b1 => by rw [k3 5 (by decide), nK _ (by rw [hD.2.2.2.2.2.1.1]; decide)]; exact hU b b0 b1
  generalize hbk : vl m1 K 6 = bk at *
  have hub := hU1 bk (by omega) k4.2.1
  rw [if_neg k4.2.2] at hub
  obtain ⟨a0, a1, a2, a3, a5, a7, n01, n02, n12⟩ := hD1.2
  -- marked
  have kA : AO (vl m1 K 5) m1 (mst m1 (vl m1 K 5) bk 1) := AO.set
  obtain ⟨i1, i2, i3⟩ := AO.da5 hD1 kA
  have hU2 := hU1.set (b := bk) hD1
  generalize hm2 : mst m1 (vl m1 K 5) bk 1 = m2 at *
  have ok2 := kA.ok ok1
  obtain ⟨m3, e3, g1, g2, g3⟩ := c157 (d := d - 1) (A := vl m2 K 1) (by omega) ok2.1 i1.2.2.1.1 (by rw [i1.2.2.1.2]; decide)
  have ok3 := g1.ok ok2
  have t3 : ∀ b, tg m3 b = tg m1 b := fun b => by rw [(g1.2.2.1 b).1, (kA.2.2.1 b).1]
  have l3 : ∀ b, ln m3 b = ln m1 b := fun b => by rw [(g1.2.2.1 b).2, (kA.2.2.1 b).2]
  have hK1 : K ≠ vl m1 K 1 := by intro z; have := hD1.1; rw [z, a1.1] at this; omega
  have v3 : ∀ f, vl m3 K f = vl m1 K f := fun f => by rw [g1.2.2.2 K f (by rw [i2]; exact hK1), i2]
  rw [i2] at g1 g2 g3
  -- copied, counted
  have nK2 : K ≠ vl m1 K 2 := by intro z; have := hD1.1; rw [z, a2.1] at this; omega
  have nK3 : K ≠ vl m1 K 3 := by intro z; have := hD1.1; rw [z, a3.1] at this; omega
  have n23 : vl m1 K 2 ≠ vl m1 K 3 := by intro z; have := a2.1; rw [z, a3.1] at this; omega
  have s1' : vl m1 K 4 = sg.length := by rw [k3 4 (by decide)]; exact s1.1
  have fin : cl d 170 [pR K] m = some (.inl (some (pI bk)), mst (mst (mcp m3 (vl m1 K 1) 0 (vl m1 K 2) (736 * sg.length) 736) K 4 (sg.length + 1)) (vl m1 K 3) sg.length bk) := by
    refine q170 ok.1 _ (k1 _ (q170_0 (by omega) ok1.1 _ ?_))
    rw [gd_of hD1.1, nm_eq, nm_eq, hbk, gd_of a5.1, gd_of ⟨by omega, by rw [a5.2]; omega⟩, if_pos hub, hm2, bV_eq (by rw [i2] at e3; exact e3), nm_eq, nm_eq, nm_eq, v3, v3, v3, s1', nm_eq, (by rw [Int.mul_comm]; exact w32_of (by omega) (by omega) : w32 ((sg.length : Int) * 736) = 736 * sg.length), gd_of (by rw [t3]; exact a1.1), gd_of (by rw [t3]; exact a2.1), gd_of ⟨by omega, by omega, by omega, by rw [l3, a1.2]; omega, by rw [l3, a2.2]; omega⟩, nm_eq, v3, nm_eq, v3, hbk, gd_of (by rw [t3]; exact a3.1), gd_of ⟨by omega, by rw [l3, a3.2]; omega⟩, (w32_of (by omega) (by omega) : w32 ((sg.length : Int) + 1) = sg.length + 1)]
  generalize hm5 : mst (mst (mcp m3 (vl m1 K 1) 0 (vl m1 K 2) (736 * sg.length) 736) K 4 (sg.length + 1)) (vl m1 K 3) sg.length bk = m5 at *
  have t5 : ∀ b, tg m5 b = tg m1 b := fun b => by rw [← hm5]; exact t3 b
  have l5 : ∀ b, ln m5 b = ln m1 b := fun b => by rw [← hm5]; exact l3 b
  have v5K : ∀ f, vl m5 K f = if f = 4 then (sg.length : Int) + 1 else vl m1 K f := fun f => by
    rw [← hm5, vl_mst, if_neg (fun z => nK3 z.1), vl_mst]
    by_cases z : f = 4
    · rw [if_pos ⟨rfl, z⟩, if_pos z]
    · rw [if_neg (fun y => z y.2), if_neg z, mcp_vl, if_neg (fun y => nK2 y.1), v3]
  have v52 : ∀ j, vl m5 (vl m1 K 2) j = if 736 * (sg.length : Int) ≤ j ∧ j < 736 * sg.length + 736 then vl m3 (vl m1 K 1) (j - 736 * sg.length) else vl m1 (vl m1 K 2) j := fun j => by
    have e0 : vl m3 (vl m1 K 2) j = vl m1 (vl m1 K 2) j := by
      rw [g1.2.2.2 _ _ (fun z => n12 z.symm), kA.2.2.2 _ _ (fun z => by have := a2.1; rw [z, a5.1] at this; omega)]
    rw [← hm5, vl_mst, if_neg (fun z => n23 z.1), vl_mst, if_neg (fun z => nK2 z.1.symm), mcp_vl]
    by_cases z : 736 * (sg.length : Int) ≤ j ∧ j < 736 * sg.length + 736
    · rw [if_pos ⟨rfl, z⟩, if_pos z, Int.zero_add]
    · rw [if_neg (fun y => z y.2), if_neg z, e0]
  have v53 : ∀ j, vl m5 (vl m1 K 3) j = if j = sg.length then bk else vl m1 (vl m1 K 3) j := fun j => by
    have e0 : vl m3 (vl m1 K 3) j = vl m1 (vl m1 K 3) j := by
      rw [g1.2.2.2 _ _ (fun z => by have := a3.1; rw [z, a1.1] at this; omega), kA.2.2.2 _ _ (fun z => by have := a3.1; rw [z, a5.1] at this; omega)]
    rw [← hm5, vl_mst]
    by_cases z : j = sg.length
    · rw [if_pos ⟨rfl, z⟩, if_pos z]
    · rw [if_neg (fun y => z y.2), if_neg z, vl_mst, if_neg (fun y => nK3 y.1.symm), mcp_vl, if_neg (fun y => n23 y.1.symm), e0]
  have v5o : ∀ a j, a ≠ K → a ≠ vl m1 K 2 → a ≠ vl m1 K 3 → a ≠ vl m1 K 1 → a ≠ vl m1 K 5 → vl m5 a j = vl m1 a j := fun a j h1 h2 h3 h4 h5 => by
    rw [← hm5, vl_mst, if_neg (fun z => h3 z.1), vl_mst, if_neg (fun z => h1 z.1), mcp_vl, if_neg (fun z => h2 z.1), g1.2.2.2 a j h4, kA.2.2.2 a j h5]
  have v55 : ∀ j, vl m5 (vl m1 K 5) j = vl m2 (vl m1 K 5) j := fun j => by
    rw [← hm5, vl_mst, if_neg (fun z => by have := a5.1; rw [z.1, a3.1] at this; omega), vl_mst, if_neg (fun z => by have := a5.1; rw [z.1, hD1.1] at this; omega), mcp_vl, if_neg (fun z => by have := a5.1; rw [z.1, a2.1] at this; omega), g1.2.2.2 _ _ (fun z => by have := a5.1; rw [z, a1.1] at this; omega)]
  have nx5 : nx m5 = nx m1 ∧ sl m5 = sl m1 := ⟨by rw [← hm5]; show nx m3 = _; rw [g1.1, kA.1], by rw [← hm5]; show sl m3 = _; rw [g1.2.1, kA.2.1]⟩
  -- what is staged now
  have gbk : bk ∉ sg := fun z => k4.2.2 (s5 bk z).1
  refine ⟨m5, bk, fun x => if x = bk then fun j => vl m3 (vl m1 K 1) j else c' x, fin, ⟨?_, ?_, ?_, ⟨⟨?_, ?_⟩, ?_, ?_, ?_, ?_, ?_⟩, ?_, ⟨List.mem_cons_of_mem _ h01.1, List.mem_cons_of_mem _ h01.2⟩, ?_, ?_⟩, k4.2.2, ⟨k4.1, k4.2.1⟩, fun x hx => by dsimp only; rw [if_neg hx], fun j j0 j1 => ?_, ?_, ?_, ?_⟩
  · exact ⟨fun x hx => by rw [t5]; exact ok1.1 x (by rw [nx5.1] at hx; exact hx), by rw [t5]; exact ok1.2.1, by rw [nx5.1]; exact ok1.2.2⟩
  · exact ⟨by rw [t5]; exact hD1.1, by rw [v5K, if_neg (by decide), t5, l5]; exact a0, by rw [v5K, if_neg (by decide), t5, l5]; exact a1, by rw [v5K, if_neg (by decide), t5, l5]; exact a2, by rw [v5K, if_neg (by decide), t5, l5]; exact a3, by rw [v5K, if_neg (by decide), t5, l5]; exact a5, by rw [v5K, if_neg (by decide), t5, l5]; exact a7, by rw [v5K, if_neg (by decide), v5K, if_neg (by decide), v5K, if_neg (by decide)]; exact ⟨n01, n02, n12⟩⟩
  · intro b j b0 b1 j0 j1
    rw [v5K, if_neg (by decide), v5o _ _ (by intro z; have := a0.1; rw [z, hD1.1] at this; omega) n02 (by intro z; have := a0.1; rw [z, a3.1] at this; omega) n01 (by intro z; have := a0.1; rw [z, a5.1] at this; omega), k3 0 (by decide), nK _ (by rw [hD.2.1.1]; decide)]
    exact hc b j b0 b1 j0 j1
  · rw [v5K, if_pos rfl, List.length_append, List.length_singleton]; push_cast; rfl
  · rw [List.length_append, List.length_singleton]; push_cast; omega
  · intro i i0 i1
    rw [List.length_append, List.length_singleton] at i1
    push_cast at i1
    rw [v5K, if_neg (by decide), v53]
    by_cases z : i = sg.length
    · rw [if_pos z, z, gi_app_r (by omega), Int.sub_self, gi_zero]
    · rw [if_neg z, gi_app_l i0 (by omega), k3 3 (by decide), nK _ (by rw [hD.2.2.2.2.1.1]; decide)]
      exact s2 i i0 (by omega)
  · intro i j i0 i1 j0 j1
    rw [List.length_append, List.length_singleton] at i1
    push_cast at i1
    rw [v5K, if_neg (by decide), v52]
    dsimp only
    by_cases z : i = sg.length
    · rw [if_pos (by omega), z, gi_app_r (by omega), Int.sub_self, gi_zero, if_pos rfl]; congr 1; omega
    · rw [if_neg (by omega), gi_app_l i0 (by omega)]
      have hmem : gi sg i ∈ sg := by
        unfold gi
        rw [List.getD_eq_getElem?_getD, List.getElem?_eq_getElem (by omega)]
        exact List.getElem_mem _
      rw [if_neg (fun y => gbk (by rw [← y]; exact hmem)), k3 2 (by decide), nK _ (by rw [hD.2.2.2.1.1]; decide)]
      exact s3 i j i0 (by omega) j0 j1
  · rw [List.nodup_append]
    exact ⟨s4, by simp, fun x hx y hy => by rw [List.mem_singleton.mp hy]; intro z; exact gbk (by rw [← z]; exact hx)⟩
  · intro b hb
    rcases List.mem_append.mp hb with q | q
    · have := s5 b q; exact ⟨List.mem_cons_of_mem _ this.1, this.2⟩
    · rw [List.mem_singleton.mp q]; exact ⟨List.mem_cons_self, k4.1, k4.2.1⟩
  · intro b hb
    have h1 : b ≠ bk := fun z => hb (by rw [z]; simp)
    have h2 : b ∉ sg := fun z => hb (List.mem_append_left _ z)
    dsimp only
    rw [if_neg h1]; exact s6 b h2
  · intro b b0 b1
    rw [v5K, if_neg (by decide), v55]
    have := hU2 b b0 b1
    rw [i2] at this
    exact this
  · rw [v5K, if_neg (by decide), hbk]; omega
  · have kk : NC (dS m K) m m5 := by
      refine ⟨by rw [nx5.1, k2.1], by rw [nx5.2, k2.2.1], fun b => ⟨by rw [t5, (k2.2.2.1 b).1], by rw [l5, (k2.2.2.1 b).2]⟩, fun a j ha => ?_⟩
      rw [v5o a j (fun z => ha (Or.inl z)) (fun z => ha (Or.inr (Or.inr (Or.inl (by rw [z, k3 2 (by decide)]))))) (fun z => ha (Or.inr (Or.inr (Or.inr (Or.inl (by rw [z, k3 3 (by decide)])))))) (fun z => ha (Or.inr (Or.inl (by rw [z, k3 1 (by decide)])))) (fun z => ha (Or.inr (Or.inr (Or.inr (Or.inr (by rw [z, k3 5 (by decide)])))))), k2.2.2.2 a j fun z => ha (Or.inl z)]
    exact hN.ds hD kk (by rw [v5K, if_neg (by decide), k3 7 (by decide)]) (by rw [v5K, if_neg (by decide), k3 8 (by decide)])
  · dsimp only
    rw [if_pos rfl, g2 j (by omega), kA.2.2.2 _ _ (fun z => by have := a1.1; rw [z, a5.1] at this; omega), k3 1 (by decide), nK _ (by rw [hD.2.2.1.1]; decide)]
  · intro k k0 k1'
    dsimp only
    rw [if_pos rfl]
    exact g3 k k0 k1'
  · refine ⟨by rw [nx5.1, k2.1], by rw [nx5.2, k2.2.1], fun b => ⟨by rw [t5, (k2.2.2.1 b).1], by rw [l5, (k2.2.2.1 b).2]⟩, fun a j ha => ?_⟩
    rw [v5o a j (fun z => ha (Or.inl z)) (fun z => ha (Or.inr (Or.inr (Or.inl (by rw [z, k3 2 (by decide)]))))) (fun z => ha (Or.inr (Or.inr (Or.inr (Or.inl (by rw [z, k3 3 (by decide)])))))) (fun z => ha (Or.inr (Or.inl (by rw [z, k3 1 (by decide)])))) (fun z => ha (Or.inr (Or.inr (Or.inr (Or.inr (by rw [z, k3 5 (by decide)])))))), k2.2.2.2 a j fun z => ha (Or.inl z)]
  · intro f h4 h6
    rw [v5K, if_neg h4, k3 f h6]
end
