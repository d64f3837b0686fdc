/-! the disk: a fresh node; a node that is read -/
set_option maxRecDepth 100000
set_option maxHeartbeats 4000000
theorem DSt.ex {m m' : Mem} {K : Int} {c c' : RF} {sg u ns ns' : List Int} {cnt cnt' : Nat} (h : DSt m K c c' sg u ns cnt) (ok' : OK m') (ht : ∀ a, tg m a ≠ 0 → tg m' a = tg m a ∧ ln m' a = ln m a) (hv : ∀ a j, tg m a = 153103 ∨ tg m a = 153101 ∨ tg m a = 153105 → vl m' a j = vl m a j) (hK : ∀ f, f ≠ 8 → vl m' K f = vl m K f) (hN : NSt m' K ns' cnt') : DSt m' K c c' sg u ns' cnt' := by
  obtain ⟨ok, hD, hc, ⟨s1, s2, s3, s4, s5, s6⟩, hU, h01, h6, -⟩ := h
  obtain ⟨hK9, a0, a1, a2, a3, a5, a7, n012⟩ := hD
  have t : ∀ f, f ≠ 8 → tg m (vl m K f) ≠ 0 → tg m' (vl m' K f) = tg m (vl m K f) ∧ ln m' (vl m' K f) = ln m (vl m K f) := fun f hf h0 => by rw [hK f hf]; exact ht _ h0
  refine ⟨ok', ⟨by rw [(ht K (by omega)).1]; exact hK9, ?_, ?_, ?_, ?_, ?_, ?_, by rw [hK 0 (by decide), hK 1 (by decide), hK 2 (by decide)]; exact n012⟩, fun b j b0 b1 j0 j1 => by rw [hK 0 (by decide), hv _ _ (Or.inl a0.1)]; exact hc b j b0 b1 j0 j1, ⟨by rw [hK 4 (by decide)]; exact s1, fun i i0 i1 => by rw [hK 3 (by decide), hv _ _ (Or.inr (Or.inl a3.1))]; exact s2 i i0 i1, fun i j i0 i1 j0 j1 => by rw [hK 2 (by decide), hv _ _ (Or.inl a2.1)]; exact s3 i j i0 i1 j0 j1, s4, s5, s6⟩, fun b b0 b1 => by rw [hK 5 (by decide), hv _ _ (Or.inr (Or.inr a5.1))]; exact hU b b0 b1, h01, by rw [hK 6 (by decide)]; exact h6, hN⟩
  · have := t 0 (by decide) (by omega); rw [this.1, this.2]; exact a0
  · have := t 1 (by decide) (by omega); rw [this.1, this.2]; exact a1
  · have := t 2 (by decide) (by omega); rw [this.1, this.2]; exact a2
  · have := t 3 (by decide) (by omega); rw [this.1, this.2]; exact a3
  · have := t 5 (by decide) (by omega); rw [this.1, this.2]; exact a5
  · have := t 7 (by decide) (by omega); rw [this.1, this.2]; exact a7
/-- nodes in use stay, but for those of S -/
def LVK (lv : List Int) (S : Int → Prop) (m m' : Mem) : Prop := ∀ q ∈ lv, ¬ S q → ∀ lf es, ND1 m q lf es → ND1 m' q lf es
/-- what new nodes cost -/
def NCo (m m' : Mem) (ns ns' : List Int) : Prop := nx m' = nx m + 3 * ((ns'.length : Int) - ns.length) ∧ sl m' = sl m + 40 * ((ns'.length : Int) - ns.length)
theorem NCo.refl {m m' : Mem} {ns : List Int} (h : nx m' = nx m ∧ sl m' = sl m) : NCo m m' ns ns := by unfold NCo; omega
theorem NCo.trans {m m1 m2 : Mem} {ns ns1 ns2 : List Int} (h : NCo m m1 ns ns1) (h' : NCo m1 m2 ns1 ns2) : NCo m m2 ns ns2 := by unfold NCo at *; omega
theorem ND1.ext {m m' : Mem} {q : Int} {lf : Bool} {es : List (Int × Int)} (h : ND1 m q lf es) (hq : (tg m' q = tg m q) ∧ ∀ f, vl m' q f = vl m q f) (ha : ∀ a, a = vl m q 1 ∨ a = vl m q 2 → tg m' a = tg m a ∧ ln m' a = ln m a ∧ ∀ j, vl m' a j = vl m a j) : ND1 m' q lf es := by
  obtain ⟨⟨a1, a2, a3, a4⟩, a5, a6, a7, a8, a9⟩ := h
  have g := hq.2
  have h1 := ha _ (Or.inl rfl)
  have h2 := ha _ (Or.inr rfl)
  exact ⟨⟨by rw [hq.1]; exact a1, by rw [g, h1.1, h1.2.1]; exact a2, by rw [g, h2.1, h2.2.1]; exact a3, by rw [g, g]; exact a4⟩, by rw [g]; exact a5, by rw [g]; exact a6, a7, fun i i0 i1 => by rw [g, h1.2.2]; exact a8 i i0 i1, fun i i0 i1 => by rw [g, h2.2.2]; exact a9 i i0 i1⟩
section
variable {d : Nat} {K : Int} {c c' : RF} {sg u ns : List Int} {cnt : Nat}
/-- a node that was made is taken -/
theorem c172_28 {m : Mem} {lf : Bool} (hd : 1 ≤ d) (h : DSt m K c c' sg u ns cnt) (hc : cnt < ns.length) : ∃ m' p, rn d 172 28 [pR K, pI (b2i lf)] [] m = some (.inl (some (pR p)), m') ∧ DSt m' K c c' sg u ns (cnt + 1) ∧ ND1 m' p lf [] ∧ p ∈ ns ∧ p ∉ ns.take cnt ∧ ns.take (cnt + 1) = ns.take cnt ++ [p] ∧ LVK (ns.take cnt) (fun _ => False) m m' ∧ (nx m' = nx m ∧ sl m' = sl m) := by
  have h0 := h
  obtain ⟨ok, hD, hc0, hS, hU, h01, h6, ⟨a1, a2, a3, a4, a5, a6, a7⟩⟩ := h
  obtain ⟨t7, l7⟩ := hD.2.2.2.2.2.2.1
  have hp : gi ns cnt ∈ ns := by
    unfold gi
    rw [Int.toNat_natCast, List.getD_eq_getElem?_getD, List.getElem?_eq_getElem hc]
    exact List.getElem_mem _
  have hpe : gi ns cnt = ns[cnt] := by unfold gi; rw [Int.toNat_natCast, List.getD_eq_getElem?_getD, List.getElem?_eq_getElem hc]; rfl
  have htk : ns.take (cnt + 1) = ns.take cnt ++ [gi ns cnt] := by rw [hpe]; exact (List.take_append_getElem hc).symm
  have hnt : gi ns cnt ∉ ns.take cnt := fun z => by
    have : (ns.take (cnt + 1)).Nodup := List.Nodup.sublist (List.take_sublist _ _) a5
    rw [htk, List.nodup_append] at this
    exact this.2.2 _ z _ (List.mem_singleton_self _) rfl
  generalize hgp : gi ns cnt = p at *
  have hv := a3 cnt (by omega) (by omega)
  rw [hgp] at hv
  obtain ⟨b1, b2, b3, b4⟩ := a6 p hp
  have hpK : p ≠ K := by intro z; rw [z, hD.1] at b1; omega
  have k7 : vl m K 7 ≠ K := by intro z; have := hD.1; rw [z, this] at t7; omega
  have kp7 : vl m K 7 ≠ p := by intro z; rw [z, b1] at t7; omega
  have fin : rn d 172 28 [pR K, pI (b2i lf)] [] m = some (.inl (some (pR p)), mst (mst (mst m K 8 (cnt + 1)) p 0 (b2i lf)) p 3 0) := by
    refine q172_28 (by omega) ok.1 _ ?_
    have e298 : cl (d - 1) 298 [pR p, pI (b2i lf)] (mst m K 8 (cnt + 1)) = some (.inl (some (pR p)), mst (mst (mst m K 8 (cnt + 1)) p 0 (b2i lf)) p 3 0) := by
      refine q298 (m := mst m K 8 (cnt + 1)) ok.1 _ ?_
      rw [gd_of (show tg (mst m K 8 (cnt + 1)) p = 14 from b1), gd_of (b2i_01 lf)]
    rw [gd_of hD.1, nm_eq, nm_eq, nm_eq, a1, (w32_of (by omega) (by omega) : w32 ((cnt : Int) + 1) = cnt + 1), (w32_of (by omega) (by omega) : w32 ((cnt : Int) + 1 - 1) = (cnt : Int) + 1 - 1), show (cnt : Int) + 1 - 1 = cnt by omega, gd_of t7, gd_of ⟨by omega, by rw [l7]; omega⟩, nm_eq, hv, gd_of b1, bR_eq e298]
  generalize hm' : mst (mst (mst m K 8 (cnt + 1)) p 0 (b2i lf)) p 3 0 = m' at *
  have tt : ∀ a, tg m' a = tg m a ∧ ln m' a = ln m a := fun a => by rw [← hm']; exact ⟨rfl, rfl⟩
  have vo : ∀ a j, a ≠ K → a ≠ p → vl m' a j = vl m a j := fun a j h1 h2 => by rw [← hm', vl_mst, if_neg (fun z => h2 z.1), vl_mst, if_neg (fun z => h2 z.1), vl_mst, if_neg (fun z => h1 z.1)]
  have vK : ∀ f, vl m' K f = if f = 8 then (cnt : Int) + 1 else vl m K f := fun f => by
    rw [← hm', vl_mst, if_neg (fun z => hpK z.1.symm), vl_mst, if_neg (fun z => hpK z.1.symm), vl_mst]
    by_cases z : f = 8
    · rw [if_pos ⟨rfl, z⟩, if_pos z]
    · rw [if_neg (fun y => z y.2), if_neg z]
  have vp : ∀ f, f ≠ 0 → f ≠ 3 → vl m' p f = vl m p f := fun f f0 f3 => by rw [← hm', vl_mst, if_neg (fun z => f3 z.2), vl_mst, if_neg (fun z => f0 z.2), vl_mst, if_neg (fun z => hpK z.1)]
  have vq : ∀ q ∈ ns, ∀ f, f = 1 ∨ f = 2 → vl m' q f = vl m q f := fun q hq f hf => by
    by_cases z : q = p
    · rw [z]; exact vp f (by omega) (by omega)
    · exact vo q f (by intro w; have := (a6 q hq).1; rw [w, hD.1] at this; omega) z
  have hNO : ∀ q ∈ ns, NO m' q := fun q hq => by
    obtain ⟨c1, c2, c3, c4⟩ := a6 q hq
    exact ⟨by rw [(tt q).1]; exact c1, by rw [vq q hq 1 (Or.inl rfl), (tt _).1, (tt _).2]; exact c2, by rw [vq q hq 2 (Or.inr rfl), (tt _).1, (tt _).2]; exact c3, by rw [vq q hq 1 (Or.inl rfl), vq q hq 2 (Or.inr rfl)]; exact c4⟩
  have ok' : OK m' := by rw [← hm']; exact ok
  have hN' : NSt m' K ns (cnt + 1) := ⟨by rw [vK, if_pos rfl]; push_cast; rfl, ⟨by omega, a2.2⟩, fun i i0 i1 => by rw [vK, if_neg (by decide), vo _ _ k7 kp7]; exact a3 i i0 i1, fun i i0 i1 => by rw [vK, if_neg (by decide), vo _ _ k7 kp7]; exact a4 i i0 i1, a5, hNO, fun q hq r hr hne => by rw [vq q hq 1 (Or.inl rfl), vq q hq 2 (Or.inr rfl), vq r hr 1 (Or.inl rfl), vq r hr 2 (Or.inr rfl)]; exact a7 q hq r hr hne⟩
  refine ⟨m', p, fin, h0.ex ok' (fun a _ => tt a) (fun a j ha => vo a j (by intro z; rw [z, hD.1] at ha; omega) (by intro z; rw [z, b1] at ha; omega)) (fun f hf => by rw [vK, if_neg hf]) hN', ⟨hNO p hp, ?_, ?_, by simp, fun i i0 i1 => absurd i1 (by simp; omega), fun i i0 i1 => absurd i1 (by simp; omega)⟩, hp, hnt, htk, fun q hq _ lf es hn => ?_, by rw [← hm']; exact ⟨rfl, rfl⟩⟩
  · rw [← hm', vl_mst, if_neg (by omega), vl_mst, if_pos ⟨rfl, rfl⟩]
  · rw [← hm', vl_mst, if_pos ⟨rfl, rfl⟩]; rfl
  · have hqn : q ∈ ns := List.mem_of_mem_take hq
    have hqp : q ≠ p := fun z => hnt (by rw [← z]; exact hq)
    have hqK : q ≠ K := by intro w; have := (a6 q hqn).1; rw [w, hD.1] at this; omega
    obtain ⟨c1, c2, c3, c4⟩ := a6 q hqn
    refine hn.ext ⟨(tt q).1, fun f => vo q f hqK hqp⟩ fun a ha => ⟨(tt a).1, (tt a).2, fun j => vo a j ?_ ?_⟩
    · intro z; rcases ha with w | w
      · rw [← w, z, hD.1] at c2; omega
      · rw [← w, z, hD.1] at c3; omega
    · intro z; rcases ha with w | w
      · rw [← w, z, b1] at c2; omega
      · rw [← w, z, b1] at c3; omega
/-- a fresh node -/
theorem c172 {m : Mem} {lf : Bool} (hd : 3 ≤ d) (h : DSt m K c c' sg u ns cnt) (hc : cnt < 64) : ∃ m' p ns', cl d 172 [pR K, pI (b2i lf)] m = some (.inl (some (pR p)), m') ∧ DSt m' K c c' sg u ns' (cnt + 1) ∧ ND1 m' p lf [] ∧ p ∉ ns.take cnt ∧ ns'.take (cnt + 1) = ns.take cnt ++ [p] ∧ LVK (ns.take cnt) (fun _ => False) m m' ∧ NCo m m' ns ns' := by
  have h0 := h
  obtain ⟨ok, hD, hc0, hS, hU, h01, h6, hN⟩ := h
  have hN0 := hN
  obtain ⟨a1, a2, a3, a4, a5, a6, a7⟩ := hN
  obtain ⟨t7, l7⟩ := hD.2.2.2.2.2.2.1
  by_cases hcl : cnt < ns.length
  · obtain ⟨m', p, g1, g2, g3, g4, g5, g6, g7, g8⟩ := c172_28 (d := d) (lf := lf) (by omega) h0 hcl
    have hv := a3 cnt (by omega) (by omega)
    have hne : gi ns cnt ≠ 0 := by
      intro z
      have hp : gi ns cnt ∈ ns := by
        unfold gi
        rw [Int.toNat_natCast, List.getD_eq_getElem?_getD, List.getElem?_eq_getElem hcl]
        exact List.getElem_mem _
      have := (a6 _ hp).1
      rw [z, ok.2.1] at this; omega
    refine ⟨m', p, ns, q172 (by omega) ok.1 _ ?_, g2, g3, g5, g6, g7, NCo.refl g8⟩
    rw [gd_of hD.1, nm_eq, nm_eq, a1, gd_of t7, gd_of ⟨by omega, by rw [l7]; omega⟩, hv, if_neg hne]
    exact g1
  · -- a new one is made
    have hce : cnt = ns.length := by omega
    have hv := a4 cnt (by omega) (by omega)
    have hn92 := ok.2.2
    have tz := ok.1
    have lt : ∀ a, tg m a ≠ 0 → a < nx m := fun a ha => tz_lt tz ha
    have hK := lt K (by rw [hD.1]; decide)
    have h7 := lt (vl m K 7) (by rw [t7]; decide)
    generalize hN0' : nx m = N at *
    -- the memory after it is made
    have e297 : ∀ mm, mm = mal m 14 4 → cl (d - 1) 297 [pR N] mm = some (.inl none, mst (mal (mst (mal mm 298101 18) N 1 (N + 1)) 298101 18) N 2 (N + 2)) := fun mm hmm => by
      have tzm : TZ mm := by rw [hmm]; exact (ok.fr (fr_mal (e := eM 172) (by rfl))).1
      have tN : tg mm N = 14 := by rw [hmm, tg_mal, if_pos hN0'.symm]
      have nxm : nx mm = N + 1 := by rw [hmm]; show nx m + 1 = _; rw [hN0']
      refine q297 tzm _ ?_
      rw [gd_of tN, nw_eq, nw_eq, nxm]
      have : nx (mst (mal mm 298101 18) N 1 (N + 1)) = N + 2 := by show nx mm + 1 = _; rw [nxm]; omega
      rw [this]
    generalize hm5 : mst (mal (mst (mal (mal m 14 4) 298101 18) N 1 (N + 1)) 298101 18) N 2 (N + 2) = m5 at *
    have nx5 : nx m5 = N + 3 ∧ sl m5 = sl m + 40 := ⟨by rw [← hm5]; show nx m + 1 + 1 + 1 = _; omega, by rw [← hm5]; show sl m + 4 + 18 + 18 = _; omega⟩
    have tg5 : ∀ a, tg m5 a = if a = N then 14 else if a = N + 1 then 298101 else if a = N + 2 then 298101 else tg m a := fun a => by
      rw [← hm5]
      show (if a = nx m + 1 + 1 then (298101 : Int) else if a = nx m + 1 then 298101 else if a = nx m then 14 else tg m a) = _
      rw [hN0']
      by_cases z : a = N
      · rw [if_neg (by omega), if_neg (by omega), if_pos z, if_pos z]
      · by_cases y : a = N + 1
        · rw [if_neg (by omega), if_pos y, if_neg z, if_pos y]
        · by_cases w : a = N + 2
          · rw [if_pos (by omega), if_neg z, if_neg y, if_pos w]
          · rw [if_neg (by omega), if_neg y, if_neg z, if_neg z, if_neg y, if_neg w]
    have ln5 : ∀ a, ln m5 a = if a = N then 4 else if a = N + 1 then 18 else if a = N + 2 then 18 else ln m a := fun a => by
      rw [← hm5]
      show (if a = nx m + 1 + 1 then (18 : Int) else if a = nx m + 1 then 18 else if a = nx m then 4 else ln m a) = _
      rw [hN0']
      by_cases z : a = N
      · rw [if_neg (by omega), if_neg (by omega), if_pos z, if_pos z]
      · by_cases y : a = N + 1
        · rw [if_neg (by omega), if_pos y, if_neg z, if_pos y]
        · by_cases w : a = N + 2
          · rw [if_pos (by omega), if_neg z, if_neg y, if_pos w]
          · rw [if_neg (by omega), if_neg y, if_neg z, if_neg z, if_neg y, if_neg w]
    have vl5 : ∀ a j, a < N → vl m5 a j = vl m a j := fun a j ha => by
      rw [← hm5, vl_mst, if_neg (by omega), vl_mal, if_neg (by show ¬ a = nx m + 1 + 1; omega), vl_mst, if_neg (by omega), vl_mal, if_neg (by show ¬ a = nx m + 1; omega), vl_mal, if_neg (by omega)]
    have vN1 : vl m5 N 1 = N + 1 := by rw [← hm5, vl_mst, if_neg (by omega), vl_mal, if_neg (by show ¬ N = nx m + 1 + 1; omega), vl_mst, if_pos ⟨rfl, rfl⟩]
    have vN2 : vl m5 N 2 = N + 2 := by rw [← hm5, vl_mst, if_pos ⟨rfl, rfl⟩]
    have ok5 : OK m5 := ⟨fun a ha => by rw [nx5.1] at ha; rw [tg5, if_neg (by omega), if_neg (by omega), if_neg (by omega)]; exact tz a (by omega), by rw [tg5, if_neg (by omega), if_neg (by omega), if_neg (by omega)]; exact ok.2.1, by rw [nx5.1]; omega⟩
    -- it stands among the nodes
    generalize hm6 : mst m5 (vl m K 7) cnt N = m6 at *
    have tg6 : ∀ a, tg m6 a = tg m5 a ∧ ln m6 a = ln m5 a := fun a => by rw [← hm6]; exact ⟨rfl, rfl⟩
    have vl6 : ∀ a j, a ≠ vl m K 7 → vl m6 a j = vl m5 a j := fun a j ha => by rw [← hm6, vl_mst, if_neg (fun z => ha z.1)]
    have n7K : K ≠ vl m K 7 := by intro z; have := hD.1; rw [z, t7] at this; omega
    have vK6 : ∀ f, vl m6 K f = vl m K f := fun f => by rw [vl6 K f n7K, vl5 K f hK]
    have told : ∀ a, tg m a ≠ 0 → tg m6 a = tg m a ∧ ln m6 a = ln m a := fun a ha => by
      have := lt a ha
      rw [(tg6 a).1, (tg6 a).2, tg5, ln5, if_neg (by omega), if_neg (by omega), if_neg (by omega), if_neg (by omega), if_neg (by omega), if_neg (by omega)]
      exact ⟨rfl, rfl⟩
    have hN6 : N ≠ vl m K 7 := by omega
    have ok6 : OK m6 := by rw [← hm6]; exact ok5
    have hq6 : ∀ q ∈ ns, ∀ f, vl m6 q f = vl m q f := fun q hq f => by
      have := (a6 q hq).1
      rw [vl6 q f (by intro z; rw [z, t7] at this; omega), vl5 q f (lt q (by omega))]
    have hNO6 : ∀ q ∈ ns, NO m6 q := fun q hq => by
      obtain ⟨c1, c2, c3, c4⟩ := a6 q hq
      have e1 := told (vl m q 1) (by omega)
      have e2 := told (vl m q 2) (by omega)
      exact ⟨by rw [(told q (by omega)).1]; exact c1, by rw [hq6 q hq, e1.1, e1.2]; exact c2, by rw [hq6 q hq, e2.1, e2.2]; exact c3, by rw [hq6 q hq, hq6 q hq]; exact c4⟩
    have hNON : NO m6 N := ⟨by rw [(tg6 N).1, tg5, if_pos rfl], by rw [vl6 N 1 hN6, vN1, (tg6 _).1, (tg6 _).2, tg5, ln5, if_neg (by omega), if_pos rfl, if_neg (by omega), if_pos rfl]; exact ⟨rfl, rfl⟩, by rw [vl6 N 2 hN6, vN2, (tg6 _).1, (tg6 _).2, tg5, ln5, if_neg (by omega), if_neg (by omega), if_pos rfl, if_neg (by omega), if_neg (by omega), if_pos rfl]; exact ⟨rfl, rfl⟩, by rw [vl6 N 1 hN6, vl6 N 2 hN6, vN1, vN2]; omega⟩
    have hnN : N ∉ ns := fun z => by have := lt N (by have := (a6 N z).1; omega); omega
    have hal : ∀ q ∈ ns, vl m q 1 < N ∧ vl m q 2 < N := fun q hq => ⟨lt _ (by have := (a6 q hq).2.1.1; omega), lt _ (by have := (a6 q hq).2.2.1.1; omega)⟩
    have hNS6 : NSt m6 K (ns ++ [N]) cnt := by
      refine ⟨by rw [vK6]; exact a1, by rw [List.length_append, List.length_singleton]; omega, fun i i0 i1 => ?_, fun i i0 i1 => ?_, ?_, fun q hq => ?_, fun q hq r hr hne => ?_⟩
      · rw [List.length_append, List.length_singleton] at i1
        push_cast at i1
        rw [vK6, ← hm6, vl_mst]
        by_cases z : i = cnt
        · rw [if_pos ⟨rfl, z⟩, z, hce, gi_app_r (by omega), Int.sub_self, gi_zero]
        · rw [if_neg (fun y => z y.2), gi_app_l i0 (by omega), vl5 _ _ h7]; exact a3 i i0 (by omega)
      · rw [List.length_append, List.length_singleton] at i0
        push_cast at i0
        rw [vK6, ← hm6, vl_mst, if_neg (by omega), vl5 _ _ h7]; exact a4 i (by omega) i1
      · rw [List.nodup_append]
        exact ⟨a5, by simp, fun x hx y hy => by rw [List.mem_singleton.mp hy]; intro z; exact hnN (by rw [← z]; exact hx)⟩
      · rcases List.mem_append.mp hq with w | w
        · exact hNO6 q w
        · rw [List.mem_singleton.mp w]; exact hNON
      · rcases List.mem_append.mp hq with w | w
        · rcases List.mem_append.mp hr with v | v
          · rw [hq6 q w, hq6 q w, hq6 r v, hq6 r v]; exact a7 q w r v hne
          · rw [List.mem_singleton.mp v, hq6 q w, hq6 q w, vl6 N 1 hN6, vl6 N 2 hN6, vN1, vN2]
            have := hal q w; omega
        · rcases List.mem_append.mp hr with v | v
          · rw [List.mem_singleton.mp w, hq6 r v, hq6 r v, vl6 N 1 hN6, vl6 N 2 hN6, vN1, vN2]
            have := hal r v; omega
          · exact absurd ((List.mem_singleton.mp w).trans (List.mem_singleton.mp v).symm) hne
    have h6D : DSt m6 K c c' sg u (ns ++ [N]) cnt := h0.ex ok6 told (fun a j ha => by
      have := lt a (by omega)
      rw [vl6 a j (by intro z; rw [z, t7] at ha; omega), vl5 a j this]) (fun f _ => vK6 f) hNS6
    obtain ⟨m', p, g1, g2, g3, g4, g5, g6, g7, g8⟩ := c172_28 (d := d) (lf := lf) (by omega) h6D (by rw [List.length_append, List.length_singleton]; omega)
    have etk : (ns ++ [N]).take cnt = ns.take cnt := by rw [List.take_append_of_le_length (by omega)]
    rw [etk] at g5 g6 g7
    have n7e : vl m5 K 7 = vl m K 7 := vl5 K 7 hK
    refine ⟨m', p, ns ++ [N], q172 (by omega) ok.1 _ ?_, g2, g3, g5, g6, fun q hq hS lf es hn => ?_, ?_⟩
    · have hle : ln m5 (vl m K 7) = 64 := by rw [ln5, if_neg (by omega), if_neg (by omega), if_neg (by omega), l7]
      have hte : tg m5 (vl m K 7) = 153114 := by rw [tg5, if_neg (by omega), if_neg (by omega), if_neg (by omega), t7]
      have htN : tg m5 N = 14 := by rw [tg5, if_pos rfl]
      rw [gd_of hD.1, nm_eq, nm_eq, a1, gd_of t7, gd_of ⟨by omega, by rw [l7]; omega⟩, hv, if_pos rfl, nw_eq, hN0', bV_eq (by rw [e297 _ rfl, hm5]), gd_of ⟨by omega, by rw [hle]; omega⟩, gd_of (by rw [hte, htN]; decide), hm6]
      exact g1
    · refine g7 q hq hS lf es ?_
      have hqn : q ∈ ns := List.mem_of_mem_take hq
      obtain ⟨c1, c2, c3, c4⟩ := a6 q hqn
      refine hn.ext ⟨(told q (by omega)).1, hq6 q hqn⟩ fun a ha => ?_
      have ht : tg m a = 298101 := by rcases ha with w | w <;> rw [w]; exact c2.1; exact c3.1
      have := told a (by omega)
      exact ⟨this.1, this.2, fun j => by rw [vl6 a j (by intro z; rw [z, t7] at ht; omega), vl5 a j (lt a (by omega))]⟩
    · unfold NCo
      rw [g8.1, g8.2, ← hm6]
      show nx m5 = _ ∧ sl m5 = _
      rw [nx5.1, nx5.2, hN0', List.length_append, List.length_singleton]
      push_cast; omega
end
