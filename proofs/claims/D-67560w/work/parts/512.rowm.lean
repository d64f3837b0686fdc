/-! rows that grow -/
set_option maxRecDepth 100000
set_option maxHeartbeats 4000000
theorem RW.ne {m : Mem} {r c : Int} {xs : List Int} (h : RW m r xs c) : vl m r 0 ≠ r := by
  intro e
  obtain ⟨h1, h2, -⟩ := h
  rw [e, h1] at h2; omega
theorem RW.nn {m : Mem} {r c : Int} {xs : List Int} (h : RW m r xs c) (hz : TZ m) : r < nx m ∧ vl m r 0 < nx m := by
  obtain ⟨h1, h2, -⟩ := h
  exact ⟨tz_lt hz (by omega), tz_lt hz (by omega)⟩
/-- a memory that differs in the bytes of r, beyond xs, and in its size -/
theorem RW.upd {m m' : Mem} {r c : Int} {xs ys : List Int} (h : RW m r xs c) (hI : RI m) (hb0 : vl m r 0 ≠ 0) (hnx : nx m' = nx m) (ht : ∀ a, tg m' a = tg m a) (hl : ∀ a, ln m' a = ln m a) (hy : (ys.length : Int) ≤ c) (hs : vl m' r 1 = ys.length) (h0 : ∀ a, vl m' a 0 = vl m a 0 ∨ a = vl m r 0) (hv : ∀ i : Int, 0 ≤ i → i < ys.length → vl m' (vl m r 0) i = gi ys i) (ho : ∀ a f, a ≠ r → a ≠ vl m r 0 → vl m' a f = vl m a f) : RW m' r ys c ∧ RO r m m' := by
  have hne := h.ne
  obtain ⟨a1, a2, a3, a4, a5, a6, a7⟩ := h
  have e0 : vl m' r 0 = vl m r 0 := by
    rcases h0 r with h | h
    · exact h
    · exact absurd h.symm hne
  refine ⟨⟨by rw [ht]; exact a1, by rw [e0, ht]; exact a2, by rw [e0, hl]; exact a3, hs, hy, a6, by rw [e0]; exact hv⟩, ⟨?_, ?_⟩, ?_⟩
  · intro q hq
    rw [ht] at hq
    rcases h0 q with h | h
    · rw [h, hnx]; exact hI.1 q hq
    · rw [h] at hq; omega
  · intro q q' hq hq' hqq hz
    rw [ht] at hq hq'
    have e1 : vl m' q 0 = vl m q 0 := by
      rcases h0 q with h | h
      · exact h
      · rw [h] at hq; omega
    have e2 : vl m' q' 0 = vl m q' 0 := by
      rcases h0 q' with h | h
      · exact h
      · rw [h] at hq'; omega
    rw [e1] at hz
    rw [e1, e2]; exact hI.2 q q' hq hq' hqq hz
  · intro q hq zs c2 hw
    obtain ⟨b1, b2, b3, b4, b5, b6, b7⟩ := hw
    have hqb : q ≠ vl m r 0 := fun e => by rw [e] at b1; omega
    have e1 : vl m' q 0 = vl m q 0 := ho q 0 hq hqb
    have hbb : vl m q 0 ≠ vl m r 0 := (hI.2 r q a1 b1 (fun e => hq e.symm) hb0).symm
    have hbr : vl m q 0 ≠ r := fun e => by rw [e] at b2; omega
    exact ⟨by rw [ht]; exact b1, by rw [e1, ht]; exact b2, by rw [e1, hl]; exact b3, by rw [ho q 1 hq hqb]; exact b4, b5, b6, fun i i0 i1 => by rw [e1, ho _ i hbr hbb]; exact b7 i i0 i1⟩
theorem RW.b0 {m : Mem} {r c : Int} {xs : List Int} (h : RW m r xs c) (ht0 : tg m 0 = 0) : vl m r 0 ≠ 0 := by
  intro e; obtain ⟨-, h2, -⟩ := h; rw [e, ht0] at h2; omega
/-- what a row's growth costs -/
def GR (m m' : Mem) (c c' : Int) : Prop := c ≤ c' ∧ nx m' - nx m ≤ (c' - c) / 16 ∧ sl m' - sl m ≤ 2 * (c' - c)
theorem GR.refl {m : Mem} {c : Int} : GR m m c c := by unfold GR; omega
theorem GR.trans {m m1 m2 : Mem} {c c1 c2 : Int} (h : GR m m1 c c1) (h' : GR m1 m2 c1 c2) : GR m m2 c c2 := by unfold GR at *; omega
section
variable {d : Nat} {m : Mem} {r a b n c : Int} {xs : List Int}
theorem c131 (hz : TZ m) (ht0 : tg m 0 = 0) (hI : RI m) (hR : RW m r xs c) (h0 : 0 ≤ n) (h1 : xs.length + n ≤ 90000) : ∃ m' c', cl d 131 [pR r, pI n] m = some (.inl none, m') ∧ RW m' r xs c' ∧ xs.length + n ≤ c' ∧ RO r m m' ∧ GR m m' c c' ∧ c' ≤ max c (2 * (xs.length + n)) ∧ ∀ a f, a < nx m → a ≠ r → vl m' a f = vl m a f := by
  have hR' := hR
  have hb0 := hR.b0 ht0
  obtain ⟨hn1, hn2⟩ := hR.nn hz
  obtain ⟨ht, hb, hc, hs, hl, hcc, hv⟩ := hR
  by_cases hg : c < xs.length + n
  · have hmx : max (2 * c) (xs.length + n) ≤ 180000 ∨ 180000 < max (2 * c) (xs.length + n) := by omega
    have hc2 : 2 * c ≤ 180000 := by omega
    generalize hV : max (2 * c) ((xs.length : Int) + n) = V at hmx
    have hV1 : 2 * c ≤ V ∧ xs.length + n ≤ V ∧ V ≤ 180000 ∧ V ≤ 2 * (xs.length + n) := by omega
    have eb : tg (mal m 132103 V) (vl m r 0) = tg m (vl m r 0) := by rw [tg_mal, if_neg (by omega)]
    have eo : ln (mal m 132103 V) (nx m) = V := by rw [ln_mal, if_pos rfl]
    have el : ln (mal m 132103 V) (vl m r 0) = c := by rw [ln_mal, if_neg (by omega)]; exact hc
    have e0 : vl (mal m 132103 V) r 0 = vl m r 0 := by rw [vl_mal, if_neg (by omega)]
    have e1 : vl (mal m 132103 V) r 1 = xs.length := by rw [vl_mal, if_neg (by omega)]; exact hs
    have eb' : tg (mal m 132103 V) (vl m r 0) = 130103 ∨ tg (mal m 132103 V) (vl m r 0) = 132103 := by rw [eb]; exact hb
    refine ⟨mst (mcp (mal m 132103 V) (vl m r 0) 0 (nx m) 0 xs.length) r 0 (nx m), V, ?_, ?_, by omega, ⟨⟨?_, ?_⟩, ?_⟩, ?_, ?_, ?_⟩
    · refine q131 hz _ ?_
      simp (disch := first | assumption | omega) only [nm, nw, gd_of, w32_of, hs, hc, if_pos, hV]
      simp (disch := first | assumption | omega) only [e0, e1, gd_of]
    · have t1 : vl (mst (mcp (mal m 132103 V) (vl m r 0) 0 (nx m) 0 xs.length) r 0 (nx m)) r 0 = nx m := by rw [vl_mst, if_pos ⟨rfl, rfl⟩]
      refine ⟨?_, ?_, ?_, ?_, by omega, by omega, ?_⟩
      · show tg (mal m 132103 V) r = 8
        rw [tg_mal, if_neg (by omega)]; exact ht
      · rw [t1]; right
        show tg (mal m 132103 V) (nx m) = 132103
        rw [tg_mal, if_pos rfl]
      · rw [t1]; exact eo
      · rw [vl_mst, if_neg (by omega), vl_mcp, if_neg (by omega)]; exact e1
      · intro i i0 i1
        rw [t1, vl_mst, if_neg (by omega), vl_mcp, if_pos (by omega), vl_mal, if_neg (by omega)]
        rw [show (0 : Int) + (i - 0) = i by omega]; exact hv i i0 i1
    · intro q hq
      have hq' : (if q = nx m then 132103 else tg m q) = 8 := hq
      have hqn : q ≠ nx m := by intro e; rw [if_pos e] at hq'; omega
      rw [if_neg hqn] at hq'
      have := hI.1 q hq'
      show vl (mst (mcp (mal m 132103 V) (vl m r 0) 0 (nx m) 0 xs.length) r 0 (nx m)) q 0 < nx m + 1
      rw [vl_mst]
      split
      · omega
      · rw [vl_mcp, if_neg (by omega), vl_mal, if_neg hqn]; omega
    · intro q q' hq hq' hqq hz0
      have hq2 : (if q = nx m then 132103 else tg m q) = 8 := hq
      have hqn : q ≠ nx m := by intro e; rw [if_pos e] at hq2; omega
      rw [if_neg hqn] at hq2
      have hq3 : (if q' = nx m then 132103 else tg m q') = 8 := hq'
      have hqn' : q' ≠ nx m := by intro e; rw [if_pos e] at hq3; omega
      rw [if_neg hqn'] at hq3
      have l1 := hI.1 q hq2
      have l2 := hI.1 q' hq3
      have i1 := hI.2 q q' hq2 hq3 hqq
      have ev : ∀ p, p ≠ nx m → vl (mst (mcp (mal m 132103 V) (vl m r 0) 0 (nx m) 0 xs.length) r 0 (nx m)) p 0 = if p = r then nx m else vl m p 0 := by
        intro p hp
        rw [vl_mst]
        by_cases hpr : p = r
        · rw [if_pos ⟨hpr, rfl⟩, if_pos hpr]
        · rw [if_neg (by omega), if_neg hpr, vl_mcp, if_neg (by omega), vl_mal, if_neg hp]
      rw [ev q hqn] at hz0 ⊢
      rw [ev q' hqn']
      by_cases h1 : q = r
      · rw [if_pos h1, if_neg (by omega)]; omega
      · rw [if_neg h1] at hz0 ⊢
        by_cases h2 : q' = r
        · rw [if_pos h2]; omega
        · rw [if_neg h2]; exact i1 hz0
    · intro q hq zs c2 hw
      obtain ⟨b1, b2, b3, b4, b5, b6, b7⟩ := hw
      have hqn : q < nx m := tz_lt hz (by omega)
      have hqb : vl m q 0 < nx m := tz_lt hz (by omega)
      have t1 : vl (mst (mcp (mal m 132103 V) (vl m r 0) 0 (nx m) 0 xs.length) r 0 (nx m)) q 0 = vl m q 0 := by
        rw [vl_mst, if_neg (by omega), vl_mcp, if_neg (by omega), vl_mal, if_neg (by omega)]
      refine ⟨?_, ?_, ?_, ?_, b5, b6, ?_⟩
      · show tg (mal m 132103 V) q = 8
        rw [tg_mal, if_neg (by omega)]; exact b1
      · rw [t1]
        show tg (mal m 132103 V) (vl m q 0) = _ ∨ tg (mal m 132103 V) (vl m q 0) = _
        rw [tg_mal, if_neg (by omega)]; exact b2
      · rw [t1]
        show ln (mal m 132103 V) (vl m q 0) = _
        rw [ln_mal, if_neg (by omega)]; exact b3
      · rw [vl_mst, if_neg (by omega), vl_mcp, if_neg (by omega), vl_mal, if_neg (by omega)]; exact b4
      · intro i i0 i1
        have hbr : vl m q 0 ≠ r := fun e => by rw [e] at b2; omega
        rw [t1, vl_mst, if_neg (by omega), vl_mcp, if_neg (by omega), vl_mal, if_neg (by omega)]; exact b7 i i0 i1
    · unfold GR
      show c ≤ V ∧ nx m + 1 - nx m ≤ _ ∧ sl m + V - sl m ≤ _
      omega
    · omega
    · intro q f hq hqr
      rw [vl_mst, if_neg (by omega), vl_mcp, if_neg (by omega), vl_mal, if_neg (by omega)]
  · refine ⟨m, c, ?_, hR', by omega, RO.refl hI, GR.refl, by omega, fun _ _ _ _ => rfl⟩
    refine q131 hz _ ?_
    simp (disch := first | assumption | omega) only [nm, nw, gd_of, w32_of, hs, hc, if_neg]
def OK (m : Mem) : Prop := TZ m ∧ tg m 0 = 0 ∧ 92 ≤ nx m
theorem OK.fr {e : Nat} {m' : Mem} (ok : OK m) (h : FRM e m m') : OK m' := ⟨h.1.1 ok.1, by rw [(h.1.2.2 0 (by have := ok.2.2; omega)).1]; exact ok.2.1, by have := h.1.2.1; have := ok.2.2; omega⟩
/-- a row has come to ys -/
def RG (r : Int) (m : Mem) (c : Int) (ys : List Int) (m' : Mem) (c' : Int) : Prop := RW m' r ys c' ∧ RO r m m' ∧ GR m m' c c' ∧ c' ≤ max c (2 * ys.length)
theorem RG.trans {m1 m2 : Mem} {c1 c2 : Int} {ys zs : List Int} (h : RG r m c ys m1 c1) (h' : RG r m1 c1 zs m2 c2) (hl : ys.length ≤ zs.length) : RG r m c zs m2 c2 := ⟨h'.1, h.2.1.trans h'.2.1, h.2.2.1.trans h'.2.2.1, by have := h.2.2.2; have := h'.2.2.2; omega⟩
theorem c130 (hd : 1 ≤ d) (ok : OK m) (hI : RI m) (hR : RW m r xs c) (h1 : (xs.length : Int) + 1 ≤ 90000) : ∃ m' c', cl d 130 [pR r, pI b] m = some (.inl none, m') ∧ RG r m c (xs ++ [w8 b]) m' c' := by
  obtain ⟨m1, c1, e1, hR1, hl1, hO1, hG1, hc1, -⟩ := c131 (d := d - 1) (n := 1) ok.1 ok.2.1 hI hR (by omega) (by omega)
  have ok1 := ok.fr (cl_FRM e1)
  have hI1 := hO1.1
  have hR1' := hR1
  have hne := hR1.ne
  have hb0 := hR1.b0 ok1.2.1
  have ht := hR.1
  obtain ⟨ht1, hb1, hcc1, hs1, hll1, hcr1, hv1⟩ := hR1
  have hu := hR1'.upd (m' := mst (mst m1 r 1 ((xs.length : Int) + 1)) (vl m1 r 0) xs.length (w8 b)) (ys := xs ++ [w8 b]) hI1 hb0 rfl (fun _ => rfl) (fun _ => rfl) (by simp; omega) (by rw [vl_mst, if_neg (by omega), vl_mst, if_pos ⟨rfl, rfl⟩]; simp)
    (fun a => by
      by_cases ha : a = vl m1 r 0
      · exact Or.inr ha
      · left; rw [vl_mst, if_neg (by omega), vl_mst, if_neg (by omega)])
    (fun i i0 i1 => by
      simp at i1
      rw [vl_mst]
      by_cases hi : i = xs.length
      · rw [if_pos ⟨rfl, hi⟩, gi_app_r (by omega), hi, Int.sub_self]; rfl
      · rw [if_neg (by omega), vl_mst, if_neg (by omega), gi_app_l i0 (by omega)]; exact hv1 i i0 (by omega))
    (fun a f h1 h2 => by rw [vl_mst, if_neg (by omega), vl_mst, if_neg (by omega)])
  refine ⟨_, c1, ?_, hu.1, hO1.trans hu.2, ?_, by simp; omega⟩
  · refine q130 (by omega) ok.1 _ ?_
    simp (disch := first | assumption | omega) only [nm, gd_of, e1, bV_ok, hs1, w32_of, w8_w8]
  · unfold GR at *
    show _ ∧ nx m1 - _ ≤ _ ∧ sl m1 - _ ≤ _
    omega
theorem c133 {pre post : List Int} {x y : Int} (ok : OK m) (hI : RI m) (hR : RW m r (pre ++ x :: y :: post) c) (ha : a = pre.length) (hb : pin b (-2147483648) 2147483648) : ∃ m', cl d 133 [pR r, pI a, pI b] m = some (.inl none, m') ∧ RG r m c (pre ++ w8 (b / 256) :: w8 b :: post) m' c := by
  have hR' := hR
  have hne := hR.ne
  have hb0 := hR.b0 ok.2.1
  obtain ⟨ht1, hb1, hcc1, hs1, hll1, hcr1, hv1⟩ := hR
  simp only [List.length_append, List.length_cons] at hs1 hll1 hv1
  have hu := hR'.upd (m' := mst (mst m (vl m r 0) a (w8 (b / 256))) (vl m r 0) (a + 1) (w8 b)) (ys := pre ++ w8 (b / 256) :: w8 b :: post) hI hb0 rfl (fun _ => rfl) (fun _ => rfl) (by simp; omega) (by rw [vl_mst, if_neg (by omega), vl_mst, if_neg (by omega), hs1]; simp)
    (fun q => by
      by_cases ha : q = vl m r 0
      · exact Or.inr ha
      · left; rw [vl_mst, if_neg (by omega), vl_mst, if_neg (by omega)])
    (fun i i0 i1 => by
      simp only [List.length_append, List.length_cons] at i1
      have hvi := hv1 i i0 (by omega)
      rw [vl_mst]
      by_cases h1 : i = a + 1
      · rw [if_pos ⟨rfl, h1⟩, gi_app_r (by omega), gi_succ (by omega), show i - (pre.length : Int) - 1 = 0 by omega]; rfl
      · rw [if_neg (by omega), vl_mst]
        by_cases h2 : i = a
        · rw [if_pos ⟨rfl, h2⟩, gi_app_r (by omega), show i - (pre.length : Int) = 0 by omega]; rfl
        · rw [if_neg (by omega), hvi]
          by_cases h3 : i < pre.length
          · rw [gi_app_l i0 h3, gi_app_l i0 h3]
          · rw [gi_app_r (by omega), gi_app_r (by omega), gi_succ (by omega), gi_succ (by omega), gi_succ (by omega), gi_succ (by omega)])
    (fun q f h1 h2 => by rw [vl_mst, if_neg (by omega), vl_mst, if_neg (by omega)])
  refine ⟨_, ?_, hu.1, hu.2, ⟨by omega, ?_, ?_⟩, by omega⟩
  · have e8 : pShr b 8 = b / 256 := pShr_div 8 (by decide) hb
    refine q133 ok.1 _ ?_
    simp (disch := first | assumption | omega) only [nm, gd_of, w32_of, w8_w8, e8]
  · show nx m - nx m ≤ _; omega
  · show sl m - sl m ≤ _; omega
end
