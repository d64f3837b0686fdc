/-! queries as objects: lists that grow (printed by tools/gen_ls.py) -/
set_option maxRecDepth 100000
set_option maxHeartbeats 4000000
/-- the cost of lists, which begin small -/
def GRq (m m' : Mem) (c c' : Int) : Prop := c ≤ c' ∧ nx m' - nx m ≤ 2 * (c' - c) ∧ sl m' - sl m ≤ 2 * (c' - c)
/-- a list of references: its array in field fa, its length in field fs -/
def LSQ (m : Mem) (q fa fs t1 t2 : Int) (os : List Int) (cap : Int) : Prop := (tg m (vl m q fa) = t1 ∨ tg m (vl m q fa) = t2) ∧ ln m (vl m q fa) = cap ∧ vl m q fs = os.length ∧ (os.length : Int) ≤ cap ∧ 1 ≤ cap ∧ cap ≤ 100000 ∧ ∀ j : Int, 0 ≤ j → j < os.length → vl m (vl m q fa) j = gi os j ∧ aOk (t1 % 1000) (tg m (gi os j)) = true ∧ tg m (gi os j) ≠ 0
/-- but for the list all is as it was -/
def LSF (m m' : Mem) (q fa fs : Int) : Prop := OK m' ∧ (∀ a, tg m a ≠ 0 → tg m' a = tg m a ∧ ln m' a = ln m a) ∧ (∀ a k, tg m a ≠ 0 → a ≠ q → a ≠ vl m q fa → vl m' a k = vl m a k) ∧ (∀ k, k ≠ fa → k ≠ fs → vl m' q k = vl m q k) ∧ (vl m' q fa = vl m q fa ∨ nx m ≤ vl m' q fa)
section
variable {d : Nat} {m : Mem} {q : Int}
theorem c303_52 {x z : Int} {os : List Int} {cap : Int} {z2 z3 : PV} (hz2 : cat z2 = 1) (hz3 : cat z3 = 1) (ok : OK m) (hq : tg m q = 15) (h : LSQ m q 2 3 303113 304113 os cap) (hl : (os.length : Int) < cap) (hx : aOk 113 (tg m x) = true) (hqx : tg m x ≠ 0) : ∃ m', rn d 303 52 [pR q, pR x, z2, z3] [] m = some (.inl none, m') ∧ LSQ m' q 2 3 303113 304113 (os ++ [x]) cap ∧ nx m' = nx m ∧ sl m' = sl m ∧ (∀ a, tg m' a = tg m a ∧ ln m' a = ln m a) ∧ (∀ a k, a ≠ q → a ≠ vl m q 2 → vl m' a k = vl m a k) ∧ (∀ k, k ≠ 3 → vl m' q k = vl m q k) ∧ OK m' := by
  obtain ⟨h1, h2, h3, h4, h5, h6, h7⟩ := h
  have hne : q ≠ vl m q 2 := by intro e; rw [← e] at h1; omega
  refine ⟨mst (mst m q 3 (os.length + 1)) (vl m q 2) os.length x, ?_, ⟨?_, ?_, ?_, ?_, h5, h6, fun j j0 j1 => ?_⟩, rfl, rfl, fun a => ⟨rfl, rfl⟩, fun a k n1 n2 => ?_, fun k nk => ?_, ok⟩
  · refine q303_52 ok.1 hz2 hz3 _ ?_
    have e : aOk (tg m (vl m q 2) % 1000) (tg m x) = true := by
      rcases h1 with e | e <;> rw [e] <;> exact hx
    rw [gd_of hq, nm_eq, nm_eq, h3, gd_of h1, gd_of ⟨by omega, by omega⟩, gd_of e, (w32_of (by omega) (by omega) : w32 ((os.length : Int) + 1) = (os.length : Int) + 1)]
  · rw [vl_mst, if_neg (by omega), vl_mst, if_neg (by omega)]; exact h1
  · rw [vl_mst, if_neg (by omega), vl_mst, if_neg (by omega)]; exact h2
  · rw [vl_mst, if_neg (by omega), vl_mst, if_pos ⟨rfl, rfl⟩]; simp
  · simp only [List.length_append, List.length_cons, List.length_nil]; push_cast; omega
  · simp only [List.length_append, List.length_cons, List.length_nil] at j1
    have e0 : vl (mst (mst m q 3 (os.length + 1)) (vl m q 2) os.length x) q 2 = vl m q 2 := by rw [vl_mst, if_neg (by omega), vl_mst, if_neg (by omega)]
    rw [e0, vl_mst]
    by_cases e : j = os.length
    · rw [if_pos ⟨rfl, e⟩, e, gi_app_r (by omega), Int.sub_self, gi_zero]; exact ⟨rfl, hx, hqx⟩
    · rw [if_neg (by omega), vl_mst, if_neg (by omega), gi_app_l j0 (by omega)]; exact h7 j j0 (by omega)
  · rw [vl_mst, if_neg (by omega), vl_mst, if_neg (by omega)]
  · rw [vl_mst, if_neg (by omega), vl_mst, if_neg (by omega)]
theorem c303 {x : Int} {os : List Int} {cap : Int} (ok : OK m) (hq : tg m q = 15) (h : LSQ m q 2 3 303113 304113 os cap) (hl : os.length ≤ 20000) (hx : aOk 113 (tg m x) = true) (hqx : tg m x ≠ 0) : ∃ m' cap', cl d 303 [pR q, pR x] m = some (.inl none, m') ∧ LSQ m' q 2 3 303113 304113 (os ++ [x]) cap' ∧ GRq m m' cap cap' ∧ cap' ≤ max cap (2 * os.length) ∧ LSF m m' q 2 3 := by
  have h0 := h
  obtain ⟨h1, h2, h3, h4, h5, h6, h7⟩ := h
  have hne : q ≠ vl m q 2 := by intro e; rw [← e] at h1; omega
  by_cases hg : (os.length : Int) = cap
  · generalize hA : vl m q 2 = A at *
    have hqn : q < nx m := tz_lt ok.1 (by omega)
    have hAn : A < nx m := tz_lt ok.1 (by omega)
    obtain ⟨V, hV⟩ : ∃ V : Int, V = 2 * os.length := ⟨_, rfl⟩
    have hx92 := ok.2.2
    have ok1 : OK (mal m 304113 V) := ok.fr (fr_mal (e := eM 303) (by rfl))
    have okc : ∀ k, OK (mcp (mal m 304113 V) A 0 (nx m) 0 k) := fun k => ok1
    have vc : ∀ (k a j : Int), a < nx m → vl (mcp (mal m 304113 V) A 0 (nx m) 0 k) a j = vl m a j := fun k a j ha => by
      rw [vl_mcp, if_neg (by omega), vl_mal, if_neg (by omega)]
    have tc : ∀ (k a : Int), a < nx m → tg (mcp (mal m 304113 V) A 0 (nx m) 0 k) a = tg m a ∧ ln (mcp (mal m 304113 V) A 0 (nx m) 0 k) a = ln m a := fun k a ha =>
      ⟨by show (if a = nx m then 304113 else tg m a) = _; rw [if_neg (by omega)], by show (if a = nx m then V else ln m a) = _; rw [if_neg (by omega)]⟩
    have to : ∀ k, tg (mcp (mal m 304113 V) A 0 (nx m) 0 k) (nx m) = 304113 ∧ ln (mcp (mal m 304113 V) A 0 (nx m) 0 k) (nx m) = V := fun k =>
      ⟨by show (if nx m = nx m then 304113 else tg m (nx m)) = _; rw [if_pos rfl], by show (if nx m = nx m then V else ln m (nx m)) = _; rw [if_pos rfl]⟩
    have lt : ∀ a, tg m a ≠ 0 → a < nx m := fun a ha => tz_lt ok.1 ha
    -- the copy
    have loop : ∀ (N : Nat) (i : Int) (Q : Rs × Mem), 0 ≤ i → i ≤ os.length → (os.length - i).toNat = N → rn d 303 52 [pR q, pR x, pR (nx m), pI os.length] [] (mst (mcp (mal m 304113 V) A 0 (nx m) 0 os.length) q 2 (nx m)) = some Q → rn d 303 24 [pR q, pR x, pR (nx m), pI i] [] (mcp (mal m 304113 V) A 0 (nx m) 0 i) = some Q := by
      intro N
      induction N with
      | zero =>
        intro i Q i0 i1 hi hQ
        refine q303_24 (okc i).1 _ ?_
        rw [gd_of (by rw [(tc i q hqn).1]; exact hq), vc i q _ hqn, h3, if_neg (by omega), show i = os.length by omega]
        exact hQ
      | succ N ih =>
        intro i Q i0 i1 hi hQ
        obtain ⟨g1, g2, g3⟩ := h7 i i0 (by omega)
        have hgn := lt _ g3
        refine q303_24 (okc i).1 _ ?_
        have e1 : aOk (tg (mcp (mal m 304113 V) A 0 (nx m) 0 i) (nx m) % 1000) (tg (mcp (mal m 304113 V) A 0 (nx m) 0 i) (gi os i)) = true := by
          rw [(to i).1, (tc i _ hgn).1]; exact g2
        rw [gd_of (by rw [(tc i q hqn).1]; exact hq), vc i q _ hqn, h3, if_pos (by omega), nm_eq, vc i q _ hqn, hA, gd_of (by rw [(tc i A hAn).1]; exact h1), gd_of (by rw [(tc i A hAn).2]; omega), nm_eq, vc i A _ hAn, g1, gd_of (to i).1, gd_of (by rw [(to i).2]; omega), gd_of e1, (w32_of (by omega) (by omega) : w32 (i + 1) = i + 1)]
        have e2 : mst (mcp (mal m 304113 V) A 0 (nx m) 0 i) (nx m) i (gi os i) = mcp (mal m 304113 V) A 0 (nx m) 0 (i + 1) := by
          have := mcp_mst (m := mal m 304113 V) (s := A) (a := nx m) (k := i) i0 (by omega)
          rw [← this]
          congr 1
          rw [vl_mal, if_neg (by omega)]; exact g1.symm
        rw [e2]
        exact ih (i + 1) Q (by omega) (by omega) (by omega) hQ
    have hL : LSQ (mst (mcp (mal m 304113 V) A 0 (nx m) 0 os.length) q 2 (nx m)) q 2 3 303113 304113 os V := by
      have eA : vl (mst (mcp (mal m 304113 V) A 0 (nx m) 0 os.length) q 2 (nx m)) q 2 = nx m := by rw [vl_mst, if_pos ⟨rfl, rfl⟩]
      refine ⟨by rw [eA]; exact Or.inr (to os.length).1, by rw [eA]; exact (to os.length).2, by rw [vl_mst, if_neg (by omega), vc _ q _ hqn]; exact h3, by omega, by omega, by omega, fun j j0 j1 => ?_⟩
      obtain ⟨g1, g2, g3⟩ := h7 j j0 j1
      rw [eA, vl_mst, if_neg (by omega), vl_mcp, if_pos (by omega), vl_mal, if_neg (by omega), show (0 : Int) + (j - 0) = j by omega]
      refine ⟨g1, ?_, ?_⟩
      · show aOk 113 (tg (mcp (mal m 304113 V) A 0 (nx m) 0 os.length) (gi os j)) = true
        rw [(tc _ _ (lt _ g3)).1]; exact g2
      · show tg (mcp (mal m 304113 V) A 0 (nx m) 0 os.length) (gi os j) ≠ 0
        rw [(tc _ _ (lt _ g3)).1]; exact g3
    obtain ⟨m', e1, L1, n1, s1, t1, v1, w1, ok'⟩ := c303_52 (m := mst (mcp (mal m 304113 V) A 0 (nx m) 0 os.length) q 2 (nx m)) (os := os) (cap := V) (q := q) (d := d) (z2 := pR (nx m)) (z3 := pI os.length) (x := x) (z := 0) rfl rfl (okc os.length) (by show tg (mcp (mal m 304113 V) A 0 (nx m) 0 os.length) q = 15; rw [(tc _ q hqn).1]; exact hq) hL (by omega) (by show aOk 113 (tg (mcp (mal m 304113 V) A 0 (nx m) 0 os.length) x) = true; rw [(tc _ _ (lt _ hqx)).1]; exact hx) (by show tg (mcp (mal m 304113 V) A 0 (nx m) 0 os.length) x ≠ 0; rw [(tc _ _ (lt _ hqx)).1]; exact hqx)
    have eA : vl (mst (mcp (mal m 304113 V) A 0 (nx m) 0 os.length) q 2 (nx m)) q 2 = nx m := by rw [vl_mst, if_pos ⟨rfl, rfl⟩]
    rw [eA] at v1
    refine ⟨m', V, ?_, L1, ⟨by omega, ?_, ?_⟩, by omega, ok', ?_, ?_, ?_, ?_⟩
    · refine q303 ok.1 _ ?_
      rw [gd_of hq, nm_eq, h3, nm_eq, hA, gd_of h1, if_pos (by omega), nm_eq, (w32_of (by omega) (by omega) : w32 (2 * (os.length : Int)) = 2 * (os.length : Int)), ← hV, gd_of ⟨by omega, by omega⟩, nw_eq]
      have := loop _ 0 _ (Int.le_refl _) (by omega) rfl e1
      rwa [mcp_0] at this
    · have : nx (mst (mcp (mal m 304113 V) A 0 (nx m) 0 os.length) q 2 (nx m)) = nx m + 1 := rfl
      omega
    · have : sl (mst (mcp (mal m 304113 V) A 0 (nx m) 0 os.length) q 2 (nx m)) = sl m + V := rfl
      omega
    · intro a ha
      obtain ⟨u1, u2⟩ := t1 a
      have := lt a ha
      exact ⟨by rw [u1]; exact (tc os.length a this).1, by rw [u2]; exact (tc os.length a this).2⟩
    · intro a k ha n2 n3
      have := lt a ha
      rw [v1 a k n2 (by omega), vl_mst, if_neg (by omega), vc _ a _ this]
    · intro k n2 n3
      rw [w1 k n3, vl_mst, if_neg (by omega), vc _ q _ hqn]
    · rw [w1 2 (by decide), eA]; exact Or.inr (Int.le_refl _)
  · obtain ⟨m', e1, L1, n1, s1, t1, v1, w1, ok'⟩ := c303_52 (d := d) (z2 := pU) (z3 := pU) (x := x) (z := 0) rfl rfl ok hq h0 (by omega) hx hqx
    refine ⟨m', cap, ?_, L1, ⟨by omega, by omega, by omega⟩, by omega, ok', fun a _ => t1 a, fun a k _ n2 n3 => v1 a k n2 n3, fun k _ n3 => w1 k n3, Or.inl (w1 2 (by decide))⟩
    refine q303 ok.1 _ ?_
    rw [gd_of hq, nm_eq, h3, nm_eq, gd_of h1, if_neg (by omega)]
    exact e1
theorem c305_52 {x z : Int} {os : List Int} {cap : Int} {z2 z3 : PV} (hz2 : cat z2 = 1) (hz3 : cat z3 = 1) (ok : OK m) (hq : tg m q = 16) (h : LSQ m q 1 2 305111 306111 os cap) (hl : (os.length : Int) < cap) (hx : aOk 111 (tg m x) = true) (hqx : tg m x ≠ 0) : ∃ m', rn d 305 52 [pR q, pR x, z2, z3] [] m = some (.inl none, m') ∧ LSQ m' q 1 2 305111 306111 (os ++ [x]) cap ∧ nx m' = nx m ∧ sl m' = sl m ∧ (∀ a, tg m' a = tg m a ∧ ln m' a = ln m a) ∧ (∀ a k, a ≠ q → a ≠ vl m q 1 → vl m' a k = vl m a k) ∧ (∀ k, k ≠ 2 → vl m' q k = vl m q k) ∧ OK m' := by
  obtain ⟨h1, h2, h3, h4, h5, h6, h7⟩ := h
  have hne : q ≠ vl m q 1 := by intro e; rw [← e] at h1; omega
  refine ⟨mst (mst m q 2 (os.length + 1)) (vl m q 1) os.length x, ?_, ⟨?_, ?_, ?_, ?_, h5, h6, fun j j0 j1 => ?_⟩, rfl, rfl, fun a => ⟨rfl, rfl⟩, fun a k n1 n2 => ?_, fun k nk => ?_, ok⟩
  · refine q305_52 ok.1 hz2 hz3 _ ?_
    have e : aOk (tg m (vl m q 1) % 1000) (tg m x) = true := by
      rcases h1 with e | e <;> rw [e] <;> exact hx
    rw [gd_of hq, nm_eq, nm_eq, h3, gd_of h1, gd_of ⟨by omega, by omega⟩, gd_of e, (w32_of (by omega) (by omega) : w32 ((os.length : Int) + 1) = (os.length : Int) + 1)]
  · rw [vl_mst, if_neg (by omega), vl_mst, if_neg (by omega)]; exact h1
  · rw [vl_mst, if_neg (by omega), vl_mst, if_neg (by omega)]; exact h2
  · rw [vl_mst, if_neg (by omega), vl_mst, if_pos ⟨rfl, rfl⟩]; simp
  · simp only [List.length_append, List.length_cons, List.length_nil]; push_cast; omega
  · simp only [List.length_append, List.length_cons, List.length_nil] at j1
    have e0 : vl (mst (mst m q 2 (os.length + 1)) (vl m q 1) os.length x) q 1 = vl m q 1 := by rw [vl_mst, if_neg (by omega), vl_mst, if_neg (by omega)]
    rw [e0, vl_mst]
    by_cases e : j = os.length
    · rw [if_pos ⟨rfl, e⟩, e, gi_app_r (by omega), Int.sub_self, gi_zero]; exact ⟨rfl, hx, hqx⟩
    · rw [if_neg (by omega), vl_mst, if_neg (by omega), gi_app_l j0 (by omega)]; exact h7 j j0 (by omega)
  · rw [vl_mst, if_neg (by omega), vl_mst, if_neg (by omega)]
  · rw [vl_mst, if_neg (by omega), vl_mst, if_neg (by omega)]
theorem c305 {x : Int} {os : List Int} {cap : Int} (ok : OK m) (hq : tg m q = 16) (h : LSQ m q 1 2 305111 306111 os cap) (hl : os.length ≤ 20000) (hx : aOk 111 (tg m x) = true) (hqx : tg m x ≠ 0) : ∃ m' cap', cl d 305 [pR q, pR x] m = some (.inl none, m') ∧ LSQ m' q 1 2 305111 306111 (os ++ [x]) cap' ∧ GRq m m' cap cap' ∧ cap' ≤ max cap (2 * os.length) ∧ LSF m m' q 1 2 := by
  have h0 := h
  obtain ⟨h1, h2, h3, h4, h5, h6, h7⟩ := h
  have hne : q ≠ vl m q 1 := by intro e; rw [← e] at h1; omega
  by_cases hg : (os.length : Int) = cap
  · generalize hA : vl m q 1 = A at *
    have hqn : q < nx m := tz_lt ok.1 (by omega)
    have hAn : A < nx m := tz_lt ok.1 (by omega)
    obtain ⟨V, hV⟩ : ∃ V : Int, V = 2 * os.length := ⟨_, rfl⟩
    have hx92 := ok.2.2
    have ok1 : OK (mal m 306111 V) := ok.fr (fr_mal (e := eM 305) (by rfl))
    have okc : ∀ k, OK (mcp (mal m 306111 V) A 0 (nx m) 0 k) := fun k => ok1
    have vc : ∀ (k a j : Int), a < nx m → vl (mcp (mal m 306111 V) A 0 (nx m) 0 k) a j = vl m a j := fun k a j ha => by
      rw [vl_mcp, if_neg (by omega), vl_mal, if_neg (by omega)]
    have tc : ∀ (k a : Int), a < nx m → tg (mcp (mal m 306111 V) A 0 (nx m) 0 k) a = tg m a ∧ ln (mcp (mal m 306111 V) A 0 (nx m) 0 k) a = ln m a := fun k a ha =>
      ⟨by show (if a = nx m then 306111 else tg m a) = _; rw [if_neg (by omega)], by show (if a = nx m then V else ln m a) = _; rw [if_neg (by omega)]⟩
    have to : ∀ k, tg (mcp (mal m 306111 V) A 0 (nx m) 0 k) (nx m) = 306111 ∧ ln (mcp (mal m 306111 V) A 0 (nx m) 0 k) (nx m) = V := fun k =>
      ⟨by show (if nx m = nx m then 306111 else tg m (nx m)) = _; rw [if_pos rfl], by show (if nx m = nx m then V else ln m (nx m)) = _; rw [if_pos rfl]⟩
    have lt : ∀ a, tg m a ≠ 0 → a < nx m := fun a ha => tz_lt ok.1 ha
    -- the copy
    have loop : ∀ (N : Nat) (i : Int) (Q : Rs × Mem), 0 ≤ i → i ≤ os.length → (os.length - i).toNat = N → rn d 305 52 [pR q, pR x, pR (nx m), pI os.length] [] (mst (mcp (mal m 306111 V) A 0 (nx m) 0 os.length) q 1 (nx m)) = some Q → rn d 305 24 [pR q, pR x, pR (nx m), pI i] [] (mcp (mal m 306111 V) A 0 (nx m) 0 i) = some Q := by
      intro N
      induction N with
      | zero =>
        intro i Q i0 i1 hi hQ
        refine q305_24 (okc i).1 _ ?_
        rw [gd_of (by rw [(tc i q hqn).1]; exact hq), vc i q _ hqn, h3, if_neg (by omega), show i = os.length by omega]
        exact hQ
      | succ N ih =>
        intro i Q i0 i1 hi hQ
        obtain ⟨g1, g2, g3⟩ := h7 i i0 (by omega)
        have hgn := lt _ g3
        refine q305_24 (okc i).1 _ ?_
        have e1 : aOk (tg (mcp (mal m 306111 V) A 0 (nx m) 0 i) (nx m) % 1000) (tg (mcp (mal m 306111 V) A 0 (nx m) 0 i) (gi os i)) = true := by
          rw [(to i).1, (tc i _ hgn).1]; exact g2
        rw [gd_of (by rw [(tc i q hqn).1]; exact hq), vc i q _ hqn, h3, if_pos (by omega), nm_eq, vc i q _ hqn, hA, gd_of (by rw [(tc i A hAn).1]; exact h1), gd_of (by rw [(tc i A hAn).2]; omega), nm_eq, vc i A _ hAn, g1, gd_of (to i).1, gd_of (by rw [(to i).2]; omega), gd_of e1, (w32_of (by omega) (by omega) : w32 (i + 1) = i + 1)]
        have e2 : mst (mcp (mal m 306111 V) A 0 (nx m) 0 i) (nx m) i (gi os i) = mcp (mal m 306111 V) A 0 (nx m) 0 (i + 1) := by
          have := mcp_mst (m := mal m 306111 V) (s := A) (a := nx m) (k := i) i0 (by omega)
          rw [← this]
          congr 1
          rw [vl_mal, if_neg (by omega)]; exact g1.symm
        rw [e2]
        exact ih (i + 1) Q (by omega) (by omega) (by omega) hQ
    have hL : LSQ (mst (mcp (mal m 306111 V) A 0 (nx m) 0 os.length) q 1 (nx m)) q 1 2 305111 306111 os V := by
      have eA : vl (mst (mcp (mal m 306111 V) A 0 (nx m) 0 os.length) q 1 (nx m)) q 1 = nx m := by rw [vl_mst, if_pos ⟨rfl, rfl⟩]
      refine ⟨by rw [eA]; exact Or.inr (to os.length).1, by rw [eA]; exact (to os.length).2, by rw [vl_mst, if_neg (by omega), vc _ q _ hqn]; exact h3, by omega, by omega, by omega, fun j j0 j1 => ?_⟩
      obtain ⟨g1, g2, g3⟩ := h7 j j0 j1
      rw [eA, vl_mst, if_neg (by omega), vl_mcp, if_pos (by omega), vl_mal, if_neg (by omega), show (0 : Int) + (j - 0) = j by omega]
      refine ⟨g1, ?_, ?_⟩
      · show aOk 111 (tg (mcp (mal m 306111 V) A 0 (nx m) 0 os.length) (gi os j)) = true
        rw [(tc _ _ (lt _ g3)).1]; exact g2
      · show tg (mcp (mal m 306111 V) A 0 (nx m) 0 os.length) (gi os j) ≠ 0
        rw [(tc _ _ (lt _ g3)).1]; exact g3
    obtain ⟨m', e1, L1, n1, s1, t1, v1, w1, ok'⟩ := c305_52 (m := mst (mcp (mal m 306111 V) A 0 (nx m) 0 os.length) q 1 (nx m)) (os := os) (cap := V) (q := q) (d := d) (z2 := pR (nx m)) (z3 := pI os.length) (x := x) (z := 0) rfl rfl (okc os.length) (by show tg (mcp (mal m 306111 V) A 0 (nx m) 0 os.length) q = 16; rw [(tc _ q hqn).1]; exact hq) hL (by omega) (by show aOk 111 (tg (mcp (mal m 306111 V) A 0 (nx m) 0 os.length) x) = true; rw [(tc _ _ (lt _ hqx)).1]; exact hx) (by show tg (mcp (mal m 306111 V) A 0 (nx m) 0 os.length) x ≠ 0; rw [(tc _ _ (lt _ hqx)).1]; exact hqx)
    have eA : vl (mst (mcp (mal m 306111 V) A 0 (nx m) 0 os.length) q 1 (nx m)) q 1 = nx m := by rw [vl_mst, if_pos ⟨rfl, rfl⟩]
    rw [eA] at v1
    refine ⟨m', V, ?_, L1, ⟨by omega, ?_, ?_⟩, by omega, ok', ?_, ?_, ?_, ?_⟩
    · refine q305 ok.1 _ ?_
      rw [gd_of hq, nm_eq, h3, nm_eq, hA, gd_of h1, if_pos (by omega), nm_eq, (w32_of (by omega) (by omega) : w32 (2 * (os.length : Int)) = 2 * (os.length : Int)), ← hV, gd_of ⟨by omega, by omega⟩, nw_eq]
      have := loop _ 0 _ (Int.le_refl _) (by omega) rfl e1
      rwa [mcp_0] at this
    · have : nx (mst (mcp (mal m 306111 V) A 0 (nx m) 0 os.length) q 1 (nx m)) = nx m + 1 := rfl
      omega
    · have : sl (mst (mcp (mal m 306111 V) A 0 (nx m) 0 os.length) q 1 (nx m)) = sl m + V := rfl
      omega
    · intro a ha
      obtain ⟨u1, u2⟩ := t1 a
      have := lt a ha
      exact ⟨by rw [u1]; exact (tc os.length a this).1, by rw [u2]; exact (tc os.length a this).2⟩
    · intro a k ha n2 n3
      have := lt a ha
      rw [v1 a k n2 (by omega), vl_mst, if_neg (by omega), vc _ a _ this]
    · intro k n2 n3
      rw [w1 k n3, vl_mst, if_neg (by omega), vc _ q _ hqn]
    · rw [w1 1 (by decide), eA]; exact Or.inr (Int.le_refl _)
  · obtain ⟨m', e1, L1, n1, s1, t1, v1, w1, ok'⟩ := c305_52 (d := d) (z2 := pU) (z3 := pU) (x := x) (z := 0) rfl rfl ok hq h0 (by omega) hx hqx
    refine ⟨m', cap, ?_, L1, ⟨by omega, by omega, by omega⟩, by omega, ok', fun a _ => t1 a, fun a k _ n2 n3 => v1 a k n2 n3, fun k _ n3 => w1 k n3, Or.inl (w1 1 (by decide))⟩
    refine q305 ok.1 _ ?_
    rw [gd_of hq, nm_eq, h3, nm_eq, gd_of h1, if_neg (by omega)]
    exact e1
theorem c338_52 {x z : Int} {os : List Int} {cap : Int} {z2 z3 : PV} (hz2 : cat z2 = 1) (hz3 : cat z3 = 1) (ok : OK m) (hq : tg m q = 28) (h : LSQ m q 1 2 338112 339112 os cap) (hl : (os.length : Int) < cap) (hx : aOk 112 (tg m x) = true) (hqx : tg m x ≠ 0) : ∃ m', rn d 338 52 [pR q, pR x, z2, z3] [] m = some (.inl none, m') ∧ LSQ m' q 1 2 338112 339112 (os ++ [x]) cap ∧ nx m' = nx m ∧ sl m' = sl m ∧ (∀ a, tg m' a = tg m a ∧ ln m' a = ln m a) ∧ (∀ a k, a ≠ q → a ≠ vl m q 1 → vl m' a k = vl m a k) ∧ (∀ k, k ≠ 2 → vl m' q k = vl m q k) ∧ OK m' := by
  obtain ⟨h1, h2, h3, h4, h5, h6, h7⟩ := h
  have hne : q ≠ vl m q 1 := by intro e; rw [← e] at h1; omega
  refine ⟨mst (mst m q 2 (os.length + 1)) (vl m q 1) os.length x, ?_, ⟨?_, ?_, ?_, ?_, h5, h6, fun j j0 j1 => ?_⟩, rfl, rfl, fun a => ⟨rfl, rfl⟩, fun a k n1 n2 => ?_, fun k nk => ?_, ok⟩
  · refine q338_52 ok.1 hz2 hz3 _ ?_
    have e : aOk (tg m (vl m q 1) % 1000) (tg m x) = true := by
      rcases h1 with e | e <;> rw [e] <;> exact hx
    rw [gd_of hq, nm_eq, nm_eq, h3, gd_of h1, gd_of ⟨by omega, by omega⟩, gd_of e, (w32_of (by omega) (by omega) : w32 ((os.length : Int) + 1) = (os.length : Int) + 1)]
  · rw [vl_mst, if_neg (by omega), vl_mst, if_neg (by omega)]; exact h1
  · rw [vl_mst, if_neg (by omega), vl_mst, if_neg (by omega)]; exact h2
  · rw [vl_mst, if_neg (by omega), vl_mst, if_pos ⟨rfl, rfl⟩]; simp
  · simp only [List.length_append, List.length_cons, List.length_nil]; push_cast; omega
  · simp only [List.length_append, List.length_cons, List.length_nil] at j1
    have e0 : vl (mst (mst m q 2 (os.length + 1)) (vl m q 1) os.length x) q 1 = vl m q 1 := by rw [vl_mst, if_neg (by omega), vl_mst, if_neg (by omega)]
    rw [e0, vl_mst]
    by_cases e : j = os.length
    · rw [if_pos ⟨rfl, e⟩, e, gi_app_r (by omega), Int.sub_self, gi_zero]; exact ⟨rfl, hx, hqx⟩
    · rw [if_neg (by omega), vl_mst, if_neg (by omega), gi_app_l j0 (by omega)]; exact h7 j j0 (by omega)
  · rw [vl_mst, if_neg (by omega), vl_mst, if_neg (by omega)]
  · rw [vl_mst, if_neg (by omega), vl_mst, if_neg (by omega)]
theorem c338 {x : Int} {os : List Int} {cap : Int} (ok : OK m) (hq : tg m q = 28) (h : LSQ m q 1 2 338112 339112 os cap) (hl : os.length ≤ 20000) (hx : aOk 112 (tg m x) = true) (hqx : tg m x ≠ 0) : ∃ m' cap', cl d 338 [pR q, pR x] m = some (.inl none, m') ∧ LSQ m' q 1 2 338112 339112 (os ++ [x]) cap' ∧ GRq m m' cap cap' ∧ cap' ≤ max cap (2 * os.length) ∧ LSF m m' q 1 2 := by
  have h0 := h
  obtain ⟨h1, h2, h3, h4, h5, h6, h7⟩ := h
  have hne : q ≠ vl m q 1 := by intro e; rw [← e] at h1; omega
  by_cases hg : (os.length : Int) = cap
  · generalize hA : vl m q 1 = A at *
    have hqn : q < nx m := tz_lt ok.1 (by omega)
    have hAn : A < nx m := tz_lt ok.1 (by omega)
    obtain ⟨V, hV⟩ : ∃ V : Int, V = 2 * os.length := ⟨_, rfl⟩
    have hx92 := ok.2.2
    have ok1 : OK (mal m 339112 V) := ok.fr (fr_mal (e := eM 338) (by rfl))
    have okc : ∀ k, OK (mcp (mal m 339112 V) A 0 (nx m) 0 k) := fun k => ok1
    have vc : ∀ (k a j : Int), a < nx m → vl (mcp (mal m 339112 V) A 0 (nx m) 0 k) a j = vl m a j := fun k a j ha => by
      rw [vl_mcp, if_neg (by omega), vl_mal, if_neg (by omega)]
    have tc : ∀ (k a : Int), a < nx m → tg (mcp (mal m 339112 V) A 0 (nx m) 0 k) a = tg m a ∧ ln (mcp (mal m 339112 V) A 0 (nx m) 0 k) a = ln m a := fun k a ha =>
      ⟨by show (if a = nx m then 339112 else tg m a) = _; rw [if_neg (by omega)], by show (if a = nx m then V else ln m a) = _; rw [if_neg (by omega)]⟩
    have to : ∀ k, tg (mcp (mal m 339112 V) A 0 (nx m) 0 k) (nx m) = 339112 ∧ ln (mcp (mal m 339112 V) A 0 (nx m) 0 k) (nx m) = V := fun k =>
      ⟨by show (if nx m = nx m then 339112 else tg m (nx m)) = _; rw [if_pos rfl], by show (if nx m = nx m then V else ln m (nx m)) = _; rw [if_pos rfl]⟩
    have lt : ∀ a, tg m a ≠ 0 → a < nx m := fun a ha => tz_lt ok.1 ha
    -- the copy
    have loop : ∀ (N : Nat) (i : Int) (Q : Rs × Mem), 0 ≤ i → i ≤ os.length → (os.length - i).toNat = N → rn d 338 52 [pR q, pR x, pR (nx m), pI os.length] [] (mst (mcp (mal m 339112 V) A 0 (nx m) 0 os.length) q 1 (nx m)) = some Q → rn d 338 24 [pR q, pR x, pR (nx m), pI i] [] (mcp (mal m 339112 V) A 0 (nx m) 0 i) = some Q := by
      intro N
      induction N with
      | zero =>
        intro i Q i0 i1 hi hQ
        refine q338_24 (okc i).1 _ ?_
        rw [gd_of (by rw [(tc i q hqn).1]; exact hq), vc i q _ hqn, h3, if_neg (by omega), show i = os.length by omega]
        exact hQ
      | succ N ih =>
        intro i Q i0 i1 hi hQ
        obtain ⟨g1, g2, g3⟩ := h7 i i0 (by omega)
        have hgn := lt _ g3
        refine q338_24 (okc i).1 _ ?_
        have e1 : aOk (tg (mcp (mal m 339112 V) A 0 (nx m) 0 i) (nx m) % 1000) (tg (mcp (mal m 339112 V) A 0 (nx m) 0 i) (gi os i)) = true := by
          rw [(to i).1, (tc i _ hgn).1]; exact g2
        rw [gd_of (by rw [(tc i q hqn).1]; exact hq), vc i q _ hqn, h3, if_pos (by omega), nm_eq, vc i q _ hqn, hA, gd_of (by rw [(tc i A hAn).1]; exact h1), gd_of (by rw [(tc i A hAn).2]; omega), nm_eq, vc i A _ hAn, g1, gd_of (to i).1, gd_of (by rw [(to i).2]; omega), gd_of e1, (w32_of (by omega) (by omega) : w32 (i + 1) = i + 1)]
        have e2 : mst (mcp (mal m 339112 V) A 0 (nx m) 0 i) (nx m) i (gi os i) = mcp (mal m 339112 V) A 0 (nx m) 0 (i + 1) := by
          have := mcp_mst (m := mal m 339112 V) (s := A) (a := nx m) (k := i) i0 (by omega)
          rw [← this]
          congr 1
          rw [vl_mal, if_neg (by omega)]; exact g1.symm
        rw [e2]
        exact ih (i + 1) Q (by omega) (by omega) (by omega) hQ
    have hL : LSQ (mst (mcp (mal m 339112 V) A 0 (nx m) 0 os.length) q 1 (nx m)) q 1 2 338112 339112 os V := by
      have eA : vl (mst (mcp (mal m 339112 V) A 0 (nx m) 0 os.length) q 1 (nx m)) q 1 = nx m := by rw [vl_mst, if_pos ⟨rfl, rfl⟩]
      refine ⟨by rw [eA]; exact Or.inr (to os.length).1, by rw [eA]; exact (to os.length).2, by rw [vl_mst, if_neg (by omega), vc _ q _ hqn]; exact h3, by omega, by omega, by omega, fun j j0 j1 => ?_⟩
      obtain ⟨g1, g2, g3⟩ := h7 j j0 j1
      rw [eA, vl_mst, if_neg (by omega), vl_mcp, if_pos (by omega), vl_mal, if_neg (by omega), show (0 : Int) + (j - 0) = j by omega]
      refine ⟨g1, ?_, ?_⟩
      · show aOk 112 (tg (mcp (mal m 339112 V) A 0 (nx m) 0 os.length) (gi os j)) = true
        rw [(tc _ _ (lt _ g3)).1]; exact g2
      · show tg (mcp (mal m 339112 V) A 0 (nx m) 0 os.length) (gi os j) ≠ 0
        rw [(tc _ _ (lt _ g3)).1]; exact g3
    obtain ⟨m', e1, L1, n1, s1, t1, v1, w1, ok'⟩ := c338_52 (m := mst (mcp (mal m 339112 V) A 0 (nx m) 0 os.length) q 1 (nx m)) (os := os) (cap := V) (q := q) (d := d) (z2 := pR (nx m)) (z3 := pI os.length) (x := x) (z := 0) rfl rfl (okc os.length) (by show tg (mcp (mal m 339112 V) A 0 (nx m) 0 os.length) q = 28; rw [(tc _ q hqn).1]; exact hq) hL (by omega) (by show aOk 112 (tg (mcp (mal m 339112 V) A 0 (nx m) 0 os.length) x) = true; rw [(tc _ _ (lt _ hqx)).1]; exact hx) (by show tg (mcp (mal m 339112 V) A 0 (nx m) 0 os.length) x ≠ 0; rw [(tc _ _ (lt _ hqx)).1]; exact hqx)
    have eA : vl (mst (mcp (mal m 339112 V) A 0 (nx m) 0 os.length) q 1 (nx m)) q 1 = nx m := by rw [vl_mst, if_pos ⟨rfl, rfl⟩]
    rw [eA] at v1
    refine ⟨m', V, ?_, L1, ⟨by omega, ?_, ?_⟩, by omega, ok', ?_, ?_, ?_, ?_⟩
    · refine q338 ok.1 _ ?_
      rw [gd_of hq, nm_eq, h3, nm_eq, hA, gd_of h1, if_pos (by omega), nm_eq, (w32_of (by omega) (by omega) : w32 (2 * (os.length : Int)) = 2 * (os.length : Int)), ← hV, gd_of ⟨by omega, by omega⟩, nw_eq]
      have := loop _ 0 _ (Int.le_refl _) (by omega) rfl e1
      rwa [mcp_0] at this
    · have : nx (mst (mcp (mal m 339112 V) A 0 (nx m) 0 os.length) q 1 (nx m)) = nx m + 1 := rfl
      omega
    · have : sl (mst (mcp (mal m 339112 V) A 0 (nx m) 0 os.length) q 1 (nx m)) = sl m + V := rfl
      omega
    · intro a ha
      obtain ⟨u1, u2⟩ := t1 a
      have := lt a ha
      exact ⟨by rw [u1]; exact (tc os.length a this).1, by rw [u2]; exact (tc os.length a this).2⟩
    · intro a k ha n2 n3
      have := lt a ha
      rw [v1 a k n2 (by omega), vl_mst, if_neg (by omega), vc _ a _ this]
    · intro k n2 n3
      rw [w1 k n3, vl_mst, if_neg (by omega), vc _ q _ hqn]
    · rw [w1 1 (by decide), eA]; exact Or.inr (Int.le_refl _)
  · obtain ⟨m', e1, L1, n1, s1, t1, v1, w1, ok'⟩ := c338_52 (d := d) (z2 := pU) (z3 := pU) (x := x) (z := 0) rfl rfl ok hq h0 (by omega) hx hqx
    refine ⟨m', cap, ?_, L1, ⟨by omega, by omega, by omega⟩, by omega, ok', fun a _ => t1 a, fun a k _ n2 n3 => v1 a k n2 n3, fun k _ n3 => w1 k n3, Or.inl (w1 1 (by decide))⟩
    refine q338 ok.1 _ ?_
    rw [gd_of hq, nm_eq, h3, nm_eq, gd_of h1, if_neg (by omega)]
    exact e1
end
