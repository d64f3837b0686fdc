/-! queries read by the component: small methods -/
set_option maxRecDepth 100000
set_option maxHeartbeats 4000000
section
variable {d op : Nat} {T tp e i N c : Int} {t : Int → Int} {m : Mem} {xs : List Int}
theorem c85 {x : Int} (hz : TZ m) : cl d 85 [pI x] m = some (.inl (some (pI (if ltr x then 1 else 0))), m) := by
  refine q85 hz _ ?_
  by_cases h1 : x < 97
  · rw [if_pos h1]
    refine q85_12 hz _ ?_
    by_cases h2 : x < 65
    · rw [if_pos h2, if_neg (show ¬ ltr x by omega), if_neg (by omega)]
    · rw [if_neg h2]
      by_cases h3 : 90 < x
      · rw [if_pos h3]
        by_cases h4 : x = 95
        · rw [if_pos h4, if_pos (by omega)]
        · rw [if_neg h4, if_neg (by omega)]
      · rw [if_neg h3, if_pos (by omega)]
  · rw [if_neg h1]
    by_cases h2 : 122 < x
    · rw [if_pos h2, if_neg (show ¬ ltr x by omega)]
      refine q85_12 hz _ ?_
      rw [if_neg (by omega), if_pos (by omega), if_neg (by omega)]
    · rw [if_neg h2, if_pos (by omega)]
theorem c97 (hd : 1 ≤ d) (h : CS m T tp e i t op N xs c) : cl d 97 [pR T] m = some (.inl (some (pI (if qb (pk t e i) then 1 else 0))), m) := by
  have e63 := c63 (d := d - 1) h.1.1 h.2.2.2.1
  refine q97 (by omega) h.1.1 _ ?_
  rw [gd_of h.2.2.1, bI_eq e63]
  by_cases h1 : pk t e i = 36
  · rw [if_pos h1, if_pos (Or.inl h1)]
  · rw [if_neg h1, bI_eq e63]
    by_cases h2 : pk t e i = 64
    · rw [if_pos h2, if_pos (Or.inr h2)]
    · rw [if_neg h2, if_neg (by omega)]
theorem c102 (hd : 1 ≤ d) (h : CS m T tp e i t op N xs c) : cl d 102 [pR T] m = some (.inl (some (pI (if nb (pk t e i) then 1 else 0))), m) := by
  have e63 := c63 (d := d - 1) h.1.1 h.2.2.2.1
  have e73 := c73 (d := d - 1) (x := pk t e i) h.1.1
  refine q102 (by omega) h.1.1 _ ?_
  rw [gd_of h.2.2.1, bI_eq e63, bI_eq e73]
  by_cases h1 : 48 ≤ pk t e i ∧ pk t e i ≤ 57
  · rw [if_pos h1, if_neg (by decide), if_pos (Or.inl h1)]
  · rw [if_neg h1, if_pos rfl, bI_eq e63]
    by_cases h2 : pk t e i = 45
    · rw [if_pos h2, if_pos (Or.inr h2)]
    · rw [if_neg h2, if_neg (by omega)]
theorem c86_1 (hd : 3 ≤ d) (h : CS m T tp e i t op N xs c) (hi : i < e) (ho : op < 16) : cl d 86 [pR T] m = some (.inl none, mst (mst m T 5 (op + 1)) T 2 (i + 1)) := by
  have hr := h.rng
  have v2 := h.2.2.2.1.2.2.2.1
  refine q86 h.1.1 _ ?_
  rw [gd_of h.2.2.1, h.2.2.2.2.2.1, if_pos (by omega)]
  refine q86_15 (by omega) h.1.1 _ ?_
  rw [gd_of h.2.2.1, bV_eq (c66_1 (by omega) h.1.1), gd_of h.2.2.1, h.2.2.2.2.2.1, v2, (w32_of (by omega) (by omega) : w32 ((op : Int) + 1) = (op : Int) + 1), (w32_of (by omega) (by omega) : w32 (i + 1) = i + 1)]
theorem c86_0 (hd : 3 ≤ d) (h : CS m T tp e i t op N xs c) (ho : ¬ op < 16) : cl d 86 [pR T] m = some (.inr 204, mal (mst m T 3 i) 204 6) := by
  refine q86 h.1.1 _ ?_
  rw [gd_of h.2.2.1, h.2.2.2.2.2.1, if_neg (by omega)]
  refine q86_15 (by omega) h.1.1 _ ?_
  rw [gd_of h.2.2.1, bV_xq (c66_0 (by omega) h.1.1 h.2.2.2.1)]
theorem c89_1 {x : Int} (hd : 4 ≤ d) (h : CS m T tp e i t (op + 1) N xs c) (ho : op ≤ 100) (hx : pk t e i = x) (hx0 : 0 ≤ x) : cl d 89 [pR T, pI x] m = some (.inl none, mst (mst m T 2 (i + 1)) T 5 op) := by
  have e65 := c65_1 (d := d - 1) (by omega) h.1.1 h.2.2.2.1 hx hx0
  have v5 := h.2.2.2.2.2.1
  refine q89 (by omega) h.1.1 _ ?_
  have e : vl (mst m T 2 (i + 1)) T 5 = (op : Int) + 1 := by rw [vl_mst, if_neg (by omega), v5]; omega
  rw [gd_of h.2.2.1, bV_eq e65, e, (w32_of (by omega) (by omega) : w32 ((op : Int) + 1 - 1) = (op : Int) + 1 - 1), show (op : Int) + 1 - 1 = op by omega]
theorem c89_0 {x : Int} (hd : 4 ≤ d) (h : CS m T tp e i t op N xs c) (hx : pk t e i ≠ x) : cl d 89 [pR T, pI x] m = some (.inr 204, mal (mst m T 3 i) 204 6) := by
  have e65 := c65_0 (d := d - 1) (by omega) h.1.1 h.2.2.2.1 hx
  refine q89 (by omega) h.1.1 _ ?_
  rw [gd_of h.2.2.1, bV_xq e65]
/-- digits -/
theorem c88_l {mi i0 : Int} (hd : 2 ≤ d) : ∀ (n : Nat) (k v : Int) (m : Mem), (e - k).toNat = n → CS m T tp e k t op N xs c → 0 ≤ v → v ≤ 9007199254740992 → ∀ Q, rn d 88 89 [pR T, pI i0, pI mi, pL (sDg t e k v).1, pU] [] (mst m T 2 (sDg t e k v).2) = some Q → rn d 88 89 [pR T, pI i0, pI mi, pL v, pU] [] m = some Q := by
  intro n
  induction n with
  | zero =>
    intro k v m hn h v0 v1 Q hQ
    have hr := h.rng
    rw [sDg_eq, if_neg (fun q => by have : k < e := pkf_lt (t := t) (by omega)
                                    omega)] at hQ
    rw [mst_self h.2.2.2.1.2.2.2.1] at hQ
    exact hQ
  | succ n ih =>
    intro k v m hn h v0 v1 Q hQ
    have hr := h.rng
    rw [sDg_eq] at hQ
    by_cases hg : dg (pk t e k)
    · rw [if_pos hg] at hQ
      have e63 := c63 (d := d - 1) h.1.1 h.2.2.2.1
      have e73 := c73 (d := d - 1) (x := pk t e k) h.1.1
      have v2 := h.2.2.2.1.2.2.2.1
      refine q88_89 (by omega) h.1.1 _ ?_
      rw [gd_of h.2.2.1, bI_eq e63, bI_eq e73, if_pos hg, if_neg (by decide), bI_eq e63, v2, (w32_of (by omega) (by omega) : w32 (k + 1) = k + 1), (w64_of (by omega) (by omega) : w64 (10 * v) = 10 * v), (w64_of (by omega) (by omega) : w64 (10 * v + pk t e k) = 10 * v + pk t e k), (w64_of (by omega) (by omega) : w64 (10 * v + pk t e k - 48) = 10 * v + pk t e k - 48)]
      refine ih (k + 1) _ _ (by omega) (h.at (by omega) (by omega)) (by omega) (by omega) Q ?_
      rw [mst_mst]; exact hQ
    · rw [if_neg hg] at hQ
      rw [mst_self h.2.2.2.1.2.2.2.1] at hQ
      exact hQ
/-- a whole number -/
theorem c88 (hd : 5 ≤ d) (h : CS m T tp e i t op N xs c) :
    (∀ v j, sIn t e i = .inr (v, j) → cl d 88 [pR T] m = some (.inl (some (pL v)), mst m T 2 j)) ∧
    (∀ p, sIn t e i = .inl p → ∃ j, 0 ≤ j ∧ j ≤ e ∧ cl d 88 [pR T] m = some (.inr 204, mal (mst (mst m T 2 j) T 3 p) 204 6)) := by
  have hr := h.rng
  have e63 := c63 (d := d - 1) h.1.1 h.2.2.2.1
  have v2 := h.2.2.2.1.2.2.2.1
  have n0 : nI0 t e i = if pk t e i = 45 then i + 1 else i := rfl
  have nr : 0 ≤ nI0 t e i ∧ nI0 t e i ≤ e := by
    rw [n0]
    by_cases h45 : pk t e i = 45
    · rw [if_pos h45]; have : i < e := pkf_lt (t := t) (by omega); omega
    · rw [if_neg h45]; omega
  have h1 := h.at nr.1 nr.2
  have mi : ∃ mn : Int, mn = (if pk t e i = 45 then 1 else 0) := ⟨_, rfl⟩
  obtain ⟨mn, hmn⟩ := mi
  -- to the place behind the sign
  have st0 : ∀ Q, rn d 88 34 [pR T, pI i, pI mn, pU, pU] [] (mst m T 2 (nI0 t e i)) = some Q → cl d 88 [pR T] m = some Q := by
    intro Q hQ
    refine q88 (by omega) h.1.1 _ ?_
    rw [gd_of h.2.2.1, nm_eq, v2, bI_eq e63]
    by_cases h45 : pk t e i = 45
    · rw [if_pos h45] at n0 hmn ⊢
      rw [if_neg (by decide), v2, (w32_of (by omega) (by have : i < e := pkf_lt (t := t) (by omega)
                                                         omega) : w32 (i + 1) = i + 1), ← n0, ← hmn]
      exact hQ
    · rw [if_neg h45] at n0 hmn ⊢
      rw [if_pos rfl]
      rw [n0, mst_self v2, hmn] at hQ
      exact hQ
  have e631 := c63 (d := d - 1) h1.1.1 h1.2.2.2.1
  have e731 := c73 (d := d - 1) (x := pk t e (nI0 t e i)) h1.1.1
  unfold sIn
  have st1 : ∀ Q (b : Int), (b = if (¬ dg (pk t e (nI0 t e i)) ∨ (pk t e i = 45 ∧ pk t e (nI0 t e i) = 48)) then 0 else 1) → rn d 88 63 [pR T, pI i, pI mn, pU, pU] [pI b, pR T] (mst m T 2 (nI0 t e i)) = some Q → cl d 88 [pR T] m = some Q := by
    intro Q b hb hQ
    refine st0 Q (q88_34 (by omega) h1.1.1 _ ?_)
    rw [gd_of h1.2.2.1, bI_eq e631, bI_eq e731]
    by_cases hg : dg (pk t e (nI0 t e i))
    · rw [if_pos hg, if_neg (by decide)]
      by_cases h45 : pk t e i = 45
      · rw [if_pos h45] at hmn
        rw [hmn, if_neg (by decide), bI_eq e631]
        rw [hmn] at hQ
        by_cases h48 : pk t e (nI0 t e i) = 48
        · rw [if_pos (Or.inr ⟨h45, h48⟩)] at hb
          rw [if_pos h48]; rw [hb] at hQ; exact hQ
        · rw [if_neg (by omega)] at hb
          rw [if_neg h48]; rw [hb] at hQ; exact hQ
      · rw [if_neg h45] at hmn
        rw [if_neg (by omega)] at hb
        rw [hmn, if_pos rfl]
        rw [hmn, hb] at hQ; exact hQ
    · rw [if_pos (Or.inl hg)] at hb
      rw [if_neg hg, if_pos rfl]
      rw [hb] at hQ; exact hQ
  by_cases hbad : ¬ dg (pk t e (nI0 t e i)) ∨ (pk t e i = 45 ∧ pk t e (nI0 t e i) = 48)
  · rw [if_pos hbad]
    refine ⟨fun v j q => (by cases q), fun p q => ?_⟩
    cases q
    refine ⟨nI0 t e i, nr.1, nr.2, st1 _ 0 (by rw [if_pos hbad]) (q88_63 (by omega) h1.1.1 _ ?_)⟩
    rw [gd_of h1.2.2.1, bV_xq (c66_0 (by omega) h1.1.1 h1.2.2.2.1)]
  · rw [if_neg hbad]
    have hg : dg (pk t e (nI0 t e i)) := Classical.byContradiction fun q => hbad (Or.inl q)
    obtain ⟨r1, r2, r3, r4, -⟩ := nDV_rng hg
    have hlt : nI0 t e i < e := pkf_lt (t := t) (by omega)
    have v21 : vl (mst m T 2 (nI0 t e i)) T 2 = nI0 t e i := h1.2.2.2.1.2.2.2.1
    have sgn : ∀ x : Int, 0 ≤ x → x ≤ 9007199254740991 → (if mn = 0 then (some (.inl (some (pL x)), mst m T 2 (nDV t e (nI0 t e i)).2) : RM) else some (.inl (some (pL (w64 (-x)))), mst m T 2 (nDV t e (nI0 t e i)).2)) = some (.inl (some (pL (if pk t e i = 45 then -x else x))), mst m T 2 (nDV t e (nI0 t e i)).2) := by
      intro x x0 x1
      by_cases h45 : pk t e i = 45
      · rw [if_pos h45] at hmn ⊢
        rw [hmn, if_neg (by decide), w64_of (by omega) (by omega)]
      · rw [if_neg h45] at hmn ⊢
        rw [hmn, if_pos rfl]
    by_cases h48 : pk t e (nI0 t e i) = 48
    · have h45 : ¬ pk t e i = 45 := fun q => hbad (Or.inr ⟨q, h48⟩)
      have ed : nDV t e (nI0 t e i) = (0, nI0 t e i + 1) := by unfold nDV; rw [if_pos h48]
      rw [ed, if_neg (show ¬ (9007199254740991 : Int) < 0 by decide), if_neg h45]
      refine ⟨fun v j q => ?_, fun p q => (by cases q)⟩
      cases q
      refine st1 _ 1 (by rw [if_neg hbad]) (q88_63 (by omega) h1.1.1 _ ?_)
      rw [gd_of h1.2.2.1, bV_eq (c66_1 (by omega) h1.1.1), gd_of h1.2.2.1, bI_eq e631, if_pos h48, v21, (w32_of (by omega) (by omega) : w32 (nI0 t e i + 1) = nI0 t e i + 1), mst_mst]
    · have ed : nDV t e (nI0 t e i) = sDg t e (nI0 t e i) 0 := by unfold nDV; rw [if_neg h48]
      have st2 : ∀ Q, rn d 88 89 [pR T, pI i, pI mn, pL (nDV t e (nI0 t e i)).1, pU] [] (mst m T 2 (nDV t e (nI0 t e i)).2) = some Q → cl d 88 [pR T] m = some Q := by
        intro Q hQ
        refine st1 _ 1 (by rw [if_neg hbad]) (q88_63 (by omega) h1.1.1 _ ?_)
        rw [gd_of h1.2.2.1, bV_eq (c66_1 (by omega) h1.1.1), gd_of h1.2.2.1, bI_eq e631, if_neg h48]
        refine c88_l (mi := mn) (i0 := i) (by omega) _ _ 0 _ rfl h1 (by decide) (by decide) Q ?_
        rw [mst_mst, ← ed]; exact hQ
      have h2 := h.at (j := (nDV t e (nI0 t e i)).2) (by omega) r4
      have e632 := c63 (d := d - 1) h2.1.1 h2.2.2.2.1
      have e732 := c73 (d := d - 1) (x := pk t e (nDV t e (nI0 t e i)).2) h2.1.1
      have hnd : ¬ dg (pk t e (nDV t e (nI0 t e i)).2) := by
        rw [ed]
        have key : ∀ (n : Nat) (k v : Int), (e - k).toNat = n → ¬ dg (pk t e (sDg t e k v).2) := by
          intro n
          induction n with
          | zero =>
            intro k v hn
            rw [sDg_eq]
            by_cases hq : dg (pk t e k)
            · have : k < e := pkf_lt (t := t) (by omega)
              omega
            · rw [if_neg hq]; exact hq
          | succ n ih =>
            intro k v hn
            rw [sDg_eq]
            by_cases hq : dg (pk t e k)
            · rw [if_pos hq]; exact ih _ _ (by omega)
            · rw [if_neg hq]; exact hq
        exact key _ _ _ rfl
      have st3 : ∀ Q, (if 9007199254740991 < (nDV t e (nI0 t e i)).1 then (bV (cl (d - 1) 67 [pR T, pI i] (mst m T 2 (nDV t e (nI0 t e i)).2)) fun m3 => if mn = 0 then (some (.inl (some (pL (nDV t e (nI0 t e i)).1)), m3)) else some (.inl (some (pL (w64 (-(nDV t e (nI0 t e i)).1)))), m3)) else if mn = 0 then (some (.inl (some (pL (nDV t e (nI0 t e i)).1)), (mst m T 2 (nDV t e (nI0 t e i)).2))) else some (.inl (some (pL (w64 (-(nDV t e (nI0 t e i)).1)))), (mst m T 2 (nDV t e (nI0 t e i)).2))) = some Q → cl d 88 [pR T] m = some Q := by
        intro Q hQ
        refine st2 Q (q88_89 (by omega) h2.1.1 _ ?_)
        rw [gd_of h2.2.2.1, bI_eq e632, bI_eq e732, if_neg hnd, if_pos rfl]
        exact hQ
      by_cases hbig : 9007199254740991 < (nDV t e (nI0 t e i)).1
      · rw [if_pos hbig]
        refine ⟨fun v j q => (by cases q), fun p q => ?_⟩
        cases q
        refine ⟨(nDV t e (nI0 t e i)).2, by omega, r4, st3 _ ?_⟩
        rw [if_pos hbig, bV_xq (c67 h2.1.1 (Or.inr h2.2.2.1))]
      · rw [if_neg hbig]
        refine ⟨fun v j q => ?_, fun p q => (by cases q)⟩
        cases q
        exact st3 _ (by rw [if_neg hbig]; exact sgn _ r1 (by omega))
/-- a comparison's sign -/
theorem c101 (hd : 5 ≤ d) (h : CS m T tp e i t op N xs c) :
    (∀ o k, sOp t e i = .inr (o, k) → cl d 101 [pR T] m = some (.inl (some (pI o)), mst m T 2 k)) ∧
    (∀ p, sOp t e i = .inl p → ∃ j, 0 ≤ j ∧ j ≤ e ∧ cl d 101 [pR T] m = some (.inr 204, mal (mst (mst m T 2 j) T 3 p) 204 6)) := by
  have hr := h.rng
  have e63 := c63 (d := d - 1) h.1.1 h.2.2.2.1
  have v2 := h.2.2.2.1.2.2.2.1
  have st : ∀ Q (b : Int), (b = if cmp (pk t e i) then 1 else 0) → rn d 101 35 [pR T, pI (pk t e i), pU] [pI b, pR T] m = some Q → cl d 101 [pR T] m = some Q := by
    intro Q b hb hQ
    refine q101 (by omega) h.1.1 _ ?_
    rw [gd_of h.2.2.1, bI_eq e63]
    by_cases h1 : pk t e i = 61
    · rw [if_pos (show cmp (pk t e i) by omega)] at hb
      rw [if_pos h1]; rw [hb] at hQ; exact hQ
    · rw [if_neg h1]
      by_cases h2 : pk t e i = 33
      · rw [if_pos (show cmp (pk t e i) by omega)] at hb
        rw [if_pos h2]; rw [hb] at hQ; exact hQ
      · rw [if_neg h2]
        by_cases h3 : pk t e i = 60
        · rw [if_pos (show cmp (pk t e i) by omega)] at hb
          rw [if_pos h3]; rw [hb] at hQ; exact hQ
        · rw [if_neg h3]
          by_cases h4 : pk t e i = 62
          · rw [if_pos (show cmp (pk t e i) by omega)] at hb
            rw [if_pos h4]; rw [hb] at hQ; exact hQ
          · rw [if_neg (show ¬ cmp (pk t e i) by omega)] at hb
            rw [if_neg h4]; rw [hb] at hQ; exact hQ
  by_cases hc : cmp (pk t e i)
  · have hlt : i < e := pkf_lt (t := t) (by omega)
    have h1 := h.at (j := i + 1) (by omega) (by omega)
    have e631 := c63 (d := d - 1) h1.1.1 h1.2.2.2.1
    have v21 : vl (mst m T 2 (i + 1)) T 2 = i + 1 := h1.2.2.2.1.2.2.2.1
    have st1 : ∀ Q, (if pk t e i = 61 then (rn d 101 60 [pR T, pI (pk t e i), pU] [] (mst m T 2 (i + 1))) else if pk t e i = 33 then (rn d 101 60 [pR T, pI (pk t e i), pU] [] (mst m T 2 (i + 1))) else if pk t e (i + 1) = 61 then rn d 101 107 [pR T, pI (pk t e i), pI 1] [] (mst m T 2 (i + 2)) else rn d 101 107 [pR T, pI (pk t e i), pI 0] [] (mst m T 2 (i + 1))) = some Q → cl d 101 [pR T] m = some Q := by
      intro Q hQ
      refine st Q 1 (by rw [if_pos hc]) (q101_35 (by omega) h.1.1 _ ?_)
      rw [gd_of h.2.2.1, bV_eq (c66_1 (by omega) h.1.1), gd_of h.2.2.1, v2, (w32_of (by omega) (by omega) : w32 (i + 1) = i + 1)]
      by_cases a1 : pk t e i = 61
      · rw [if_pos a1] at hQ ⊢; exact hQ
      · rw [if_neg a1] at hQ ⊢
        by_cases a2 : pk t e i = 33
        · rw [if_pos a2] at hQ ⊢; exact hQ
        · rw [if_neg a2] at hQ ⊢
          rw [bI_eq e631]
          by_cases a3 : pk t e (i + 1) = 61
          · have : i + 1 < e := pkf_lt (t := t) (by omega)
            rw [if_pos a3] at hQ ⊢
            rw [if_neg (by decide), v21, (w32_of (by omega) (by omega) : w32 (i + 1 + 1) = i + 1 + 1), mst_mst, show i + 1 + 1 = i + 2 by omega]; exact hQ
          · rw [if_neg a3] at hQ ⊢
            rw [if_pos rfl]; exact hQ
    have two : ∀ (x : Int), (pk t e i = 61 → x = 0) → (pk t e i ≠ 61 → x = 1) → (pk t e i = 61 ∨ pk t e i = 33) →
        (pk t e (i + 1) = 61 → cl d 101 [pR T] m = some (.inl (some (pI x)), mst m T 2 (i + 2))) ∧ (pk t e (i + 1) ≠ 61 → cl d 101 [pR T] m = some (.inr 204, mal (mst (mst m T 2 (i + 1)) T 3 (i + 1)) 204 6)) := by
      intro x x0 x1 hx
      have to60 : ∀ Q, rn d 101 60 [pR T, pI (pk t e i), pU] [] (mst m T 2 (i + 1)) = some Q → cl d 101 [pR T] m = some Q := fun Q hQ => st1 Q (by
        by_cases a1 : pk t e i = 61
        · rw [if_pos a1]; exact hQ
        · rw [if_neg a1, if_pos (by omega)]; exact hQ)
      refine ⟨fun h61 => to60 _ (q101_60 (by omega) h1.1.1 _ ?_), fun h61 => to60 _ (q101_60 (by omega) h1.1.1 _ ?_)⟩
      · rw [gd_of h1.2.2.1, bV_eq (c65_1 (by omega) h1.1.1 h1.2.2.2.1 h61 (by decide)), mst_mst, show i + 1 + 1 = i + 2 by omega]
        by_cases a1 : pk t e i = 61
        · rw [if_pos a1, x0 a1]
        · rw [if_neg a1, x1 a1]
      · rw [gd_of h1.2.2.1, bV_xq (c65_0 (by omega) h1.1.1 h1.2.2.2.1 h61)]
    have one : ∀ (x y : Int), (pk t e i = 60 → x = 2 ∧ y = 3) → (pk t e i ≠ 60 → x = 4 ∧ y = 5) → (pk t e i ≠ 61 ∧ pk t e i ≠ 33) →
        (pk t e (i + 1) = 61 → cl d 101 [pR T] m = some (.inl (some (pI y)), mst m T 2 (i + 2))) ∧ (pk t e (i + 1) ≠ 61 → cl d 101 [pR T] m = some (.inl (some (pI x)), mst m T 2 (i + 1))) := by
      intro x y x0 x1 hx
      refine ⟨fun h61 => st1 _ ?_, fun h61 => st1 _ ?_⟩
      · have : i + 1 < e := pkf_lt (t := t) (by omega)
        have h2 := h.at (j := i + 2) (by omega) (by omega)
        rw [if_neg hx.1, if_neg hx.2, if_pos h61]
        refine q101_107 h2.1.1 _ ?_
        by_cases a1 : pk t e i = 60
        · rw [if_pos a1, if_neg (by decide), (x0 a1).2]; rfl
        · rw [if_neg a1, if_neg (by decide), (x1 a1).2]; rfl
      · rw [if_neg hx.1, if_neg hx.2, if_neg h61]
        refine q101_107 h1.1.1 _ ?_
        by_cases a1 : pk t e i = 60
        · rw [if_pos a1, if_pos rfl, (x0 a1).1]; rfl
        · rw [if_neg a1, if_pos rfl, (x1 a1).1]; rfl
    unfold sOp
    by_cases a1 : pk t e i = 61
    · rw [if_pos a1]
      obtain ⟨t1, t2⟩ := two 0 (fun _ => rfl) (fun q => absurd a1 q) (Or.inl a1)
      by_cases h61 : pk t e (i + 1) = 61
      · rw [if_pos h61]
        exact ⟨fun o k q => by cases q; exact t1 h61, fun p q => (by cases q)⟩
      · rw [if_neg h61]
        exact ⟨fun o k q => (by cases q), fun p q => by cases q; exact ⟨i + 1, by omega, by omega, t2 h61⟩⟩
    · rw [if_neg a1]
      by_cases a2 : pk t e i = 33
      · rw [if_pos a2]
        obtain ⟨t1, t2⟩ := two 1 (fun q => absurd q a1) (fun _ => rfl) (Or.inr a2)
        by_cases h61 : pk t e (i + 1) = 61
        · rw [if_pos h61]
          exact ⟨fun o k q => by cases q; exact t1 h61, fun p q => (by cases q)⟩
        · rw [if_neg h61]
          exact ⟨fun o k q => (by cases q), fun p q => by cases q; exact ⟨i + 1, by omega, by omega, t2 h61⟩⟩
      · rw [if_neg a2]
        by_cases a3 : pk t e i = 60
        · rw [if_pos a3]
          obtain ⟨t1, t2⟩ := one 2 3 (fun _ => ⟨rfl, rfl⟩) (fun q => absurd a3 q) ⟨a1, a2⟩
          by_cases h61 : pk t e (i + 1) = 61
          · rw [if_pos h61]
            exact ⟨fun o k q => by cases q; exact t1 h61, fun p q => (by cases q)⟩
          · rw [if_neg h61]
            exact ⟨fun o k q => by cases q; exact t2 h61, fun p q => (by cases q)⟩
        · rw [if_neg a3]
          have a4 : pk t e i = 62 := by omega
          rw [if_pos a4]
          obtain ⟨t1, t2⟩ := one 4 5 (fun q => absurd q a3) (fun _ => ⟨rfl, rfl⟩) ⟨a1, a2⟩
          by_cases h61 : pk t e (i + 1) = 61
          · rw [if_pos h61]
            exact ⟨fun o k q => by cases q; exact t1 h61, fun p q => (by cases q)⟩
          · rw [if_neg h61]
            exact ⟨fun o k q => by cases q; exact t2 h61, fun p q => (by cases q)⟩
  · have e0 : sOp t e i = .inl i := by
      unfold sOp
      rw [if_neg (by omega), if_neg (by omega), if_neg (by omega), if_neg (by omega)]
    rw [e0]
    refine ⟨fun o k q => (by cases q), fun p q => ?_⟩
    cases q
    refine ⟨i, hr.1, hr.2.1, ?_⟩
    rw [mst_self v2]
    refine st _ 0 (by rw [if_neg hc]) (q101_35 (by omega) h.1.1 _ ?_)
    rw [gd_of h.2.2.1, bV_xq (c66_0 (by omega) h.1.1 h.2.2.2.1)]
end
