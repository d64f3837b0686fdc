/-! the twin's trees: strings by characters, the same values -/
set_option maxRecDepth 100000
set_option maxHeartbeats 4000000
/-- the characters: a pair of units is one -/
def chU : List Int → List Int
  | [] => []
  | [u] => [u]
  | u :: v :: r => if 55296 ≤ u ∧ u ≤ 56319 then (65536 + (u - 55296) * 1024 + v - 56320) :: chU r else u :: chU (v :: r)
def orC : List Int → List Int → Int
  | [], [] => 0
  | [], _ :: _ => -1
  | _ :: _, [] => 1
  | c :: cs, d :: ds => if c = d then orC cs ds else if c < d then -1 else 1
theorem chU_cons {u : Int} {xs : List Int} (hw : wfU (u :: xs)) (hs : sur (u :: xs)) : ∃ c rest, chU (u :: xs) = c :: chU rest ∧ sur rest ∧ wfU rest ∧ ((c = u ∧ rest = xs ∧ ¬ (55296 ≤ u ∧ u ≤ 56319)) ∨ (∃ v, xs = v :: rest ∧ 55296 ≤ u ∧ u ≤ 56319 ∧ 56320 ≤ v ∧ v ≤ 57343 ∧ c = 65536 + (u - 55296) * 1024 + v - 56320)) := by
  have hu := hw u (by simp)
  cases xs with
  | nil =>
    have hs' : ¬ (55296 ≤ u ∧ u ≤ 57343) := hs
    exact ⟨u, [], rfl, trivial, fun x hx => absurd hx (by simp), Or.inl ⟨rfl, rfl, by omega⟩⟩
  | cons v r =>
    rcases hs with ⟨s1, s2, s3, s4, s5⟩ | ⟨s1, s2⟩
    · refine ⟨_, r, by rw [chU, if_pos ⟨s1, s2⟩], s5, fun x hx => hw x (by simp [hx]), Or.inr ⟨v, rfl, s1, s2, s3, s4, rfl⟩⟩
    · refine ⟨u, v :: r, by rw [chU, if_neg (by omega)], s2, fun x hx => hw x (List.mem_cons_of_mem _ hx), Or.inl ⟨rfl, rfl, by omega⟩⟩
theorem chU_inj : ∀ (N : Nat) (xs ys : List Int), xs.length ≤ N → wfU xs → wfU ys → sur xs → sur ys → chU xs = chU ys → xs = ys := by
  intro N
  induction N with
  | zero =>
    intro xs ys hN hw hw' hs hs' h
    cases xs with
    | cons u xs => simp at hN
    | nil =>
      cases ys with
      | nil => rfl
      | cons v ys =>
        obtain ⟨c, rest, e1, -⟩ := chU_cons hw' hs'
        rw [e1] at h; cases h
  | succ N ih =>
    intro xs ys hN hw hw' hs hs' h
    cases xs with
    | nil =>
      cases ys with
      | nil => rfl
      | cons v ys =>
        obtain ⟨c, rest, e1, -⟩ := chU_cons hw' hs'
        rw [e1] at h; cases h
    | cons u xs =>
      obtain ⟨c, rest, e1, e2, e3, e4⟩ := chU_cons hw hs
      cases ys with
      | nil => rw [e1] at h; cases h
      | cons v ys =>
        obtain ⟨c', rest', g1, g2, g3, g4⟩ := chU_cons hw' hs'
        rw [e1, g1] at h
        injection h with h1 h2
        have hu := hw u (by simp)
        have hv := hw' v (by simp)
        rcases e4 with ⟨a1, a2, a3⟩ | ⟨w, a1, a2, a3, a4, a5, a6⟩
        · rcases g4 with ⟨b1, b2, b3⟩ | ⟨w', b1, b2, b3, b4, b5, b6⟩
          · rw [← a1, ← b1, h1, ← a2, ← b2, ih rest rest' (by rw [a2]; simp at hN; omega) e3 g3 e2 g2 h2]
          · omega
        · rcases g4 with ⟨b1, b2, b3⟩ | ⟨w', b1, b2, b3, b4, b5, b6⟩
          · omega
          · have : rest = rest' := ih rest rest' (by rw [a1] at hN; simp at hN; omega) e3 g3 e2 g2 h2
            rw [a1, b1, this, show u = v by omega, show w = w' by omega]
theorem orC_0 : ∀ (xs ys : List Int), orC xs ys = 0 ↔ xs = ys
  | [], [] => by simp [orC]
  | [], _ :: _ => by simp [orC]
  | _ :: _, [] => by simp [orC]
  | c :: cs, d :: ds => by
    unfold orC
    by_cases h : c = d
    · rw [if_pos h, orC_0 cs ds]; simp [h]
    · rw [if_neg h]
      constructor
      · intro q; split at q <;> omega
      · intro q; injection q with q1 q2; exact absurd q1 h
section
variable {d : Nat} {m : Mem} {t n C : Int} {us : List Int}
theorem c237 {k e u c : Int} {xs rest : List Int} (hz : TZ m) (hw : TW m t n us C) (hA : At us k (u :: xs)) (he : e = k + 1 + xs.length) (hc : (c = u ∧ rest = xs ∧ ¬ (55296 ≤ u ∧ u ≤ 56319)) ∨ (∃ v, xs = v :: rest ∧ 55296 ≤ u ∧ u ≤ 56319 ∧ 56320 ≤ v ∧ v ≤ 57343 ∧ c = 65536 + (u - 55296) * 1024 + v - 56320)) : cl d 237 [pR (vl m t 11), pI k, pI e] m = some (.inl (some (pI c)), m) := by
  obtain ⟨u0, u1, u2, u3, u4⟩ := hw.uni hA
  simp only [List.length_cons] at u1
  have hg : gi (u :: xs) 0 = u := rfl
  have e0 := u4 0 (by omega) (by simp)
  rw [Int.add_zero, hg] at e0
  refine q237 hz _ ?_
  rw [gd_of hw.2.2.2.1, gd_of ⟨by omega, by omega⟩, nm_eq, e0]
  rcases hc with ⟨a1, a2, a3⟩ | ⟨v, a1, a2, a3, a4, a5, a6⟩
  · by_cases b1 : u < 55296
    · rw [if_pos b1, a1]
    · rw [if_neg b1, if_pos (by omega), a1]
  · have e1 := u4 1 (by omega) (by rw [a1]; simp; omega)
    have hg1 : gi (u :: xs) 1 = v := by rw [a1]; rfl
    rw [hg1] at e1
    have hl : (xs.length : Int) = 1 + rest.length := by rw [a1]; simp; omega
    have es : pShl (u - 55296) 10 = (u - 55296) * 1024 := by
      have := pShl_mul (x := u - 55296) 10 (by decide) (by omega) (by omega)
      simpa using this
    rw [if_neg (by omega), if_neg (by omega), w32_of (z := k + 1) (by omega) (by omega), if_pos (by omega), nm_eq, gd_of ⟨by omega, by omega⟩, e1, w32_of (z := u - 55296) (by omega) (by omega), es, w32_of (z := 65536 + (u - 55296) * 1024) (by omega) (by omega), w32_of (z := 65536 + (u - 55296) * 1024 + v) (by omega) (by omega), w32_of (by omega) (by omega), a6]
theorem c236_38 {t' n' C' x y a6 a7 : Int} {us' : List Int} (hd : 1 ≤ d) (hz : TZ m) (hw : TW m t n us C) (hw' : TW m t' n' us' C') : ∀ (N : Nat) (xs ys : List Int) (i j : Int) (z8 z9 : PV), xs.length ≤ N → cat z8 = 1 → cat z9 = 1 → wfU xs → wfU ys → sur xs → sur ys → At us i xs → At us' j ys → i + xs.length = a6 → j + ys.length = a7 → rn d 236 38 [pR t, pI x, pR t', pI y, pI i, pI j, pI a6, pI a7, z8, z9] [] m = some (.inl (some (pI (orC (chU xs) (chU ys)))), m) := by
  intro N
  induction N with
  | zero =>
    intro xs ys i j z8 z9 hN c8 c9 wx wy sx sy hA hA' h6 h7
    cases xs with
    | cons u xs => simp at hN
    | nil =>
      simp at h6
      refine q236_38 (by omega) hz c8 c9 _ ?_
      rw [if_neg (by omega)]
      refine q236_135 hz c8 c9 _ ?_
      rw [if_neg (by omega)]
      cases ys with
      | nil => simp at h7; rw [if_neg (by omega)]; rfl
      | cons v ys =>
        obtain ⟨c, rest, e1, -⟩ := chU_cons wy sy
        simp at h7
        rw [if_pos (by omega), e1]; rfl
  | succ N ih =>
    intro xs ys i j z8 z9 hN c8 c9 wx wy sx sy hA hA' h6 h7
    cases xs with
    | nil =>
      simp at h6
      refine q236_38 (by omega) hz c8 c9 _ ?_
      rw [if_neg (by omega)]
      refine q236_135 hz c8 c9 _ ?_
      rw [if_neg (by omega)]
      cases ys with
      | nil => simp at h7; rw [if_neg (by omega)]; rfl
      | cons v ys =>
        obtain ⟨c, rest, e1, -⟩ := chU_cons wy sy
        simp at h7
        rw [if_pos (by omega), e1]; rfl
    | cons u xs =>
      obtain ⟨c, rest, e1, e2, e3, e4⟩ := chU_cons wx sx
      simp only [List.length_cons] at h6
      refine q236_38 (by omega) hz c8 c9 _ ?_
      rw [if_pos (by omega)]
      cases ys with
      | nil =>
        simp at h7
        rw [if_neg (by omega)]
        refine q236_135 hz c8 c9 _ ?_
        rw [if_pos (by omega), e1]; rfl
      | cons v ys =>
        obtain ⟨c', rest', g1, g2, g3, g4⟩ := chU_cons wy sy
        simp only [List.length_cons] at h7
        obtain ⟨u0, u1, u2, u3, -⟩ := hw.uni hA
        obtain ⟨v0, v1, v2, v3, -⟩ := hw'.uni hA'
        simp only [List.length_cons] at u1 v1
        have k1 := c237 (d := d - 1) (e := a6) hz hw hA (by omega) e4
        have k2 := c237 (d := d - 1) (e := a7) hz hw' hA' (by omega) g4
        rw [if_pos (by omega), gd_of hw.1, bI_eq k1, gd_of hw'.1, bI_eq k2, e1, g1]
        unfold orC
        by_cases hcd : c = c'
        · rw [if_pos hcd, if_pos hcd]
          obtain ⟨w, hw1, hw2, hw3, hw4⟩ : ∃ w : Int, (w = if 65535 < c then 2 else 1) ∧ At us (i + w) rest ∧ i + w + rest.length = a6 ∧ rest.length ≤ N := by
            have hu := wx u (by simp)
            rcases e4 with ⟨a1, a2, a3⟩ | ⟨w, a1, a2, a3, a4, a5, a6'⟩
            · exact ⟨1, by rw [if_neg (by omega)], by rw [a2]; exact hA.cons.2, by rw [a2]; omega, by rw [a2]; simp at hN; omega⟩
            · have hl : (xs.length : Int) = 1 + rest.length := by rw [a1]; simp; omega
              refine ⟨2, by rw [if_pos (by omega)], ?_, by omega, by simp at hN; omega⟩
              have h1 := hA.cons.2
              rw [a1] at h1
              have h2 := h1.cons.2
              rw [show i + 2 = i + 1 + 1 by omega]; exact h2
          obtain ⟨w', hw1', hw2', hw3'⟩ : ∃ w : Int, (w = if 65535 < c' then 2 else 1) ∧ At us' (j + w) rest' ∧ j + w + rest'.length = a7 := by
            have hv := wy v (by simp)
            rcases g4 with ⟨a1, a2, a3⟩ | ⟨w, a1, a2, a3, a4, a5, a6'⟩
            · exact ⟨1, by rw [if_neg (by omega)], by rw [a2]; exact hA'.cons.2, by rw [a2]; omega⟩
            · have hl : (ys.length : Int) = 1 + rest'.length := by rw [a1]; simp; omega
              refine ⟨2, by rw [if_pos (by omega)], ?_, by omega⟩
              have h1 := hA'.cons.2
              rw [a1] at h1
              have h2 := h1.cons.2
              rw [show j + 2 = j + 1 + 1 by omega]; exact h2
          have hI := ih rest rest' (i + w) (j + w') (pI c) (pI c') hw4 rfl rfl e3 g3 e2 g2 hw2 hw2' hw3 hw3'
          have hb : 0 ≤ w ∧ w ≤ 2 ∧ 0 ≤ w' ∧ w' ≤ 2 := by
            constructor
            · rw [hw1]; split <;> omega
            · refine ⟨by rw [hw1]; split <;> omega, by rw [hw1']; split <;> omega, by rw [hw1']; split <;> omega⟩
          have s2 : rn d 236 112 [pR t, pI x, pR t', pI y, pI i, pI j, pI a6, pI a7, pI c, pI c'] [pI w, pI i] m = some (.inl (some (pI (orC (chU rest) (chU rest')))), m) := by
            refine q236_112 hz _ ?_
            rw [nm_eq, w32_of (z := i + w) (by omega) (by omega)]
            by_cases h5 : 65535 < c'
            · rw [if_pos h5] at hw1' ⊢
              rw [w32_of (by omega) (by omega), ← hw1']; exact hI
            · rw [if_neg h5] at hw1' ⊢
              rw [w32_of (by omega) (by omega), ← hw1']; exact hI
          by_cases h5 : 65535 < c
          · rw [if_pos h5] at hw1 ⊢
            rw [← hw1]; exact s2
          · rw [if_neg h5] at hw1 ⊢
            rw [← hw1]; exact s2
        · rw [if_neg hcd, if_neg hcd]
          by_cases hlt : c < c'
          · rw [if_pos hlt, if_pos hlt]
          · rw [if_neg hlt, if_neg hlt]
theorem c236 {t' n' C' : Int} {us' : List Int} {x y : Nat} {nd nd' : ND} {l l' : Fo} (hd : 1 ≤ d) (hz : TZ m) (hw : TW m t n us C) (hw' : TW m t' n' us' C') (hN : TN (nv m t) us n x nd l) (hN' : TN (nv m t') us' n' y nd' l') (w : wfU nd.2.2.1) (w' : wfU nd'.2.2.1) (s : sur nd.2.2.1) (s' : sur nd'.2.2.1) : cl d 236 [pR t, pI x, pR t', pI y] m = some (.inl (some (pI (orC (chU nd.2.2.1) (chU nd'.2.2.1)))), m) := by
  have hc := hw.2.2.2.2.2.2.1
  have hc' := hw'.2.2.2.2.2.2.1
  have l2' := hw.ld (f := 2) ⟨by decide, by decide⟩ (by decide)
  have l3 := hw.ld (f := 3) ⟨by decide, by decide⟩ (by decide)
  have r2 := hw'.ld (f := 2) ⟨by decide, by decide⟩ (by decide)
  have r3 := hw'.ld (f := 3) ⟨by decide, by decide⟩ (by decide)
  obtain ⟨n1, n2, n3, ⟨n4, n5⟩, n6, n7⟩ := hN
  obtain ⟨p1, p2, p3, ⟨p4, p5⟩, p6, p7⟩ := hN'
  obtain ⟨u0, u1, u2, u3, -⟩ := hw.uni n5
  obtain ⟨v0, v1, v2, v3, -⟩ := hw'.uni p5
  have k := c236_38 (d := d) (x := x) (y := y) hd hz hw hw' _ _ _ _ _ pU pU (Nat.le_refl _) rfl rfl w w' s s' n5 p5 rfl rfl
  unfold nv at n4 p4 u0 u1 v0 v1 k
  refine q236 hz _ ?_
  rw [gd_of hw.1, nm_eq, gd_of l2'.1, gd_of ⟨by omega, by omega⟩, nm_eq, gd_of hw'.1, nm_eq, gd_of r2.1, gd_of ⟨by omega, by omega⟩, nm_eq, nm_eq, gd_of l3.1, gd_of ⟨by omega, by omega⟩, nm_eq, gd_of r3.1, gd_of ⟨by omega, by omega⟩, n4, p4, w32_of (z := vl m (vl m t 2) x + _) (by omega) (by omega), w32_of (z := vl m (vl m t' 2) y + _) (by omega) (by omega)]
  exact k
end
