/-! the twin's patches: going along tokens -/
set_option maxRecDepth 100000
set_option maxHeartbeats 4000000
theorem fnI_sp {k : List Int} : ∀ (F : Fo), (∀ x, spN k F = some x → fnI k F = x.2.1) ∧ (spN k F = none → fnI k F = -1) := by
  intro F
  induction F with
  | leaf => exact ⟨fun x h => (by cases h), fun _ => rfl⟩
  | inner j d u l r _ ih =>
    simp only [spN, fnI]
    by_cases hk : d.2.2.2 = k
    · rw [if_pos hk, if_pos hk]
      exact ⟨fun x h => (by cases h; rfl), fun h => (by cases h)⟩
    · rw [if_neg hk, if_neg hk]
      obtain ⟨h1, h2⟩ := ih
      refine ⟨fun x h => ?_, fun h => h2 (by simpa using h)⟩
      cases hs : spN k r with
      | none => rw [hs] at h; cases h
      | some y => rw [hs] at h; cases h; exact h1 y hs
theorem sz_fapp (A B : Fo) : szF (fapp A B) = szF A + szF B := by
  induction A with
  | leaf => simp [fapp, szF]
  | inner i d u l r _ ih => simp only [fapp, szF, ih]; omega
theorem sz_amg (A : Fo) (u : Vl) (k : List Int) (B : Fo) : szF (amg A u k B) = szF A + (1 + szF u.2.2 + szF B) := by
  rw [amg, sz_fapp]; rfl
def goI (o : Option (List Fr × Vl)) : Int := match o with
  | some p => (p.2.1 : Int)
  | none => -1
section
variable {d : Nat} {m : Mem} {M NT D n C : Int} {us : List Int} {tks : List (List Int)}
theorem c232_neg {a1 nn j : Int} (hd : 1 ≤ d) (ok : OK m) : rn d 232 5 [pR M, pI a1, pI nn, pI (-1), pI j] [] m = some (.inl (some (pI (-1))), m) := by
  refine q232_5 (by omega) ok.1 _ ?_
  by_cases h : j < nn
  · rw [if_pos h, if_pos (by decide)]
  · rw [if_neg h]
theorem c232_5 {a1 : Int} {nn : Nat} (hd : 3 ≤ d) (ok : OK m) (hT : TKS m M NT tks) (hD : vl m M 18 = D) (hw : TW m D n us C) (hcb : n ≤ 20000) (hnn : nn ≤ tks.length) : ∀ (rest : List (List Int)) (j : Nat) (k : List Fr) (w : Vl), j + rest.length = nn → (∀ (i : Nat) (h1 : i < rest.length) (h2 : j + i < tks.length), rest[i] = tks[j + i]) → TNv (nv m D) us n w → szF w.2.2 ≤ 100000 → rn d 232 5 [pR M, pI a1, pI nn, pI w.1, pI j] [] m = some (.inl (some (pI (goI (goZ rest k w)))), m) := by
  have hc := hw.2.2.2.2.2.2.1
  have l0 := hw.ld (f := 0) ⟨by decide, by decide⟩ (by decide)
  intro rest
  induction rest with
  | nil =>
    intro j k w hj _ hN _
    simp at hj
    refine q232_5 (by omega) ok.1 _ ?_
    rw [if_neg (by omega)]; rfl
  | cons tk rest ih =>
    intro j k w hj hr hN hsz
    simp only [List.length_cons] at hj
    have hjt : j < tks.length := by omega
    have htj : tks[j] = tk := by
      have := hr 0 (by simp) (by omega)
      simpa using this.symm
    have h233 := c233 (d := d - 1) (by omega) ok hT hjt
    rw [htj] at h233
    have hT0 := hT
    obtain ⟨hM, hNT, ⟨h22, l22⟩, ⟨h23, l23⟩, h24, hlen, n1, us1, C1, hw1, htk⟩ := hT
    obtain ⟨t1, t2, t3⟩ := htk j hjt
    rw [htj] at t1 t2 t3
    have hx0 : (w.1 : Int) < n := hN.1
    have e0 : vl m (vl m D 0) w.1 = kT w.2.1.1 := hN.2.1
    have nxt : ∀ f u, go1 tk w = some (f, u) → rn d 232 5 [pR M, pI a1, pI nn, pI u.1, pI ((j : Int) + 1)] [] m = some (.inl (some (pI (goI (goZ (tk :: rest) k w)))), m) := by
      intro f u hg
      obtain ⟨he1, he2⟩ := go1_eq hg
      have hNu : TNv (nv m D) us n u := by
        rw [he1] at hN
        exact hN.hole.1
      have := ih (j + 1) (f :: k) u (by omega) (fun i h1 h2 => by
        have := hr (i + 1) (by simp; omega) (by omega)
        simp only [List.getElem_cons_succ] at this
        rw [this]
        congr 1
        omega) hNu (by
          have e : szF w.2.2 = szF (amg f.2.2.1 u f.2.2.2.1 f.2.2.2.2) := by rw [he1]
          rw [e, sz_amg] at hsz; omega)
      rw [show goZ (tk :: rest) k w = goZ rest (f :: k) u by rw [goZ, hg], show (j : Int) + 1 = ((j + 1 : Nat) : Int) by omega]
      exact this
    have non : go1 tk w = none → goI (goZ (tk :: rest) k w) = -1 := by
      intro hg
      rw [show goZ (tk :: rest) k w = none by rw [goZ, hg]]; rfl
    refine q232_5 (by omega) ok.1 _ ?_
    rw [if_pos (by omega), if_neg (by omega), gd_of hM, nm_eq, hD, gd_of hw.1, nm_eq, gd_of l0.1, gd_of ⟨by omega, by omega⟩, nm_eq, e0, w32_of (by omega) (by omega)]
    by_cases h6 : w.2.1.1 = 6
    · have h288 := c288 (d := d - 1) (by omega) hw hw1 ok t2 hN h6
      rw [if_pos (by rw [h6]; rfl), nm_eq, gd_of h22, gd_of ⟨by omega, by omega⟩, nm_eq, gd_of h23, gd_of ⟨by omega, by omega⟩, hNT, t1, bI_eq h288]
      have hs := fnI_sp (k := tk) w.2.2
      cases hsp : spN tk w.2.2 with
      | none =>
        have hg : go1 tk w = none := by unfold go1; rw [if_pos h6, hsp]; rfl
        rw [hs.2 hsp, non hg]
        exact c232_neg (by omega) ok
      | some x =>
        have hg : go1 tk w = some (fr1 w x) := by unfold go1; rw [if_pos h6, hsp]; rfl
        rw [hs.1 x hsp]
        exact nxt _ _ hg
    · have hk6 : kT w.2.1.1 ≠ 6 := by unfold kT; split <;> (try split) <;> omega
      rw [if_neg hk6]
      by_cases h5 : w.2.1.1 = 5
      · rw [if_pos (by rw [h5]; rfl), bL_eq h233]
        have hs := kdI_sp w.2.2
        unfold ix9 at h233 ⊢
        by_cases h9 : 9 < tk.length
        · rw [if_pos h9, if_pos (by decide)]
          have hg : go1 tk w = none := by
            unfold go1
            rw [if_neg h6, if_pos h5]
            cases hi : ixT tk with
            | none => rfl
            | some i =>
              dsimp only
              have hbig := ixT_big hi h9
              have hcnt : cntF w.2.2 ≤ i := by have := cnt_sz w.2.2; omega
              rw [spI_none.mpr hcnt]; rfl
          rw [non hg]
          exact c232_neg (by omega) ok
        · rw [if_neg h9] at h233 ⊢
          cases hi : ixT tk with
          | none =>
            dsimp only
            rw [if_pos (by decide)]
            have hg : go1 tk w = none := by unfold go1; rw [if_neg h6, if_pos h5, hi]
            rw [non hg]
            exact c232_neg (by omega) ok
          | some i =>
            rw [hi] at h233
            dsimp only at h233 ⊢
            have hi9 : i < 4611686018427387904 := by
              unfold ixT at hi
              split at hi
              · cases hi
              · have := digs_lt tk 0 i hi
                have h2 : 10 ^ tk.length ≤ 10 ^ 9 := Nat.pow_le_pow_right (by decide) (by omega)
                omega
            have h234 := c234 (d := d - 1) (i := (i : Int)) hM hD ok hw hN (by omega) (by omega)
            rw [if_neg (by omega), bL_eq h233, bI_eq h234]
            cases hsp : spI i w.2.2 with
            | none =>
              have hg : go1 tk w = none := by unfold go1; rw [if_neg h6, if_pos h5, hi]; dsimp only; rw [hsp]; rfl
              rw [(hs i).2 hsp, non hg]
              exact c232_neg (by omega) ok
            | some x =>
              have hg : go1 tk w = some (fr1 w x) := by unfold go1; rw [if_neg h6, if_pos h5, hi]; dsimp only; rw [hsp]; rfl
              rw [(hs i).1 x hsp]
              exact nxt _ _ hg
      · have hk5 : kT w.2.1.1 ≠ 5 := by unfold kT; split <;> (try split) <;> omega
        rw [if_neg hk5]
        have hg : go1 tk w = none := by unfold go1; rw [if_neg h6, if_neg h5]
        rw [non hg]
        exact c232_neg (by omega) ok
/-- where the first tokens lead -/
theorem c232 {nn : Nat} {v : Vl} (hd : 3 ≤ d) (ok : OK m) (hT : TKS m M NT tks) (hD : vl m M 18 = D) (hw : TW m D n us C) (hcb : n ≤ 20000) (hnn : nn ≤ tks.length) (hN : TNv (nv m D) us n v) (hsz : szF v.2.2 ≤ 100000) : cl d 232 [pR M, pI v.1, pI nn] m = some (.inl (some (pI (goI (goZ (tks.take nn) [] v)))), m) := by
  have := c232_5 (d := d) (a1 := v.1) hd ok hT hD hw hcb hnn (tks.take nn) 0 [] v (by rw [List.length_take]; omega) (fun i h1 h2 => by rw [List.getElem_take]; congr 1; omega) hN hsz
  exact q232 ok.1 _ this
end
