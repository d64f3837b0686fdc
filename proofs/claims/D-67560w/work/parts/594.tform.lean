/-! the twin's trees: values in them (each node bears its index) -/
set_option maxRecDepth 100000
set_option maxHeartbeats 4000000
/-- the twin's numbers of the kinds: true and false change places -/
def kT (k : Nat) : Int := if k = 1 then 2 else if k = 2 then 1 else k
theorem kT_5 (k : Nat) : kT k < 5 ↔ k < 5 := by unfold kT; split <;> (try split) <;> omega
theorem kT_6 {k : Nat} (h : 3 ≤ k) : kT k = k := by unfold kT; rw [if_neg (by omega), if_neg (by omega)]
def hdI : Fo → Int
  | .leaf => -1
  | .inner i _ _ _ _ => (i : Int)
/-- nodes side by side below p; ob: they have names -/
def TF (g : Int → Int → Int) (us : List Int) (n : Int) : Int → Bool → Fo → Prop
  | _, _, .leaf => True
  | p, ob, .inner i d _ l r => (i : Int) < n ∧ g 0 i = kT d.1 ∧ (d.1 = 3 → g 1 i = d.2.1) ∧ (g 3 i = d.2.2.1.length ∧ At us (g 2 i) d.2.2.1) ∧ (ob = true → g 7 i = d.2.2.2.length ∧ At us (g 6 i) d.2.2.2) ∧ g 8 i = p ∧ g 4 i = hdI l ∧ g 5 i = hdI r ∧ TF g us n i (d.1 == 6) l ∧ TF g us n p ob r
/-- a node by itself -/
def TN (g : Int → Int → Int) (us : List Int) (n : Int) (i : Nat) (d : ND) (l : Fo) : Prop := (i : Int) < n ∧ g 0 i = kT d.1 ∧ (d.1 = 3 → g 1 i = d.2.1) ∧ (g 3 i = d.2.2.1.length ∧ At us (g 2 i) d.2.2.1) ∧ g 4 i = hdI l ∧ TF g us n i (d.1 == 6) l
/-- the indices -/
def idF : Fo → List Nat
  | .leaf => []
  | .inner i _ _ l r => i :: (idF l ++ idF r)
/-- without indices -/
def erF : Fo → Fo
  | .leaf => .leaf
  | .inner _ d u l r => .inner 0 d u (erF l) (erF r)
def fnI (k : List Int) : Fo → Int
  | .leaf => -1
  | .inner i d _ _ r => if d.2.2.2 = k then (i : Int) else fnI k r
def ctI : Fo → Int
  | .leaf => 0
  | .inner _ _ _ _ r => ctI r + 1
def lsI : Int → Fo → Int
  | x, .leaf => x
  | _, .inner i _ _ _ r => lsI i r
theorem hdI_ge (F : Fo) : -1 ≤ hdI F := by
  cases F with
  | leaf => exact Int.le_refl _
  | inner i d u l r => show -1 ≤ (i : Int); omega
theorem ctI_ge (F : Fo) : 0 ≤ ctI F := by
  induction F with
  | leaf => exact Int.le_refl _
  | inner i d u l r _ ih => show 0 ≤ ctI r + 1; omega
theorem gi_eq_iff {xs ys : List Int} (hl : xs.length = ys.length) : xs = ys ↔ ∀ i : Int, 0 ≤ i → i < xs.length → gi xs i = gi ys i := ⟨fun h _ _ _ => by rw [h], gi_ext hl⟩
section
variable {d : Nat} {m : Mem} {t n C : Int} {us : List Int}
theorem TW.uni {a : Int} {xs : List Int} (h : TW m t n us C) (hA : At us a xs) : 0 ≤ a ∧ a + xs.length ≤ us.length ∧ (us.length : Int) ≤ ln m (vl m t 11) ∧ (us.length : Int) ≤ 100000 ∧ ∀ j : Int, 0 ≤ j → j < xs.length → vl m (vl m t 11) (a + j) = gi xs j := by
  have h8 := h.2.2.2.2.2.2.2.1
  obtain ⟨h0, h1, h2⟩ := hA
  refine ⟨h0, h1, h8.1, by omega, fun j j0 j1 => ?_⟩
  rw [h.2.2.2.2.2.2.2.2 _ (by omega) (by omega)]; exact h2 j j0 j1
theorem c289 {t' n' C' k s : Int} {us' nm ks : List Int} (h : TW m t n us C) (h' : TW m t' n' us' C') (ok : OK m) (hk : 0 ≤ k ∧ k < n) (h7 : nv m t 7 k = nm.length) (h6 : At us (nv m t 6 k) nm) (hs : At us' s ks) : cl d 289 [pR t, pI k, pR t', pI s, pI ks.length] m = some (.inl (some (pI (if nm = ks then 1 else 0))), m) := by
  have hc := h.2.2.2.2.2.2.1
  have l7 := h.ld (f := 7) ⟨by decide, by decide⟩ (by decide)
  have l6 := h.ld (f := 6) ⟨by decide, by decide⟩ (by decide)
  obtain ⟨u0, u1, u2, u3, u4⟩ := h.uni h6
  obtain ⟨v0, v1, v2, v3, v4⟩ := h'.uni hs
  refine q289 ok.1 _ ?_
  rw [gd_of h.1, nm_eq, gd_of l7.1, gd_of ⟨by omega, by omega⟩]
  unfold nv at h7
  rw [h7]
  by_cases hl : nm.length = ks.length
  · rw [if_pos (by omega)]
    have loop : ∀ (N : Nat) (j : Int), 0 ≤ j → j ≤ ks.length → ((ks.length : Int) - j).toNat = N → (∀ i : Int, 0 ≤ i → i < j → gi nm i = gi ks i) → rn d 289 16 [pR t, pI k, pR t', pI s, pI ks.length, pI j] [] m = some (.inl (some (pI (if nm = ks then 1 else 0))), m) := by
      intro N
      induction N with
      | zero =>
        intro j j0 j1 hj he
        refine q289_16 ok.1 _ ?_
        rw [if_neg (by omega), if_pos (gi_ext hl (fun i i0 i1 => he i i0 (by omega)))]
      | succ N ih =>
        intro j j0 j1 hj he
        refine q289_16 ok.1 _ ?_
        have e1 := u4 j j0 (by omega)
        unfold nv at e1 u0 u1
        rw [if_pos (by omega), gd_of h.1, nm_eq, nm_eq, gd_of l6.1, gd_of ⟨by omega, by omega⟩, nm_eq, (w32_of (by omega) (by omega) : w32 (vl m (vl m t 6) k + j) = vl m (vl m t 6) k + j), gd_of h.2.2.2.1, gd_of ⟨by omega, by omega⟩, gd_of h'.1, nm_eq, nm_eq, (w32_of (by omega) (by omega) : w32 (s + j) = s + j), gd_of h'.2.2.2.1, gd_of ⟨by omega, by omega⟩, e1, v4 j j0 (by omega)]
        by_cases hg : gi nm j = gi ks j
        · rw [if_pos hg, w32_of (by omega) (by omega)]
          exact ih (j + 1) (by omega) (by omega) (by omega) (fun i i0 i1 => by
            by_cases e : i = j
            · rw [e]; exact hg
            · exact he i i0 (by omega))
        · rw [if_neg hg, if_neg (fun e => hg (by rw [e]))]
    exact loop _ 0 (by omega) (by omega) rfl (fun i i0 i1 => by omega)
  · rw [if_neg (by omega), if_neg (fun e => hl (by rw [e]))]
theorem c288_8 {t' n' C' x s p : Int} {us' ks : List Int} (hd : 0 < d) (h : TW m t n us C) (h' : TW m t' n' us' C') (ok : OK m) (hs : At us' s ks) : ∀ F : Fo, TF (nv m t) us n p true F → rn d 288 8 [pR t, pI x, pR t', pI s, pI ks.length, pI (hdI F)] [] m = some (.inl (some (pI (fnI ks F))), m) := by
  have hc := h.2.2.2.2.2.2.1
  have l5 := h.ld (f := 5) ⟨by decide, by decide⟩ (by decide)
  intro F
  induction F with
  | leaf =>
    intro _
    refine q288_8 hd ok.1 _ ?_
    rw [if_pos (by show (-1 : Int) < 0; decide)]; rfl
  | inner i dd u l r _ ih =>
    intro hF
    obtain ⟨f1, f2, f3, f4, f5, f6, f7, f8, f9, f10⟩ := hF
    obtain ⟨f5a, f5b⟩ := f5 rfl
    have e := c289 (d := d - 1) h h' ok (k := (i : Int)) ⟨by omega, f1⟩ f5a f5b hs
    refine q288_8 hd ok.1 _ ?_
    have hi : hdI (.inner i dd u l r) = (i : Int) := rfl
    rw [hi, if_neg (by omega), gd_of h.1, bI_eq e]
    unfold fnI
    by_cases hn : dd.2.2.2 = ks
    · rw [if_pos hn, if_pos hn, if_neg (by decide)]
    · rw [if_neg hn, if_neg hn, if_pos rfl, nm_eq, gd_of l5.1, gd_of ⟨by omega, by omega⟩]
      unfold nv at f8
      rw [f8]; exact ih f10
end
