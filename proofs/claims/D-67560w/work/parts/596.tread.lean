/-! the twin's trees: find, size, last, depth -/
set_option maxRecDepth 100000
set_option maxHeartbeats 4000000
section
variable {d : Nat} {m : Mem} {t n C : Int} {us : List Int}
theorem c288 {t' n' C' s : Int} {x : Nat} {dd : ND} {l : Fo} {us' ks : List Int} (hd : 0 < d) (h : TW m t n us C) (h' : TW m t' n' us' C') (ok : OK m) (hs : At us' s ks) (hN : TN (nv m t) us n x dd l) (h6 : dd.1 = 6) : cl d 288 [pR t, pI x, pR t', pI s, pI ks.length] m = some (.inl (some (pI (fnI ks l))), m) := by
  have hc := h.2.2.2.2.2.2.1
  have l4 := h.ld (f := 4) ⟨by decide, by decide⟩ (by decide)
  obtain ⟨f1, f2, f3, f4, f5, f6⟩ := hN
  refine q288 ok.1 _ ?_
  unfold nv at f5
  rw [gd_of h.1, nm_eq, gd_of l4.1, gd_of ⟨by omega, by omega⟩, f5]
  rw [show (dd.1 == 6) = true by rw [h6]; rfl] at f6
  exact c288_8 hd h h' ok hs l f6
theorem c291_9 {x p : Int} {ob : Bool} (h : TW m t n us C) (ok : OK m) : ∀ (F : Fo) (k : Int), 0 ≤ k → k + ctI F ≤ 100000 → TF (nv m t) us n p ob F → rn d 291 9 [pR t, pI x, pI k, pI (hdI F)] [] m = some (.inl (some (pI (k + ctI F))), m) := by
  have hc := h.2.2.2.2.2.2.1
  have l5 := h.ld (f := 5) ⟨by decide, by decide⟩ (by decide)
  intro F
  induction F with
  | leaf =>
    intro k k0 k1 _
    refine q291_9 ok.1 _ ?_
    rw [if_pos (by show (-1 : Int) < 0; decide)]
    show some (Sum.inl (some (pI k)), m) = some (Sum.inl (some (pI (k + 0))), m)
    rw [Int.add_zero]
  | inner i dd u l r _ ih =>
    intro k k0 k1 hF
    obtain ⟨f1, f2, f3, f4, f5, f6, f7, f8, f9, f10⟩ := hF
    have hi : hdI (.inner i dd u l r) = (i : Int) := rfl
    have hr := ctI_ge r
    have hcc : ctI (.inner i dd u l r) = ctI r + 1 := rfl
    refine q291_9 ok.1 _ ?_
    unfold nv at f8
    rw [hcc] at k1
    rw [hi, if_neg (by omega), gd_of h.1, nm_eq, gd_of l5.1, gd_of ⟨by omega, by omega⟩, f8, w32_of (by omega) (by omega), hcc, show k + (ctI r + 1) = k + 1 + ctI r by omega]
    exact ih (k + 1) (by omega) (by omega) f10
theorem c291 {x : Nat} {dd : ND} {l : Fo} (h : TW m t n us C) (ok : OK m) (hN : TN (nv m t) us n x dd l) (hl : ctI l ≤ 100000) : cl d 291 [pR t, pI x] m = some (.inl (some (pI (ctI l))), m) := by
  have hc := h.2.2.2.2.2.2.1
  have l4 := h.ld (f := 4) ⟨by decide, by decide⟩ (by decide)
  obtain ⟨f1, f2, f3, f4, f5, f6⟩ := hN
  refine q291 ok.1 _ ?_
  unfold nv at f5
  rw [gd_of h.1, nm_eq, gd_of l4.1, gd_of ⟨by omega, by omega⟩, f5]
  have := c291_9 (d := d) (x := x) h ok l 0 (by omega) (by omega) f6
  rw [Int.zero_add] at this; exact this
theorem c295_9 {x p : Int} {ob : Bool} (h : TW m t n us C) (ok : OK m) : ∀ (F : Fo) (k : Int), TF (nv m t) us n p ob F → rn d 295 9 [pR t, pI x, pI k, pI (hdI F)] [] m = some (.inl (some (pI (lsI k F))), m) := by
  have hc := h.2.2.2.2.2.2.1
  have l5 := h.ld (f := 5) ⟨by decide, by decide⟩ (by decide)
  intro F
  induction F with
  | leaf =>
    intro k _
    refine q295_9 ok.1 _ ?_
    rw [if_pos (by show (-1 : Int) < 0; decide)]; rfl
  | inner i dd u l r _ ih =>
    intro k hF
    obtain ⟨f1, f2, f3, f4, f5, f6, f7, f8, f9, f10⟩ := hF
    have hi : hdI (.inner i dd u l r) = (i : Int) := rfl
    refine q295_9 ok.1 _ ?_
    unfold nv at f8
    rw [hi, if_neg (by omega), gd_of h.1, nm_eq, gd_of l5.1, gd_of ⟨by omega, by omega⟩, f8]
    exact ih i f10
theorem c295 {x : Nat} {dd : ND} {l : Fo} (h : TW m t n us C) (ok : OK m) (hN : TN (nv m t) us n x dd l) : cl d 295 [pR t, pI x] m = some (.inl (some (pI (lsI (-1) l))), m) := by
  have hc := h.2.2.2.2.2.2.1
  have l4 := h.ld (f := 4) ⟨by decide, by decide⟩ (by decide)
  obtain ⟨f1, f2, f3, f4, f5, f6⟩ := hN
  refine q295 ok.1 _ ?_
  unfold nv at f5
  rw [gd_of h.1, nm_eq, gd_of l4.1, gd_of ⟨by omega, by omega⟩, f5]
  exact c295_9 (d := d) (x := x) h ok l (-1) f6
end
