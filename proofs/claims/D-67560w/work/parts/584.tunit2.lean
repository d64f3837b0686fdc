/-! the twin's trees: a unit more -/
set_option maxRecDepth 100000
set_option maxHeartbeats 4000000
theorem TU.refl {t : Int} {m : Mem} (h : TI m) : TU t m m := ⟨h, fun _ _ _ _ _ h => ⟨h, rfl⟩, fun _ _ _ _ _ _ _ _ _ => rfl⟩
section
variable {d : Nat} {m : Mem} {t n C : Int} {us : List Int}
theorem TW.ust {i v : Int} (h : TW m t n us C) (hT : TI m) (ok : OK m) (hi : (us.length : Int) ≤ i) : TW (mst m (vl m t 11) i v) t n us C ∧ TU t m (mst m (vl m t 11) i v) ∧ uC (mst m (vl m t 11) i v) t = uC m t := by
  have ha := h.arr (f := 11) (Or.inr rfl)
  have hz := h.nz ok (f := 11) (Or.inr rfl)
  have h1 := h.1
  have hv : ∀ a, tg m a = 13 → ∀ g, vl (mst m (vl m t 11) i v) a g = vl m a g := by
    intro a ha' g
    have : a ≠ vl m t 11 := by intro e; rw [e] at ha'; omega
    rw [vl_mst, if_neg (by omega)]
  have hel : ∀ a g, tg m a = 13 → aF g → (a ≠ t ∨ g ≠ 11) → ∀ j, vl (mst m (vl m t 11) i v) (vl m a g) j = vl m (vl m a g) j := by
    intro a g ha' hg hne j
    have : vl m a g ≠ vl m t 11 := (hT.2 t a 11 g h1 ha' (Or.inr rfl) hg (by omega) hz).symm
    rw [vl_mst, if_neg (by omega)]
  refine ⟨h.keep (fun _ => rfl) (fun _ => rfl) (hv t h1) (fun j j0 j1 => by rw [vl_mst, if_neg (by omega)]), ⟨⟨fun a g ha' hg => ?_, fun a a' g g' ha' ha'' hg hg' hne h0 => ?_⟩, ?_, ?_⟩, ?_⟩
  · rw [hv a ha' g]; exact hT.1 a g ha' hg
  · rw [hv a ha' g] at h0 ⊢
    rw [hv a' ha'' g']; exact hT.2 a a' g g' ha' ha'' hg hg' hne h0
  · intro a ha' n0 us0 C0 hw
    exact ⟨hw.keep (fun _ => rfl) (fun _ => rfl) (hv a hw.1) (fun j _ _ => hel a 11 hw.1 (Or.inr rfl) (Or.inl ha') j), by unfold uC; rw [hv a hw.1]; rfl⟩
  · intro a g j n0 us0 C0 hw g0 g1
    unfold nv
    rw [hv a hw.1 g, hel a g hw.1 (Or.inl ⟨g0, g1⟩) (Or.inr (by omega)) j]
  · unfold uC; rw [hv t h1]; rfl
theorem TW.ugrow {V : Int} (h : TW m t n us C) (hT : TI m) (ok : OK m) (hV : (us.length : Int) ≤ V ∧ 16 ≤ V ∧ V ≤ 100000) : TW (mst (mcp (mal m 288104 V) (vl m t 11) 0 (nx m) 0 us.length) t 11 (nx m)) t n us C ∧ TU t m (mst (mcp (mal m 288104 V) (vl m t 11) 0 (nx m) 0 us.length) t 11 (nx m)) ∧ uC (mst (mcp (mal m 288104 V) (vl m t 11) 0 (nx m) 0 us.length) t 11 (nx m)) t = V := by
  have ha := h.arr (f := 11) (Or.inr rfl)
  have h' := h
  obtain ⟨h1, h2, h3, h4, h5, h6, h7, h8, h9⟩ := h
  have ht : t < nx m := tz_lt ok.1 (by omega)
  have hlt : ∀ a n0 us0 C0 g, TW m a n0 us0 C0 → aF g → a < nx m ∧ vl m a g < nx m := by
    intro a n0 us0 C0 g hw hg
    have := hw.arr hg
    have := hw.1
    exact ⟨tz_lt ok.1 (by omega), tz_lt ok.1 (by omega)⟩
  have hU := (hlt t n us C 11 h' (Or.inr rfl)).2
  -- tags, lengths, fields of what is old
  have et : ∀ a, a < nx m → tg (mst (mcp (mal m 288104 V) (vl m t 11) 0 (nx m) 0 us.length) t 11 (nx m)) a = tg m a := by
    intro a hla
    show (if a = nx m then 288104 else tg m a) = tg m a
    rw [if_neg (by omega)]
  have el : ∀ a, a < nx m → ln (mst (mcp (mal m 288104 V) (vl m t 11) 0 (nx m) 0 us.length) t 11 (nx m)) a = ln m a := by
    intro a hla
    show (if a = nx m then V else ln m a) = ln m a
    rw [if_neg (by omega)]
  have ev : ∀ a g, a < nx m → ¬ (a = t ∧ g = 11) → vl (mst (mcp (mal m 288104 V) (vl m t 11) 0 (nx m) 0 us.length) t 11 (nx m)) a g = vl m a g := by
    intro a g hla hne
    rw [vl_mst, if_neg hne, vl_mcp, if_neg (by omega), vl_mal, if_neg (by omega)]
  have e11 : vl (mst (mcp (mal m 288104 V) (vl m t 11) 0 (nx m) 0 us.length) t 11 (nx m)) t 11 = nx m := by rw [vl_mst, if_pos ⟨rfl, rfl⟩]
  have eo : tg (mst (mcp (mal m 288104 V) (vl m t 11) 0 (nx m) 0 us.length) t 11 (nx m)) (nx m) = 288104 := by
    show (if nx m = nx m then 288104 else tg m (nx m)) = 288104
    rw [if_pos rfl]
  have eol : ln (mst (mcp (mal m 288104 V) (vl m t 11) 0 (nx m) 0 us.length) t 11 (nx m)) (nx m) = V := by
    show (if nx m = nx m then V else ln m (nx m)) = V
    rw [if_pos rfl]
  have t13 : ∀ a, tg (mst (mcp (mal m 288104 V) (vl m t 11) 0 (nx m) 0 us.length) t 11 (nx m)) a = 13 → a ≠ nx m ∧ tg m a = 13 := by
    intro a ha'
    have ha2 : (if a = nx m then 288104 else tg m a) = 13 := ha'
    by_cases e : a = nx m
    · rw [if_pos e] at ha2; omega
    · rw [if_neg e] at ha2; exact ⟨e, ha2⟩
  refine ⟨⟨by rw [et t ht]; exact h1, fun g a b c => ?_, ?_, by rw [e11, eo]; exact Or.inr rfl, by rw [ev t 10 ht (by omega)]; exact h5, by rw [ev t 12 ht (by omega)]; exact h6, h7, by rw [e11, eol]; exact hV, fun i i0 i1 => ?_⟩, ⟨⟨fun a g ha' hg => ?_, fun a a' g g' ha' ha'' hg hg' hne h0 => ?_⟩, ?_, ?_⟩, by unfold uC; rw [e11, eol]⟩
  · have hgl := (hlt t n us C g h' (Or.inl ⟨a, b⟩)).2
    rw [ev t g ht (by omega), et _ hgl, el _ hgl]; exact h2 g a b c
  · have hgl := (hlt t n us C 1 h' (Or.inl ⟨by decide, by decide⟩)).2
    rw [ev t 1 ht (by omega), et _ hgl, el _ hgl]; exact h3
  · rw [e11, vl_mst, if_neg (by omega), vl_mcp, if_pos (by omega), vl_mal, if_neg (by omega), show (0 : Int) + (i - 0) = i by omega]; exact h9 i i0 i1
  · obtain ⟨q1, q2⟩ := t13 a ha'
    have := hT.1 a g q2 hg
    have hal : a < nx m := tz_lt ok.1 (by omega)
    show vl _ a g < nx m + 1
    by_cases e : a = t ∧ g = 11
    · rw [e.1, e.2, e11]; omega
    · rw [ev a g hal e]; omega
  · obtain ⟨q1, q2⟩ := t13 a ha'
    obtain ⟨q3, q4⟩ := t13 a' ha''
    have hal : a < nx m := tz_lt ok.1 (by omega)
    have hal' : a' < nx m := tz_lt ok.1 (by omega)
    have b1 := hT.1 a g q2 hg
    have b2 := hT.1 a' g' q4 hg'
    by_cases e : a = t ∧ g = 11
    · rw [e.1, e.2, e11, ev a' g' hal' (by omega)]; omega
    · rw [ev a g hal e] at h0 ⊢
      by_cases e' : a' = t ∧ g' = 11
      · rw [e'.1, e'.2, e11]; omega
      · rw [ev a' g' hal' e']; exact hT.2 a a' g g' q2 q4 hg hg' hne h0
  · intro a ha' n0 us0 C0 hw
    obtain ⟨b1, b2, b3, b4, b5, b6, b7, b8, b9⟩ := hw
    have hw : TW m a n0 us0 C0 := ⟨b1, b2, b3, b4, b5, b6, b7, b8, b9⟩
    have hal := (hlt a n0 us0 C0 11 hw (Or.inr rfl)).1
    have hL := fun g hg => (hlt a n0 us0 C0 g hw hg).2
    refine ⟨⟨by rw [et a hal]; exact b1, fun g x y z => ?_, ?_, ?_, by rw [ev a 10 hal (by omega)]; exact b5, by rw [ev a 12 hal (by omega)]; exact b6, b7, ?_, fun i i0 i1 => ?_⟩, by unfold uC; rw [ev a 11 hal (by omega), el _ (hL 11 (Or.inr rfl))]⟩
    · rw [ev a g hal (by omega), et _ (hL g (Or.inl ⟨x, y⟩)), el _ (hL g (Or.inl ⟨x, y⟩))]; exact b2 g x y z
    · rw [ev a 1 hal (by omega), et _ (hL 1 (Or.inl ⟨by decide, by decide⟩)), el _ (hL 1 (Or.inl ⟨by decide, by decide⟩))]; exact b3
    · rw [ev a 11 hal (by omega), et _ (hL 11 (Or.inr rfl))]; exact b4
    · rw [ev a 11 hal (by omega), el _ (hL 11 (Or.inr rfl))]; exact b8
    · have harr := hw.arr (f := 11) (Or.inr rfl)
      have hne : vl m a 11 ≠ t := by intro e; rw [e] at harr; omega
      rw [ev a 11 hal (by omega), ev _ i (hL 11 (Or.inr rfl)) (by omega)]; exact b9 i i0 i1
  · intro a g j n0 us0 C0 hw g0 g1
    have hal := (hlt a n0 us0 C0 g hw (Or.inl ⟨g0, g1⟩))
    have harr := hw.arr (f := g) (Or.inl ⟨g0, g1⟩)
    have hne : vl m a g ≠ t := by intro e; rw [e] at harr; omega
    unfold nv
    rw [ev a g hal.1 (by omega), ev _ j hal.2 (by omega)]
theorem TU.trans {m1 m2 : Mem} (h : TU t m m1) (h' : TU t m1 m2) (hw : TW m t n us C) {us1 : List Int} (hw1 : TW m1 t n us1 C) : TU t m m2 := by
  refine ⟨h'.1, fun t' ht n' us' C' hq => ⟨(h'.2.1 t' ht n' us' C' (h.2.1 t' ht n' us' C' hq).1).1, by rw [(h'.2.1 t' ht n' us' C' (h.2.1 t' ht n' us' C' hq).1).2, (h.2.1 t' ht n' us' C' hq).2]⟩, fun t' f j n' us' C' hq f0 f1 => ?_⟩
  by_cases e : t' = t
  · subst e
    rw [h'.2.2 t' f j n us1 C hw1 f0 f1, h.2.2 t' f j n us C hw f0 f1]
  · rw [h'.2.2 t' f j n' us' C' (h.2.1 t' e n' us' C' hq).1 f0 f1, h.2.2 t' f j n' us' C' hq f0 f1]
/-- the last steps of unit -/
theorem c287_51 {u : Int} {z2 z3 : PV} (h2 : cat z2 = 1) (h3 : cat z3 = 1) (h : TW m t n us C) (hT : TI m) (ok : OK m) (hu : (us.length : Int) < uC m t) : ∃ m', rn d 287 51 [pR t, pI u, z2, z3] [] m = some (.inl none, m') ∧ TW m' t n (us ++ [u % 65536]) C ∧ TU t m m' ∧ uC m' t = uC m t ∧ nx m' = nx m ∧ sl m' = sl m := by
  obtain ⟨a1, a2, a3⟩ := h.ust (i := us.length) (v := u % 65536) hT ok (by omega)
  have ok1 : OK (mst m (vl m t 11) us.length (u % 65536)) := ok
  have ha := h.arr (f := 11) (Or.inr rfl)
  have hne : t ≠ vl m t 11 := by intro e; have := h.1; rw [← e] at ha; omega
  have ev11 : vl (mst m (vl m t 11) us.length (u % 65536)) t 11 = vl m t 11 := by rw [vl_mst, if_neg (by omega)]
  obtain ⟨b1, b2, b3⟩ := a1.fld (f := 12) (v := (us.length : Int) + 1) (n' := n) (us' := us ++ [u % 65536]) a2.1 ok1 (Or.inr rfl) (by rw [if_neg (by decide)]) (Or.inr ⟨rfl, by simp, fun i i0 i1 => by
    simp at i1
    rw [ev11, vl_mst]
    by_cases hi : i = us.length
    · rw [if_pos ⟨rfl, hi⟩, gi_app_r (by omega), hi, Int.sub_self]; rfl
    · rw [if_neg (by omega), gi_app_l i0 (by omega)]; exact h.2.2.2.2.2.2.2.2 i i0 (by omega), by rw [a3]; simp; omega⟩) ⟨h.2.2.2.2.2.2.1.1, h.2.2.2.2.2.2.1.2.1⟩
  have hb8 := h.2.2.2.2.2.2.2.1
  refine ⟨_, ?_, b1, a2.trans b2 h a1, by rw [b3, a3], rfl, rfl⟩
  refine q287_51 ok.1 h2 h3 _ ?_
  unfold uC at hu
  rw [gd_of h.1, nm_eq, nm_eq, h.2.2.2.2.2.1, gd_of h.2.2.2.1, gd_of ⟨by omega, by omega⟩, w32_of (by omega) (by omega), show u % 65536 % 65536 = u % 65536 by omega]
theorem c287 {u : Int} (h : TW m t n us C) (hT : TI m) (ok : OK m) (hw : wfU us) (hl : (us.length : Int) ≤ 40000) : ∃ m', cl d 287 [pR t, pI u] m = some (.inl none, m') ∧ TW m' t n (us ++ [u % 65536]) C ∧ TU t m m' ∧ GR m m' (uC m t) (uC m' t) ∧ uC m' t ≤ max (uC m t) (2 * us.length) := by
  have h1 := h.1
  have h6 := h.2.2.2.2.2.1
  have h8 := h.2.2.2.2.2.2.2.1
  have h9 := h.2.2.2.2.2.2.2.2
  have ha := h.arr (f := 11) (Or.inr rfl)
  have h4 := h.2.2.2.1
  have htn : t < nx m := tz_lt ok.1 (by omega)
  have hun : vl m t 11 < nx m := tz_lt ok.1 (by omega)
  have hne : t ≠ vl m t 11 := by intro e; rw [← e] at ha; omega
  by_cases hg : (us.length : Int) = ln m (vl m t 11)
  · -- it grows
    obtain ⟨g1, g2, g3⟩ := h.ugrow (V := 2 * us.length) hT ok ⟨by omega, by omega, by omega⟩
    generalize hm2 : mst (mcp (mal m 288104 (2 * us.length)) (vl m t 11) 0 (nx m) 0 us.length) t 11 (nx m) = m2 at g1 g2 g3
    have ok2 : OK m2 := by
      rw [← hm2]
      refine ⟨?_, ?_, ?_⟩
      · intro a ha'
        have ha2 : nx m + 1 ≤ a := ha'
        show (if a = nx m then 288104 else tg m a) = 0
        rw [if_neg (by omega)]; exact ok.1 a (by omega)
      · show (if (0 : Int) = nx m then 288104 else tg m 0) = 0
        have := ok.2.2
        rw [if_neg (by omega)]; exact ok.2.1
      · show 92 ≤ nx m + 1
        have := ok.2.2
        omega
    obtain ⟨m3, e3, k1, k2, k3, k4, k5⟩ := c287_51 (d := d) (u := u) (z2 := pR (nx m)) (z3 := pI us.length) rfl rfl g1 g2.1 ok2 (by rw [g3]; omega)
    refine ⟨m3, ?_, k1, g2.trans k2 h g1, ?_, by omega⟩
    · refine q287 ok.1 _ ?_
      rw [gd_of h1, nm_eq, nm_eq, h6, gd_of h4, if_pos hg, nm_eq, w32_of (by omega) (by omega), gd_of ⟨by omega, by omega⟩, nw_eq]
      have loop : ∀ (N : Nat) (k : Int), 0 ≤ k → k ≤ us.length → ((us.length : Int) - k).toNat = N → rn d 287 23 [pR t, pI u, pR (nx m), pI k] [] (mcp (mal m 288104 (2 * us.length)) (vl m t 11) 0 (nx m) 0 k) = some (.inl none, m3) := by
        intro N
        induction N with
        | zero =>
          intro k k0 k1 hk
          have hkl : k = us.length := by omega
          have hz2 : TZ (mcp (mal m 288104 (2 * us.length)) (vl m t 11) 0 (nx m) 0 k) := by
            intro a ha'
            have ha2 : nx m + 1 ≤ a := ha'
            show (if a = nx m then 288104 else tg m a) = 0
            rw [if_neg (by omega)]; exact ok.1 a (by omega)
          refine q287_23 hz2 _ ?_
          have et : tg (mcp (mal m 288104 (2 * us.length)) (vl m t 11) 0 (nx m) 0 k) t = 13 := by
            show (if t = nx m then 288104 else tg m t) = 13
            rw [if_neg (by omega)]; exact h1
          have e12 : vl (mcp (mal m 288104 (2 * us.length)) (vl m t 11) 0 (nx m) 0 k) t 12 = us.length := by
            rw [vl_mcp, if_neg (by omega), vl_mal, if_neg (by omega)]; exact h6
          rw [gd_of et, e12, if_neg (by omega), hkl, hm2]; exact e3
        | succ N ih =>
          intro k k0 k1 hk
          have hz2 : TZ (mcp (mal m 288104 (2 * us.length)) (vl m t 11) 0 (nx m) 0 k) := by
            intro a ha'
            have ha2 : nx m + 1 ≤ a := ha'
            show (if a = nx m then 288104 else tg m a) = 0
            rw [if_neg (by omega)]; exact ok.1 a (by omega)
          refine q287_23 hz2 _ ?_
          have et : tg (mcp (mal m 288104 (2 * us.length)) (vl m t 11) 0 (nx m) 0 k) t = 13 := by
            show (if t = nx m then 288104 else tg m t) = 13
            rw [if_neg (by omega)]; exact h1
          have e12 : vl (mcp (mal m 288104 (2 * us.length)) (vl m t 11) 0 (nx m) 0 k) t 12 = us.length := by
            rw [vl_mcp, if_neg (by omega), vl_mal, if_neg (by omega)]; exact h6
          have e11 : vl (mcp (mal m 288104 (2 * us.length)) (vl m t 11) 0 (nx m) 0 k) t 11 = vl m t 11 := by
            rw [vl_mcp, if_neg (by omega), vl_mal, if_neg (by omega)]
          have etu : tg (mcp (mal m 288104 (2 * us.length)) (vl m t 11) 0 (nx m) 0 k) (vl m t 11) = 284104 ∨ tg (mcp (mal m 288104 (2 * us.length)) (vl m t 11) 0 (nx m) 0 k) (vl m t 11) = 288104 := by
            show (if vl m t 11 = nx m then 288104 else tg m (vl m t 11)) = _ ∨ (if vl m t 11 = nx m then 288104 else tg m (vl m t 11)) = _
            rw [if_neg (by omega)]; exact h4
          have elu : ln (mcp (mal m 288104 (2 * us.length)) (vl m t 11) 0 (nx m) 0 k) (vl m t 11) = us.length := by
            show (if vl m t 11 = nx m then 2 * (us.length : Int) else ln m (vl m t 11)) = _
            rw [if_neg (by omega)]; omega
          have eto : tg (mcp (mal m 288104 (2 * us.length)) (vl m t 11) 0 (nx m) 0 k) (nx m) = 288104 := by
            show (if nx m = nx m then 288104 else tg m (nx m)) = 288104
            rw [if_pos rfl]
          have elo : ln (mcp (mal m 288104 (2 * us.length)) (vl m t 11) 0 (nx m) 0 k) (nx m) = 2 * us.length := by
            show (if nx m = nx m then 2 * (us.length : Int) else ln m (nx m)) = _
            rw [if_pos rfl]
          have evk : vl (mcp (mal m 288104 (2 * us.length)) (vl m t 11) 0 (nx m) 0 k) (vl m t 11) k % 65536 = vl (mal m 288104 (2 * us.length)) (vl m t 11) k := by
            rw [vl_mcp, if_neg (by omega), vl_mal, if_neg (by omega), h9 k k0 (by omega)]
            have hmem : gi us k ∈ us := by
              unfold gi
              rw [List.getD_eq_getElem?_getD, List.getElem?_eq_getElem (by omega : k.toNat < us.length)]
              exact List.getElem_mem _
            have := hw _ hmem
            omega
          rw [gd_of et, e12, if_pos (by omega), nm_eq, e11, gd_of etu, gd_of ⟨k0, by omega⟩, gd_of eto, gd_of ⟨k0, by omega⟩, w32_of (by omega) (by omega), evk, mcp_mst k0 (by omega)]
          exact ih (k + 1) (by omega) (by omega) (by omega)
      have := loop _ 0 (by omega) (by omega) rfl
      rw [mcp_0] at this; exact this
    · unfold GR
      rw [k3, g3, k4, k5, ← hm2]
      show uC m t ≤ 2 * us.length ∧ nx m + 1 - nx m ≤ (2 * us.length - uC m t) / 16 ∧ sl m + 2 * us.length - sl m ≤ 2 * (2 * us.length - uC m t)
      unfold uC
      omega
  · obtain ⟨m3, e3, k1, k2, k3, k4, k5⟩ := c287_51 (d := d) (u := u) (z2 := pU) (z3 := pU) rfl rfl h hT ok (by unfold uC; omega)
    refine ⟨m3, ?_, k1, k2, by unfold GR; omega, by omega⟩
    refine q287 ok.1 _ ?_
    rw [gd_of h1, nm_eq, nm_eq, h6, gd_of h4, if_neg hg]; exact e3
end
