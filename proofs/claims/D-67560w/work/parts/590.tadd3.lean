/-! the twin's trees: add -/
set_option maxRecDepth 100000
set_option maxHeartbeats 4000000
/-- all that a tree costs -/
def tC (m : Mem) (t C : Int) : Int := 20 * C + uC m t
section
variable {d : Nat} {m : Mem} {t n C : Int} {us : List Int}
theorem TW.setv {f i v : Int} (h : TW m t n us C) (ok : OK m) (hf : 0 ≤ f ∧ f ≤ 9) : ∀ a, tg m a = 13 → ∀ g, vl (mst m (vl m t f) i v) a g = vl m a g := by
  intro a ha g
  have := h.arr (Or.inl hf)
  have hne : a ≠ vl m t f := by intro e; rw [← e] at this; omega
  rw [vl_mst, if_neg (by omega)]
theorem TW.set1 {f i v : Int} (h : TW m t n us C) (hT : TI m) (ok : OK m) (hf : 0 ≤ f ∧ f ≤ 9) : TW (mst m (vl m t f) i v) t n us C ∧ TI (mst m (vl m t f) i v) ∧ OK (mst m (vl m t f) i v) ∧ uC (mst m (vl m t f) i v) t = uC m t ∧ (∀ g, vl (mst m (vl m t f) i v) t g = vl m t g) ∧ (∀ t', t' ≠ t → ∀ n us C, TW m t' n us C → TW (mst m (vl m t f) i v) t' n us C ∧ (∀ f' j, 0 ≤ f' → f' ≤ 9 → nv (mst m (vl m t f) i v) t' f' j = nv m t' f' j) ∧ uC (mst m (vl m t f) i v) t' = uC m t') ∧ ∀ f' j, 0 ≤ f' → f' ≤ 9 → nv (mst m (vl m t f) i v) t f' j = if f' = f ∧ j = i then v else nv m t f' j := by
  obtain ⟨s1, s2, s3⟩ := h.set (i := i) (v := v) hT ok hf
  have s4 := h.setv (i := i) (v := v) ok hf t h.1
  refine ⟨s2 _ _ _ _ h, s1, ok, by unfold uC; rw [s4]; rfl, s4, fun t' ht n' us' C' h' => ⟨s2 _ _ _ _ h', fun f' j f0 f1 => ?_, by unfold uC; rw [h.setv ok hf t' h'.1]; rfl⟩, fun f' j f0 f1 => ?_⟩
  · rw [s3 t' f' j h'.1 (Or.inl ⟨f0, f1⟩), if_neg (by omega)]
  · rw [s3 t f' j h.1 (Or.inl ⟨f0, f1⟩)]
    by_cases e : f' = f ∧ j = i
    · rw [if_pos ⟨rfl, e⟩, if_pos e]
    · rw [if_neg (by omega), if_neg e]
theorem c285_152 {k : Int} {z2 z3 : PV} (h2 : cat z2 = 1) (h3 : cat z3 = 1) (h : TW m t n us C) (hT : TI m) (ok : OK m) (hn : n < C) : ∃ m', rn d 285 152 [pR t, pI k, z2, z3] [] m = some (.inl (some (pI n)), m') ∧ TW m' t (n + 1) us C ∧ TV t n m m' ∧ (nv m' t 0 n = k ∧ nv m' t 4 n = -1 ∧ nv m' t 5 n = -1 ∧ nv m' t 8 n = -1 ∧ nv m' t 6 n = -1 ∧ nv m' t 3 n = 0 ∧ nv m' t 2 n = us.length) ∧ uC m' t = uC m t ∧ nx m' = nx m ∧ sl m' = sl m := by
  have h7 := h.2.2.2.2.2.2.1
  have l0 := h.ld (f := 0) ⟨by decide, by decide⟩ (by decide)
  have l4 := h.ld (f := 4) ⟨by decide, by decide⟩ (by decide)
  have l5 := h.ld (f := 5) ⟨by decide, by decide⟩ (by decide)
  have l8 := h.ld (f := 8) ⟨by decide, by decide⟩ (by decide)
  have l6 := h.ld (f := 6) ⟨by decide, by decide⟩ (by decide)
  have l3 := h.ld (f := 3) ⟨by decide, by decide⟩ (by decide)
  have l2 := h.ld (f := 2) ⟨by decide, by decide⟩ (by decide)
  have run : rn d 285 152 [pR t, pI k, z2, z3] [] m = some (.inl (some (pI n)), mst (mst (mst (mst (mst (mst (mst (mst m (vl m t 0) n k) (vl m t 4) n (-1)) (vl m t 5) n (-1)) (vl m t 8) n (-1)) (vl m t 6) n (-1)) (vl m t 3) n 0) (vl m t 2) n us.length) t 10 (n + 1)) := by
    refine q285_152 ok.1 h2 h3 _ ?_
    rw [gd_of h.1, nm_eq, nm_eq, h.2.2.2.2.1, gd_of l0.1, gd_of ⟨by omega, by omega⟩, nm_eq, gd_of l4.1, gd_of ⟨by omega, by omega⟩, nm_eq, gd_of l5.1, gd_of ⟨by omega, by omega⟩, nm_eq, gd_of l8.1, gd_of ⟨by omega, by omega⟩, nm_eq, gd_of l6.1, gd_of ⟨by omega, by omega⟩, nm_eq, gd_of l3.1, gd_of ⟨by omega, by omega⟩, nm_eq, gd_of l2.1, gd_of ⟨by omega, by omega⟩, nm_eq, (w32_of (by omega) (by omega) : w32 (n + 1) = n + 1), (w32_of (by omega) (by omega) : w32 (n + 1 - 1) = n + 1 - 1), h.2.2.2.2.2.1, show n + 1 - 1 = n by omega]
  rw [run]
  obtain ⟨a1, a2, a3, a4, a5, a6, a7⟩ := h.set1 (f := 0) (i := n) (v := k) hT ok ⟨by decide, by decide⟩
  rw [← a5 4, ← a5 5, ← a5 8, ← a5 6, ← a5 3, ← a5 2]
  generalize hm1 : mst m (vl m t 0) n k = m1 at *
  obtain ⟨b1, b2, b3, b4, b5, b6, b7⟩ := a1.set1 (f := 4) (i := n) (v := -1) a2 a3 ⟨by decide, by decide⟩
  rw [← b5 5, ← b5 8, ← b5 6, ← b5 3, ← b5 2]
  generalize hm2 : mst m1 (vl m1 t 4) n (-1) = m2 at *
  obtain ⟨c1, c2, c3, c4, c5, c6, c7⟩ := b1.set1 (f := 5) (i := n) (v := -1) b2 b3 ⟨by decide, by decide⟩
  rw [← c5 8, ← c5 6, ← c5 3, ← c5 2]
  generalize hm3 : mst m2 (vl m2 t 5) n (-1) = m3 at *
  obtain ⟨d1, d2, d3, d4, d5, d6, d7⟩ := c1.set1 (f := 8) (i := n) (v := -1) c2 c3 ⟨by decide, by decide⟩
  rw [← d5 6, ← d5 3, ← d5 2]
  generalize hm4 : mst m3 (vl m3 t 8) n (-1) = m4 at *
  obtain ⟨e1, e2, e3, e4, e5, e6, e7⟩ := d1.set1 (f := 6) (i := n) (v := -1) d2 d3 ⟨by decide, by decide⟩
  rw [← e5 3, ← e5 2]
  generalize hm5 : mst m4 (vl m4 t 6) n (-1) = m5 at *
  obtain ⟨f1, f2, f3, f4, f5, f6, f7⟩ := e1.set1 (f := 3) (i := n) (v := 0) e2 e3 ⟨by decide, by decide⟩
  rw [← f5 2]
  generalize hm6 : mst m5 (vl m5 t 3) n 0 = m6 at *
  obtain ⟨g1, g2, g3, g4, g5, g6, g7⟩ := f1.set1 (f := 2) (i := n) (v := us.length) f2 f3 ⟨by decide, by decide⟩
  have hn7 : nx (mst m6 (vl m6 t 2) n us.length) = nx m ∧ sl (mst m6 (vl m6 t 2) n us.length) = sl m := by
    subst hm6; subst hm5; subst hm4; subst hm3; subst hm2; subst hm1; exact ⟨rfl, rfl⟩
  generalize hm7 : mst m6 (vl m6 t 2) n us.length = m7 at *
  obtain ⟨k1, k2, k3⟩ := g1.fld (f := 10) (v := n + 1) (n' := n + 1) (us' := us) g2 g3 (Or.inl rfl) (by rw [if_pos rfl]) (Or.inl ⟨rfl, rfl⟩) ⟨by omega, by omega⟩
  have hnv : ∀ f j, 0 ≤ f → f ≤ 9 → nv (mst m7 t 10 (n + 1)) t f j = nv m7 t f j := fun f j f0 f1 => k2.2.2 t f j n us C g1 f0 f1
  refine ⟨_, rfl, k1, ⟨k2.1, fun t' ht n' us' C' hq => ?_, fun f j f0 f1 j0 j1 => ?_⟩, ⟨?_, ?_, ?_, ?_, ?_, ?_, ?_⟩, by rw [k3, g4, f4, e4, d4, c4, b4, a4], hn7⟩
  · obtain ⟨q1, r1, x1⟩ := a6 t' ht n' us' C' hq
    obtain ⟨q2, r2, x2⟩ := b6 t' ht n' us' C' q1
    obtain ⟨q3, r3, x3⟩ := c6 t' ht n' us' C' q2
    obtain ⟨q4, r4, x4⟩ := d6 t' ht n' us' C' q3
    obtain ⟨q5, r5, x5⟩ := e6 t' ht n' us' C' q4
    obtain ⟨q6, r6, x6⟩ := f6 t' ht n' us' C' q5
    obtain ⟨q7, r7, x7⟩ := g6 t' ht n' us' C' q6
    refine ⟨(k2.2.1 t' ht n' us' C' q7).1, fun f j f0 f1 => ?_, by rw [(k2.2.1 t' ht n' us' C' q7).2, x7, x6, x5, x4, x3, x2, x1]⟩
    rw [k2.2.2 t' f j n' us' C' q7 f0 f1, r7 f j f0 f1, r6 f j f0 f1, r5 f j f0 f1, r4 f j f0 f1, r3 f j f0 f1, r2 f j f0 f1, r1 f j f0 f1]
  · rw [hnv f j f0 f1, g7 f j f0 f1, if_neg (by omega), f7 f j f0 f1, if_neg (by omega), e7 f j f0 f1, if_neg (by omega), d7 f j f0 f1, if_neg (by omega), c7 f j f0 f1, if_neg (by omega), b7 f j f0 f1, if_neg (by omega), a7 f j f0 f1, if_neg (by omega)]
  all_goals rw [hnv _ n (by decide) (by decide)]
  all_goals (try rw [g7 _ n (by decide) (by decide)])
  all_goals (first | rw [if_pos ⟨rfl, rfl⟩] | rw [if_neg (by omega), f7 _ n (by decide) (by decide)])
  all_goals (first | rw [if_pos ⟨rfl, rfl⟩] | rw [if_neg (by omega), e7 _ n (by decide) (by decide)])
  all_goals (first | rw [if_pos ⟨rfl, rfl⟩] | rw [if_neg (by omega), d7 _ n (by decide) (by decide)])
  all_goals (first | rw [if_pos ⟨rfl, rfl⟩] | rw [if_neg (by omega), c7 _ n (by decide) (by decide)])
  all_goals (first | rw [if_pos ⟨rfl, rfl⟩] | rw [if_neg (by omega), b7 _ n (by decide) (by decide)])
  all_goals (first | rw [if_pos ⟨rfl, rfl⟩] | rw [if_neg (by omega), a7 _ n (by decide) (by decide)])
  all_goals (first | rw [if_pos ⟨rfl, rfl⟩] | skip)
end
