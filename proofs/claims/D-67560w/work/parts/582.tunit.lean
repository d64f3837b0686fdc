/-! the twin's trees: units -/
set_option maxRecDepth 100000
set_option maxHeartbeats 4000000
/-- room for units -/
def uC (m : Mem) (t : Int) : Int := ln m (vl m t 11)
/-- but for the units of t (and what is new) all trees are as they were -/
def TU (t : Int) (m m' : Mem) : Prop := TI m' ∧ (∀ t', t' ≠ t → ∀ n us C, TW m t' n us C → TW m' t' n us C ∧ uC m' t' = uC m t') ∧ (∀ t' f j n us C, TW m t' n us C → 0 ≤ f → f ≤ 9 → nv m' t' f j = nv m t' f j)
theorem mcp_mst {m : Mem} {s a k : Int} (hk : 0 ≤ k) (hs : s ≠ a) : mst (mcp m s 0 a 0 k) a k (vl m s k) = mcp m s 0 a 0 (k + 1) := by
  obtain ⟨m1, m2, m3, m4, m5⟩ := m
  unfold mst mcp
  congr 4
  funext b j
  show (if b = a ∧ j = k then vl (m1, m2, m3, m4, m5) s k else (if b = a ∧ 0 ≤ j ∧ j < 0 + k then m5 s (0 + (j - 0)) else m5 b j)) = if b = a ∧ 0 ≤ j ∧ j < 0 + (k + 1) then m5 s (0 + (j - 0)) else m5 b j
  by_cases h1 : b = a ∧ j = k
  · rw [if_pos h1, if_pos (by omega), h1.2, show (0 : Int) + (k - 0) = k by omega]; rfl
  · rw [if_neg h1]
    by_cases h2 : b = a ∧ 0 ≤ j ∧ j < 0 + k
    · rw [if_pos h2, if_pos (by omega)]
    · rw [if_neg h2, if_neg (by omega)]
theorem mcp_0 {m : Mem} {s a : Int} : mcp m s 0 a 0 0 = m := by
  obtain ⟨m1, m2, m3, m4, m5⟩ := m
  unfold mcp
  congr 4
  funext b j
  show (if b = a ∧ 0 ≤ j ∧ j < 0 + 0 then m5 s (0 + (j - 0)) else m5 b j) = m5 b j
  rw [if_neg (by omega)]
section
variable {d : Nat} {m : Mem} {t n C : Int} {us : List Int}
theorem c284 (hz : TZ m) (h : TW m t n us C) : cl d 284 [pR t] m = some (.inl none, mst (mst m t 10 0) t 12 0) := by
  refine q284 hz _ ?_
  rw [gd_of h.1]
/-- a field of the tree that holds a number is written -/
theorem TW.fld {f v : Int} {n' : Int} {us' : List Int} (h : TW m t n us C) (hT : TI m) (ok : OK m) (hf : f = 10 ∨ f = 12) (hn : n' = if f = 10 then v else n) (hu : us' = us ∧ f = 10 ∨ f = 12 ∧ (us'.length : Int) = v ∧ (∀ i : Int, 0 ≤ i → i < us'.length → vl m (vl m t 11) i = gi us' i) ∧ (us'.length : Int) ≤ uC m t) (hn2 : 0 ≤ n' ∧ n' ≤ C) : TW (mst m t f v) t n' us' C ∧ TU t m (mst m t f v) ∧ uC (mst m t f v) t = uC m t := by
  have h' := h
  obtain ⟨h1, h2, h3, h4, h5, h6, h7, h8, h9⟩ := h
  have hv : ∀ g, g ≠ f → ∀ a, vl (mst m t f v) a g = vl m a g := fun g hg a => by rw [vl_mst, if_neg (by omega)]
  have harr : ∀ g, aF g → ∀ a, tg m a = 13 → vl (mst m t f v) a g = vl m a g := by
    intro g hg a ha
    rw [vl_mst, if_neg]
    rintro ⟨rfl, rfl⟩
    rcases hf with rfl | rfl <;> rcases hg with hg | hg <;> omega
  have hel : ∀ g, aF g → ∀ a n0 us0 C0 j, TW m a n0 us0 C0 → vl (mst m t f v) (vl m a g) j = vl m (vl m a g) j := by
    intro g hg a n0 us0 C0 j ha
    have := ha.arr hg
    have hne : vl m a g ≠ t := by intro e; rw [e] at this; omega
    rw [vl_mst, if_neg (by omega)]
  refine ⟨⟨h1, fun g a b c => by rw [hv g (by omega)]; exact h2 g a b c, by rw [hv 1 (by omega)]; exact h3, by rw [hv 11 (by omega)]; exact h4, ?_, ?_, ⟨hn2.1, hn2.2, h7.2.2⟩, ?_, ?_⟩, ⟨⟨fun a g ha hg => ?_, fun a a' g g' ha ha' hg hg' hne h0 => ?_⟩, ?_, ?_⟩, ?_⟩
  · rw [hn]
    rcases hf with rfl | rfl
    · rw [vl_mst, if_pos ⟨rfl, rfl⟩, if_pos rfl]
    · rw [hv 10 (by omega), if_neg (by omega)]; exact h5
  · rcases hu with ⟨e1, e2⟩ | ⟨e1, e2, e3, e4⟩
    · rw [hv 12 (by omega), e1]; exact h6
    · rw [e1, vl_mst, if_pos ⟨rfl, rfl⟩]; exact e2.symm
  · rw [hv 11 (by omega)]
    show (us'.length : Int) ≤ ln m (vl m t 11) ∧ 16 ≤ ln m (vl m t 11) ∧ ln m (vl m t 11) ≤ 100000
    rcases hu with ⟨e1, e2⟩ | ⟨e1, e2, e3, e4⟩
    · rw [e1]; exact h8
    · exact ⟨e4, h8.2⟩
  · intro i i0 i1
    rw [hv 11 (by omega), hel 11 (Or.inr rfl) t n us C i h']
    rcases hu with ⟨e1, e2⟩ | ⟨e1, e2, e3, e4⟩
    · rw [e1] at i1 ⊢; exact h9 i i0 i1
    · exact e3 i i0 i1
  · rw [harr g hg a ha]; exact hT.1 a g ha hg
  · rw [harr g hg a ha] at h0 ⊢
    rw [harr g' hg' a' ha']; exact hT.2 a a' g g' ha ha' hg hg' hne h0
  · intro a ha n0 us0 C0 hw
    exact ⟨hw.keep (fun _ => rfl) (fun _ => rfl) (fun g => by rw [vl_mst, if_neg (by omega)]) (fun i _ _ => hel 11 (Or.inr rfl) a n0 us0 C0 i hw), by unfold uC; rw [harr 11 (Or.inr rfl) a hw.1]; rfl⟩
  · intro a g j n0 us0 C0 hw g0 g1
    unfold nv
    rw [harr g (Or.inl ⟨g0, g1⟩) a hw.1, hel g (Or.inl ⟨g0, g1⟩) a n0 us0 C0 j hw]
  · unfold uC
    rw [hv 11 (by omega)]; rfl
end
