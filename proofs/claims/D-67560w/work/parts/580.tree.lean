/-! the twin's trees -/
set_option maxRecDepth 100000
set_option maxHeartbeats 4000000
abbrev aF (f : Int) : Prop := (0 ≤ f ∧ f ≤ 9) ∨ f = 11
/-- trees don't share their arrays -/
def TI (m : Mem) : Prop := (∀ t f, tg m t = 13 → aF f → vl m t f < nx m) ∧ ∀ t t' f f', tg m t = 13 → tg m t' = 13 → aF f → aF f' → (t ≠ t' ∨ f ≠ f') → vl m t f ≠ 0 → vl m t f ≠ vl m t' f'
/-- a tree at t: n nodes, the units us, room for C nodes -/
def TW (m : Mem) (t n : Int) (us : List Int) (C : Int) : Prop := tg m t = 13 ∧ (∀ f, 0 ≤ f → f ≤ 9 → f ≠ 1 → (tg m (vl m t f) = 284101 ∨ tg m (vl m t f) = 287101) ∧ ln m (vl m t f) = C) ∧ ((tg m (vl m t 1) = 284102 ∨ tg m (vl m t 1) = 286102) ∧ ln m (vl m t 1) = C) ∧ (tg m (vl m t 11) = 284104 ∨ tg m (vl m t 11) = 288104) ∧ vl m t 10 = n ∧ vl m t 12 = (us.length : Int) ∧ (0 ≤ n ∧ n ≤ C ∧ 16 ≤ C ∧ C ≤ 40000) ∧ ((us.length : Int) ≤ ln m (vl m t 11) ∧ 16 ≤ ln m (vl m t 11) ∧ ln m (vl m t 11) ≤ 100000) ∧ ∀ i : Int, 0 ≤ i → i < us.length → vl m (vl m t 11) i = gi us i
/-- what a node has -/
def nv (m : Mem) (t f i : Int) : Int := vl m (vl m t f) i
theorem TW.arr {m : Mem} {t n C : Int} {us : List Int} (h : TW m t n us C) {f : Int} (hf : aF f) : 1000 ≤ tg m (vl m t f) ∧ (tg m (vl m t f) % 1000 = 101 ∨ tg m (vl m t f) % 1000 = 102 ∨ tg m (vl m t f) % 1000 = 104) ∧ (f ≤ 9 → ln m (vl m t f) = C) := by
  obtain ⟨h1, h2, h3, h4, -⟩ := h
  rcases hf with ⟨a, b⟩ | rfl
  · by_cases h1f : f = 1
    · subst h1f; omega
    · have := h2 f a b h1f; omega
  · refine ⟨by omega, by omega, fun q => by omega⟩
theorem TW.nz {m : Mem} {t n C : Int} {us : List Int} (h : TW m t n us C) (ok : OK m) {f : Int} (hf : aF f) : vl m t f ≠ 0 := by
  intro e; have := h.arr hf; rw [e, ok.2.1] at this; omega
/-- a memory with the same tags and lengths in which only arrays of trees have changed, places of units within us not -/
theorem TW.keep {m m' : Mem} {t n C : Int} {us : List Int} (h : TW m t n us C) (ht : ∀ a, tg m' a = tg m a) (hl : ∀ a, ln m' a = ln m a) (hv : ∀ f, vl m' t f = vl m t f) (hu : ∀ i : Int, 0 ≤ i → i < us.length → vl m' (vl m t 11) i = vl m (vl m t 11) i) : TW m' t n us C := by
  obtain ⟨h1, h2, h3, h4, h5, h6, h7, h8, h9⟩ := h
  refine ⟨by rw [ht]; exact h1, fun f a b c => ?_, ?_, ?_, by rw [hv]; exact h5, by rw [hv]; exact h6, h7, ?_, fun i i0 i1 => ?_⟩
  · rw [hv, ht, hl]; exact h2 f a b c
  · rw [hv, ht, hl]; exact h3
  · rw [hv, ht]; exact h4
  · rw [hv, hl]; exact h8
  · rw [hv, hu i i0 i1]; exact h9 i i0 i1
section
variable {d : Nat} {m : Mem} {t n C : Int} {us : List Int}
/-- a node's place is written -/
theorem TW.set {f i v : Int} (h : TW m t n us C) (hT : TI m) (ok : OK m) (hf : 0 ≤ f ∧ f ≤ 9) : TI (mst m (vl m t f) i v) ∧ (∀ t' n' us' C', TW m t' n' us' C' → TW (mst m (vl m t f) i v) t' n' us' C') ∧ (∀ t' f' j, tg m t' = 13 → aF f' → nv (mst m (vl m t f) i v) t' f' j = if t' = t ∧ f' = f ∧ j = i then v else nv m t' f' j) := by
  have ha := h.arr (Or.inl hf)
  have h1 := h.1
  have hz := h.nz ok (Or.inl hf)
  have hv : ∀ a, tg m a = 13 → ∀ g, vl (mst m (vl m t f) i v) a g = vl m a g := by
    intro a ha' g
    have : a ≠ vl m t f := by intro e; rw [e] at ha'; omega
    rw [vl_mst, if_neg (by omega)]
  have hn : ∀ t' f' j, tg m t' = 13 → aF f' → nv (mst m (vl m t f) i v) t' f' j = if t' = t ∧ f' = f ∧ j = i then v else nv m t' f' j := by
    intro t' f' j ht' hf'
    unfold nv
    rw [hv t' ht' f', vl_mst]
    by_cases he : t' = t ∧ f' = f
    · obtain ⟨rfl, rfl⟩ := he
      by_cases hj : j = i
      · rw [if_pos ⟨rfl, hj⟩, if_pos ⟨rfl, rfl, hj⟩]
      · rw [if_neg (by omega), if_neg (by omega)]
    · have hne : vl m t' f' ≠ vl m t f := (hT.2 t t' f f' h1 ht' (Or.inl hf) hf' (by omega) hz).symm
      rw [if_neg (by omega), if_neg (by omega)]
  refine ⟨⟨fun a g ha' hg => ?_, fun a a' g g' ha' ha'' hg hg' hne h0 => ?_⟩, fun t' n' us' C' h' => ?_, hn⟩
  · rw [hv a ha' g]; exact hT.1 a g ha' hg
  · rw [hv a ha' g] at h0 ⊢
    rw [hv a' ha'' g']; exact hT.2 a a' g g' ha' ha'' hg hg' hne h0
  · refine h'.keep (fun _ => rfl) (fun _ => rfl) (hv t' h'.1) (fun j _ _ => ?_)
    have := hn t' 11 j h'.1 (Or.inr rfl)
    unfold nv at this
    rw [hv t' h'.1] at this
    rw [this, if_neg (by omega)]
/-- a field of another object is written -/
theorem TW.mT {T f v : Int} (hT : tg m T ≠ 13 ∧ tg m T < 100) (h : TW m t n us C) : TW (mst m T f v) t n us C := by
  have hne : t ≠ T := by intro e; rw [← e] at hT; exact hT.1 h.1
  have h11 := h.arr (f := 11) (Or.inr rfl)
  have hne2 : vl m t 11 ≠ T := by intro e; rw [e] at h11; omega
  exact h.keep (fun _ => rfl) (fun _ => rfl) (fun g => by rw [vl_mst, if_neg (by omega)]) (fun i _ _ => by rw [vl_mst, if_neg (by omega)])
theorem TI.mT {T f v : Int} (hT : tg m T ≠ 13) (h : TI m) : TI (mst m T f v) := by
  have e0 : ∀ a, tg m a = 13 → ∀ g, vl (mst m T f v) a g = vl m a g := by
    intro a ha g
    have : a ≠ T := by intro e; rw [e] at ha; exact hT ha
    rw [vl_mst, if_neg (by omega)]
  refine ⟨fun a g ha hg => ?_, fun a a' g g' ha ha' hg hg' hne h0 => ?_⟩
  · rw [e0 a ha]; exact h.1 a g ha hg
  · rw [e0 a ha] at h0 ⊢
    rw [e0 a' ha']; exact h.2 a a' g g' ha ha' hg hg' hne h0
theorem nv_mT {T f v g i : Int} (hT : tg m T ≠ 13 ∧ tg m T < 100) (h : TW m t n us C) (hg : aF g) : nv (mst m T f v) t g i = nv m t g i := by
  have hne : t ≠ T := by intro e; rw [← e] at hT; exact hT.1 h.1
  have h11 := h.arr hg
  have hne2 : vl m t g ≠ T := by intro e; rw [e] at h11; omega
  unfold nv
  rw [vl_mst (b := t), if_neg (by omega), vl_mst, if_neg (by omega)]
def trN (e : Nat) : Bool := (List.range 13).all (fun f => !(Nat.testBit e (bix 13 (f : Int)))) && !(Nat.testBit e (bix 284101 0)) && !(Nat.testBit e (bix 287101 0)) && !(Nat.testBit e (bix 284102 0)) && !(Nat.testBit e (bix 286102 0)) && !(Nat.testBit e (bix 284104 0)) && !(Nat.testBit e (bix 288104 0))
/-- reading a node's place -/
theorem TW.ld {f : Int} (h : TW m t n us C) (hf : 0 ≤ f ∧ f ≤ 9) (h1 : f ≠ 1) : (tg m (vl m t f) = 284101 ∨ tg m (vl m t f) = 287101) ∧ ln m (vl m t f) = C := h.2.1 f hf.1 hf.2 h1
end
