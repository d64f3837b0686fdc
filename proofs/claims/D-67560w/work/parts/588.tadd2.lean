/-! the twin's trees: a node more -/
set_option maxRecDepth 100000
set_option maxHeartbeats 4000000
/-- trees but t are as they were, and so are the nodes of t -/
def TV (t n : Int) (m m' : Mem) : Prop := TI m' ∧ (∀ t', t' ≠ t → ∀ n us C, TW m t' n us C → TW m' t' n us C ∧ (∀ f j, 0 ≤ f → f ≤ 9 → nv m' t' f j = nv m t' f j) ∧ uC m' t' = uC m t') ∧ ∀ f j, 0 ≤ f → f ≤ 9 → 0 ≤ j → j < n → nv m' t f j = nv m t f j
section
variable {d : Nat} {m : Mem} {t n C : Int} {us : List Int}
theorem TU.tv {m' : Mem} (h : TU t m m') (hw : TW m t n us C) : TV t n m m' := ⟨h.1, fun t' ht n' us' C' h' => ⟨(h.2.1 t' ht n' us' C' h').1, fun f j f0 f1 => h.2.2 t' f j n' us' C' h' f0 f1, (h.2.1 t' ht n' us' C' h').2⟩, fun f j f0 f1 _ _ => h.2.2 t f j n us C hw f0 f1⟩
theorem TV.trans {m1 m2 : Mem} {n1 : Int} (h : TV t n m m1) (h' : TV t n1 m1 m2) (hn : n ≤ n1) : TV t n m m2 := ⟨h'.1, fun t' ht n' us' C' hq => ⟨(h'.2.1 t' ht n' us' C' (h.2.1 t' ht n' us' C' hq).1).1, fun f j f0 f1 => by rw [(h'.2.1 t' ht n' us' C' (h.2.1 t' ht n' us' C' hq).1).2.1 f j f0 f1, (h.2.1 t' ht n' us' C' hq).2.1 f j f0 f1], by rw [(h'.2.1 t' ht n' us' C' (h.2.1 t' ht n' us' C' hq).1).2.2, (h.2.1 t' ht n' us' C' hq).2.2]⟩, fun f j f0 f1 j0 j1 => by rw [h'.2.2 f j f0 f1 j0 (by omega), h.2.2 f j f0 f1 j0 j1]⟩
theorem GT.fin {m1 : Mem} (h : GT m m1 t 10 C) (hw : TW m t n us C) (hT : TI m) (ok : OK m) (hC : C ≤ 20000) : TW m1 t n us (2 * C) ∧ TV t n m m1 ∧ uC m1 t = uC m t := by
  obtain ⟨h1, h2, h3, h4, h5, h6⟩ := h
  have hlt : ∀ a n0 us0 C0 g, TW m a n0 us0 C0 → aF g → a < nx m ∧ vl m a g < nx m ∧ vl m a g ≠ t := by
    intro a n0 us0 C0 g hw' hg
    have h1 := hw'.arr hg
    have h2 := hw'.1
    have h3 := hw.1
    exact ⟨tz_lt ok.1 (by omega), tz_lt ok.1 (by omega), by intro e; rw [e] at h1; omega⟩
  have hU := hlt t n us C 11 hw (Or.inr rfl)
  have t13 : ∀ a, tg m1 a = 13 → a < nx m ∧ tg m a = 13 := by
    intro a ha
    have hlt' : a < nx m1 := tz_lt h1.1 (by omega)
    by_cases e : a < nx m
    · exact ⟨e, by rw [← (h4 a e).1]; exact ha⟩
    · have := (h6 (a - nx m) (by omega) (by omega)).2.1
      rw [show nx m + (a - nx m) = a by omega, ha] at this
      split at this <;> omega
  obtain ⟨w1, w2, w3, w4, w5, w6, w7, w8, w9⟩ := hw
  have hw : TW m t n us C := ⟨w1, w2, w3, w4, w5, w6, w7, w8, w9⟩
  have e11 := h5 t hU.1 11 (by omega)
  refine ⟨⟨by rw [(h4 t hU.1).1]; exact w1, fun g a b c => ?_, ?_, ?_, by rw [h5 t hU.1 10 (by omega)]; exact w5, by rw [h5 t hU.1 12 (by omega)]; exact w6, by omega, ?_, fun i i0 i1 => ?_⟩, ⟨⟨fun a g ha hg => ?_, fun a a' g g' ha ha' hg hg' hne h0 => ?_⟩, ?_, ?_⟩, ?_⟩
  · obtain ⟨k1, k2, k3, k4⟩ := h6 g a (by omega)
    rw [if_neg c] at k2
    rw [k1, k2, k3]; exact ⟨Or.inr rfl, rfl⟩
  · obtain ⟨k1, k2, k3, k4⟩ := h6 1 (by omega) (by omega)
    rw [if_pos rfl] at k2
    rw [k1, k2, k3]; exact ⟨Or.inr rfl, rfl⟩
  · rw [e11, (h4 _ hU.2.1).1]; exact w4
  · rw [e11, (h4 _ hU.2.1).2]; exact w8
  · rw [e11, h5 _ hU.2.1 i (by omega)]; exact w9 i i0 i1
  · obtain ⟨q1, q2⟩ := t13 a ha
    have := hT.1 a g q2 hg
    by_cases e : a = t ∧ 0 ≤ g ∧ g < 10
    · rw [e.1, (h6 g e.2.1 e.2.2).1]; omega
    · rw [h5 a q1 g e]; omega
  · obtain ⟨q1, q2⟩ := t13 a ha
    obtain ⟨q3, q4⟩ := t13 a' ha'
    have b1 := hT.1 a g q2 hg
    have b2 := hT.1 a' g' q4 hg'
    by_cases e : a = t ∧ 0 ≤ g ∧ g < 10
    · rw [e.1, (h6 g e.2.1 e.2.2).1]
      by_cases e' : a' = t ∧ 0 ≤ g' ∧ g' < 10
      · rw [e'.1, (h6 g' e'.2.1 e'.2.2).1]; omega
      · rw [h5 a' q3 g' e']; omega
    · rw [h5 a q1 g e] at h0 ⊢
      by_cases e' : a' = t ∧ 0 ≤ g' ∧ g' < 10
      · rw [e'.1, (h6 g' e'.2.1 e'.2.2).1]; omega
      · rw [h5 a' q3 g' e']; exact hT.2 a a' g g' q2 q4 hg hg' hne h0
  · intro a hne n0 us0 C0 hq
    obtain ⟨b1, b2, b3, b4, b5, b6, b7, b8, b9⟩ := hq
    have hq : TW m a n0 us0 C0 := ⟨b1, b2, b3, b4, b5, b6, b7, b8, b9⟩
    have hal := (hlt a n0 us0 C0 11 hq (Or.inr rfl)).1
    have hL := fun g hg => (hlt a n0 us0 C0 g hq hg).2.1
    have hv : ∀ g, vl m1 a g = vl m a g := fun g => h5 a hal g (by omega)
    have hel : ∀ g, aF g → ∀ i, vl m1 (vl m a g) i = vl m (vl m a g) i := fun g hg i => h5 _ (hL g hg) i (by have := (hlt a n0 us0 C0 g hq hg).2.2; omega)
    refine ⟨⟨by rw [(h4 a hal).1]; exact b1, fun g x y z => ?_, ?_, ?_, by rw [hv]; exact b5, by rw [hv]; exact b6, b7, ?_, fun i i0 i1 => ?_⟩, fun g j g0 g1 => ?_, by unfold uC; rw [hv, (h4 _ (hL 11 (Or.inr rfl))).2]⟩
    · rw [hv, (h4 _ (hL g (Or.inl ⟨x, y⟩))).1, (h4 _ (hL g (Or.inl ⟨x, y⟩))).2]; exact b2 g x y z
    · rw [hv, (h4 _ (hL 1 (Or.inl ⟨by decide, by decide⟩))).1, (h4 _ (hL 1 (Or.inl ⟨by decide, by decide⟩))).2]; exact b3
    · rw [hv, (h4 _ (hL 11 (Or.inr rfl))).1]; exact b4
    · rw [hv, (h4 _ (hL 11 (Or.inr rfl))).2]; exact b8
    · rw [hv, hel 11 (Or.inr rfl)]; exact b9 i i0 i1
    · unfold nv
      rw [hv, hel g (Or.inl ⟨g0, g1⟩)]
  · intro g j g0 g1 j0 j1
    obtain ⟨k1, k2, k3, k4⟩ := h6 g g0 (by omega)
    unfold nv
    rw [k1, k4 j j0 (by omega)]
  · unfold uC
    rw [e11, (h4 _ hU.2.1).2]
end
