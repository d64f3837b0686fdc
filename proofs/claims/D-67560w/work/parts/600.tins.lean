/-! the twin's trees: insert; what nodes say, by functions -/
set_option maxRecDepth 100000
set_option maxHeartbeats 4000000
/-- trees but t are as they were; the nodes of t say g now -/
def TG (t : Int) (m m' : Mem) (g : Int → Int → Int) : Prop := TI m' ∧ OK m' ∧ (∀ t', t' ≠ t → ∀ n us C, TW m t' n us C → TW m' t' n us C ∧ (∀ f j, 0 ≤ f → f ≤ 9 → nv m' t' f j = nv m t' f j) ∧ uC m' t' = uC m t') ∧ ∀ f j, 0 ≤ f → f ≤ 9 → nv m' t f j = g f j
/-- one place of a function of two -/
def up (g : Int → Int → Int) (f i v : Int) : Int → Int → Int := fun f' j => if f' = f ∧ j = i then v else g f' j
theorem up_eq (g : Int → Int → Int) (f i v : Int) : up g f i v f i = v := if_pos ⟨rfl, rfl⟩
theorem up_ne (g : Int → Int → Int) (f i v f' j : Int) (h : ¬ (f' = f ∧ j = i)) : up g f i v f' j = g f' j := if_neg h
section
variable {d : Nat} {m : Mem} {t n C : Int} {us : List Int}
/-- a node's place is written -/
theorem TW.put {m1 : Mem} {g : Int → Int → Int} {f i v a : Int} (h : TW m1 t n us C) (hg : TG t m m1 g) (hf : 0 ≤ f ∧ f ≤ 9) (ha : a = vl m1 t f) : TW (mst m1 a i v) t n us C ∧ TG t m (mst m1 a i v) (up g f i v) ∧ uC (mst m1 a i v) t = uC m1 t ∧ (∀ g', vl (mst m1 a i v) t g' = vl m1 t g') := by
  subst ha
  obtain ⟨g1, g2, g3, g4⟩ := hg
  obtain ⟨s1, s2, s3, s4, s5, s6, s7⟩ := h.set1 (i := i) (v := v) g1 g2 hf
  refine ⟨s1, ⟨s2, s3, fun t' ht n' us' C' h' => ?_, fun f' j f0 f1 => ?_⟩, s4, s5⟩
  · obtain ⟨k1, k2, k5⟩ := g3 t' ht n' us' C' h'
    obtain ⟨k3, k4, k6⟩ := s6 t' ht n' us' C' k1
    exact ⟨k3, fun f' j f0 f1 => by rw [k4 f' j f0 f1, k2 f' j f0 f1], by rw [k6, k5]⟩
  · rw [s7 f' j f0 f1]
    unfold up
    by_cases e : f' = f ∧ j = i
    · rw [if_pos e, if_pos e]
    · rw [if_neg e, if_neg e, g4 f' j f0 f1]
theorem TG.refl (hT : TI m) (ok : OK m) : TG t m m (nv m t) := ⟨hT, ok, fun _ _ _ _ _ h => ⟨h, fun _ _ _ _ => rfl, rfl⟩, fun _ _ _ _ => rfl⟩
/-- what insert does to the nodes -/
def insG (g : Int → Int → Int) (p b k : Int) : Int → Int → Int := if b < 0 then up (up (up g 8 k p) 5 k (g 4 p)) 4 p k else up (up (up g 8 k p) 5 k (g 5 b)) 5 b k
theorem c290 {p b k : Int} (h : TW m t n us C) (hT : TI m) (ok : OK m) (hp : 0 ≤ p ∧ p < n) (hb : b < n) (hk : 0 ≤ k ∧ k < n) : ∃ m', cl d 290 [pR t, pI p, pI b, pI k] m = some (.inl none, m') ∧ TW m' t n us C ∧ TG t m m' (insG (nv m t) p b k) ∧ uC m' t = uC m t ∧ nx m' = nx m ∧ sl m' = sl m := by
  have hc := h.2.2.2.2.2.2.1
  have l5 := h.ld (f := 5) ⟨by decide, by decide⟩ (by decide)
  have l8 := h.ld (f := 8) ⟨by decide, by decide⟩ (by decide)
  have l4 := h.ld (f := 4) ⟨by decide, by decide⟩ (by decide)
  obtain ⟨a1, a2, a3, a4⟩ := h.put (f := 8) (i := k) (v := p) (TG.refl hT ok) ⟨by decide, by decide⟩ rfl
  unfold insG
  by_cases hb0 : b < 0
  · have e4 : vl (mst m (vl m t 8) k p) (vl m t 4) p = nv m t 4 p := by
      have := a2.2.2.2 4 p (by decide) (by decide)
      rw [up_ne _ _ _ _ _ _ (by omega)] at this
      unfold nv at this ⊢
      rw [a4] at this; exact this
    obtain ⟨b1, b2, b3, b4⟩ := a1.put (f := 5) (i := k) (v := nv m t 4 p) a2 ⟨by decide, by decide⟩ (a4 5).symm
    obtain ⟨c1, c2, c3, c4⟩ := b1.put (f := 4) (i := p) (v := k) b2 ⟨by decide, by decide⟩ (by rw [b4, a4])
    rw [if_pos hb0]
    refine ⟨_, ?_, c1, c2, by rw [c3, b3, a3], rfl, rfl⟩
    refine q290 ok.1 _ ?_
    rw [gd_of h.1, nm_eq, gd_of l8.1, gd_of ⟨by omega, by omega⟩, if_pos hb0, nm_eq, nm_eq, gd_of l4.1, gd_of ⟨by omega, by omega⟩, gd_of l5.1, gd_of ⟨by omega, by omega⟩, e4]
  · have e5 : vl (mst m (vl m t 8) k p) (vl m t 5) b = nv m t 5 b := by
      have := a2.2.2.2 5 b (by decide) (by decide)
      rw [up_ne _ _ _ _ _ _ (by omega)] at this
      unfold nv at this ⊢
      rw [a4] at this; exact this
    obtain ⟨b1, b2, b3, b4⟩ := a1.put (f := 5) (i := k) (v := nv m t 5 b) a2 ⟨by decide, by decide⟩ (a4 5).symm
    obtain ⟨c1, c2, c3, c4⟩ := b1.put (f := 5) (i := b) (v := k) b2 ⟨by decide, by decide⟩ (by rw [b4, a4])
    rw [if_neg hb0]
    refine ⟨_, ?_, c1, c2, by rw [c3, b3, a3], rfl, rfl⟩
    refine q290 ok.1 _ ?_
    rw [gd_of h.1, nm_eq, gd_of l8.1, gd_of ⟨by omega, by omega⟩, if_neg hb0, nm_eq, gd_of l5.1, gd_of ⟨by omega, by omega⟩, gd_of ⟨by omega, by omega⟩, e5]
end
