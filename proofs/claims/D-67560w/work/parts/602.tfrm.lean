/-! forests in trees: what they depend on; a kid more -/
set_option maxRecDepth 100000
set_option maxHeartbeats 4000000
theorem At.ext {xs zs ys : List Int} {a : Int} (h : At xs a ys) : At (xs ++ zs) a ys := by
  obtain ⟨h0, h1, h2⟩ := h
  refine ⟨h0, by rw [List.length_append]; omega, fun j j0 j1 => ?_⟩
  rw [gi_app_l (by omega) (by omega)]; exact h2 j j0 j1
section
variable {g g' : Int → Int → Int} {us vs : List Int} {n n' : Int}
theorem TF.keep (hn : n ≤ n') : ∀ {F : Fo} {p : Int} {ob : Bool}, TF g us n p ob F → (∀ f j, 0 ≤ f → f ≤ 9 → j ∈ idF F → g' f j = g f j) → TF g' (us ++ vs) n' p ob F := by
  intro F
  induction F with
  | leaf => intro p ob _ _; exact trivial
  | inner i d u l r ihl ihr =>
    intro p ob h hg
    obtain ⟨f1, f2, f3, f4, f5, f6, f7, f8, f9, f10⟩ := h
    have hi : ∀ f, 0 ≤ f → f ≤ 9 → g' f i = g f i := fun f f0 f1 => hg f i f0 f1 (by simp [idF])
    refine ⟨by omega, by rw [hi 0 (by decide) (by decide)]; exact f2, fun e => by rw [hi 1 (by decide) (by decide)]; exact f3 e, ⟨by rw [hi 3 (by decide) (by decide)]; exact f4.1, by rw [hi 2 (by decide) (by decide)]; exact f4.2.ext⟩, fun e => ⟨by rw [hi 7 (by decide) (by decide)]; exact (f5 e).1, by rw [hi 6 (by decide) (by decide)]; exact (f5 e).2.ext⟩, by rw [hi 8 (by decide) (by decide)]; exact f6, by rw [hi 4 (by decide) (by decide)]; exact f7, by rw [hi 5 (by decide) (by decide)]; exact f8, ihl f9 (fun f j f0 f1 hj => hg f j f0 f1 (by simp [idF]; exact Or.inr (Or.inl hj))), ihr f10 (fun f j f0 f1 hj => hg f j f0 f1 (by simp [idF]; exact Or.inr (Or.inr hj)))⟩
end
