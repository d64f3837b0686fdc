/-! pairs of units out of texts -/
set_option maxRecDepth 100000
set_option maxHeartbeats 4000000
theorem sur_app : ∀ {us vs : List Int}, sur us → sur vs → sur (us ++ vs)
  | [], _, _, h' => h'
  | [u], [], h, _ => h
  | [u], v :: r, h, h' => Or.inr ⟨h, h'⟩
  | u :: v :: r, vs, h, h' => by
    rcases h with ⟨a, b, c, d, f⟩ | ⟨a, b⟩
    · exact Or.inl ⟨a, b, c, d, sur_app f h'⟩
    · exact Or.inr ⟨a, sur_app (us := v :: r) b h'⟩
section
variable {e q i fi j : Int} {t : Int → Int} {us : List Int}
theorem sU_sur (h : sU t e fi i = .inr (us, j)) : sur us := by
  unfold sU at h
  split at h
  · cases h
  · split at h
    · cases h
    · split at h
      · cases h
        show ¬ _
        omega
      · split at h
        · cases h
        · split at h
          · cases h
          · split at h
            · cases h
            · split at h
              · cases h
              · split at h
                · cases h
                · split at h
                  · cases h
                  · cases h
                    exact Or.inl ⟨by omega, by omega, by omega, by omega, trivial⟩
theorem sC_sur (hq : q = 34 ∨ q = 39) (h : sC t e q i = .inr (us, j)) : sur us := by
  unfold sC at h
  have one : ∀ (b k : Int), b < 256 → (Sum.inr ([b], k) : Int ⊕ (List Int × Int)) = Sum.inr (us, j) → sur us := by
    intro b k hb hE; cases hE
    show ¬ _
    omega
  have hp := pkf_rng t e i
  have hp2 := pkf_rng t e (i + 1)
  split at h
  · cases h
  · split at h
    · exact one _ _ (by omega) h
    · split at h
      · cases h
      · iterate 6 (split at h; exact one _ _ (by omega) h)
        split at h
        · exact sU_sur h
        · split at h
          · exact one _ _ (by omega) h
          · cases h
theorem pS_sur (hq : q = 34 ∨ q = 39) : ∀ (n : Nat) (i j : Int) (us : List Int), pS t e q n i = .inr (us, j) → sur us := by
  intro n
  induction n with
  | zero => intro i j us h; cases h
  | succ n ih =>
    intro i j us h
    unfold pS at h
    split at h
    · cases h; exact trivial
    · split at h
      · cases h
      · rename_i us1 j1 h1
        split at h
        · cases h
        · rename_i vs k h2
          cases h
          exact sur_app (sC_sur hq h1) (ih _ _ _ h2)
theorem sS_sur (hq : q = 34 ∨ q = 39) (h : sS t e q i = .inr (us, j)) : sur us := pS_sur hq _ _ _ _ h
end
