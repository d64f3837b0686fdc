/-! patches: splitting, going and plugging -/
set_option maxRecDepth 100000
theorem spN_eq {k : List Int} : ∀ {F : Fo} {x : Sp}, spN k F = some x → F = fapp x.1 (.inner x.2.1 x.2.2.1 () x.2.2.2.1 x.2.2.2.2) ∧ x.2.2.1.2.2.2 = k ∧ k ∉ nmsF x.1 := by
  intro F
  induction F with
  | leaf => intro x h; cases h
  | inner i d u l r _ ih =>
    intro x h
    simp only [spN] at h
    by_cases hk : d.2.2.2 = k
    · rw [if_pos hk] at h; cases h
      exact ⟨rfl, hk, by simp [nmsF]⟩
    · rw [if_neg hk] at h
      cases hs : spN k r with
      | none => rw [hs] at h; cases h
      | some y =>
        rw [hs] at h
        cases h
        obtain ⟨h1, h2, h3⟩ := ih hs
        refine ⟨by simp only [fapp]; rw [← h1], h2, ?_⟩
        simp only [nmsF, List.mem_cons, not_or]
        exact ⟨fun q => hk q.symm, h3⟩
theorem spN_none {k : List Int} : ∀ {F : Fo}, spN k F = none ↔ k ∉ nmsF F := by
  intro F
  induction F with
  | leaf => simp [spN, nmsF]
  | inner i d u l r _ ih =>
    simp only [spN, nmsF, List.mem_cons, not_or]
    by_cases hk : d.2.2.2 = k
    · rw [if_pos hk]; simp [hk]
    · rw [if_neg hk, Option.map_eq_none_iff, ih]
      exact ⟨fun h => ⟨fun q => hk q.symm, h⟩, fun h => h.2⟩
theorem spI_eq : ∀ {F : Fo} {n : Nat} {x : Sp}, spI n F = some x → F = fapp x.1 (.inner x.2.1 x.2.2.1 () x.2.2.2.1 x.2.2.2.2) ∧ cntF x.1 = n := by
  intro F
  induction F with
  | leaf => intro n x h; cases n <;> cases h
  | inner i d u l r _ ih =>
    intro n x h
    cases n with
    | zero => simp only [spI] at h; cases h; exact ⟨rfl, rfl⟩
    | succ n =>
      simp only [spI] at h
      cases hs : spI n r with
      | none => rw [hs] at h; cases h
      | some y =>
        rw [hs] at h
        cases h
        obtain ⟨h1, h2⟩ := ih hs
        exact ⟨by simp only [fapp]; rw [← h1], by simp only [cntF, h2]⟩
theorem spI_none : ∀ {F : Fo} {n : Nat}, spI n F = none ↔ cntF F ≤ n := by
  intro F
  induction F with
  | leaf => intro n; cases n <;> simp [spI, cntF]
  | inner i d u l r _ ih =>
    intro n
    cases n with
    | zero => simp [spI, cntF]
    | succ n => simp only [spI, Option.map_eq_none_iff, ih, cntF]; omega
theorem cutI_eq : ∀ (n : Nat) (F : Fo), F = fapp (cutI n F).1 (cutI n F).2 ∧ (n ≤ cntF F → cntF (cutI n F).1 = n) := by
  intro n
  induction n with
  | zero => intro F; exact ⟨rfl, fun _ => rfl⟩
  | succ n ih =>
    intro F
    cases F with
    | leaf => exact ⟨rfl, fun h => absurd h (by simp [cntF])⟩
    | inner i d u l r =>
      obtain ⟨h1, h2⟩ := ih r
      exact ⟨by simp only [cutI, fapp]; rw [← h1], fun h => by simp only [cutI, cntF] at h ⊢; rw [h2 (by omega)]⟩
theorem go1_eq {tk : List Int} {v : Vl} {f : Fr} {w : Vl} (h : go1 tk v = some (f, w)) : v = (f.1, f.2.1, amg f.2.2.1 w f.2.2.2.1 f.2.2.2.2) ∧ (v.2.1.1 = 5 ∨ v.2.1.1 = 6) := by
  unfold go1 at h
  have key : ∀ x : Sp, v.2.2 = fapp x.1 (.inner x.2.1 x.2.2.1 () x.2.2.2.1 x.2.2.2.2) → fr1 v x = (f, w) → v = (f.1, f.2.1, amg f.2.2.1 w f.2.2.2.1 f.2.2.2.2) := by
    intro x hx hf
    unfold fr1 at hf
    cases hf
    obtain ⟨i, nd, l⟩ := v
    simp only at hx ⊢
    rw [hx]
  by_cases h6 : v.2.1.1 = 6
  · rw [if_pos h6] at h
    cases hs : spN tk v.2.2 with
    | none => rw [hs] at h; cases h
    | some x =>
      rw [hs] at h
      exact ⟨key x (spN_eq hs).1 (Option.some.inj h), Or.inr h6⟩
  · rw [if_neg h6] at h
    by_cases h5 : v.2.1.1 = 5
    · rw [if_pos h5] at h
      cases hi : ixT tk with
      | none => rw [hi] at h; cases h
      | some i =>
        rw [hi] at h
        dsimp only at h
        cases hs : spI i v.2.2 with
        | none => rw [hs] at h; cases h
        | some x =>
          rw [hs] at h
          exact ⟨key x (spI_eq hs).1 (Option.some.inj h), Or.inl h5⟩
    · rw [if_neg h5] at h; cases h
theorem goZ_plug : ∀ (tks : List (List Int)) (k : List Fr) (v : Vl) (k' : List Fr) (w : Vl), goZ tks k v = some (k', w) → plug k' w = plug k v := by
  intro tks
  induction tks with
  | nil => intro k v k' w h; cases h; rfl
  | cons tk tks ih =>
    intro k v k' w h
    unfold goZ at h
    cases hg : go1 tk v with
    | none => rw [hg] at h; cases h
    | some p =>
      obtain ⟨f, u⟩ := p
      rw [hg] at h
      rw [ih (f :: k) u k' w h]
      show plug k (f.1, f.2.1, amg f.2.2.1 u f.2.2.2.1 f.2.2.2.2) = plug k v
      rw [← (go1_eq hg).1]
