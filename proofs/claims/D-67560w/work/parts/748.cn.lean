/-! what is read: canonical, not too deep; prefixes of units -/
set_option maxRecDepth 100000
set_option maxHeartbeats 4000000
theorem uts_prefix : ∀ (a b z : List Int), wfU a → wfU b → uts a ++ z = uts b → ∃ c, b = a ++ c ∧ z = uts c := by
  intro a
  induction a with
  | nil => intro b z _ _ h; exact ⟨b, rfl, by simpa [uts_nil] using h⟩
  | cons u a ih =>
    intro b z ha hb h
    cases b with
    | nil =>
      rw [uts_cons, uts_nil] at h
      have := utf_len u
      have h2 := congrArg List.length h
      simp only [List.length_append, List.length_nil] at h2
      omega
    | cons v b =>
      rw [uts_cons, uts_cons, List.append_assoc] at h
      obtain ⟨e1, e2⟩ := utf_inj (ha u (by simp)) (hb v (by simp)) h
      obtain ⟨c, e3, e4⟩ := ih b z (fun x hx => ha x (by simp [hx])) (fun x hx => hb x (by simp [hx])) e2
      exact ⟨c, by rw [e1, e3]; rfl, e4⟩
theorem sP_cn (t : Int → Int) (e : Int) : ∀ (n : Nat) (b : Bool) (dep : Nat) (ob : Bool) (seen : List (List Int)) (i : Int) (F : Fo) (j : Int), sP t e n b dep ob seen i = some (.inr (F, j)) → (b = false → ∃ nd l, F = foC nd l foN ∧ nd.2.2.2 = [] ∧ cnF false F ∧ (dep ≤ 32 → dep + dpV nd l ≤ 32)) ∧ (b = true → cnF ob F ∧ (dep ≤ 32 → dep + dpF F ≤ 32)) := by
  intro n
  induction n with
  | zero => intro b dep ob seen i F j h; cases h
  | succ n ih =>
    intro b dep ob seen i F j h
    have word : ∀ (cs : List Int) (k : Nat), k < 3 → sWd t e cs k i = .inr (F, j) → ∃ nd l, F = foC nd l foN ∧ nd.2.2.2 = [] ∧ cnF false F ∧ (dep ≤ 32 → dep + dpV nd l ≤ 32) := by
      intro cs k hk hs
      unfold sWd at hs
      cases hq : sW t e cs i with
      | inl p => rw [hq] at hs; cases hs
      | inr w =>
        rw [hq] at hs
        cases hs
        exact ⟨(k, 0, [], []), foN, rfl, rfl, ⟨rfl, ⟨fun _ => rfl, fun _ => rfl, fun _ => rfl, trivial⟩, trivial, trivial⟩, fun hd => by unfold dpV; rw [if_pos (by show k < 5; omega)]; exact hd⟩
    cases b with
    | false =>
      refine ⟨fun _ => ?_, fun q => (by cases q)⟩
      unfold sP at h
      split at h
      · cases hs : sS t e 34 (i + 1) with
        | inl p => rw [hs] at h; cases h
        | inr w =>
          obtain ⟨us, k⟩ := w
          rw [hs] at h; cases h
          exact ⟨(4, 0, us, []), foN, rfl, rfl, ⟨rfl, ⟨fun _ => rfl, fun q => absurd rfl q, fun _ => rfl, trivial⟩, trivial, trivial⟩, fun hd => hd⟩
      split at h
      · split at h
        · cases h
        · rename_i hdep
          have hkd : ∀ q : Bool, ((if q then 6 else 5 : Nat) == 6) = q ∧ ¬ (if q then 6 else 5 : Nat) < 5 ∧ (if q then 6 else 5 : Nat) ≠ 3 ∧ (if q then 6 else 5 : Nat) ≠ 4 := by intro q; cases q <;> decide
          obtain ⟨k1, k2, k3, k4⟩ := hkd (pk t e i == 123)
          split at h
          · cases h
            refine ⟨_, foN, rfl, rfl, ⟨rfl, ⟨fun _ => rfl, fun _ => rfl, fun _ => rfl, trivial⟩, trivial, trivial⟩, fun hd => ?_⟩
            unfold dpV
            rw [if_neg k2]
            show dep + (1 + 0) ≤ 32
            omega
          · cases hr : sP t e n true (dep + 1) (pk t e i == 123) [] (sB t e (i + 1)) with
            | none => rw [hr] at h; cases h
            | some w =>
              cases w with
              | inl p => rw [hr] at h; cases h
              | inr w =>
                obtain ⟨l, k⟩ := w
                rw [hr] at h; cases h
                obtain ⟨c1, c2⟩ := (ih true _ _ _ _ _ _ hr).2 rfl
                refine ⟨_, l, rfl, rfl, ⟨rfl, ⟨fun _ => rfl, fun _ => rfl, fun _ => rfl, trivial⟩, ?_, trivial⟩, fun hd => ?_⟩
                · show cnF ((if (pk t e i == 123) = true then 6 else 5 : Nat) == 6) l
                  rw [k1]; exact c1
                · have := c2 (by omega)
                  unfold dpV
                  rw [if_neg k2]; omega
      split at h
      · exact word cFls 1 (by decide) (Option.some.inj h)
      split at h
      · exact word cNul 0 (by decide) (Option.some.inj h)
      split at h
      · exact word cTru 2 (by decide) (Option.some.inj h)
      · cases hs : sNm t e i with
        | inl p => rw [hs] at h; cases h
        | inr w =>
          obtain ⟨v, k⟩ := w
          rw [hs] at h; cases h
          exact ⟨(3, v, [], []), foN, rfl, rfl, ⟨rfl, ⟨fun q => absurd rfl q, fun _ => rfl, fun _ => rfl, trivial⟩, trivial, trivial⟩, fun hd => hd⟩
    | true =>
      refine ⟨fun q => (by cases q), fun _ => ?_⟩
      unfold sP at h
      cases hk : sKey t e ob seen i with
      | inl p => rw [hk] at h; cases h
      | inr w =>
        obtain ⟨nm, j1⟩ := w
        rw [hk] at h
        dsimp only at h
        have hnm : (ob = false → nm = []) ∧ sur nm := by
          unfold sKey at hk
          cases ob with
          | false => rw [if_neg (by decide)] at hk; cases hk; exact ⟨fun _ => rfl, trivial⟩
          | true =>
            refine ⟨fun q => (by cases q), ?_⟩
            rw [if_pos rfl] at hk
            split at hk
            · cases hs : sS t e 34 (i + 1) with
              | inl p => rw [hs] at hk; cases hk
              | inr w =>
                obtain ⟨n1, k1⟩ := w
                rw [hs] at hk
                dsimp only at hk
                split at hk
                · cases hk
                split at hk
                · cases hk; exact sS_sur (Or.inl rfl) hs
                · cases hk
            · cases hk
        cases hv : sP t e n false dep ob seen j1 with
        | none => rw [hv] at h; cases h
        | some w =>
          cases w with
          | inl p => rw [hv] at h; cases h
          | inr w =>
            obtain ⟨Fv, k⟩ := w
            rw [hv] at h
            obtain ⟨nd, l, rfl, v2, ⟨v3, ⟨v4, v5, v6, v7⟩, v8, -⟩, v9⟩ := (ih false _ _ _ _ _ _ hv).1 rfl
            dsimp only at h
            have hcn : cnN (nd.1, nd.2.1, nd.2.2.1, nm) ob := ⟨v4, v5, hnm.1, hnm.2⟩
            split at h
            · cases h
              refine ⟨⟨rfl, hcn, v8, trivial⟩, fun hd => ?_⟩
              have := v9 hd
              unfold dpV at this
              show dep + max (if nd.1 < 5 then 0 else 1 + dpF l) 0 ≤ 32
              omega
            split at h
            · cases hr : sP t e n true dep ob (seen ++ [nm]) (sB t e (sB t e k + 1)) with
              | none => rw [hr] at h; cases h
              | some w =>
                cases w with
                | inl p => rw [hr] at h; cases h
                | inr w =>
                  obtain ⟨R, q⟩ := w
                  rw [hr] at h; cases h
                  obtain ⟨c1, c2⟩ := (ih true _ _ _ _ _ _ hr).2 rfl
                  refine ⟨⟨rfl, hcn, v8, c1⟩, fun hd => ?_⟩
                  have h1 := v9 hd
                  have h2 := c2 hd
                  unfold dpV at h1
                  show dep + max (if nd.1 < 5 then 0 else 1 + dpF l) (dpF R) ≤ 32
                  omega
            · cases h
/-- a whole text that is read: canonical, at most 32 deep -/
theorem sRd_cn {t : Int → Int} {e : Int} {n : Nat} {F : Fo} (h : sRd t e n = some (.inr F)) : ∃ nd l, F = foC nd l foN ∧ nd.2.2.2 = [] ∧ cnF false F ∧ dpV nd l ≤ 32 := by
  unfold sRd at h
  cases hs : sP t e n false 0 false [] (sB t e 0) with
  | none => rw [hs] at h; cases h
  | some w =>
    cases w with
    | inl p => rw [hs] at h; cases h
    | inr w =>
      obtain ⟨F0, j⟩ := w
      rw [hs] at h
      dsimp only at h
      split at h
      · cases h
        obtain ⟨nd, l, h1, h2, h3, h4⟩ := (sP_cn t e n false 0 false [] _ _ _ hs).1 rfl
        exact ⟨nd, l, h1, h2, h3, by have := h4 (by omega); omega⟩
      · cases h
