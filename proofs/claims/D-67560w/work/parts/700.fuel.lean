/-! enough fuel: reading ends -/
set_option maxRecDepth 100000
set_option maxHeartbeats 4000000
section
variable {t : Int → Int} {e q i j fi : Int} {us : List Int}
theorem sU_rng (hi : i ≤ e) (h : sU t e fi i = .inr (us, j)) : i < j ∧ j ≤ e := by
  unfold sU at h
  cases hf : f4 t e fi 4 i 0 with
  | inl p => rw [hf] at h; cases h
  | inr u =>
    rw [hf] at h
    dsimp only at h
    have h1 := f4_end t e fi 4 i 0 u hi hf
    split at h
    · cases h
    split at h
    · cases h; omega
    split at h
    · cases h
    split at h
    · cases h
    split at h
    · cases h
    split at h
    · cases h
    cases hg : f4 t e fi 4 (i + 6) 0 with
    | inl p => rw [hg] at h; cases h
    | inr v =>
      rw [hg] at h
      dsimp only at h
      have h2 := f4_end t e fi 4 (i + 6) 0 v (by omega) hg
      split at h
      · cases h
      · cases h; omega
theorem sC_rng (h : sC t e q i = .inr (us, j)) : i < j ∧ j ≤ e := by
  unfold sC at h
  by_cases c1 : pk t e i < 32 ∨ 126 < pk t e i
  · rw [if_pos c1] at h; cases h
  rw [if_neg c1] at h
  have hi : i < e := pkf_lt (t := t) (by omega)
  by_cases c2 : pk t e i ≠ 92
  · rw [if_pos c2] at h; cases h; omega
  rw [if_neg c2] at h
  by_cases c3 : ¬ i + 1 < e
  · rw [if_pos c3] at h; cases h
  rw [if_neg c3] at h
  split at h
  · cases h; omega
  split at h
  · cases h; omega
  split at h
  · cases h; omega
  split at h
  · cases h; omega
  split at h
  · cases h; omega
  split at h
  · cases h; omega
  split at h
  · have := sU_rng (by omega) h; omega
  split at h
  · cases h; omega
  · cases h
theorem pS_rng (hq : 0 ≤ q) : ∀ (n : Nat) (i : Int) (us : List Int) (j : Int), pS t e q n i = .inr (us, j) → i < j ∧ j ≤ e := by
  intro n
  induction n with
  | zero => intro i us j h; cases h
  | succ n ih =>
    intro i us j h
    unfold pS at h
    by_cases c : pk t e i = q
    · rw [if_pos c] at h; cases h
      have : i < e := pkf_lt (t := t) (by omega)
      omega
    · rw [if_neg c] at h
      cases hc : sC t e q i with
      | inl p => rw [hc] at h; cases h
      | inr w =>
        obtain ⟨u1, j1⟩ := w
        rw [hc] at h
        dsimp only at h
        have h1 := sC_rng hc
        cases hp : pS t e q n j1 with
        | inl p => rw [hp] at h; cases h
        | inr w =>
          obtain ⟨v1, k1⟩ := w
          rw [hp] at h
          cases h
          have := ih j1 v1 j hp
          omega
theorem sS_rng (hq : 0 ≤ q) (h : sS t e q i = .inr (us, j)) : i < j ∧ j ≤ e := pS_rng hq _ _ _ _ h
theorem sW_rng : ∀ (cs : List Int) (i j : Int), i ≤ e → (∀ c, c ∈ cs → 0 ≤ c) → sW t e cs i = .inr j → j = i + cs.length ∧ j ≤ e := by
  intro cs
  induction cs with
  | nil => intro i j hi _ h; cases h; simp; omega
  | cons c cs ih =>
    intro i j hi hc h
    unfold sW at h
    by_cases hp : pk t e i = c
    · rw [if_pos hp] at h
      have : i < e := pkf_lt (t := t) (by have := hc c (by simp); omega)
      have := ih (i + 1) j (by omega) (fun x hx => hc x (by simp [hx])) h
      simp; omega
    · rw [if_neg hp] at h; cases h
theorem sNm_rng {v : Int} (h : sNm t e i = .inr (v, j)) : i < j ∧ j ≤ e ∧ -9007199254740992 < v ∧ v < 9007199254740992 := by
  unfold sNm at h
  by_cases hD : dg (pk t e (nI0 t e i))
  · rw [if_neg (fun q => q hD)] at h
    obtain ⟨r1, r2, r3, r4, r5, r6⟩ := nDV_rng hD
    have hi0 : i ≤ nI0 t e i := by unfold nI0; split <;> omega
    split at h
    · cases h
    · rename_i hb
      cases h
      split <;> omega
  · rw [if_pos hD] at h; cases h
theorem sKey_rng {ob : Bool} {seen : List (List Int)} {nm : List Int} (hi : i ≤ e) (h : sKey t e ob seen i = .inr (nm, j)) : i ≤ j ∧ j ≤ e := by
  unfold sKey at h
  cases ob with
  | false => rw [if_neg (by decide)] at h; cases h; omega
  | true =>
    rw [if_pos rfl] at h
    split at h
    · cases hs : sS t e 34 (i + 1) with
      | inl p => rw [hs] at h; cases h
      | inr w =>
        obtain ⟨n1, j1⟩ := w
        rw [hs] at h
        dsimp only at h
        have h1 := sS_rng (by decide) hs
        have h2 := sB_rng t (i := j1) (e := e) h1.2
        split at h
        · cases h
        split at h
        · rename_i h58
          cases h
          have h3 : sB t e j1 < e := pkf_lt (t := t) (by omega)
          have h4 := sB_rng t (i := sB t e j1 + 1) (e := e) (by omega)
          omega
        · cases h
    · cases h
theorem sWd_rng {cs : List Int} {k : Nat} {F : Fo} (hi : i ≤ e) (hc : ∀ c, c ∈ cs → 0 ≤ c) (hl : 1 ≤ cs.length) (h : sWd t e cs k i = .inr (F, j)) : i < j ∧ j ≤ e ∧ ∃ nd l, F = foC nd l foN := by
  unfold sWd at h
  cases hs : sW t e cs i with
  | inl p => rw [hs] at h; cases h
  | inr w =>
    rw [hs] at h
    cases h
    have := sW_rng cs i j hi hc hs
    exact ⟨by omega, by omega, _, _, rfl⟩
theorem wd_nn (cs : List Int) (h : cs = cFls ∨ cs = cNul ∨ cs = cTru) : (∀ c, c ∈ cs → 0 ≤ c) ∧ 1 ≤ cs.length := by
  rcases h with h | h | h <;> subst h <;> decide
end
theorem sP_rng (t : Int → Int) (e : Int) : ∀ (n : Nat) (b : Bool) (dep : Nat) (ob : Bool) (seen : List (List Int)) (i : Int) (F : Fo) (j : Int), i ≤ e → sP t e n b dep ob seen i = some (.inr (F, j)) → i < j ∧ j ≤ e ∧ (b = false → ∃ nd l, F = foC nd l foN) := by
  intro n
  induction n with
  | zero => intro b dep ob seen i F j hi h; cases h
  | succ n ih =>
    intro b dep ob seen i F j hi h
    cases b with
    | false =>
      unfold sP at h
      split at h
      · cases hs : sS t e 34 (i + 1) with
        | inl p => rw [hs] at h; cases h
        | inr w =>
          obtain ⟨us, k⟩ := w
          rw [hs] at h; cases h
          have := sS_rng (by decide) hs
          exact ⟨by omega, by omega, fun _ => ⟨_, _, rfl⟩⟩
      split at h
      · rename_i hb
        have hie : i < e := pkf_lt (t := t) (by omega)
        have h1 := sB_rng t (i := i + 1) (e := e) (by omega)
        split at h
        · cases h
        split at h
        · rename_i hc
          cases h
          have : sB t e (i + 1) < e := pkf_lt (t := t) (by rw [hc]; cases (pk t e i == 123) <;> decide)
          exact ⟨by omega, by omega, fun _ => ⟨_, _, rfl⟩⟩
        · cases hr : sP t e n true (dep + 1) (pk t e i == 123) [] (sB t e (i + 1)) with
          | none => rw [hr] at h; cases h
          | some w =>
            cases w with
            | inl p => rw [hr] at h; cases h
            | inr w =>
              obtain ⟨l, k⟩ := w
              rw [hr] at h; cases h
              have := ih true _ _ _ _ _ _ h1.2 hr
              exact ⟨by omega, this.2.1, fun _ => ⟨_, _, rfl⟩⟩
      split at h
      · have h' := Option.some.inj h
        have := sWd_rng hi (wd_nn cFls (Or.inl rfl)).1 (wd_nn cFls (Or.inl rfl)).2 h'
        exact ⟨this.1, this.2.1, fun _ => this.2.2⟩
      split at h
      · have h' := Option.some.inj h
        have := sWd_rng hi (wd_nn cNul (Or.inr (Or.inl rfl))).1 (wd_nn cNul (Or.inr (Or.inl rfl))).2 h'
        exact ⟨this.1, this.2.1, fun _ => this.2.2⟩
      split at h
      · have h' := Option.some.inj h
        have := sWd_rng hi (wd_nn cTru (Or.inr (Or.inr rfl))).1 (wd_nn cTru (Or.inr (Or.inr rfl))).2 h'
        exact ⟨this.1, this.2.1, fun _ => this.2.2⟩
      · cases hs : sNm t e i with
        | inl p => rw [hs] at h; cases h
        | inr w =>
          obtain ⟨v, k⟩ := w
          rw [hs] at h; cases h
          have := sNm_rng hs
          exact ⟨by omega, by omega, fun _ => ⟨_, _, rfl⟩⟩
    | true =>
      unfold sP at h
      cases hk : sKey t e ob seen i with
      | inl p => rw [hk] at h; cases h
      | inr w =>
        obtain ⟨nm, j1⟩ := w
        rw [hk] at h
        dsimp only at h
        have h1 := sKey_rng hi hk
        cases hv : sP t e n false dep ob seen j1 with
        | none => rw [hv] at h; cases h
        | some w =>
          cases w with
          | inl p => rw [hv] at h; cases h
          | inr w =>
            obtain ⟨Fv, k⟩ := w
            rw [hv] at h
            obtain ⟨v1, v2, v3⟩ := ih false _ _ _ _ _ _ h1.2 hv
            obtain ⟨nd, l, rfl⟩ := v3 rfl
            dsimp only at h
            have h2 := sB_rng t (i := k) (e := e) v2
            split at h
            · rename_i hc
              cases h
              have : sB t e k < e := pkf_lt (t := t) (by rw [hc]; cases ob <;> decide)
              exact ⟨by omega, by omega, fun q => (by cases q)⟩
            split at h
            · rename_i h44
              have hlt : sB t e k < e := pkf_lt (t := t) (by omega)
              have h3 := sB_rng t (i := sB t e k + 1) (e := e) (by omega)
              cases hr : sP t e n true dep ob (seen ++ [nm]) (sB t e (sB t e k + 1)) with
              | none => rw [hr] at h; cases h
              | some w =>
                cases w with
                | inl p => rw [hr] at h; cases h
                | inr w =>
                  obtain ⟨R, q⟩ := w
                  rw [hr] at h; cases h
                  have := ih true _ _ _ _ _ _ h3.2 hr
                  exact ⟨by omega, this.2.1, fun q => (by cases q)⟩
            · cases h
theorem sP_some (t : Int → Int) (e : Int) : ∀ (n : Nat) (b : Bool) (dep : Nat) (ob : Bool) (seen : List (List Int)) (i : Int), i ≤ e → 2 * (e - i) + 1 + b2i b ≤ n → sP t e n b dep ob seen i ≠ none := by
  intro n
  induction n with
  | zero => intro b dep ob seen i hi h
            have : (0 : Int) ≤ b2i b := by cases b <;> decide
            exfalso; omega
  | succ n ih =>
    intro b dep ob seen i hi hn h
    cases b with
    | false =>
      have hn : 2 * (e - i) + 1 + 0 ≤ ((n + 1 : Nat) : Int) := hn
      unfold sP at h
      split at h
      · cases hs : sS t e 34 (i + 1) with
        | inl p => rw [hs] at h; cases h
        | inr w => rw [hs] at h; cases h
      split at h
      · have hie : i < e := pkf_lt (t := t) (by omega)
        have h1 := sB_rng t (i := i + 1) (e := e) (by omega)
        split at h
        · cases h
        split at h
        · cases h
        · cases hr : sP t e n true (dep + 1) (pk t e i == 123) [] (sB t e (i + 1)) with
          | none => exact ih true _ _ _ _ h1.2 (show _ + (1 : Int) ≤ _ by omega) hr
          | some w =>
            rw [hr] at h
            cases w with
            | inl p => cases h
            | inr w => cases h
      split at h
      · cases h
      split at h
      · cases h
      split at h
      · cases h
      · cases hs : sNm t e i with
        | inl p => rw [hs] at h; cases h
        | inr w => rw [hs] at h; cases h
    | true =>
      have hn : 2 * (e - i) + 1 + 1 ≤ ((n + 1 : Nat) : Int) := hn
      unfold sP at h
      cases hk : sKey t e ob seen i with
      | inl p => rw [hk] at h; cases h
      | inr w =>
        obtain ⟨nm, j1⟩ := w
        rw [hk] at h
        dsimp only at h
        have h1 := sKey_rng hi hk
        cases hv : sP t e n false dep ob seen j1 with
        | none => exact ih false _ _ _ _ h1.2 (show _ + (0 : Int) ≤ _ by omega) hv
        | some w =>
          cases w with
          | inl p => rw [hv] at h; cases h
          | inr w =>
            obtain ⟨Fv, k⟩ := w
            rw [hv] at h
            obtain ⟨v1, v2, v3⟩ := sP_rng t e n false _ _ _ _ _ _ h1.2 hv
            obtain ⟨nd, l, rfl⟩ := v3 rfl
            dsimp only at h
            have h2 := sB_rng t (i := k) (e := e) v2
            split at h
            · cases h
            split at h
            · have hlt : sB t e k < e := pkf_lt (t := t) (by omega)
              have h3 := sB_rng t (i := sB t e k + 1) (e := e) (by omega)
              cases hr : sP t e n true dep ob (seen ++ [nm]) (sB t e (sB t e k + 1)) with
              | none => exact ih true _ _ _ _ h3.2 (show _ + (1 : Int) ≤ _ by omega) hr
              | some w =>
                rw [hr] at h
                cases w with
                | inl p => cases h
                | inr w => cases h
            · cases h
/-- a text is broken or a value -/
theorem sRd_some (t : Int → Int) {e : Int} (he : 0 ≤ e) {n : Nat} (hn : 2 * e + 1 ≤ n) : sRd t e n ≠ none := by
  intro h
  unfold sRd at h
  have hb := sB_rng t (i := 0) (e := e) he
  cases hs : sP t e n false 0 false [] (sB t e 0) with
  | none => exact sP_some t e n false 0 false [] _ hb.2 (show _ + (0 : Int) ≤ _ by omega) hs
  | some w =>
    rw [hs] at h
    cases w with
    | inl p => cases h
    | inr w =>
      obtain ⟨F, j⟩ := w
      dsimp only at h
      split at h <;> cases h
