/-! what is read prints in no more than its text -/
set_option maxRecDepth 100000
set_option maxHeartbeats 4000000
theorem prC_le (q u : Int) : (prC q u).length ≤ 6 := by
  unfold prC
  repeat' split
  all_goals simp
theorem sB_ge (t : Int → Int) (e i : Int) : i ≤ sB t e i := (pB_rng _ _ _).1
theorem sW_len {t : Int → Int} {e : Int} : ∀ (cs : List Int) (i j : Int), sW t e cs i = .inr j → j = i + cs.length := by
  intro cs
  induction cs with
  | nil => intro i j h; unfold sW at h; cases h; simp
  | cons c r ih =>
    intro i j h
    unfold sW at h
    split at h
    · have := ih _ _ h; rw [this, List.length_cons]; omega
    · cases h
theorem sU_pr {t : Int → Int} {e fi i j : Int} {us : List Int} (h : sU t e fi i = .inr (us, j)) : ((us.flatMap (prC 34)).length : Int) ≤ j - i + 2 := by
  unfold sU at h
  split at h
  · cases h
  · rename_i u hu
    split at h
    · cases h
    split at h
    · cases h
      have := prC_le 34 u
      simp only [List.flatMap_cons, List.flatMap_nil, List.append_nil]; omega
    split at h
    · cases h
    split at h
    · cases h
    split at h
    · cases h
    split at h
    · cases h
    split at h
    · cases h
    · rename_i v hv
      split at h
      · cases h
      · cases h
        have := prC_le 34 u
        have := prC_le 34 v
        simp only [List.flatMap_cons, List.flatMap_nil, List.append_nil, List.length_append]; omega
theorem sC_pr {t : Int → Int} {e i j : Int} {us : List Int} (h34 : pk t e i ≠ 34) (h : sC t e 34 i = .inr (us, j)) : ((us.flatMap (prC 34)).length : Int) ≤ j - i := by
  unfold sC at h
  split at h
  · cases h
  rename_i hr
  split at h
  · rename_i h92
    cases h
    have : prC 34 (pk t e i) = [pk t e i] := by
      unfold prC
      rw [if_neg (by omega), if_neg (by omega), if_neg (by omega), if_neg (by omega), if_neg (by omega), if_neg (by omega), if_neg (by omega)]
    simp only [List.flatMap_cons, List.flatMap_nil, List.append_nil, this, List.length_cons, List.length_nil]; omega
  have two : ∀ x : Int, (x = 47 ∨ x = 92 ∨ x = 8 ∨ x = 12 ∨ x = 10 ∨ x = 13 ∨ x = 9 ∨ x = 34) → (([x].flatMap (prC 34)).length : Int) ≤ 2 := by
    intro x hx
    rcases hx with h | h | h | h | h | h | h | h <;> subst h <;> decide
  split at h
  · cases h
  split at h
  · rename_i h1
    cases h
    have := two (pk t e (i + 1)) (by omega)
    omega
  split at h
  · cases h; have := two 8 (by simp); omega
  split at h
  · cases h; have := two 12 (by simp); omega
  split at h
  · cases h; have := two 10 (by simp); omega
  split at h
  · cases h; have := two 13 (by simp); omega
  split at h
  · cases h; have := two 9 (by simp); omega
  split at h
  · have := sU_pr h; omega
  split at h
  · cases h; have := two 34 (by simp); omega
  · cases h
theorem pS_pr {t : Int → Int} {e : Int} : ∀ (n : Nat) (i j : Int) (us : List Int), pS t e 34 n i = .inr (us, j) → ((us.flatMap (prC 34)).length : Int) + 1 ≤ j - i := by
  intro n
  induction n with
  | zero => intro i j us h; cases h
  | succ n ih =>
    intro i j us h
    unfold pS at h
    split at h
    · cases h; simp; omega
    · rename_i h34
      split at h
      · cases h
      · rename_i ws k hk
        have h1 := sC_pr h34 hk
        split at h
        · cases h
        · rename_i vs k2 hk2
          cases h
          have h2 := ih _ _ _ hk2
          rw [List.flatMap_append, List.length_append]; omega
theorem sS_pr {t : Int → Int} {e i j : Int} {us : List Int} (h : sS t e 34 (i + 1) = .inr (us, j)) : ((prS 34 us).length : Int) ≤ j - i := by
  have := pS_pr _ _ _ _ h
  unfold prS
  simp only [List.length_cons, List.length_append, List.length_nil]; omega
theorem dl_kd {u : Int} {k : Nat} (h0 : 0 ≤ u) (h1 : u < ((10 ^ 18 : Nat) : Int)) (hk : u < ((10 ^ k : Nat) : Int)) (hk1 : 1 ≤ k) : (dl (kd 17 u) u).length ≤ k := by
  rw [dl_len]
  obtain ⟨-, h2⟩ := kd_spec 17 u h0 h1
  rcases h2 with h | h
  · omega
  · refine Nat.succ_le_of_lt ((Nat.pow_lt_pow_iff_right (a := 10) (by decide)).mp ?_)
    omega
theorem nDV_pr {t : Int → Int} {e i : Int} (h : dg (pk t e i)) : ((dl (kd 17 (nDV t e i).1) (nDV t e i).1).length : Int) ≤ (nDV t e i).2 - i := by
  obtain ⟨r0, r1, r2, r3, -⟩ := nDV_rng h
  have hlt : (nDV t e i).1 < ((10 ^ ((nDV t e i).2 - i).toNat : Nat) : Int) := by
    unfold nDV
    split
    · show (0 : Int) < _
      have : 0 < 10 ^ ((i + 1) - i).toNat := Nat.pow_pos (by decide)
      exact Int.ofNat_lt.mpr this
    · have := (pDg_rng (pk t e) (e - i).toNat i 0 (by omega) (by omega)).2.2.2.2
      rw [Int.zero_add, Int.one_mul] at this
      exact this
  have := dl_kd r0 (by have : ((10 ^ 18 : Nat) : Int) = 1000000000000000000 := rfl; omega) hlt (by omega)
  omega
theorem sNm_pr {t : Int → Int} {e i v j : Int} (h : sNm t e i = .inr (v, j)) : ((prN v).length : Int) ≤ j - i := by
  unfold sNm at h
  split at h
  · cases h
  rename_i hd
  have hd : dg (pk t e (nI0 t e i)) := Classical.byContradiction hd
  split at h
  · cases h
  rename_i hb
  have h1 := nDV_pr hd
  obtain ⟨r0, r1, r2, r3, -⟩ := nDV_rng hd
  have hi : nI0 t e i = if pk t e i = 45 then i + 1 else i := rfl
  cases h
  unfold prN
  by_cases hm : pk t e i = 45
  · rw [if_pos hm] at hi ⊢
    split
    · rw [List.length_cons, Int.neg_neg]; omega
    · rename_i hn
      have h0 : (nDV t e (nI0 t e i)).1 = 0 := by omega
      rw [h0] at h1 ⊢
      rw [Int.neg_zero]; omega
  · rw [if_neg hm] at hi ⊢
    rw [if_neg (by omega)]; omega
theorem prF_fst (ob : Bool) (F : Fo) : (prF ob false F).length ≤ 1 + (prF ob true F).length := by
  cases F with
  | leaf => simp [prF]
  | inner n d u l r => rw [prF_inner, prF_inner, if_neg (by decide), if_pos rfl]; simp only [List.length_append, List.length_cons, List.length_nil]; omega
theorem sP_pr (t : Int → Int) (e : Int) : ∀ (n : Nat) (b : Bool) (dep : Nat) (ob : Bool) (seen : List (List Int)) (i : Int) (F : Fo) (j : Int), sP t e n b dep ob seen i = some (.inr (F, j)) → (b = false → ∃ nd l, F = foC nd l foN ∧ ((prV nd l).length : Int) ≤ j - i) ∧ (b = true → ((prF ob true F).length : Int) + 1 ≤ j - i) := by
  intro n
  induction n with
  | zero => intro b dep ob seen i F j h; cases h
  | succ n ih =>
    intro b dep ob seen i F j h
    have word : ∀ (cs : List Int) (k : Nat), (prV (k, 0, [], []) foN) = cs → sWd t e cs k i = .inr (F, j) → ∃ nd l, F = foC nd l foN ∧ ((prV nd l).length : Int) ≤ j - i := by
      intro cs k hk hs
      unfold sWd at hs
      cases hq : sW t e cs i with
      | inl p => rw [hq] at hs; cases hs
      | inr w =>
        have := sW_len _ _ _ hq
        rw [hq] at hs
        cases hs
        exact ⟨(k, 0, [], []), foN, rfl, by rw [hk]; omega⟩
    cases b with
    | false =>
      refine ⟨fun _ => ?_, fun q => (by cases q)⟩
      unfold sP at h
      split at h
      · cases hs : sS t e 34 (i + 1) with
        | inl p => rw [hs] at h; cases h
        | inr w =>
          obtain ⟨us, k⟩ := w
          rw [hs] at h; cases h
          exact ⟨(4, 0, us, []), foN, rfl, sS_pr hs⟩
      split at h
      · split at h
        · cases h
        · have hkd : ∀ q : Bool, ∀ l : Fo, (prV (if q then 6 else 5, 0, [], []) l).length = 2 + (prF q true l).length := by
            intro q l; cases q <;> (unfold prV prD; simp; omega)
          have hg := sB_ge t e (i + 1)
          split at h
          · cases h
            refine ⟨_, foN, rfl, ?_⟩
            rw [hkd]
            show ((2 + 0 : Nat) : Int) ≤ _
            omega
          · cases hr : sP t e n true (dep + 1) (pk t e i == 123) [] (sB t e (i + 1)) with
            | none => rw [hr] at h; cases h
            | some w =>
              cases w with
              | inl p => rw [hr] at h; cases h
              | inr w =>
                obtain ⟨l, k⟩ := w
                rw [hr] at h; cases h
                have c1 := (ih true _ _ _ _ _ _ hr).2 rfl
                refine ⟨_, l, rfl, ?_⟩
                rw [hkd]; omega
      split at h
      · exact word cFls 1 rfl (Option.some.inj h)
      split at h
      · exact word cNul 0 rfl (Option.some.inj h)
      split at h
      · exact word cTru 2 rfl (Option.some.inj h)
      · cases hs : sNm t e i with
        | inl p => rw [hs] at h; cases h
        | inr w =>
          obtain ⟨v, k⟩ := w
          rw [hs] at h; cases h
          exact ⟨(3, v, [], []), foN, rfl, sNm_pr hs⟩
    | true =>
      refine ⟨fun q => (by cases q), fun _ => ?_⟩
      unfold sP at h
      cases hk : sKey t e ob seen i with
      | inl p => rw [hk] at h; cases h
      | inr w =>
        obtain ⟨nm, j1⟩ := w
        rw [hk] at h
        dsimp only at h
        have hnm : ((if ob then prS 34 nm ++ [58] else []).length : Int) ≤ j1 - i := by
          unfold sKey at hk
          cases ob with
          | false => rw [if_neg (by decide)] at hk; cases hk; simp
          | true =>
            rw [if_pos rfl] at hk
            split at hk
            · cases hs : sS t e 34 (i + 1) with
              | inl p => rw [hs] at hk; cases hk
              | inr w =>
                obtain ⟨n1, k1⟩ := w
                rw [hs] at hk
                dsimp only at hk
                split at hk
                · cases hk
                split at hk
                · cases hk
                  have h1 := sS_pr hs
                  have h2 := sB_ge t e k1
                  have h3 := sB_ge t e (sB t e k1 + 1)
                  rw [if_pos rfl, List.length_append, List.length_cons, List.length_nil]; omega
                · cases hk
            · cases hk
        cases hv : sP t e n false dep ob seen j1 with
        | none => rw [hv] at h; cases h
        | some w =>
          cases w with
          | inl p => rw [hv] at h; cases h
          | inr w =>
            obtain ⟨Fv, k⟩ := w
            rw [hv] at h
            obtain ⟨nd, l, rfl, v2⟩ := (ih false _ _ _ _ _ _ hv).1 rfl
            dsimp only at h
            have hp : prV (nd.1, nd.2.1, nd.2.2.1, nm) l = prV nd l := rfl
            have g1 := sB_ge t e k
            have g2 := sB_ge t e (sB t e k + 1)
            split at h
            · cases h
              rw [prF_inner, if_pos rfl, hp]
              simp only [List.length_append, List.length_nil, prF_leaf] at hnm ⊢
              omega
            split at h
            · cases hr : sP t e n true dep ob (seen ++ [nm]) (sB t e (sB t e k + 1)) with
              | none => rw [hr] at h; cases h
              | some w =>
                cases w with
                | inl p => rw [hr] at h; cases h
                | inr w =>
                  obtain ⟨R, q⟩ := w
                  rw [hr] at h; cases h
                  have c1 := (ih true _ _ _ _ _ _ hr).2 rfl
                  have c2 := prF_fst ob R
                  rw [prF_inner, if_pos rfl, hp]
                  simp only [List.length_append, List.length_nil] at hnm ⊢
                  omega
            · cases h
/-- a whole text that is read prints in at most as many bytes -/
theorem sRd_le {t : Int → Int} {e : Int} {n : Nat} {nd : ND} {l : Fo} (h : sRd t e n = some (.inr (foC nd l foN))) (he : 0 ≤ e) : ((prV nd l).length : Int) ≤ e := by
  unfold sRd at h
  cases hs : sP t e n false 0 false [] (sB t e 0) with
  | none => rw [hs] at h; cases h
  | some w =>
    cases w with
    | inl p => rw [hs] at h; cases h
    | inr w =>
      obtain ⟨F0, j⟩ := w
      rw [hs] at h
      dsimp only at h
      split at h
      · rename_i hj
        cases h
        obtain ⟨nd', l', h1, h2⟩ := (sP_pr t e n false 0 false [] _ _ _ hs).1 rfl
        cases h1
        have := sB_ge t e 0
        have := sB_ge t e j
        omega
      · cases h
