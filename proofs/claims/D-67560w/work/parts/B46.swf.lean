/-! what is read is well formed -/
set_option maxRecDepth 100000
set_option maxHeartbeats 4000000
section
variable {t : Int → Int} {e fi q : Int}
theorem f4_step {k : Nat} {i u v : Int} (h : f4 t e fi (k + 1) i u = .inr v) : ∃ x, 0 ≤ x ∧ x < 16 ∧ f4 t e fi k (i + 1) (16 * u + x) = .inr v := by
  have h : (if i < e then (if hexV (pk t e i) < 0 then Sum.inl fi else f4 t e fi k (i + 1) (16 * u + hexV (pk t e i))) else Sum.inl i) = (Sum.inr v : Int ⊕ Int) := h
  split at h
  · split at h
    · cases h
    · exact ⟨_, by omega, hexV_lt _, h⟩
  · cases h
theorem f4_r4 {i v : Int} (h : f4 t e fi 4 i 0 = .inr v) : 0 ≤ v ∧ v < 65536 := by
  obtain ⟨a, a0, a1, h⟩ := f4_step h
  obtain ⟨b, b0, b1, h⟩ := f4_step h
  obtain ⟨c, c0, c1, h⟩ := f4_step h
  obtain ⟨d, d0, d1, h⟩ := f4_step h
  have h : (Sum.inr (16 * (16 * (16 * (16 * 0 + a) + b) + c) + d) : Int ⊕ Int) = .inr v := h
  have := Sum.inr.inj h
  omega
theorem wfU_one {u : Int} (h : 0 ≤ u ∧ u < 65536) : wfU [u] := fun x hx => by rw [List.mem_singleton.mp hx]; exact h
theorem sU_wf {i j : Int} {us : List Int} (h : sU t e fi i = .inr (us, j)) : wfU us := by
  unfold sU at h
  split at h
  · cases h
  · rename_i u hu
    have ru := f4_r4 hu
    split at h
    · cases h
    · split at h
      · cases h
        exact wfU_one ru
      · split at h
        · cases h
        · split at h
          · cases h
          · split at h
            · cases h
            · split at h
              · cases h
              · split at h
                · cases h
                · rename_i v hv
                  have rv := f4_r4 hv
                  split at h
                  · cases h
                  · cases h
                    exact wfU_app (us := [u]) (vs := [v]) (wfU_one ru) (wfU_one rv)
theorem sC_wf (hq : q = 34 ∨ q = 39) {i j : Int} {us : List Int} (h : sC t e q i = .inr (us, j)) : wfU us := by
  unfold sC at h
  have one : ∀ (b k : Int), 0 ≤ b → b < 256 → (Sum.inr ([b], k) : Int ⊕ (List Int × Int)) = Sum.inr (us, j) → wfU us := by
    intro b k h0 hb hE; cases hE
    exact wfU_one (by omega)
  split at h
  · cases h
  · split at h
    · exact one _ _ (by omega) (by omega) h
    · split at h
      · cases h
      · iterate 6 (split at h; exact one _ _ (by omega) (by omega) h)
        split at h
        · exact sU_wf h
        · split at h
          · exact one _ _ (by omega) (by omega) h
          · cases h
theorem pS_wf (hq : q = 34 ∨ q = 39) : ∀ (n : Nat) (i j : Int) (us : List Int), pS t e q n i = .inr (us, j) → wfU us := by
  intro n
  induction n with
  | zero => intro i j us h; cases h
  | succ n ih =>
    intro i j us h
    unfold pS at h
    split at h
    · cases h; exact fun x hx => by cases hx
    · split at h
      · cases h
      · rename_i us1 j1 h1
        split at h
        · cases h
        · rename_i vs k h2
          cases h
          exact wfU_app (sC_wf hq h1) (ih _ _ _ h2)
theorem sS_wf (hq : q = 34 ∨ q = 39) {i j : Int} {us : List Int} (h : sS t e q i = .inr (us, j)) : wfU us := pS_wf hq _ _ _ _ h
end
theorem sP_wf (t : Int → Int) (e : Int) : ∀ (n : Nat) (b : Bool) (dep : Nat) (ob : Bool) (seen : List (List Int)) (i : Int) (F : Fo) (j : Int), sP t e n b dep ob seen i = some (.inr (F, j)) → wfF F ∧ (b = false → ∃ nd l, F = foC nd l foN) ∧ (b = true → ob = true → (nmsF F).Nodup ∧ ∀ k, k ∈ nmsF F → k ∉ seen) := by
  intro n
  induction n with
  | zero => intro b dep ob seen i F j h; cases h
  | succ n ih =>
    intro b dep ob seen i F j h
    have wU : wfU [] := fun x hx => by cases hx
    have hB : (-9007199254740992 : Int) < 0 := by decide
    have hB' : (0 : Int) < 9007199254740992 := by decide
    have word : ∀ (cs : List Int) (k : Nat), k < 3 → sWd t e cs k i = .inr (F, j) → wfF F ∧ ∃ nd l, F = foC nd l foN := by
      intro cs k hk hs
      unfold sWd at hs
      cases hq : sW t e cs i with
      | inl p => rw [hq] at hs; cases hs
      | inr w =>
        rw [hq] at hs
        cases hs
        exact ⟨⟨⟨show k ≤ 6 by omega, hB, hB', wU, wU⟩, trivial, fun _ => rfl, fun _ => List.nodup_nil, trivial, trivial⟩, _, _, rfl⟩
    cases b with
    | false =>
      have main : wfF F ∧ ∃ nd l, F = foC nd l foN := by
        unfold sP at h
        split at h
        · cases hs : sS t e 34 (i + 1) with
          | inl p => rw [hs] at h; cases h
          | inr w =>
            obtain ⟨us, k⟩ := w
            rw [hs] at h; cases h
            exact ⟨⟨⟨show 4 ≤ 6 by decide, hB, hB', sS_wf (Or.inl rfl) hs, wU⟩, sS_sur (Or.inl rfl) hs, fun _ => rfl, fun _ => List.nodup_nil, trivial, trivial⟩, _, _, rfl⟩
        split at h
        · split at h
          · cases h
          · have hkd : ∀ q : Bool, ((if q then 6 else 5 : Nat) = 6 → q = true) ∧ ¬ (if q then 6 else 5 : Nat) < 5 ∧ (if q then 6 else 5 : Nat) ≤ 6 := by intro q; cases q <;> decide
            obtain ⟨k1, k2, k3⟩ := hkd (pk t e i == 123)
            split at h
            · cases h
              exact ⟨⟨⟨k3, hB, hB', wU, wU⟩, trivial, fun _ => rfl, fun _ => List.nodup_nil, trivial, trivial⟩, _, _, rfl⟩
            · cases hr : sP t e n true (dep + 1) (pk t e i == 123) [] (sB t e (i + 1)) with
              | none => rw [hr] at h; cases h
              | some w =>
                cases w with
                | inl p => rw [hr] at h; cases h
                | inr w =>
                  obtain ⟨l, k⟩ := w
                  rw [hr] at h; cases h
                  obtain ⟨c1, -, c3⟩ := ih true _ _ _ _ _ _ hr
                  exact ⟨⟨⟨k3, hB, hB', wU, wU⟩, trivial, fun hlt => absurd hlt k2, fun h6 => (c3 rfl (k1 h6)).1, c1, trivial⟩, _, _, rfl⟩
        split at h
        · exact word cFls 1 (by decide) (Option.some.inj h)
        split at h
        · exact word cNul 0 (by decide) (Option.some.inj h)
        split at h
        · exact word cTru 2 (by decide) (Option.some.inj h)
        · cases hs : sNm t e i with
          | inl p => rw [hs] at h; cases h
          | inr w =>
            obtain ⟨v, k⟩ := w
            rw [hs] at h; cases h
            obtain ⟨-, -, r1, r2⟩ := sNm_rng hs
            exact ⟨⟨⟨show 3 ≤ 6 by decide, r1, r2, wU, wU⟩, trivial, fun _ => rfl, fun _ => List.nodup_nil, trivial, trivial⟩, _, _, rfl⟩
      exact ⟨main.1, fun _ => main.2, fun q => (by cases q)⟩
    | true =>
      unfold sP at h
      cases hk : sKey t e ob seen i with
      | inl p => rw [hk] at h; cases h
      | inr w =>
        obtain ⟨nm, j1⟩ := w
        rw [hk] at h
        dsimp only at h
        have hnm : wfU nm ∧ (ob = true → nm ∉ seen) := by
          unfold sKey at hk
          cases ob with
          | false => rw [if_neg (by decide)] at hk; cases hk; exact ⟨wU, fun q => (by cases q)⟩
          | true =>
            rw [if_pos rfl] at hk
            split at hk
            · cases hs : sS t e 34 (i + 1) with
              | inl p => rw [hs] at hk; cases hk
              | inr w =>
                obtain ⟨n1, k1⟩ := w
                rw [hs] at hk
                dsimp only at hk
                split at hk
                · cases hk
                rename_i hns
                split at hk
                · cases hk; exact ⟨sS_wf (Or.inl rfl) hs, fun _ => hns⟩
                · cases hk
            · cases hk
        cases hv : sP t e n false dep ob seen j1 with
        | none => rw [hv] at h; cases h
        | some w =>
          cases w with
          | inl p => rw [hv] at h; cases h
          | inr w =>
            obtain ⟨Fv, k⟩ := w
            rw [hv] at h
            obtain ⟨v1, v2, -⟩ := ih false _ _ _ _ _ _ hv
            obtain ⟨nd, l, rfl⟩ := v2 rfl
            obtain ⟨⟨w1, w2, w3, w4, w5⟩, w6, w7, w8, w9, -⟩ := v1
            dsimp only at h
            have one : ∀ R, wfF R → wfF (foC (nd.1, nd.2.1, nd.2.2.1, nm) l R) := fun R hR => ⟨⟨w1, w2, w3, w4, hnm.1⟩, w6, w7, w8, w9, hR⟩
            split at h
            · cases h
              refine ⟨one _ trivial, fun q => (by cases q), fun _ ho => ⟨?_, fun x hx => ?_⟩⟩
              · show (nm :: []).Nodup
                exact List.nodup_cons.mpr ⟨fun z => (by cases z), List.nodup_nil⟩
              · have hx : x ∈ nm :: [] := hx
                rw [List.mem_singleton.mp hx]
                exact hnm.2 ho
            split at h
            · cases hr : sP t e n true dep ob (seen ++ [nm]) (sB t e (sB t e k + 1)) with
              | none => rw [hr] at h; cases h
              | some w =>
                cases w with
                | inl p => rw [hr] at h; cases h
                | inr w =>
                  obtain ⟨R, q⟩ := w
                  rw [hr] at h; cases h
                  obtain ⟨c1, -, c3⟩ := ih true _ _ _ _ _ _ hr
                  refine ⟨one _ c1, fun q => (by cases q), fun _ ho => ?_⟩
                  obtain ⟨c4, c5⟩ := c3 rfl ho
                  refine ⟨?_, fun x hx => ?_⟩
                  · show (nm :: nmsF R).Nodup
                    exact List.nodup_cons.mpr ⟨fun z => c5 _ z (List.mem_append_right _ List.mem_cons_self), c4⟩
                  · have hx : x ∈ nm :: nmsF R := hx
                    rcases List.mem_cons.mp hx with rfl | hx
                    · exact hnm.2 ho
                    · exact fun z => c5 x hx (List.mem_append_left _ z)
            · cases h
theorem sRd_wf {t : Int → Int} {e : Int} {n : Nat} {F : Fo} (h : sRd t e n = some (.inr F)) : wfF F := by
  unfold sRd at h
  cases hs : sP t e n false 0 false [] (sB t e 0) with
  | none => rw [hs] at h; cases h
  | some w =>
    cases w with
    | inl p => rw [hs] at h; cases h
    | inr w =>
      obtain ⟨G, k⟩ := w
      rw [hs] at h
      dsimp only at h
      split at h
      · cases h
        exact (sP_wf t e _ _ _ _ _ _ _ _ hs).1
      · cases h
