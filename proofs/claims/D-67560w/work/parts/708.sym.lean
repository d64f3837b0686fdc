/-! being the same goes both ways -/
set_option maxRecDepth 100000
theorem sub_full {α : Type} [DecidableEq α] : ∀ (A B : List α), A.Nodup → (∀ x, x ∈ A → x ∈ B) → B.length ≤ A.length → ∀ x, x ∈ B → x ∈ A := by
  intro A
  induction A with
  | nil =>
    intro B _ _ hl x hx
    cases B with
    | nil => exact hx
    | cons b B => simp at hl
  | cons a A ih =>
    intro B hn hs hl x hx
    rw [List.nodup_cons] at hn
    have ha : a ∈ B := hs a (by simp)
    by_cases hxa : x = a
    · rw [hxa]; simp
    · have hlen : (B.erase a).length = B.length - 1 := List.length_erase_of_mem ha
      have := ih (B.erase a) hn.2 (fun y hy => by
        have hya : y ≠ a := fun q => hn.1 (q ▸ hy)
        exact (List.mem_erase_of_ne hya).mpr (hs y (List.mem_cons_of_mem _ hy))) (by rw [hlen]; simp at hl; omega) x ((List.mem_erase_of_ne hxa).mpr hx)
      exact List.mem_cons_of_mem _ this
/-- (d, l) stands in F -/
def inF (d : ND) (l : Fo) : Fo → Prop
  | .leaf => False
  | .inner _ d' _ l' r => (d = d' ∧ l = l') ∨ inF d l r
theorem cnt_nms (F : Fo) : (nmsF F).length = cntF F := by
  induction F with
  | leaf => rfl
  | inner i d u l r _ ih => simp only [nmsF, cntF, List.length_cons, ih]
theorem inF_nm {d : ND} {l : Fo} : ∀ {F : Fo}, inF d l F → d.2.2.2 ∈ nmsF F ∧ szF l < szF F := by
  intro F
  induction F with
  | leaf => intro h; exact absurd h (fun q => q)
  | inner i d' u l' r _ ih =>
    intro h
    simp only [nmsF, szF, List.mem_cons]
    rcases h with ⟨rfl, rfl⟩ | h
    · exact ⟨Or.inl rfl, by omega⟩
    · have := ih h; exact ⟨Or.inr this.1, by omega⟩
theorem fnd_in {k : List Int} {d : ND} {l : Fo} : ∀ {G : Fo}, fndF G k = some (d, l) → inF d l G ∧ d.2.2.2 = k := by
  intro G
  induction G with
  | leaf => intro h; cases h
  | inner i d' u l' r _ ih =>
    intro h
    simp only [fndF] at h
    split at h
    · rename_i hk
      cases h
      exact ⟨Or.inl ⟨rfl, rfl⟩, hk⟩
    · have := ih h; exact ⟨Or.inr this.1, this.2⟩
theorem fnd_mem {k : List Int} : ∀ {G : Fo}, k ∈ nmsF G → ∃ d l, fndF G k = some (d, l) := by
  intro G
  induction G with
  | leaf => intro h; simp [nmsF] at h
  | inner i d' u l' r _ ih =>
    intro h
    simp only [fndF]
    by_cases hk : d'.2.2.2 = k
    · rw [if_pos hk]; exact ⟨_, _, rfl⟩
    · rw [if_neg hk]
      simp only [nmsF, List.mem_cons] at h
      rcases h with h | h
      · exact absurd h.symm hk
      · exact ih h
theorem in_fnd {d : ND} {l : Fo} : ∀ {G : Fo}, (nmsF G).Nodup → inF d l G → fndF G d.2.2.2 = some (d, l) := by
  intro G
  induction G with
  | leaf => intro _ h; exact absurd h (fun q => q)
  | inner i d' u l' r _ ih =>
    intro hn h
    simp only [nmsF, List.nodup_cons] at hn
    simp only [fndF]
    rcases h with ⟨rfl, rfl⟩ | h
    · rw [if_pos rfl]
    · rw [if_neg (fun (q : d'.2.2.2 = d.2.2.2) => hn.1 (by rw [q]; exact (inF_nm h).1))]
      exact ih hn.2 h
theorem smF_ob (G : Fo) : ∀ F : Fo, smF F true G = true ↔ ∀ d l, inF d l F → ∃ d' l', fndF G d.2.2.2 = some (d', l') ∧ smV d l d' l' = true := by
  intro F
  induction F with
  | leaf => simp [smF, inF]
  | inner i d u l r _ ih =>
    have e : smF (.inner i d u l r) true G = match fndF G d.2.2.2 with
      | none => false
      | some (d', l') => smV d l d' l' && smF r true G := by simp only [smF, if_true]; rfl
    rw [e]
    constructor
    · intro h d0 l0 hin
      cases hf : fndF G d.2.2.2 with
      | none => rw [hf] at h; cases h
      | some p =>
        obtain ⟨d', l'⟩ := p
        rw [hf] at h
        simp only [Bool.and_eq_true] at h
        rcases hin with ⟨rfl, rfl⟩ | hin
        · exact ⟨d', l', hf, h.1⟩
        · exact ih.mp h.2 d0 l0 hin
    · intro h
      obtain ⟨d', l', hf, hs⟩ := h d l (Or.inl ⟨rfl, rfl⟩)
      rw [hf]
      simp only [Bool.and_eq_true]
      exact ⟨hs, ih.mpr (fun d0 l0 hin => h d0 l0 (Or.inr hin))⟩
theorem wf_in {d : ND} {l : Fo} : ∀ {F : Fo}, wfF F → inF d l F → wfF (foC d l foN) := by
  intro F
  induction F with
  | leaf => intro _ h; exact absurd h (fun q => q)
  | inner i d' u l' r _ ih =>
    intro hw h
    obtain ⟨w1, w2, w3, w4, w5, w6⟩ := hw
    rcases h with ⟨rfl, rfl⟩ | h
    · exact ⟨w1, w2, w3, w4, w5, trivial⟩
    · exact ih w6 h
theorem smV_sym1 : ∀ (N : Nat) (nd : ND) (l : Fo) (nd' : ND) (l' : Fo), szF l + szF l' ≤ N → wfF (foC nd l foN) → wfF (foC nd' l' foN) → smV nd l nd' l' = true → smV nd' l' nd l = true := by
  intro N
  induction N with
  | zero =>
    intro nd l nd' l' hN hw hw' h
    have h1 : l = .leaf := by cases l with
      | leaf => rfl
      | inner i d u l r => simp [szF] at hN
    have h2 : l' = .leaf := by cases l' with
      | leaf => rfl
      | inner i d u l r => simp [szF] at hN
    subst h1 h2
    unfold smV smD at h ⊢
    simp only [Bool.and_eq_true, beq_iff_eq] at h ⊢
    refine ⟨h.1.symm, ?_⟩
    have h2 := h.2
    rw [h.1] at h2
    split
    · rfl
    rename_i g1
    rw [if_neg g1] at h2
    split
    · rename_i g2
      rw [if_pos g2] at h2
      exact beq_iff_eq.mpr (beq_iff_eq.mp h2).symm
    rename_i g2
    rw [if_neg g2] at h2
    split
    · rename_i g3
      rw [if_pos g3] at h2
      exact beq_iff_eq.mpr (beq_iff_eq.mp h2).symm
    · simp [smF, hdF]
  | succ N ih =>
    intro nd l nd' l' hN hw hw' h
    unfold smV smD at h ⊢
    simp only [Bool.and_eq_true, beq_iff_eq] at h ⊢
    refine ⟨h.1.symm, ?_⟩
    have h2 := h.2
    rw [h.1] at h2
    split
    · rfl
    rename_i g1
    rw [if_neg g1] at h2
    split
    · rename_i g2
      rw [if_pos g2] at h2
      exact beq_iff_eq.mpr (beq_iff_eq.mp h2).symm
    rename_i g2
    rw [if_neg g2] at h2
    split
    · rename_i g3
      rw [if_pos g3] at h2
      exact beq_iff_eq.mpr (beq_iff_eq.mp h2).symm
    rename_i g3
    rw [if_neg g3] at h2
    simp only [Bool.and_eq_true, beq_iff_eq] at h2 ⊢
    refine ⟨h2.1.symm, ?_⟩
    by_cases h6 : nd'.1 = 6
    · have e6 : (nd'.1 == 6) = true := beq_iff_eq.mpr h6
      rw [e6] at h2 ⊢
      have n1 := hw.2.2.2.1 (by rw [h.1]; exact h6)
      have n2 := hw'.2.2.2.1 h6
      have k := (smF_ob l' l).mp h2.2
      have hfull : ∀ x, x ∈ nmsF l' → x ∈ nmsF l := sub_full (nmsF l) (nmsF l') n1 (fun x hx => by
        obtain ⟨d0, l0, hf⟩ := fnd_mem hx
        obtain ⟨i1, i2⟩ := fnd_in hf
        obtain ⟨d1, l1, j1, j2⟩ := k d0 l0 i1
        obtain ⟨i3, i4⟩ := fnd_in j1
        rw [i2] at i4
        rw [← i4]; exact (inF_nm i3).1) (by rw [cnt_nms, cnt_nms]; omega)
      refine (smF_ob l l').mpr (fun d' lk' hin => ?_)
      have hnm := hfull _ (inF_nm hin).1
      obtain ⟨d0, l0, hf⟩ := fnd_mem hnm
      obtain ⟨i1, i2⟩ := fnd_in hf
      obtain ⟨d1, l1, j1, j2⟩ := k d0 l0 i1
      have j3 := in_fnd n2 hin
      rw [i2, j3] at j1
      cases j1
      exact ⟨d0, l0, hf, ih d0 l0 d' lk' (by have := (inF_nm i1).2; have := (inF_nm hin).2; omega) (wf_in hw.2.2.2.2.1 i1) (wf_in hw'.2.2.2.2.1 hin) j2⟩
    · have e6 : (nd'.1 == 6) = false := beq_eq_false_iff_ne.mpr h6
      rw [e6] at h2 ⊢
      have arr : ∀ (F G : Fo), szF F + szF G ≤ N + 1 → wfF F → wfF G → smF F false G = true → smF G false F = true := by
        intro F
        induction F with
        | leaf =>
          intro G _ _ _ hs
          cases G with
          | leaf => rfl
          | inner i d u l r => simp [smF, hdF] at hs
        | inner i d u lk r _ ihr =>
          intro G hsz wF wG hs
          cases G with
          | leaf => simp [smF, hdF] at hs
          | inner i' d' u' lk' r' =>
            obtain ⟨w1, w2, w3, w4, w5, w6⟩ := wF
            obtain ⟨v1, v2, v3, v4, v5, v6⟩ := wG
            have e1 : smF (.inner i d u lk r) false (.inner i' d' u' lk' r') = (smV d lk d' lk' && smF r false r') := rfl
            have e2 : smF (.inner i' d' u' lk' r') false (.inner i d u lk r) = (smV d' lk' d lk && smF r' false r) := rfl
            rw [e1, Bool.and_eq_true] at hs
            simp only [szF] at hsz
            rw [e2, Bool.and_eq_true]
            exact ⟨ih d lk d' lk' (by omega) ⟨w1, w2, w3, w4, w5, trivial⟩ ⟨v1, v2, v3, v4, v5, trivial⟩ hs.1, ihr r' (by omega) w6 v6 hs.2⟩
      exact arr l l' hN hw.2.2.2.2.1 hw'.2.2.2.2.1 h2.2
theorem smV_sym {nd nd' : ND} {l l' : Fo} (hw : wfF (foC nd l foN)) (hw' : wfF (foC nd' l' foN)) : smV nd l nd' l' = smV nd' l' nd l := by
  cases h : smV nd l nd' l' with
  | true => exact (smV_sym1 _ nd l nd' l' (Nat.le_refl _) hw hw' h).symm
  | false =>
    cases h' : smV nd' l' nd l with
    | false => rfl
    | true => rw [smV_sym1 _ nd' l' nd l (Nat.le_refl _) hw' hw h'] at h; cases h
