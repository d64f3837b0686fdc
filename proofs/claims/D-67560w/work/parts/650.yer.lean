/-! with indices or without -/
set_option maxRecDepth 100000
theorem erF_leaf {F : Fo} : erF F = foN ↔ F = foN := by
  cases F with
  | leaf => simp [erF]
  | inner i d u l r => simp [erF]
theorem nms_er (F : Fo) : nmsF (erF F) = nmsF F := nmsF_er F
theorem wfF_er (F : Fo) : wfF (erF F) ↔ wfF F := by
  induction F with
  | leaf => exact Iff.rfl
  | inner i d u l r ihl ihr =>
    simp only [erF, wfF, ihl, ihr, nms_er, erF_leaf]
theorem wfV_er {nd : ND} {l : Fo} : wfF (foC nd (erF l) foN) ↔ wfF (foC nd l foN) := by
  simp only [wfF, wfF_er, nms_er, erF_leaf]
theorem prF_er (F : Fo) : ∀ ob fst, prF ob fst (erF F) = prF ob fst F := by
  induction F with
  | leaf => intro ob fst; rfl
  | inner i d u l r ihl ihr =>
    intro ob fst
    simp only [erF, prF_inner, prV, ihl, ihr]
theorem prV_er (nd : ND) (l : Fo) : prV nd (erF l) = prV nd l := by unfold prV; rw [prF_er]
theorem dpF_er (F : Fo) : dpF (erF F) = dpF F := by
  induction F with
  | leaf => rfl
  | inner i d u l r ihl ihr => simp only [erF, dpF, ihl, ihr]
theorem dpV_er (nd : ND) (l : Fo) : dpV nd (erF l) = dpV nd l := by unfold dpV; rw [dpF_er]
theorem cntF_er (F : Fo) : cntF (erF F) = cntF F := by
  induction F with
  | leaf => rfl
  | inner i d u l r _ ihr => simp only [erF, cntF, ihr]
theorem szF_er (F : Fo) : szF (erF F) = szF F := by
  induction F with
  | leaf => rfl
  | inner i d u l r ihl ihr => simp only [erF, szF, ihl, ihr]
theorem hI_er (F : Fo) : hI (erF F) = hI F := by
  induction F with
  | leaf => rfl
  | inner i d u l r ihl ihr => simp only [erF, hI, ihl, ihr]
theorem unF_er (F : Fo) : ∀ ob, unF ob (erF F) = unF ob F := by
  induction F with
  | leaf => intro ob; rfl
  | inner i d u l r ihl ihr => intro ob; simp only [erF, unF, ihl, ihr]
theorem fndF_er (G : Fo) (k : List Int) : fndF (erF G) k = (fndF G k).map (fun p => (p.1, erF p.2)) := by
  induction G with
  | leaf => rfl
  | inner i d u l r _ ih =>
    simp only [erF, fndF]
    split
    · rfl
    · exact ih
theorem hdF_er (G : Fo) : hdF (erF G) = (hdF G).map (fun p => (p.1, erF p.2)) := by cases G <;> rfl
theorem tlF_er (G : Fo) : tlF (erF G) = erF (tlF G) := by cases G <;> rfl
theorem smF_er (F : Fo) : ∀ (ob : Bool) (G : Fo), smF (erF F) ob (erF G) = smF F ob G := by
  induction F with
  | leaf =>
    intro ob G
    simp only [erF, smF, hdF_er]
    cases hdF G <;> rfl
  | inner i d u l r ihl ihr =>
    intro ob G
    simp only [erF, smF]
    cases ob with
    | true =>
      simp only [if_true, fndF_er]
      cases fndF G d.2.2.2 with
      | none => rfl
      | some p =>
        obtain ⟨d', l'⟩ := p
        simp only [Option.map_some, cntF_er, ihl, ihr]
    | false =>
      rw [if_neg (show ¬ (false = true) by decide), if_neg (show ¬ (false = true) by decide), if_neg (show ¬ (false = true) by decide), if_neg (show ¬ (false = true) by decide), hdF_er, tlF_er, ihr]
      cases hdF G with
      | none => rfl
      | some p =>
        obtain ⟨d', l'⟩ := p
        simp only [Option.map_some, cntF_er, ihl]
theorem smV_er (nd nd' : ND) (l l' : Fo) : smV nd (erF l) nd' (erF l') = smV nd l nd' l' := by unfold smV; rw [cntF_er, cntF_er, smF_er]
theorem erF_idem (F : Fo) : erF (erF F) = erF F := by
  induction F with
  | leaf => rfl
  | inner i d u l r ihl ihr => simp only [erF, ihl, ihr]
