/-! patches with indices or without -/
set_option maxRecDepth 100000
def erV (v : Vl) : Vl := (0, v.2.1, erF v.2.2)
def erFr (f : Fr) : Fr := (0, f.2.1, erF f.2.2.1, f.2.2.2.1, erF f.2.2.2.2)
def erSp (x : Sp) : Sp := (erF x.1, 0, x.2.2.1, erF x.2.2.2.1, erF x.2.2.2.2)
theorem spN_er (k : List Int) (F : Fo) : spN k (erF F) = (spN k F).map erSp := by
  induction F with
  | leaf => rfl
  | inner i d u l r _ ih =>
    simp only [erF, spN]
    split
    · rfl
    · rw [ih]
      cases spN k r <;> rfl
theorem spI_er (F : Fo) : ∀ n, spI n (erF F) = (spI n F).map erSp := by
  induction F with
  | leaf => intro n; cases n <;> rfl
  | inner i d u l r _ ih =>
    intro n
    cases n with
    | zero => rfl
    | succ n =>
      simp only [erF, spI]
      rw [ih]
      cases spI n r <;> rfl
theorem cutI_er : ∀ (n : Nat) (F : Fo), cutI n (erF F) = (erF (cutI n F).1, erF (cutI n F).2) := by
  intro n
  induction n with
  | zero => intro F; rfl
  | succ n ih =>
    intro F
    cases F with
    | leaf => rfl
    | inner i d u l r => simp only [erF, cutI, ih]
theorem amg_er (A : Fo) (v : Vl) (k : List Int) (B : Fo) : erF (amg A v k B) = amg (erF A) (erV v) k (erF B) := by
  rw [amg, erF_fapp]; rfl
theorem plug_er : ∀ (k : List Fr) (v : Vl), erV (plug k v) = plug (k.map erFr) (erV v) := by
  intro k
  induction k with
  | nil => intro v; rfl
  | cons f k ih =>
    intro v
    show erV (plug k (f.1, f.2.1, amg f.2.2.1 v f.2.2.2.1 f.2.2.2.2)) = plug (k.map erFr) (0, f.2.1, amg (erF f.2.2.1) (erV v) f.2.2.2.1 (erF f.2.2.2.2))
    rw [ih, ← amg_er]; rfl
theorem go1_er (tk : List Int) (v : Vl) : go1 tk (erV v) = (go1 tk v).map (fun p => (erFr p.1, erV p.2)) := by
  unfold go1
  show (if v.2.1.1 = 6 then (spN tk (erF v.2.2)).map (fr1 (erV v)) else if v.2.1.1 = 5 then (match ixT tk with
    | none => none
    | some i => (spI i (erF v.2.2)).map (fr1 (erV v))) else none) = _
  by_cases h6 : v.2.1.1 = 6
  · rw [if_pos h6, if_pos h6, spN_er]
    cases spN tk v.2.2 <;> rfl
  · rw [if_neg h6, if_neg h6]
    by_cases h5 : v.2.1.1 = 5
    · rw [if_pos h5, if_pos h5]
      cases ixT tk with
      | none => rfl
      | some i =>
        dsimp only
        rw [spI_er]
        cases spI i v.2.2 <;> rfl
    · rw [if_neg h5, if_neg h5]; rfl
theorem goZ_er : ∀ (tks : List (List Int)) (k : List Fr) (v : Vl), goZ tks (k.map erFr) (erV v) = (goZ tks k v).map (fun p => (p.1.map erFr, erV p.2)) := by
  intro tks
  induction tks with
  | nil => intro k v; rfl
  | cons tk tks ih =>
    intro k v
    unfold goZ
    rw [go1_er]
    cases go1 tk v with
    | none => rfl
    | some p =>
      obtain ⟨f, u⟩ := p
      exact ih (f :: k) u
theorem ad1_er (tk : List Int) (w v : Vl) : ad1 tk (erV w) (erV v) = (ad1 tk w v).map erF := by
  unfold ad1
  show (if v.2.1.1 = 6 then (match spN tk (erF v.2.2) with
    | some x => some (amg x.1 (erV w) x.2.2.1.2.2.2 x.2.2.2.2)
    | none => some (amg (erF v.2.2) (erV w) tk foN))
  else if v.2.1.1 = 5 then (match (if tk = [45] then some (cntF (erF v.2.2)) else ixT tk) with
    | none => none
    | some i => if i ≤ cntF (erF v.2.2) then some (amg (cutI i (erF v.2.2)).1 (erV w) [] (cutI i (erF v.2.2)).2) else none)
  else none) = _
  by_cases h6 : v.2.1.1 = 6
  · rw [if_pos h6, if_pos h6, spN_er]
    cases spN tk v.2.2 with
    | none => simp only [Option.map_none, Option.map_some, amg_er]; rfl
    | some x => simp only [Option.map_some, amg_er]; rfl
  · rw [if_neg h6, if_neg h6]
    by_cases h5 : v.2.1.1 = 5
    · rw [if_pos h5, if_pos h5, cntF_er]
      generalize (if tk = [45] then some (cntF v.2.2) else ixT tk) = q
      cases q with
      | none => rfl
      | some i =>
        dsimp only
        by_cases hi : i ≤ cntF v.2.2
        · rw [if_pos hi, if_pos hi, cutI_er, Option.map_some, amg_er]
        · rw [if_neg hi, if_neg hi]; rfl
    · rw [if_neg h5, if_neg h5]; rfl
theorem adZ_er (tks : List (List Int)) (w v : Vl) : adZ tks (erV w) (erV v) = (adZ tks w v).map erV := by
  unfold adZ
  cases tks.reverse with
  | nil => rfl
  | cons tk rest =>
    dsimp only
    have := goZ_er rest.reverse [] v
    rw [List.map_nil] at this
    rw [this]
    cases goZ rest.reverse [] v with
    | none => rfl
    | some p =>
      obtain ⟨k, u⟩ := p
      simp only [Option.map_some]
      rw [ad1_er]
      cases ad1 tk w u with
      | none => rfl
      | some l =>
        simp only [Option.map_some]
        rw [plug_er]; rfl
theorem rmZ_er (tks : List (List Int)) (v : Vl) : rmZ tks (erV v) = (rmZ tks v).map erV := by
  unfold rmZ
  have := goZ_er tks [] v
  rw [List.map_nil] at this
  rw [this]
  cases goZ tks [] v with
  | none => rfl
  | some p =>
    obtain ⟨k, u⟩ := p
    cases k with
    | nil => rfl
    | cons f k =>
      simp only [Option.map_some, List.map_cons]
      rw [plug_er]
      show some (plug (k.map erFr) (0, f.2.1, fapp (erF f.2.2.1) (erF f.2.2.2.2))) = some (plug (k.map erFr) (0, f.2.1, erF (fapp f.2.2.1 f.2.2.2.2)))
      rw [erF_fapp]
theorem rpZ_er (tks : List (List Int)) (w v : Vl) : rpZ tks (erV w) (erV v) = (rpZ tks w v).map erV := by
  unfold rpZ
  have := goZ_er tks [] v
  rw [List.map_nil] at this
  rw [this]
  cases goZ tks [] v with
  | none => rfl
  | some p =>
    obtain ⟨k, u⟩ := p
    simp only [Option.map_some]
    rw [plug_er]
