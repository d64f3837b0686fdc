/-! patches: where values stand in a row -/
set_option maxRecDepth 100000
set_option maxHeartbeats 4000000
def obF (f : Fr) : Bool := f.2.1.1 == 6
def nmF (ob : Bool) (k : List Int) : List Int := if ob then nmB k else []
/-- where the value begins in what it is in -/
def frOf (f : Fr) : Nat := 3 + (enF (obF f) f.2.2.1).length + (nmF (obF f) f.2.2.2.1).length
def offK : List Fr → Nat
  | [] => 0
  | f :: k => offK k + frOf f
def arK : List Fr → List Int
  | [] => []
  | f :: k => arK k ++ [(offK k : Int)]
theorem arK_len (k : List Fr) : (arK k).length = k.length := by
  induction k with
  | nil => rfl
  | cons f k ih => simp only [arK, List.length_append, List.length_cons, List.length_nil, ih]
theorem enV_no (d : ND) (k : List Int) (l : Fo) : enV (wiN d k) l = enV d l := rfl
theorem enV_no2 (d : ND) (l : Fo) : enV (noN d) l = enV d l := rfl
theorem dpV_no2 (d : ND) (l : Fo) : dpV (noN d) l = dpV d l := rfl
theorem enF_amg (ob : Bool) (A : Fo) (v : Vl) (k : List Int) (B : Fo) : enF ob (amg A v k B) = enF ob A ++ (nmF ob k ++ (enV v.2.1 v.2.2 ++ enF ob B)) := by
  rw [amg, enF_fapp, enF_inner]; rfl
/-- what is wanted of all that is around -/
def okK (k : List Fr) : Prop := ∀ f, f ∈ k → f.2.1.1 = 5 ∨ f.2.1.1 = 6
theorem enV_mid {f : Fr} {v : Vl} (h : f.2.1.1 = 5 ∨ f.2.1.1 = 6) : enV f.2.1 (amg f.2.2.1 v f.2.2.2.1 f.2.2.2.2) = ((f.2.1.1 : Int) :: l2 (enF (obF f) (amg f.2.2.1 v f.2.2.2.1 f.2.2.2.2)).length) ++ (enF (obF f) f.2.2.1 ++ (nmF (obF f) f.2.2.2.1 ++ (enV v.2.1 v.2.2 ++ enF (obF f) f.2.2.2.2))) := by
  rw [← enF_amg]
  unfold enV enD
  rw [if_neg (by omega), if_neg (by omega), if_neg (by omega)]
  rfl
theorem at_mid {xs : List Int} {a : Int} {f : Fr} {v : Vl} (h : f.2.1.1 = 5 ∨ f.2.1.1 = 6) (hA : At xs a (enV f.2.1 (amg f.2.2.1 v f.2.2.2.1 f.2.2.2.2))) : At xs (a + frOf f) (enV v.2.1 v.2.2) := by
  rw [enV_mid h] at hA
  have h1 := hA.app.2
  have h2 := h1.app.2
  have h3 := h2.app.2
  have h4 := h3.app.1
  unfold frOf
  rw [show a + ((3 + (enF (obF f) f.2.2.1).length + (nmF (obF f) f.2.2.2.1).length : Nat) : Int) = a + (((f.2.1.1 : Int) :: l2 (enF (obF f) (amg f.2.2.1 v f.2.2.2.1 f.2.2.2.2)).length).length : Int) + (enF (obF f) f.2.2.1).length + (nmF (obF f) f.2.2.2.1).length by simp only [List.length_cons, l2_len]; omega]
  exact h4
theorem at_plug {xs : List Int} {a : Int} : ∀ (k : List Fr) (v : Vl), okK k → At xs a (enV (plug k v).2.1 (plug k v).2.2) → At xs (a + offK k) (enV v.2.1 v.2.2) := by
  intro k
  induction k with
  | nil => intro v _ h; simpa [offK, plug] using h
  | cons f k ih =>
    intro v hk h
    have h1 := ih (f.1, f.2.1, amg f.2.2.1 v f.2.2.2.1 f.2.2.2.2) (fun g hg => hk g (by simp [hg])) h
    have h2 := at_mid (hk f (by simp)) h1
    rw [show a + ((offK (f :: k) : Nat) : Int) = a + (offK k : Int) + (frOf f : Int) by simp only [offK]; omega]
    exact h2
theorem spN_mem {k : List Int} : ∀ {F : Fo} (p : Int), (∀ x, spN k F = some x → memP F k p = p + (enF true x.1).length) ∧ (spN k F = none → memP F k p = -1) := by
  intro F
  induction F with
  | leaf => intro p; exact ⟨fun x h => (by cases h), fun _ => rfl⟩
  | inner i d u l r _ ih =>
    intro p
    simp only [spN, memP]
    by_cases hk : d.2.2.2 = k
    · rw [if_pos hk, if_pos hk]
      refine ⟨fun x h => ?_, fun h => (by cases h)⟩
      cases h
      rw [show enF true .leaf = [] from rfl]; simp
    · rw [if_neg hk, if_neg hk]
      obtain ⟨h1, h2⟩ := ih (p + (nmB d.2.2.2).length + (enV d l).length)
      refine ⟨fun x h => ?_, fun h => ?_⟩
      · cases hs : spN k r with
        | none => rw [hs] at h; cases h
        | some y =>
          rw [hs] at h; cases h
          rw [h1 y hs, enF_inner, if_pos rfl]
          simp only [List.length_append]; omega
      · exact h2 (by simpa using h)
theorem spI_elt : ∀ {F : Fo} (n : Nat) (p : Int), (∀ x, spI n F = some x → eltP F n p = p + (enF false x.1).length) ∧ (spI n F = none → eltP F n p = -1) := by
  intro F
  induction F with
  | leaf => intro n p; exact ⟨fun x h => (by cases n <;> cases h), fun _ => rfl⟩
  | inner i d u l r _ ih =>
    intro n p
    simp only [eltP]
    rw [if_neg (by omega)]
    cases n with
    | zero =>
      simp only [spI]
      rw [if_pos (by omega)]
      refine ⟨fun x h => ?_, fun h => (by cases h)⟩
      cases h
      rw [show enF false .leaf = [] from rfl]; simp
    | succ n =>
      simp only [spI]
      rw [if_neg (by omega), show ((n + 1 : Nat) : Int) - 1 = n by omega]
      obtain ⟨h1, h2⟩ := ih n (p + (enV d l).length)
      refine ⟨fun x h => ?_, fun h => ?_⟩
      · cases hs : spI n r with
        | none => rw [hs] at h; cases h
        | some y =>
          rw [hs] at h; cases h
          rw [h1 y hs, enF_inner, if_neg (by decide)]
          simp only [List.length_append, List.nil_append]; omega
      · exact h2 (by simpa using h)
theorem wf_mid : ∀ {A : Fo} {i : Nat} {d : ND} {l B : Fo}, wfF (fapp A (.inner i d () l B)) → wfF (foC (noN d) l foN) ∧ wfF A ∧ wfF B ∧ wfU d.2.2.2 := by
  intro A
  induction A with
  | leaf =>
    intro i d l B h
    obtain ⟨w1, w2, w3, w4, w5, w6⟩ := h
    exact ⟨⟨⟨w1.1, w1.2.1, w1.2.2.1, w1.2.2.2.1, fun u hu => absurd hu (by simp)⟩, w2, w3, w4, w5, trivial⟩, trivial, w6, w1.2.2.2.2⟩
  | inner j d' u l' r _ ih =>
    intro i d l B h
    obtain ⟨w1, w2, w3, w4, w5, w6⟩ := h
    obtain ⟨h1, h2, h3, h4⟩ := ih w6
    exact ⟨h1, ⟨w1, w2, w3, w4, w5, h2⟩, h3, h4⟩
theorem dp_mid : ∀ (A : Fo) (i : Nat) (d : ND) (l B : Fo), dpV d l ≤ dpF (fapp A (.inner i d () l B)) := by
  intro A
  induction A with
  | leaf => intro i d l B; show dpV d l ≤ max (if d.1 < 5 then 0 else 1 + dpF l) (dpF B); unfold dpV; omega
  | inner j d' u l' r _ ih =>
    intro i d l B
    have := ih i d l B
    show dpV d l ≤ max (if d'.1 < 5 then 0 else 1 + dpF l') (dpF (fapp r (.inner i d () l B)))
    omega
