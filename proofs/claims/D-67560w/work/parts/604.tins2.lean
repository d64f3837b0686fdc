/-! forests in trees: a kid more -/
set_option maxRecDepth 100000
set_option maxHeartbeats 4000000
theorem idF_fapp (A B : Fo) : ∀ x, x ∈ idF (fapp A B) ↔ x ∈ idF A ∨ x ∈ idF B := by
  intro x
  induction A with
  | leaf => simp [fapp, idF]
  | inner i d u l r _ ih => simp only [fapp, idF, List.mem_cons, List.mem_append, ih, or_assoc]
theorem lsI_mem (A : Fo) : ∀ x, (A = .leaf ∧ lsI x A = x) ∨ ∃ b : Nat, b ∈ idF A ∧ lsI x A = b := by
  induction A with
  | leaf => intro x; exact Or.inl ⟨rfl, rfl⟩
  | inner i d u l r _ ih =>
    intro x
    right
    rcases ih i with ⟨h1, h2⟩ | ⟨b, h1, h2⟩
    · exact ⟨i, by simp [idF], h2⟩
    · exact ⟨b, by simp [idF]; exact Or.inr (Or.inr h1), h2⟩
theorem hdI_fapp (A B : Fo) (h : A ≠ .leaf) : hdI (fapp A B) = hdI A := by
  cases A with
  | leaf => exact absurd rfl h
  | inner i d u l r => rfl
section
variable {g g' : Int → Int → Int} {us vs : List Int} {n n' : Int}
theorem TF.last {p : Int} {ob : Bool} {A B : Fo} : ∀ x, TF g us n p ob (fapp A B) → A ≠ .leaf → g 5 (lsI x A) = hdI B ∧ TF g us n p ob B := by
  induction A with
  | leaf => intro x _ h; exact absurd rfl h
  | inner i d u l r _ ih =>
    intro x h _
    obtain ⟨f1, f2, f3, f4, f5, f6, f7, f8, f9, f10⟩ := h
    by_cases hr : r = .leaf
    · subst hr
      exact ⟨f8, f10⟩
    · exact ih i f10 hr
theorem TF.keep0 {F : Fo} {p : Int} {ob : Bool} (h : TF g us n p ob F) (hg : ∀ f (j : Nat), 0 ≤ f → f ≤ 9 → j ∈ idF F → g' f j = g f j) : TF g' us n p ob F := by
  have := h.keep (vs := []) (Int.le_refl n) hg
  rwa [List.append_nil] at this
theorem TF.ins1 {p b : Int} {ob : Bool} {k : Nat} {X : Fo} (hX : hdI X = k) (hTX : TF g' us n p ob X) {B : Fo} : ∀ (A : Fo) (x : Int), TF g us n p ob (fapp A B) → A ≠ .leaf → b = lsI x A → (idF A).Nodup → g' 5 b = k → (∀ f (j : Nat), 0 ≤ f → f ≤ 9 → j ∈ idF A → ¬ (f = 5 ∧ (j : Int) = b) → g' f j = g f j) → TF g' us n p ob (fapp A X) := by
  intro A
  induction A with
  | leaf => intro x _ h; exact absurd rfl h
  | inner i d u l r _ ih =>
    intro x h _ hb hnd h5 hg
    obtain ⟨f1, f2, f3, f4, f5, f6, f7, f8, f9, f10⟩ := h
    have hnd' : i ∉ idF l ∧ i ∉ idF r ∧ (idF l).Nodup ∧ (idF r).Nodup ∧ ∀ y, y ∈ idF l → y ∉ idF r := by
      simp only [idF, List.nodup_cons, List.mem_append, List.nodup_append] at hnd
      refine ⟨fun q => hnd.1 (Or.inl q), fun q => hnd.1 (Or.inr q), hnd.2.1, hnd.2.2.1, fun y hy hy' => hnd.2.2.2 y hy y hy' rfl⟩
    obtain ⟨n1, n2, n3, n4, n5⟩ := hnd'
    have hb' : b = lsI i r := hb
    have hgi : ∀ f, 0 ≤ f → f ≤ 9 → f ≠ 5 → g' f i = g f i := fun f f0 f1 f5 => hg f i f0 f1 (by simp [idF]) (by omega)
    have hbm := lsI_mem r i
    rw [← hb'] at hbm
    have hl : TF g' us n i (d.1 == 6) l := f9.keep0 (fun f j f0 f1 hj => hg f j f0 f1 (by simp [idF]; exact Or.inr (Or.inl hj)) (by
      rintro ⟨-, e⟩
      rcases hbm with ⟨-, q⟩ | ⟨b', q1, q2⟩
      · have : j = i := by omega
        rw [this] at hj; exact n1 hj
      · have : j = b' := by omega
        rw [this] at hj; exact n5 _ hj q1))
    have common : ∀ Y, (i : Int) < n ∧ g' 0 i = kT d.1 ∧ (d.1 = 3 → g' 1 i = d.2.1) ∧ (g' 3 i = d.2.2.1.length ∧ At us (g' 2 i) d.2.2.1) ∧ (ob = true → g' 7 i = d.2.2.2.length ∧ At us (g' 6 i) d.2.2.2) ∧ g' 8 i = p ∧ g' 4 i = hdI l ∧ (g' 5 i = hdI Y → TF g' us n p ob Y → TF g' us n p ob (.inner i d u l Y)) := by
      intro Y
      have q : (i : Int) < n ∧ g' 0 i = kT d.1 ∧ (d.1 = 3 → g' 1 i = d.2.1) ∧ (g' 3 i = d.2.2.1.length ∧ At us (g' 2 i) d.2.2.1) ∧ (ob = true → g' 7 i = d.2.2.2.length ∧ At us (g' 6 i) d.2.2.2) ∧ g' 8 i = p ∧ g' 4 i = hdI l := by
        rw [hgi 0 (by decide) (by decide) (by decide), hgi 1 (by decide) (by decide) (by decide), hgi 3 (by decide) (by decide) (by decide), hgi 2 (by decide) (by decide) (by decide), hgi 7 (by decide) (by decide) (by decide), hgi 6 (by decide) (by decide) (by decide), hgi 8 (by decide) (by decide) (by decide), hgi 4 (by decide) (by decide) (by decide)]
        exact ⟨f1, f2, f3, f4, f5, f6, f7⟩
      obtain ⟨q1, q2, q3, q4, q5, q6, q7⟩ := q
      exact ⟨q1, q2, q3, q4, q5, q6, q7, fun e1 e2 => ⟨q1, q2, q3, q4, q5, q6, q7, e1, hl, e2⟩⟩
    by_cases hr : r = .leaf
    · subst hr
      have hbi : b = i := hb'
      exact (common X).2.2.2.2.2.2.2 (by rw [← hbi, h5, hX]) hTX
    · have hne : (i : Int) ≠ b := by
        rcases hbm with ⟨q, -⟩ | ⟨b', q1, q2⟩
        · exact absurd q hr
        · intro e
          have : i = b' := by omega
          rw [this] at n2; exact n2 q1
      refine (common (fapp r X)).2.2.2.2.2.2.2 ?_ (ih i f10 hr hb' n4 h5 (fun f j f0 f1 hj hne => hg f j f0 f1 (by simp [idF]; exact Or.inr (Or.inr hj)) hne))
      rw [hg 5 i (by decide) (by decide) (by simp [idF]) (by omega), hdI_fapp r X hr, ← hdI_fapp r B hr]; exact f8
/-- after insert -/
theorem TF.ins {p : Nat} {ob : Bool} {A B l : Fo} {k : Nat} {d : ND} (h : TF g us n p ob (fapp A B)) (hN : TN g us n k d l) (hnm : ob = true → g 7 k = d.2.2.2.length ∧ At us (g 6 k) d.2.2.2) (hp : g 4 p = hdI (fapp A B)) (nA : (idF A).Nodup) (kA : k ∉ idF A ∧ k ∉ idF B ∧ k ∉ idF l ∧ k ≠ p) (pA : p ∉ idF A ∧ p ∉ idF B ∧ p ∉ idF l) (lA : ∀ y, y ∈ idF A → y ∉ idF l ∧ y ∉ idF B) : TF (insG g p (lsI (-1) A) k) us n p ob (fapp A (.inner k d () l B)) ∧ insG g p (lsI (-1) A) k 4 p = hdI (fapp A (.inner k d () l B)) := by
  obtain ⟨t1, t2, t3, t4, t5, t6⟩ := hN
  by_cases hA : A = .leaf
  · subst hA
    have e : insG g p (lsI (-1) .leaf) k = up (up (up g 8 k p) 5 k (g 4 p)) 4 p k := if_pos (by show (-1 : Int) < 0; decide)
    rw [e]
    have hne : (k : Int) ≠ p := by omega
    have ek : ∀ f, 0 ≤ f → f ≤ 9 → f ≠ 8 → f ≠ 5 → up (up (up g 8 k p) 5 k (g 4 p)) 4 p k f k = g f k := fun f _ _ h8 h5 => by rw [up_ne _ _ _ _ _ _ (by omega), up_ne _ _ _ _ _ _ (by omega), up_ne _ _ _ _ _ _ (by omega)]
    have eo : ∀ f (j : Nat), j ≠ k → j ≠ p → up (up (up g 8 k p) 5 k (g 4 p)) 4 p k f j = g f j := fun f j h1 h2 => by rw [up_ne _ _ _ _ _ _ (by omega), up_ne _ _ _ _ _ _ (by omega), up_ne _ _ _ _ _ _ (by omega)]
    refine ⟨⟨t1, by rw [ek 0 (by decide) (by decide) (by decide) (by decide)]; exact t2, fun q => by rw [ek 1 (by decide) (by decide) (by decide) (by decide)]; exact t3 q, by rw [ek 3 (by decide) (by decide) (by decide) (by decide), ek 2 (by decide) (by decide) (by decide) (by decide)]; exact t4, fun q => by rw [ek 7 (by decide) (by decide) (by decide) (by decide), ek 6 (by decide) (by decide) (by decide) (by decide)]; exact hnm q, by rw [up_ne _ _ _ _ _ _ (by omega), up_ne _ _ _ _ _ _ (by omega), up_eq], by rw [ek 4 (by decide) (by decide) (by decide) (by decide)]; exact t5, by rw [up_ne _ _ _ _ _ _ (by omega), up_eq]; exact hp, ?_, ?_⟩, by rw [up_eq]; rfl⟩
    · exact t6.keep0 (fun f j f0 f1 hj => eo f j (fun q => kA.2.2.1 (q ▸ hj)) (fun q => pA.2.2 (q ▸ hj)))
    · have h' : TF g us n p ob B := h
      exact h'.keep0 (fun f j f0 f1 hj => eo f j (fun q => kA.2.1 (q ▸ hj)) (fun q => pA.2.1 (q ▸ hj)))
  · obtain ⟨b5, hB⟩ := h.last (-1) hA
    rcases lsI_mem A (-1) with ⟨q, -⟩ | ⟨b, hb1, hb2⟩
    · exact absurd q hA
    rw [hb2] at b5 ⊢
    have e : insG g p b k = up (up (up g 8 k p) 5 k (g 5 b)) 5 b k := if_neg (by omega)
    rw [e]
    have hbk : b ≠ k := fun q => kA.1 (q ▸ hb1)
    have hbp : b ≠ p := fun q => pA.1 (q ▸ hb1)
    have ek : ∀ f, f ≠ 8 → f ≠ 5 → up (up (up g 8 k p) 5 k (g 5 b)) 5 b k f k = g f k := fun f h8 h5 => by rw [up_ne _ _ _ _ _ _ (by omega), up_ne _ _ _ _ _ _ (by omega), up_ne _ _ _ _ _ _ (by omega)]
    have eo : ∀ f (j : Nat), j ≠ k → ¬ (f = 5 ∧ (j : Int) = b) → up (up (up g 8 k p) 5 k (g 5 b)) 5 b k f j = g f j := fun f j h1 h2 => by rw [up_ne _ _ _ _ _ _ (by omega), up_ne _ _ _ _ _ _ (by omega), up_ne _ _ _ _ _ _ (by omega)]
    have hTX : TF (up (up (up g 8 k p) 5 k (g 5 b)) 5 b k) us n p ob (.inner k d () l B) := by
      refine ⟨t1, by rw [ek 0 (by decide) (by decide)]; exact t2, fun q => by rw [ek 1 (by decide) (by decide)]; exact t3 q, by rw [ek 3 (by decide) (by decide), ek 2 (by decide) (by decide)]; exact t4, fun q => by rw [ek 7 (by decide) (by decide), ek 6 (by decide) (by decide)]; exact hnm q, by rw [up_ne _ _ _ _ _ _ (by omega), up_ne _ _ _ _ _ _ (by omega), up_eq], by rw [ek 4 (by decide) (by decide)]; exact t5, by rw [up_ne _ _ _ _ _ _ (by omega), up_eq]; exact b5, ?_, ?_⟩
      · exact t6.keep0 (fun f j f0 f1 hj => eo f j (fun q => kA.2.2.1 (q ▸ hj)) (by
          rintro ⟨-, q⟩
          have : j = b := by omega
          rw [this] at hj
          exact (lA b hb1).1 hj))
      · exact hB.keep0 (fun f j f0 f1 hj => eo f j (fun q => kA.2.1 (q ▸ hj)) (by
          rintro ⟨-, q⟩
          have : j = b := by omega
          rw [this] at hj
          exact (lA b hb1).2 hj))
    refine ⟨TF.ins1 (b := b) (k := k) rfl hTX A (-1) h hA hb2.symm nA (up_eq _ _ _ _) (fun f j f0 f1 hj hne => eo f j (fun q => kA.1 (q ▸ hj)) hne), ?_⟩
    rw [eo 4 p (fun q => kA.2.2.2 q.symm) (by omega), hp, hdI_fapp A _ hA, hdI_fapp A _ hA]
end
