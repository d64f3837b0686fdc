/-! the twin's trees: a change of one node's kids within a value -/
set_option maxRecDepth 100000
set_option maxHeartbeats 4000000
theorem hdI_mid (A : Fo) (i : Nat) (d d' : ND) (l l' B B' : Fo) : hdI (fapp A (.inner i d () l B)) = hdI (fapp A (.inner i d' () l' B')) := by
  cases A with
  | leaf => rfl
  | inner j e u x r => rfl
section
variable {g g' : Int → Int → Int} {us vs : List Int} {n n' : Int}
theorem TF.repl (hn : n ≤ n') {p : Int} {ob : Bool} {i : Nat} {d : ND} {l l' B : Fo} (hi : ∀ f, 0 ≤ f → f ≤ 9 → f ≠ 4 → g' f i = g f i) (h4 : g' 4 i = hdI l') (hl : TF g' (us ++ vs) n' i (d.1 == 6) l') : ∀ {A : Fo}, TF g us n p ob (fapp A (.inner i d () l B)) → (∀ f (j : Nat), 0 ≤ f → f ≤ 9 → j ∈ idF A ∨ j ∈ idF B → g' f j = g f j) → TF g' (us ++ vs) n' p ob (fapp A (.inner i d () l' B)) := by
  intro A
  induction A with
  | leaf =>
    intro h hg
    obtain ⟨f1, f2, f3, f4, f5, f6, f7, f8, f9, f10⟩ := h
    exact ⟨by omega, by rw [hi 0 (by decide) (by decide) (by decide)]; exact f2, fun q => by rw [hi 1 (by decide) (by decide) (by decide)]; exact f3 q, ⟨by rw [hi 3 (by decide) (by decide) (by decide)]; exact f4.1, by rw [hi 2 (by decide) (by decide) (by decide)]; exact f4.2.ext⟩, fun q => ⟨by rw [hi 7 (by decide) (by decide) (by decide)]; exact (f5 q).1, by rw [hi 6 (by decide) (by decide) (by decide)]; exact (f5 q).2.ext⟩, by rw [hi 8 (by decide) (by decide) (by decide)]; exact f6, h4, by rw [hi 5 (by decide) (by decide) (by decide)]; exact f8, hl, TF.keep hn f10 (fun f j f0 f1 hj => hg f j f0 f1 (Or.inr hj))⟩
  | inner j e u x r _ ih =>
    intro h hg
    obtain ⟨f1, f2, f3, f4, f5, f6, f7, f8, f9, f10⟩ := h
    have hj : ∀ f, 0 ≤ f → f ≤ 9 → g' f j = g f j := fun f f0 f1 => hg f j f0 f1 (Or.inl (by simp [idF]))
    exact ⟨by omega, by rw [hj 0 (by decide) (by decide)]; exact f2, fun q => by rw [hj 1 (by decide) (by decide)]; exact f3 q, ⟨by rw [hj 3 (by decide) (by decide)]; exact f4.1, by rw [hj 2 (by decide) (by decide)]; exact f4.2.ext⟩, fun q => ⟨by rw [hj 7 (by decide) (by decide)]; exact (f5 q).1, by rw [hj 6 (by decide) (by decide)]; exact (f5 q).2.ext⟩, by rw [hj 8 (by decide) (by decide)]; exact f6, by rw [hj 4 (by decide) (by decide)]; exact f7, by rw [hj 5 (by decide) (by decide), f8]; exact hdI_mid r i d d l l' B B, TF.keep hn f9 (fun f y f0 f1 hy => hg f y f0 f1 (Or.inl (by simp [idF]; exact Or.inr (Or.inl hy)))), ih f10 (fun f y f0 f1 hy => hg f y f0 f1 (by
      rcases hy with hy | hy
      · exact Or.inl (by simp [idF]; exact Or.inr (Or.inr hy))
      · exact Or.inr hy))⟩
def idV (v : Vl) : List Nat := v.1 :: idF v.2.2
abbrev TNv (g : Int → Int → Int) (us : List Int) (n : Int) (v : Vl) : Prop := TN g us n v.1 v.2.1 v.2.2
theorem idF_amg (A : Fo) (v : Vl) (k : List Int) (B : Fo) : idF (amg A v k B) = idF A ++ (v.1 :: (idF v.2.2 ++ idF B)) := by
  rw [amg, idF_app]; rfl
/-- from what is around to the value -/
theorem TNv.hole {f : Fr} {u : Vl} (h : TNv g us n (f.1, f.2.1, amg f.2.2.1 u f.2.2.2.1 f.2.2.2.2)) : TNv g us n u ∧ g 8 u.1 = f.1 ∧ ((f.2.1.1 == 6) = true → g 7 u.1 = f.2.2.2.1.length ∧ At us (g 6 u.1) f.2.2.2.1) := by
  have h1 : TF g us n f.1 (f.2.1.1 == 6) (amg f.2.2.1 u f.2.2.2.1 f.2.2.2.2) := h.2.2.2.2.2
  obtain ⟨f1, f2, f3, f4, f5, f6, f7, f8, f9, f10⟩ := TF.mid h1
  exact ⟨⟨f1, f2, f3, f4, f7, f9⟩, f6, f5⟩
theorem TNv.sub : ∀ (k : List Fr) (u : Vl), TNv g us n (plug k u) → TNv g us n u := by
  intro k
  induction k with
  | nil => intro u h; exact h
  | cons f k ih => intro u h; exact (ih _ h).hole.1
theorem idV_sub : ∀ (k : List Fr) (u : Vl), (idV (plug k u)).Nodup → (idV u).Nodup ∧ ∀ j, j ∈ idV u → j ∈ idV (plug k u) := by
  intro k
  induction k with
  | nil => intro u h; exact ⟨h, fun j hj => hj⟩
  | cons f k ih =>
    intro u h
    obtain ⟨h1, h2⟩ := ih (f.1, f.2.1, amg f.2.2.1 u f.2.2.2.1 f.2.2.2.2) h
    have e : idV (f.1, f.2.1, amg f.2.2.1 u f.2.2.2.1 f.2.2.2.2) = f.1 :: (idF f.2.2.1 ++ (u.1 :: (idF u.2.2 ++ idF f.2.2.2.2))) := by
      show f.1 :: idF (amg _ _ _ _) = _
      rw [idF_amg]
    rw [e] at h1 h2
    refine ⟨?_, fun j hj => h2 j ?_⟩
    · rw [List.nodup_cons, List.nodup_append, List.nodup_cons, List.nodup_append] at h1
      unfold idV
      rw [List.nodup_cons]
      exact ⟨fun q => h1.2.2.1.1 (List.mem_append.mpr (Or.inl q)), h1.2.2.1.2.1⟩
    · unfold idV at hj
      simp only [List.mem_cons, List.mem_append] at hj ⊢
      rcases hj with hj | hj
      · exact Or.inr (Or.inr (Or.inl hj))
      · exact Or.inr (Or.inr (Or.inr (Or.inl hj)))
/-- new kids for the value at the hole -/
theorem TNv.inK (hn : n ≤ n') : ∀ (k : List Fr) (u : Vl) (l' : Fo), TNv g us n (plug k u) → (idV (plug k u)).Nodup → (∀ f (j : Nat), 0 ≤ f → f ≤ 9 → j ∈ idV (plug k u) → j ∉ idV u → g' f j = g f j) → (k ≠ [] → ∀ f, 0 ≤ f → f ≤ 9 → f ≠ 4 → g' f u.1 = g f u.1) → TNv g' (us ++ vs) n' (u.1, u.2.1, l') → TNv g' (us ++ vs) n' (plug k (u.1, u.2.1, l')) := by
  intro k
  induction k with
  | nil => intro u l' _ _ _ _ h; exact h
  | cons f k ih =>
    intro u l' hP hN hg hu hT
    have hPU : TNv g us n (plug k (f.1, f.2.1, amg f.2.2.1 u f.2.2.2.1 f.2.2.2.2)) := hP
    have hNU : (idV (plug k (f.1, f.2.1, amg f.2.2.1 u f.2.2.2.1 f.2.2.2.2))).Nodup := hN
    have hU := TNv.sub k _ hPU
    obtain ⟨nU, sU⟩ := idV_sub k _ hNU
    have e : idV (f.1, f.2.1, amg f.2.2.1 u f.2.2.2.1 f.2.2.2.2) = f.1 :: (idF f.2.2.1 ++ (u.1 :: (idF u.2.2 ++ idF f.2.2.2.2))) := by
      show f.1 :: idF (amg _ _ _ _) = _
      rw [idF_amg]
    rw [e] at nU
    rw [List.nodup_cons, List.nodup_append, List.nodup_cons, List.nodup_append] at nU
    obtain ⟨nf, nA, ⟨nu, nl, nB, nlB⟩, nAr⟩ := nU
    have mem : ∀ j, j ∈ f.1 :: (idF f.2.2.1 ++ (u.1 :: (idF u.2.2 ++ idF f.2.2.2.2))) → j ∈ idV (plug k (f.1, f.2.1, amg f.2.2.1 u f.2.2.2.1 f.2.2.2.2)) := fun j hj => sU j (by rw [e]; exact hj)
    -- the node around it
    have hf : ∀ q, 0 ≤ q → q ≤ 9 → g' q f.1 = g q f.1 := fun q q0 q1 => hg q f.1 q0 q1 (mem _ (by simp)) (by
      intro hq
      unfold idV at hq
      apply nf
      simp only [List.mem_cons, List.mem_append] at hq ⊢
      rcases hq with hq | hq
      · exact Or.inr (Or.inl hq)
      · exact Or.inr (Or.inr (Or.inl hq)))
    have hAB : ∀ q (j : Nat), 0 ≤ q → q ≤ 9 → j ∈ idF f.2.2.1 ∨ j ∈ idF f.2.2.2.2 → g' q j = g q j := by
      intro q j q0 q1 hj
      refine hg q j q0 q1 (mem j (by simp only [List.mem_cons, List.mem_append]; rcases hj with hj | hj; exact Or.inr (Or.inl hj); exact Or.inr (Or.inr (Or.inr (Or.inr hj))))) (fun hq => ?_)
      unfold idV at hq
      simp only [List.mem_cons] at hq
      rcases hj with hj | hj
      · rcases hq with hq | hq
        · exact nAr j hj u.1 (by simp) hq
        · exact nAr j hj j (by simp [hq]) rfl
      · rcases hq with hq | hq
        · exact nu (by rw [← hq]; exact List.mem_append.mpr (Or.inr hj))
        · exact nlB j hq j hj rfl
    have hTU : TNv g' (us ++ vs) n' (f.1, f.2.1, amg f.2.2.1 (u.1, u.2.1, l') f.2.2.2.1 f.2.2.2.2) := by
      obtain ⟨a1, a2, a3, ⟨a4, a5⟩, a6, a7⟩ := hU
      refine ⟨by show (f.1 : Int) < n'; have : (f.1 : Int) < n := a1; omega, by rw [hf 0 (by decide) (by decide)]; exact a2, fun q => by rw [hf 1 (by decide) (by decide)]; exact a3 q, ⟨by rw [hf 3 (by decide) (by decide)]; exact a4, by rw [hf 2 (by decide) (by decide)]; exact a5.ext⟩, ?_, ?_⟩
      · rw [hf 4 (by decide) (by decide)]
        exact a6.trans (hdI_mid _ _ _ _ _ _ _ _)
      · exact TF.repl (i := u.1) (d := wiN u.2.1 f.2.2.2.1) (l := u.2.2) (l' := l') (B := f.2.2.2.2) (A := f.2.2.1) hn (hu (by simp)) hT.2.2.2.2.1 hT.2.2.2.2.2 a7 hAB
    refine ih (f.1, f.2.1, amg f.2.2.1 u f.2.2.2.1 f.2.2.2.2) (amg f.2.2.1 (u.1, u.2.1, l') f.2.2.2.1 f.2.2.2.2) hPU hNU (fun q j q0 q1 hj hnj => hg q j q0 q1 hj (fun hq => hnj ?_)) (fun _ q q0 q1 _ => hf q q0 q1) hTU
    rw [e]
    unfold idV at hq
    simp only [List.mem_cons, List.mem_append] at hq ⊢
    rcases hq with hq | hq
    · exact Or.inr (Or.inr (Or.inl hq))
    · exact Or.inr (Or.inr (Or.inr (Or.inl hq)))
end
