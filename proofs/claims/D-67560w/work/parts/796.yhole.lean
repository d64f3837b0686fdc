/-! the twin's trees: a kid more or less within a value -/
set_option maxRecDepth 100000
set_option maxHeartbeats 4000000
theorem idV_plug : ∀ (k : List Fr), ∃ pre post : List Nat, ∀ u : Vl, idV (plug k u) = pre ++ (idV u ++ post) := by
  intro k
  induction k with
  | nil => exact ⟨[], [], fun u => by rw [List.append_nil]; rfl⟩
  | cons f k ih =>
    obtain ⟨pre, post, h⟩ := ih
    refine ⟨pre ++ (f.1 :: idF f.2.2.1), idF f.2.2.2.2 ++ post, fun u => ?_⟩
    have h1 := h (f.1, f.2.1, amg f.2.2.1 u f.2.2.2.1 f.2.2.2.2)
    have h2 : idV (f.1, f.2.1, amg f.2.2.1 u f.2.2.2.1 f.2.2.2.2) = f.1 :: (idF f.2.2.1 ++ (u.1 :: (idF u.2.2 ++ idF f.2.2.2.2))) := by
      show f.1 :: idF (amg f.2.2.1 u f.2.2.2.1 f.2.2.2.2) = _
      rw [idF_amg]
    rw [h2] at h1
    show idV (plug k (f.1, f.2.1, amg f.2.2.1 u f.2.2.2.1 f.2.2.2.2)) = _
    rw [h1]
    show _ = pre ++ (f.1 :: idF f.2.2.1) ++ ((u.1 :: idF u.2.2) ++ (idF f.2.2.2.2 ++ post))
    simp only [List.append_assoc, List.cons_append]
theorem rmG_o (g : Int → Int → Int) (p b v f j : Int) (h : ¬ (f = 4 ∧ j = p)) (h' : ¬ (f = 5 ∧ j = b)) : rmG g p b v f j = g f j := by
  unfold rmG
  split
  · exact up_ne _ _ _ _ _ _ h
  · exact up_ne _ _ _ _ _ _ h'
section
variable {g : Int → Int → Int} {us : List Int} {n : Int}
theorem ls_in (A : Fo) : lsI (-1) A = -1 ∨ ∃ b : Nat, b ∈ idF A ∧ lsI (-1) A = b := by
  rcases lsI_mem A (-1) with ⟨-, q⟩ | q
  · exact Or.inl q
  · exact Or.inr q
/-- a value comes in among the kids of the hole -/
theorem TNv.ins {kz : List Fr} {u w : Vl} {A B : Fo} {nm : List Int} {ob : Bool} (hob : (u.2.1.1 == 6) = ob) (hu : u.2.2 = fapp A B) (hN : TNv g us n (plug kz u)) (nd : (idV (plug kz u)).Nodup) (hw : TNv g us n w) (nw : (idV w).Nodup) (dis : ∀ j, j ∈ idV w → j ∉ idV (plug kz u)) (hnm : ob = true → g 7 w.1 = nm.length ∧ At us (g 6 w.1) nm) :
    TNv (insG g u.1 (lsI (-1) A) w.1) us n (plug kz (u.1, u.2.1, amg A w nm B)) ∧ (idV (plug kz (u.1, u.2.1, amg A w nm B))).Nodup ∧ (∀ j, j ∈ idV (plug kz (u.1, u.2.1, amg A w nm B)) → j ∈ idV (plug kz u) ∨ j ∈ idV w) := by
  obtain ⟨p, d, l0⟩ := u
  dsimp only at hob hu
  subst hu
  obtain ⟨k, wd, wl⟩ := w
  have hU := TNv.sub kz _ hN
  obtain ⟨nu, su⟩ := idV_sub kz _ nd
  have nu' : p ∉ idF (fapp A B) ∧ (idF (fapp A B)).Nodup := List.nodup_cons.mp nu
  rw [idF_app] at nu'
  obtain ⟨nA, nB, nAB⟩ := List.nodup_append.mp nu'.2
  have nw' : k ∉ idF wl ∧ (idF wl).Nodup := List.nodup_cons.mp nw
  have inA : ∀ j, j ∈ idF A → j ∈ idV (plug kz (p, d, fapp A B)) := fun j hj => su j (by show j ∈ p :: idF (fapp A B); rw [idF_app]; simp [hj])
  have inB : ∀ j, j ∈ idF B → j ∈ idV (plug kz (p, d, fapp A B)) := fun j hj => su j (by show j ∈ p :: idF (fapp A B); rw [idF_app]; simp [hj])
  have inp : p ∈ idV (plug kz (p, d, fapp A B)) := su p (by show p ∈ p :: idF (fapp A B); simp)
  have dk : k ∉ idV (plug kz (p, d, fapp A B)) := dis k (by show k ∈ k :: idF wl; simp)
  have dl : ∀ j, j ∈ idF wl → j ∉ idV (plug kz (p, d, fapp A B)) := fun j hj => dis j (by show j ∈ k :: idF wl; simp [hj])
  obtain ⟨p1, p2, p3, p4, p5, p6⟩ := hU
  dsimp only at p1 p2 p3 p4 p5 p6
  rw [hob] at p6
  have hI := TF.ins (g := g) (us := us) (n := n) (p := p) (ob := ob) (A := A) (B := B) (l := wl) (k := k) (d := wiN wd nm) p6 hw hnm p5 nA ⟨fun q => dk (inA k q), fun q => dk (inB k q), nw'.1, fun q => dk (q ▸ inp)⟩ ⟨fun q => nu'.1 (List.mem_append_left _ q), fun q => nu'.1 (List.mem_append_right _ q), fun q => dl p q inp⟩ (fun y hy => ⟨fun q => dl y q (inA y hy), fun q => nAB y hy y q rfl⟩)
  have hb : ∀ j : Nat, j ∉ idV (p, d, fapp A B) → (j : Int) ≠ lsI (-1) A := fun j hj q => by
    rcases ls_in A with h | ⟨b, h1, h2⟩
    · omega
    · exact hj (by show j ∈ p :: idF (fapp A B); rw [idF_app]; have : j = b := by omega
                   rw [this]; simp [h1])
  have hpb : (p : Int) ≠ lsI (-1) A := fun q => by
    rcases ls_in A with h | ⟨b, h1, h2⟩
    · omega
    · have : p = b := by omega
      exact nu'.1 (List.mem_append_left _ (this ▸ h1))
  have hpk : (p : Int) ≠ k := fun q => dk ((show p = k by omega) ▸ inp)
  have hT2 : TNv (insG g p (lsI (-1) A) k) us n (p, d, amg A (k, wd, wl) nm B) := by
    refine ⟨p1, by rw [insG_03 _ _ _ _ _ _ (by decide)]; exact p2, fun q => by rw [insG_03 _ _ _ _ _ _ (by decide)]; exact p3 q, by rw [insG_03 _ _ _ _ _ _ (by decide), insG_03 _ _ _ _ _ _ (by decide)]; exact p4, hI.2, ?_⟩
    show TF _ us n p (d.1 == 6) _
    rw [hob]; exact hI.1
  have hjp : ∀ j : Nat, j ∉ idV (p, d, fapp A B) → (j : Int) ≠ p := fun j hj q => by
    have e : j = p := by omega
    exact hj (by rw [e]; show p ∈ p :: idF (fapp A B); simp)
  have hjk : ∀ j : Nat, j ∈ idV (plug kz (p, d, fapp A B)) → (j : Int) ≠ k := fun j hj q => by
    have e : j = k := by omega
    rw [e] at hj; exact dk hj
  have key := TNv.inK (g := g) (g' := insG g p (lsI (-1) A) k) (us := us) (vs := []) (n := n) (n' := n) (Int.le_refl _) kz (p, d, fapp A B) (amg A (k, wd, wl) nm B) hN nd (fun f j f0 f1 hj hj2 => insG_o _ _ _ _ _ _ (hjp j hj2) (hb j hj2) (hjk j hj)) (fun _ f f0 f1 f4 => by
      unfold insG
      split
      · rw [up_ne _ _ _ _ _ _ (by omega), up_ne _ _ _ _ _ _ (by omega), up_ne _ _ _ _ _ _ (by omega)]
      · rw [up_ne _ _ _ _ _ _ (by omega), up_ne _ _ _ _ _ _ (by omega), up_ne _ _ _ _ _ _ (by omega)]) (by rw [List.append_nil]; exact hT2)
  rw [List.append_nil] at key
  obtain ⟨pre, post, hpp⟩ := idV_plug kz
  have perm : (idV (plug kz (p, d, amg A (k, wd, wl) nm B))).Perm (idV (plug kz (p, d, fapp A B)) ++ idV (k, wd, wl)) := by
    rw [hpp, hpp]
    have e1 : idV (p, d, amg A (k, wd, wl) nm B) = p :: (idF A ++ (k :: (idF wl ++ idF B))) := by
      show p :: idF (amg A (k, wd, wl) nm B) = _
      rw [idF_amg]
    have e2 : idV (p, d, fapp A B) = p :: (idF A ++ idF B) := by show p :: idF (fapp A B) = _; rw [idF_app]
    have e3 : idV (k, wd, wl) = k :: idF wl := rfl
    rw [e1, e2, e3, List.perm_iff_count]
    intro a
    simp only [List.count_append, List.count_cons]
    omega
  refine ⟨key, perm.nodup_iff.mpr (List.nodup_append.mpr ⟨nd, nw, fun a ha b hb q => dis b hb (q ▸ ha)⟩), fun j hj => ?_⟩
  exact List.mem_append.mp (perm.mem_iff.mp hj)
/-- a kid of the hole goes -/
theorem TNv.rm {kz : List Fr} {p k : Nat} {d nd : ND} {A B l : Fo} (hN : TNv g us n (plug kz (p, d, fapp A (.inner k nd () l B)))) (ndp : (idV (plug kz (p, d, fapp A (.inner k nd () l B)))).Nodup) :
    TNv (rmG g p (lsI (-1) A) (hdI B)) us n (plug kz (p, d, fapp A B)) ∧ (idV (plug kz (p, d, fapp A B))).Nodup ∧ (∀ j, j ∈ idV (plug kz (p, d, fapp A B)) → j ∈ idV (plug kz (p, d, fapp A (.inner k nd () l B)))) := by
  have hU := TNv.sub kz _ hN
  obtain ⟨nu, su⟩ := idV_sub kz _ ndp
  have eX : idF (fapp A (.inner k nd () l B)) = idF A ++ (k :: (idF l ++ idF B)) := by rw [idF_app]; rfl
  have nu' : p ∉ idF (fapp A (.inner k nd () l B)) ∧ (idF (fapp A (.inner k nd () l B))).Nodup := List.nodup_cons.mp nu
  rw [eX] at nu'
  obtain ⟨nA, nB, nAB⟩ := List.nodup_append.mp nu'.2
  obtain ⟨p1, p2, p3, p4, p5, p6⟩ := hU
  dsimp only at p1 p2 p3 p4 p5 p6
  obtain ⟨t1, t2, t3⟩ := TF.rm (g := g) (us := us) (n := n) (p := p) (k := k) (ob := (d.1 == 6)) (A := A) (B := B) (l := l) (nd := nd) p6 nA (fun y hy q => nAB y hy y (by simp [q]) rfl) (fun q => nu'.1 (by simp [q]))
  have hpb : (p : Int) ≠ lsI (-1) A := fun q => by
    rcases ls_in A with h | ⟨b, h1, h2⟩
    · omega
    · have : p = b := by omega
      exact nu'.1 (List.mem_append_left _ (this ▸ h1))
  have hT2 : TNv (rmG g p (lsI (-1) A) (hdI B)) us n (p, d, fapp A B) := by
    have r : ∀ f, f ≤ 3 → rmG g p (lsI (-1) A) (hdI B) f p = g f p := fun f hf => rmG_o _ _ _ _ _ _ (by omega) (by omega)
    refine ⟨p1, by show rmG g p (lsI (-1) A) (hdI B) 0 p = _; rw [r 0 (by omega)]; exact p2, fun q => by show rmG g p (lsI (-1) A) (hdI B) 1 p = _; rw [r 1 (by omega)]; exact p3 q, ?_, ?_, t1⟩
    · show rmG g p (lsI (-1) A) (hdI B) 3 p = _ ∧ At us (rmG g p (lsI (-1) A) (hdI B) 2 p) _
      rw [r 3 (by omega), r 2 (by omega)]; exact p4
    · by_cases hA : A = .leaf
      · exact t2 hA
      · exact t3 hA p5
  have key := TNv.inK (g := g) (g' := rmG g p (lsI (-1) A) (hdI B)) (us := us) (vs := []) (n := n) (n' := n) (Int.le_refl _) kz (p, d, fapp A (.inner k nd () l B)) (fapp A B) hN ndp (fun f j f0 f1 hj hj2 => by
      have hj2 : ¬ (j ∈ p :: idF (fapp A (.inner k nd () l B))) := hj2
      rw [eX] at hj2
      refine rmG_o _ _ _ _ _ _ (fun q => hj2 ?_) (fun q => ?_)
      · have : j = p := by omega
        rw [this]; simp
      · rcases ls_in A with h | ⟨b, h1, h2⟩
        · omega
        · have : j = b := by omega
          exact hj2 (by rw [this]; simp [h1])) (fun _ f f0 f1 f4 => rmG_o _ _ _ _ _ _ (by omega) (by dsimp only; omega)) (by rw [List.append_nil]; exact hT2)
  rw [List.append_nil] at key
  obtain ⟨pre, post, hpp⟩ := idV_plug kz
  have perm : (idV (plug kz (p, d, fapp A (.inner k nd () l B)))).Perm (idV (plug kz (p, d, fapp A B)) ++ (k :: idF l)) := by
    rw [hpp, hpp]
    have e1 : idV (p, d, fapp A (.inner k nd () l B)) = p :: (idF A ++ (k :: (idF l ++ idF B))) := by
      show p :: idF _ = _
      rw [eX]
    have e2 : idV (p, d, fapp A B) = p :: (idF A ++ idF B) := by show p :: idF (fapp A B) = _; rw [idF_app]
    rw [e1, e2, List.perm_iff_count]
    intro a
    simp only [List.count_append, List.count_cons]
    omega
  exact ⟨key, (List.nodup_append.mp (perm.nodup_iff.mp ndp)).1, fun j hj => perm.mem_iff.mpr (List.mem_append_left _ hj)⟩
end
