/-! the twin's patches: one operation (words for it) -/
set_option maxRecDepth 100000
set_option maxHeartbeats 4000000
theorem goZ_len : ∀ (tks : List (List Int)) (k : List Fr) (v : Vl) (k' : List Fr) (w : Vl), goZ tks k v = some (k', w) → k'.length = k.length + tks.length := by
  intro tks
  induction tks with
  | nil => intro k v k' w h; unfold goZ at h; cases h; rfl
  | cons tk tks ih =>
    intro k v k' w h
    unfold goZ at h
    cases h1 : go1 tk v with
    | none => rw [h1] at h; cases h
    | some p =>
      rw [h1] at h
      have := ih _ _ _ _ h
      simp only [List.length_cons] at this ⊢
      omega
theorem hole_in : ∀ (k : List Fr) (f : Fr) (w : Vl) (j : Nat), j ∈ idV w → j ∈ idF (plug (f :: k) w).2.2 := by
  intro k
  induction k with
  | nil =>
    intro f w j hj
    show j ∈ idF (amg f.2.2.1 w f.2.2.2.1 f.2.2.2.2)
    rw [idF_amg]
    have : j = w.1 ∨ j ∈ idF w.2.2 := by simpa [idV] using hj
    rcases this with q | q <;> simp [q]
  | cons g k ih =>
    intro f w j hj
    refine ih g (f.1, f.2.1, amg f.2.2.1 w f.2.2.2.1 f.2.2.2.2) j ?_
    show j ∈ f.1 :: idF (amg f.2.2.1 w f.2.2.2.1 f.2.2.2.2)
    rw [idF_amg]
    have : j = w.1 ∨ j ∈ idF w.2.2 := by simpa [idV] using hj
    rcases this with q | q <;> simp [q]
theorem root_ne {k : List Fr} {w : Vl} (hk : k ≠ []) (nd : (idV (plug k w)).Nodup) : w.1 ≠ (plug k w).1 := by
  cases k with
  | nil => exact absurd rfl hk
  | cons f k =>
    intro q
    have h1 := hole_in k f w w.1 (by unfold idV; simp)
    have h2 := (List.nodup_cons.mp nd).1
    rw [q] at h1; exact h2 h1
theorem strM_er (l : Fo) (k : List Int) : strM (erF l) k = strM l k := by
  unfold strM
  rw [fndF_er]
  cases fndF l k with
  | none => rfl
  | some p => rfl
/-- the words of operations -/
def OSC (m : Mem) : Prop := (SC m 60 wOp ∧ SC m 62 wPath ∧ SC m 64 wAdd ∧ SC m 66 wRep ∧ SC m 68 wTst) ∧ (SC m 70 wMov ∧ SC m 72 wVal ∧ SC m 74 wRem ∧ SC m 76 wCop ∧ SC m 78 wFrom)
theorem OSC.frq {q : Nat} {m m' : Mem} (h : OSC m) (hf : FRM (eM q) m m') (hz : TZ m) (hs : scN (eM q) = true) : OSC m' := by
  obtain ⟨⟨a1, a2, a3, a4, a5⟩, b1, b2, b3, b4, b5⟩ := h
  exact ⟨⟨a1.fr hf hz hs, a2.fr hf hz hs, a3.fr hf hz hs, a4.fr hf hz hs, a5.fr hf hz hs⟩, b1.fr hf hz hs, b2.fr hf hz hs, b3.fr hf hz hs, b4.fr hf hz hs, b5.fr hf hz hs⟩
/-- the operation's tree: the node o -/
def OT (m : Mem) (M T nT CT : Int) (uT : List Int) (o : Vl) : Prop := OK m ∧ tg m M = 11 ∧ vl m M 19 = T ∧ TW m T nT uT CT ∧ TNv (nv m T) uT nT o ∧ OSC m
/-- the tree of names and the places of tokens -/
def NTS (m : Mem) (M NT CN : Int) : Prop := vl m M 25 = NT ∧ (tg m (vl m M 22) = 186101 ∧ ln m (vl m M 22) = 16385) ∧ (tg m (vl m M 23) = 186101 ∧ ln m (vl m M 23) = 16385) ∧ vl m M 22 ≠ vl m M 23 ∧ ∃ nn un, TW m NT nn un CN
/-- fields of the twin that stay -/
def mfN (e : Nat) : Bool := [18, 19, 22, 23, 25].all (fun f : Int => !(Nat.testBit e (bix 11 f)))
theorem mf_bit {e : Nat} (h : mfN e = true) {f : Int} (hf : f ∈ ([18, 19, 22, 23, 25] : List Int)) : Nat.testBit e (bix 11 f) = false := by
  have h1 := List.all_eq_true.mp h f hf
  cases hb : Nat.testBit e (bix 11 f)
  · rfl
  · rw [hb] at h1; cases h1
section
variable {m m' : Mem} {M D T NT nT CT CN : Int} {uT : List Int} {o : Vl} {q : Nat}
theorem mf_keep (hf : FRM (eM q) m m') (hn : mfN (eM q) = true) (ok : OK m) (hM : tg m M = 11) : tg m' M = 11 ∧ ∀ f, f ∈ ([18, 19, 22, 23, 25] : List Int) → vl m' M f = vl m M f := ⟨by rw [tg_of hf ok.1 (by omega)]; exact hM, fun f h => vl_of hf ok.1 hM (by decide) (mf_bit hn h)⟩
theorem OT.step (h : OT m M T nT CT uT o) (hf : FRM (eM q) m m') (hn : mfN (eM q) = true) (hs : scN (eM q) = true) (hT : TW m' T nT uT CT ∧ ∀ f j, 0 ≤ f → f ≤ 9 → nv m' T f j = nv m T f j) : OT m' M T nT CT uT o := by
  obtain ⟨h1, h2, h3, h4, h5, h6⟩ := h
  obtain ⟨a1, a2⟩ := mf_keep hf hn h1 h2
  exact ⟨h1.fr hf, a1, by rw [a2 19 (by simp)]; exact h3, hT.1, TNv.eqg h5 hT.2, h6.frq hf h1.1 hs⟩
theorem NTS.step (h : NTS m M NT CN) (ok : OK m) (hM : tg m M = 11) (hf : FRM (eM q) m m') (hn : mfN (eM q) = true) (hT : ∃ nn un, TW m' NT nn un CN) : NTS m' M NT CN := by
  obtain ⟨h1, h2, h3, h4, h5⟩ := h
  obtain ⟨a1, a2⟩ := mf_keep hf hn ok hM
  refine ⟨by rw [a2 25 (by simp)]; exact h1, ?_, ?_, by rw [a2 22 (by simp), a2 23 (by simp)]; exact h4, hT⟩
  · rw [a2 22 (by simp), tg_of hf ok.1 (by omega), ln_of hf ok.1 (by omega)]; exact h2
  · rw [a2 23 (by simp), tg_of hf ok.1 (by omega), ln_of hf ok.1 (by omega)]; exact h3
/-- tokens stay when the document's tree changes -/
theorem TKS.step {tks : List (List Int)} (h : TKS m M NT tks) (ok : OK m) (hf : FRM (eM q) m m') (hn : mfN (eM q) = true) (hb : Nat.testBit (eM q) (bix 11 24) = false) (ha : Nat.testBit (eM q) (bix 186101 0) = false) (hT : ∀ n us C, TW m NT n us C → TW m' NT n us C) : TKS m' M NT tks := by
  obtain ⟨h1, h2, h3, h4, h5, h6, n, us, C, h7, h8⟩ := h
  obtain ⟨a1, a2⟩ := mf_keep hf hn ok h1
  have v : ∀ a, tg m a = 186101 → ∀ j, vl m' a j = vl m a j := fun a ht j => vl_of hf ok.1 ht (by decide) (by rw [bix_arr (by decide)]; exact ha)
  refine ⟨a1, by rw [a2 25 (by simp)]; exact h2, ?_, ?_, by rw [vl_of hf ok.1 h1 (by decide) hb]; exact h5, h6, n, us, C, hT n us C h7, fun k hk => ?_⟩
  · rw [a2 22 (by simp), tg_of hf ok.1 (by omega), ln_of hf ok.1 (by omega)]; exact h3
  · rw [a2 23 (by simp), tg_of hf ok.1 (by omega), ln_of hf ok.1 (by omega)]; exact h4
  · rw [a2 22 (by simp), a2 23 (by simp), v _ h3.1, v _ h4.1]; exact h8 k hk
theorem STK.nts {C : Int} {L : List (List Int)} (h : STK m M NT C L) : NTS m M NT C := ⟨h.2.1, h.2.2.1, h.2.2.2.1, h.2.2.2.2.1, 0, _, h.2.2.2.2.2.2.1⟩
/-- what an operation leaves: the document's tree, the tree of names, all others -/
def OX (D NT CN : Int) (m : Mem) (C : Int) (m' : Mem) (C' : Int) : Prop := OK m' ∧ TI m' ∧ (∀ t', t' ≠ D → t' ≠ NT → ∀ n us C, TW m t' n us C → TW m' t' n us C ∧ (∀ f j, 0 ≤ f → f ≤ 9 → nv m' t' f j = nv m t' f j) ∧ uC m' t' = uC m t') ∧ (∃ nn un, TW m' NT nn un CN) ∧ GR m m' (tC m D C + uC m NT) (tC m' D C' + uC m' NT) ∧ C' ≤ max C 10000 ∧ uC m' D ≤ max (uC m D) 20000 ∧ uC m' NT ≤ max (uC m NT) 10000
theorem OX.trans {C C1 C2 : Int} {m1 m2 : Mem} (h : OX D NT CN m C m1 C1) (h' : OX D NT CN m1 C1 m2 C2) : OX D NT CN m C m2 C2 := by
  obtain ⟨a1, a2, a3, a4, a5, a6, a7, a8⟩ := h
  obtain ⟨b1, b2, b3, b4, b5, b6, b7, b8⟩ := h'
  refine ⟨b1, b2, fun t' h1 h2 n u c hw => ?_, b4, a5.trans b5, by omega, by omega, by omega⟩
  obtain ⟨c1, c2, c3⟩ := a3 t' h1 h2 n u c hw
  obtain ⟨d1, d2, d3⟩ := b3 t' h1 h2 n u c c1
  exact ⟨d1, fun f j f0 f1 => by rw [d2 f j f0 f1, c2 f j f0 f1], by rw [d3, c3]⟩
theorem OX.pt {n C : Int} {us : List Int} (h : PT0 NT m m') (hne : D ≠ NT) (hD : TW m D n us C) (hN : ∃ nn un, TW m' NT nn un CN) : OX D NT CN m C m' C := by
  obtain ⟨a1, a2, a3, a4, a5⟩ := h
  have hu := (a3 D hne n us C hD).2.2
  refine ⟨a1, a2, fun t' _ h2 => a3 t' h2, hN, ?_, by omega, by omega, a5⟩
  obtain ⟨q1, q2, q3⟩ := a4
  unfold tC
  rw [hu]
  exact ⟨by omega, by omega, by omega⟩
theorem OX.dx {C C' nn : Int} {us us' un : List Int} (h : DX D m us C m' us' C') (hI : TI m') (hne : D ≠ NT) (hN : TW m NT nn un CN) : OX D NT CN m C m' C' := by
  obtain ⟨a1, a2, a3, a4, a5, a6⟩ := h
  obtain ⟨b1, b2, b3⟩ := a2 NT (Ne.symm hne) nn un CN hN
  refine ⟨a1, hI, fun t' h1 _ => a2 t' h1, ⟨nn, un, b1⟩, ?_, a5, a6, by omega⟩
  obtain ⟨q1, q2, q3⟩ := a3
  rw [b3]
  exact ⟨by omega, by omega, by omega⟩
end
