/-! pure: queries that choose one node; what a table holds -/
set_option maxRecDepth 100000
set_option maxHeartbeats 4000000
section
variable {t : Int → Int} {e : Int}
theorem sQ1_one {n op : Nat} {sg : Bool} {i j : Int} {F : Fo} (h : sQ t e n 1 op sg i = some (.inr (F, j))) : cntF F = 1 := by
  cases n with
  | zero => cases h
  | succ n =>
    unfold sQ at h
    rw [if_neg (by decide), if_pos rfl] at h
    split at h
    · split at h
      · split at h
        · obtain ⟨G, k, -, h2⟩ := bnd_inr h
          rw [(qN_inr h2).2]; rfl
        · split at h
          · rw [(qN_inr h).2]; rfl
          · split at h
            · cases h
            · rw [(qN_inr h).2]; rfl
      · split at h
        · rw [(qN_inr h).2]; rfl
        · split at h
          · cases h
          · rw [(qN_inr h).2]; rfl
    · obtain ⟨G, k, -, h2⟩ := bnd_inr h
      rw [(qN_inr h2).2]; rfl
theorem sQ0_cnt : ∀ (n op : Nat) (sg : Bool) (i : Int) (F : Fo) (j : Int), i ≤ e → sQ t e n 0 op sg i = some (.inr (F, j)) → (cntF F : Int) ≤ j - i ∧ j ≤ e := by
  intro n
  induction n with
  | zero => intro op sg i F j _ h; cases h
  | succ n ih =>
    intro op sg i F j hi h
    have b0 := sB_rng t (i := i) (e := e) hi
    unfold sQ at h
    rw [if_pos rfl] at h
    split at h
    · rename_i hp
      have hb : sB t e i < e := pkf_lt (t := t) (by omega)
      obtain ⟨S, k, h1, h2⟩ := bnd_inr h
      obtain ⟨R, q, h3, h4⟩ := bnd_inr h2
      have r1 := sQ_rng n 1 op sg _ S k (by omega) (fun _ => hb) h1
      have r2 := ih op sg k R q (by omega) h3
      have r3 := sQ1_one h1
      have r4 := r1.2.2 (by decide)
      cases h4
      rw [cntF_app]; push_cast; omega
    · cases h
      show ((0 : Nat) : Int) ≤ _ ∧ _
      omega
theorem sQu_cnt {n : Nat} {S : Fo} (h : sQu t e n = some (.inr S)) : (cntF S : Int) ≤ e := by
  unfold sQu at h
  split at h
  · cases h
  · rename_i h0
    have h0 : pk t e 0 = 36 := Classical.byContradiction fun q => h0 q
    have he : (0 : Int) < e := pkf_lt (t := t) (by omega)
    split at h
    · cases h
    · cases h
    · rename_i S' j hs
      have := sQ0_cnt n 0 false 1 S' j (by omega) hs
      split at h
      · cases h
      · cases h; omega
end
theorem eA_ok {x : Nd} {w : Int} (h : w + 1 ≤ 10000) : eA x w = some ([x], w + 1) := by
  unfold eA
  rw [eB_some (eT_1 (by omega))]; rfl
theorem evI_one (c : Nk) (x : Nd) (i : Int) {w : Int} (hw : w + 1 ≤ 10000) : ∃ ys w', evI c x i w = some (ys, w') ∧ ys.length ≤ 1 ∧ w ≤ w' ∧ w' ≤ w + 1 := by
  unfold evI
  split
  · exact ⟨[], w, rfl, by simp, by omega, by omega⟩
  · cases (kdS c)[i.toNat]? with
    | none => exact ⟨[], w, rfl, by simp, by omega, by omega⟩
    | some y => exact ⟨_, w + 1, eA_ok hw, by simp, by omega, by omega⟩
theorem sel_one {d : ND} (hk : d.1 = 1 ∨ d.1 = 3) (x : Nd) {w : Int} (hw : w + 1 ≤ 10000) : ∃ ys w', sel1 d x w = some (ys, w') ∧ ys.length ≤ 1 ∧ w ≤ w' ∧ w' ≤ w + 1 := by
  cases x with
  | nil => exact ⟨[], w, rfl, by simp, by omega, by omega⟩
  | cons c x =>
    rcases hk with h | h
    · rw [sel1_1 h]
      split
      · split
        · exact ⟨[], w, rfl, by simp, by omega, by omega⟩
        · exact ⟨_, w + 1, eA_ok hw, by simp, by omega, by omega⟩
      · exact ⟨[], w, rfl, by simp, by omega, by omega⟩
    · rw [sel1_3 h]
      split
      · exact evI_one c x _ hw
      · exact ⟨[], w, rfl, by simp, by omega, by omega⟩
theorem sg1_one {d : ND} {l : Fo} (h : sg1 d l = true) : d.2.1 = 0 ∧ ∃ n k u l', l = .inner n k u l' .leaf ∧ (k.1 = 1 ∨ k.1 = 3) := by
  unfold sg1 at h
  simp only [Bool.and_eq_true, beq_iff_eq] at h
  refine ⟨h.1, ?_⟩
  have h2 := h.2
  split at h2
  · rename_i n k u l'
    simp only [Bool.or_eq_true, beq_iff_eq] at h2
    exact ⟨_, _, _, _, rfl, h2⟩
  · cases h2
theorem sg_seg {rt : Nd} : ∀ {S : Fo}, sgF S = true → ∀ (xs : List Nd) (w : Int), xs.length ≤ 1 → 0 ≤ w → w + cntF S ≤ 10000 → ∃ ys w', (evX rt S).seg xs w = some (ys, w') ∧ ys.length ≤ 1 ∧ w ≤ w' ∧ w' ≤ w + cntF S := by
  intro S
  induction S with
  | leaf => intro _ xs w hx h0 h1; exact ⟨xs, w, rfl, hx, by omega, by omega⟩
  | inner n d u l r _ ihr =>
    intro h xs w hx h0 h1
    unfold sgF at h
    simp only [Bool.and_eq_true] at h
    have e1 : cntF (.inner n d u l r : Fo) = cntF r + 1 := rfl
    rw [e1] at h1 ⊢
    push_cast at h1 ⊢
    obtain ⟨d0, n', k, u', l', rfl, hk⟩ := sg1_one h.1
    show ∃ ys w', eB (eL (evG d (evX rt (.inner n' k u' l' .leaf))) xs) (evX rt r).seg w = some (ys, w') ∧ _
    cases xs with
    | nil =>
      obtain ⟨ys, w', q1, q2, q3, q4⟩ := ihr h.2 [] w (by simp) h0 (by omega)
      exact ⟨ys, w', q1, q2, q3, by omega⟩
    | cons x xs =>
      have hxs : xs = [] := by
        cases xs with
        | nil => rfl
        | cons y ys => simp at hx
      subst hxs
      obtain ⟨a, w1, p1, p2, p3, p4⟩ := sel_one hk x (w := w) (by omega)
      have k5 : ¬ k.1 = 5 := by omega
      have e2 : evG d (evX rt (.inner n' k u' l' .leaf)) x w = some (a ++ [], w1) := by
        unfold evG
        rw [if_pos d0]
        show eB (evS k (evX rt l') x) (fun a => eB ((evX rt .leaf).sel x) fun b => eR (a ++ b)) w = _
        have e3 : evS k (evX rt l') x w = some (a, w1) := by unfold evS; rw [if_neg k5]; exact p1
        rw [eB_some e3]; rfl
      rw [List.append_nil] at e2
      have e4 : eL (evG d (evX rt (.inner n' k u' l' .leaf))) [x] w = some (a ++ [], w1) := by
        show eB (evG d (evX rt (.inner n' k u' l' .leaf)) x) (fun a => eB (eR []) fun b => eR (a ++ b)) w = _
        rw [eB_some e2]; rfl
      rw [List.append_nil] at e4
      obtain ⟨ys, w', q1, q2, q3, q4⟩ := ihr h.2 a w1 p2 (by omega) (by omega)
      exact ⟨ys, w', by rw [eB_some e4]; exact q1, q2, by omega, by omega⟩
/-- such a query always ends, with one node at most -/
theorem sg_qDoc {S : Fo} (h : sgF S = true) (hc : cntF S ≤ 1300) (v : ND × Fo) : ∃ ys w', qDoc S v 0 = some (ys, w') ∧ ys.length ≤ 1 := by
  obtain ⟨ys, w', q1, q2, -, -⟩ := sg_seg (rt := [(0, 0, v.1, v.2, 0)]) h [[(0, 0, v.1, v.2, 0)]] 1 (by simp) (by decide) (by omega)
  refine ⟨ys, w', ?_, q2⟩
  unfold qDoc
  show eB (eA (if (1 : Int) = 0 then [(0, 0, v.1, v.2, 0)] else [(0, 0, v.1, v.2, 0)])) (evX [(0, 0, v.1, v.2, 0)] S).seg 0 = _
  rw [if_neg (by decide), eB_some (eA_ok (by decide))]
  exact q1
/-- what stands in a table with this key -/
def hK (S : Fo) (k : Int) (x : Int × ND × Fo) : Option (Int × Int) := match chs S x.2 with
  | some u => if kyV u.1 u.2 = k then some (k, x.1) else none
  | none => none
def bldS (S : Fo) (L : List (Int × Int)) (x : Int × ND × Fo) : List (Int × Int) := match chs S x.2 with
  | some u => inK (kyV u.1 u.2) x.1 L
  | none => L
theorem bldT_eq {S : Fo} {D : DC} : bldT S D = D.foldl (bldS S) [] := rfl
theorem bldS_sr {S : Fo} {L : List (Int × Int)} {x : Int × ND × Fo} (h : srK L) : srK (bldS S L x) := by
  unfold bldS
  split
  · exact srK_in h
  · exact h
theorem bldS_len {S : Fo} {L : List (Int × Int)} {x : Int × ND × Fo} : (bldS S L x).length ≤ L.length + 1 := by
  unfold bldS
  split
  · rw [inK_len]; omega
  · omega
theorem bld_all {S : Fo} {k : Int} : ∀ (D : DC) (L : List (Int × Int)), srK L → srK (D.foldl (bldS S) L) ∧ (D.foldl (bldS S) L).length ≤ L.length + D.length ∧ (D.foldl (bldS S) L).filter (·.1 == k) = L.filter (·.1 == k) ++ D.filterMap (hK S k) := by
  intro D
  induction D with
  | nil => intro L h; exact ⟨h, by simp, by simp⟩
  | cons x D ih =>
    intro L h
    obtain ⟨q1, q2, q3⟩ := ih (bldS S L x) (bldS_sr h)
    have := bldS_len (S := S) (L := L) (x := x)
    refine ⟨q1, by show (D.foldl (bldS S) (bldS S L x)).length ≤ _; rw [List.length_cons]; omega, ?_⟩
    show (D.foldl (bldS S) (bldS S L x)).filter (·.1 == k) = _
    rw [q3, List.filterMap_cons]
    unfold bldS hK
    cases hc : chs S x.2 with
    | none => rfl
    | some u =>
      dsimp only
      rw [inK_flt h]
      by_cases hu : kyV u.1 u.2 = k
      · rw [if_pos hu, if_pos hu, hu, List.append_assoc]; rfl
      · rw [if_neg hu, if_neg hu, List.append_nil]
theorem bldT_sr {S : Fo} {D : DC} : srK (bldT S D) ∧ (bldT S D).length ≤ D.length := by
  obtain ⟨q1, q2, -⟩ := bld_all (S := S) (k := 0) D [] trivial
  exact ⟨q1, by rw [bldT_eq]; simpa using q2⟩
theorem bldT_flt {S : Fo} {D : DC} {k : Int} : (bldT S D).filter (·.1 == k) = D.filterMap (hK S k) := by
  obtain ⟨-, -, q⟩ := bld_all (S := S) (k := k) D [] trivial
  rw [bldT_eq, q]; rfl
/-- is it the same? -/
def hT (S : Fo) (t : ND × Fo) (D : DC) (x : Int × Int) : Option Int := match lkL x.2 D with
  | none => none
  | some v => match chs S v with
    | some u => if smV u.1 u.2 t.1 t.2 then some x.2 else none
    | none => none
theorem srt_lk {α : Type} : ∀ {D : List (Int × α)}, srt D → ∀ x ∈ D, lkL x.1 D = some x.2 := by
  intro D
  induction D with
  | nil => intro _ x hx; cases hx
  | cons y D ih =>
    intro h x hx
    rcases List.mem_cons.mp hx with rfl | hx
    · show (if x.1 = x.1 then some x.2 else lkL x.1 D) = _
      rw [if_pos rfl]
    · have hlt := h.1 x hx
      show (if y.1 = x.1 then some y.2 else lkL x.1 D) = _
      rw [if_neg (by omega)]
      exact ih h.2 x hx
theorem hits_eq {S : Fo} {t : ND × Fo} {D : DC} (hs : srt D) (hw : wfF (foC t.1 t.2 foN)) (hv : ∀ x ∈ D, ∀ u, chs S x.2 = some u → wfF (foC u.1 u.2 foN)) : hits S t D = (D.filterMap (hK S (kyV t.1 t.2))).filterMap (hT S t D) := by
  have key : ∀ E : DC, (∀ x ∈ E, x ∈ D) → E.filterMap (fun x => match chs S x.2 with
      | some u => if smV u.1 u.2 t.1 t.2 then some x.1 else none
      | none => none) = (E.filterMap (hK S (kyV t.1 t.2))).filterMap (hT S t D) := by
    intro E
    induction E with
    | nil => intro _; rfl
    | cons x E ih =>
      intro hE
      have ihE := ih fun y hy => hE y (List.mem_cons_of_mem _ hy)
      have hx := hE x List.mem_cons_self
      rw [List.filterMap_cons, List.filterMap_cons]
      unfold hK at *
      cases hc : chs S x.2 with
      | none => dsimp only; exact ihE
      | some u =>
        dsimp only
        by_cases hsm : smV u.1 u.2 t.1 t.2 = true
        · have hk := kyV_sm (hv x hx u hc) hw hsm
          rw [if_pos hsm, if_pos hk]
          dsimp only
          rw [List.filterMap_cons]
          have : hT S t D (kyV t.1 t.2, x.1) = some x.1 := by
            unfold hT
            dsimp only
            rw [srt_lk hs x hx]
            dsimp only
            rw [hc]
            dsimp only
            rw [if_pos hsm]
          rw [this, ihE]
        · rw [if_neg hsm]
          dsimp only
          by_cases hk : kyV u.1 u.2 = kyV t.1 t.2
          · rw [if_pos hk]
            dsimp only
            rw [List.filterMap_cons]
            have : hT S t D (kyV t.1 t.2, x.1) = none := by
              unfold hT
              dsimp only
              rw [srt_lk hs x hx]
              dsimp only
              rw [hc]
              dsimp only
              rw [if_neg hsm]
            rw [this]; exact ihE
          · rw [if_neg hk]; exact ihE
  exact key D fun _ h => h
