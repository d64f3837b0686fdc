/-! every operation leaves a state as it may come to be -/
set_option maxRecDepth 100000
set_option maxHeartbeats 4000000
/-- a patch's outcome, as it may be kept -/
theorem pRn_ok : ∀ (R : Fo) (v : Vl) (k : Nat) (v' : Vl), wfF R → cnF false R → dpF R ≤ 32 → GV v → dpV v.2.1 v.2.2 ≤ 32 → (prV v.2.1 v.2.2).length ≤ 480 → pRn R v k = .inl v' → GV v' ∧ dpV v'.2.1 v'.2.2 ≤ 32 ∧ (prV v'.2.1 v'.2.2).length ≤ 480 := by
  intro R
  induction R with
  | leaf =>
    intro v k v' _ _ _ g1 g2 g3 h
    have h : Sum.inl v = (Sum.inl v' : Vl ⊕ Option Nat) := h
    cases h
    exact ⟨g1, g2, g3⟩
  | inner i od u ol r ihl ihr =>
    intro v k v' hw hc hd g1 g2 g3 h
    have h : (match pSt (0, noN od, ol) v with
      | none => Sum.inr (some k)
      | some v' => if 32 < dpV v'.2.1 v'.2.2 then Sum.inr none else if 480 < (prV v'.2.1 v'.2.2).length then Sum.inr none else pRn r v' (k + 1)) = Sum.inl v' := h
    obtain ⟨v1, v2, v3, v4, v5, v6⟩ := hw
    obtain ⟨x1, x2, x3, x4⟩ := hc
    have hdo : (if od.1 < 5 then 0 else 1 + dpF ol) ≤ 32 ∧ dpF r ≤ 32 := by
      have hd : max (if od.1 < 5 then 0 else 1 + dpF ol) (dpF r) ≤ 32 := hd
      omega
    have hdl : dpF ol ≤ 32 := by
      rcases Nat.lt_or_ge od.1 5 with q | q
      · rw [v3 q]; exact Nat.zero_le _
      · have := hdo.1; rw [if_neg (by omega)] at this; omega
    have go : GV (0, noN od, ol) := ⟨rfl, rfl, ⟨⟨v1.1, v1.2.1, v1.2.2.1, v1.2.2.2.1, fun x hx => by cases hx⟩, v2, v3, v4, v5, trivial⟩, ⟨rfl, ⟨x2.1, x2.2.1, fun _ => rfl, trivial⟩, x3, trivial⟩⟩
    cases hp : pSt (0, noN od, ol) v with
    | none => rw [hp] at h; cases h
    | some w =>
      rw [hp] at h
      dsimp only at h
      obtain ⟨d1, d2⟩ := dpS g1 go g2 hdl hp
      split at h
      · cases h
      · split at h
        · cases h
        · exact ihr w (k + 1) v' v6 x4 hdo.2 d2 (by omega) (by omega) h
section
variable {n : Nat} {s : St}
theorem DKv.of {v : Vl} (h : GV v) (hd : dpV v.2.1 v.2.2 ≤ 32) (hp : (prV v.2.1 v.2.2).length ≤ 480) : DKv v.2 := gv_dok h hd hp
/-- what is read is as it may be kept -/
theorem rd_dkv {tp : List Int} {F : Fo} (h : sRdT tp = some (.inr F)) (hp : ¬ 480 < (prV (hdV F).1 (hdV F).2).length) : DKv (hdV F) := by
  obtain ⟨g1, -, g3, -⟩ := rd_gv h (sRd_wf h)
  exact gv_dok g1 g3 (by show (prV (hdV F).1 (hdV F).2).length ≤ 480; omega)
theorem STq.suc (h : STq n s) : STq (n + 1) s := ⟨⟨by have := h.1.1; omega, h.1.2⟩, h.2.1, h.2.2.1, h.2.2.2.1.mono (by omega), fun k D hD => (h.2.2.2.2.1 k D hD).mono (by omega), h.2.2.2.2.2⟩
theorem STq.wtp0 (h : STq n s) : STq n (s.wtp []) := ⟨⟨Nat.zero_le _, fun b hb => by cases hb⟩, h.2.1, h.2.2.1, h.2.2.2.1, h.2.2.2.2.1, h.2.2.2.2.2⟩
theorem STq.wpl {p : Int} (h : STq n s) : STq n (s.wpl p) := ⟨h.1, h.2.1, h.2.2.1, h.2.2.2.1, h.2.2.2.2.1, h.2.2.2.2.2⟩
theorem STq.wres {r : List Int} (h : STq n s) (hr : r.length ≤ 32768) : STq n (s.wres r) := ⟨h.1, hr, h.2.2.1, h.2.2.2.1, h.2.2.2.2.1, h.2.2.2.2.2⟩
theorem STq.wix {x : Int → Option Fo} (h : STq n s) : STq n (s.wix x) := ⟨h.1, h.2.1, h.2.2.1, h.2.2.2.1, h.2.2.2.2.1, h.2.2.2.2.2⟩
theorem STq.com {D : DC} (h : STq n s) (hD : DCK (n + 1) D) : STq (n + 1) (s.com D) := by
  have h' := h.suc
  refine ⟨h'.1, h'.2.1, by show (-1 : Int) ≤ -1 ∧ (-1 : Int) ≤ 3; decide, ?_, fun k E hE => ?_, fun hd k => ?_⟩
  · show DCK (n + 1) (if s.ct < 0 ∨ s.ct = 3 then D else s.now)
    split
    · exact hD
    · exact h'.2.2.2.1
  · have hE : (if s.ct < 0 then s.rd else fun _ => none) k = some E := hE
    split at hE
    · exact h'.2.2.2.2.1 k E hE
    · cases hE
  · have hd : (if s.ct < 0 then s.dk else true) = true := hd
    show (if s.ct < 0 then s.rd else fun _ => none) k = none
    split at hd
    · rename_i q
      rw [if_pos q]
      exact h'.2.2.2.2.2 hd k
    · rename_i q
      rw [if_neg q]
theorem fourB_by (v : Int) : ∀ b ∈ fourB v, -128 ≤ b ∧ b < 128 := by
  intro b hb
  have : ∀ x, -128 ≤ w8 x ∧ w8 x < 128 := fun x => by unfold w8; omega
  simp only [fourB, List.mem_cons, List.not_mem_nil, or_false] at hb
  rcases hb with rfl | rfl | rfl | rfl <;> exact this _
theorem q_feed {a b c d e : Int} (h : STq n s) : STq (n + 1) (oFeed s a b c d e).2.2 := by
  have l4 : ∀ a, (fourB a).length = 4 := fun _ => rfl
  refine ⟨⟨?_, fun x hx => ?_⟩, h.suc.2⟩
  · show (s.tp ++ (fourB a ++ (fourB b ++ (fourB c ++ (fourB d ++ fourB e))))).length ≤ 20 * (n + 1)
    simp only [List.length_append, l4]
    have := h.1.1
    omega
  · have hx : x ∈ s.tp ++ (fourB a ++ (fourB b ++ (fourB c ++ (fourB d ++ fourB e)))) := hx
    simp only [List.mem_append] at hx
    rcases hx with hx | hx | hx | hx | hx | hx
    · exact h.1.2 x hx
    all_goals exact fourB_by _ x hx
theorem q_end {a : Int} (h : STq n s) : STq (n + 1) (oEnd s a).2.2 := by
  unfold oEnd
  split
  · refine ⟨⟨?_, fun x hx => h.1.2 x (List.mem_of_mem_take hx)⟩, h.suc.2⟩
    show (s.tp.take a.toNat).length ≤ _
    rw [List.length_take]
    have := h.1.1
    omega
  · exact h.suc
theorem q_put {id : Int} (h : STq n s) : STq (n + 1) (oPut s id).2.2 := by
  unfold oPut
  split
  · exact h.suc
  · rename_i hid
    split
    · exact h.wtp0.suc
    · split
      · rename_i F hF
        split
        · exact h.wtp0.wpl.suc
        · rename_i hp
          have hD : DCK (n + 1) (insL id (hdV F) s.now) := h.2.2.2.1.ins (by omega) (rd_dkv hF hp)
          have q : STq (n + 1) (((s.wtp []).wpl (-1)).com (insL id (hdV F) s.now)) := h.wtp0.wpl.com hD
          split <;> exact q
      · exact h.wtp0.wpl.suc
      · exact h.suc
theorem q_get {r id : Int} (h : STq n s) : STq (n + 1) (oGet s r id).2.2 := by
  unfold oGet
  split
  · exact h.suc
  · split
    · exact h.suc
    · split
      · exact h.suc
      · rename_i D hD
        split
        · exact h.suc
        · rename_i v hv
          have := ((h.ver hD).lk hv).2.2
          exact (h.wres (by omega)).suc
theorem q_out {id : Int} (h : STq n s) : STq (n + 1) (oOut s id).2.2 := by
  unfold oOut
  split
  · exact h.suc
  · split
    · exact h.suc
    · split
      · exact h.suc
      · have q : STq (n + 1) (s.com (rmL id s.now)) := h.com ((h.2.2.2.1.rm).mono (by omega))
        split <;> exact q
theorem q_clear (h : STq n s) : STq (n + 1) (oClear s).2.2 := by
  unfold oClear
  split
  · exact h.suc
  · have q : STq (n + 1) (s.com []) := h.com DCK.nil
    split <;> exact q
theorem q_patch {id : Int} (h : STq n s) : STq (n + 1) (oPatch s id).2.2 := by
  unfold oPatch
  split
  · exact h.suc
  · rename_i hid
    split
    · exact h.wtp0.suc
    · split
      · rename_i F hF
        split
        · exact h.wtp0.wpl.suc
        · rename_i v hv
          split
          · exact h.wtp0.wpl.suc
          · rename_i h5
            obtain ⟨g1, g2, g3, g4⟩ := rd_gv hF (sRd_wf hF)
            have hk := h.2.2.2.1.lk hv
            split
            · exact h.wtp0.wpl.suc
            · exact h.wtp0.wpl.suc
            · rename_i v' hp
              have h5 : (hdV F).1.1 = 5 := by omega
              have hcl : cnF false (hdV F).2 := by
                have := g1.2.2.2.2.2.1
                rw [h5] at this
                exact this
              have hdl : dpF (hdV F).2 ≤ 32 := by
                have : dpV (hdV F).1 (hdV F).2 = 1 + dpF (hdV F).2 := by unfold dpV; rw [if_neg (by omega)]
                omega
              obtain ⟨w1, w2, w3⟩ := pRn_ok _ _ _ _ g1.2.2.1.2.2.2.2.1 hcl hdl hk.1.1 hk.2.1 hk.2.2 hp
              have hD : DCK (n + 1) (insL id v'.2 s.now) := h.2.2.2.1.ins (by omega) (DKv.of w1 w2 w3)
              have q : STq (n + 1) (((s.wtp []).wpl (-1)).com (insL id v'.2 s.now)) := h.wtp0.wpl.com hD
              split <;> exact q
      · exact h.wtp0.wpl.suc
      · exact h.suc
theorem q_open {r : Int} (h : STq n s) : STq (n + 1) (oOpen s r).2.2 := by
  unfold oOpen
  split
  · exact h.suc
  · split
    · exact h.suc
    · rename_i q
      have h' := h.suc
      refine ⟨h'.1, h'.2.1, h'.2.2.1, h'.2.2.2.1, fun k D hD => ?_, fun hd => absurd (show s.dk = true ∨ _ from Or.inl hd) q⟩
      have hD : (if k = r then some s.now else s.rd k) = some D := hD
      split at hD
      · cases hD; exact h'.2.2.2.1
      · exact h'.2.2.2.2.1 k D hD
theorem q_close {r : Int} (h : STq n s) : STq (n + 1) (oClose s r).2.2 := by
  unfold oClose
  split
  · exact h.suc
  · split
    · exact h.suc
    · rename_i q
      have h' := h.suc
      refine ⟨h'.1, h'.2.1, h'.2.2.1, h'.2.2.2.1, fun k D hD => ?_, fun hd => absurd (show s.dk = true ∨ _ from Or.inl hd) q⟩
      have hD : (if k = r then none else s.rd k) = some D := hD
      split at hD
      · cases hD
      · exact h'.2.2.2.2.1 k D hD
theorem qAll_len {S : Fo} : ∀ (D : DC) (w : Int) (out : List Int) (k : Int) (o : List Int) (k' : Int), out.length ≤ 32768 → qAll S D w out k = some (o, k') → o.length ≤ 32768 := by
  intro D
  induction D with
  | nil => intro w out k o k' hl h; cases h; exact hl
  | cons x D ih =>
    intro w out k o k' hl h
    have h : (match qDoc S x.2 w with
      | none => none
      | some (xs, w') => if 32768 < (out ++ xs.flatMap (lnQ x.1)).length then none else qAll S D w' (out ++ xs.flatMap (lnQ x.1)) (k + xs.length)) = some (o, k') := h
    split at h
    · cases h
    · split at h
      · cases h
      · exact ih _ _ _ _ _ (by omega) h
theorem q_query {r : Int} (h : STq n s) : STq (n + 1) (oQuery s r).2.2 := by
  unfold oQuery
  split
  · exact h.suc
  · split
    · exact h.wtp0.suc
    · split
      · exact h.wtp0.suc
      · split
        · split
          · exact h.wtp0.wpl.suc
          · rename_i o k hk
            exact (h.wtp0.wpl.wres (qAll_len _ _ _ _ _ _ (by simp) hk)).suc
        · exact h.wtp0.wpl.suc
        · exact h.suc
theorem q_index {k : Int} (h : STq n s) : STq (n + 1) (oIndex s k).2.2 := by
  unfold oIndex
  split
  · exact h.suc
  · split
    · exact h.wtp0.suc
    · split
      · split
        · exact h.wtp0.wpl.wix.suc
        · exact h.wtp0.wpl.suc
      · exact h.wtp0.wpl.suc
      · exact h.suc
theorem hits_len (S : Fo) (t : ND × Fo) (D : DC) : (hits S t D).length ≤ D.length := List.length_filterMap_le _ _
theorem ids_len : ∀ (L : List Int), (L.flatMap fun i => prN i ++ [10]).length ≤ 20 * L.length := by
  intro L
  induction L with
  | nil => simp
  | cons x L ih =>
    have := prN_l19 x
    rw [List.flatMap_cons, List.length_append, List.length_append, List.length_cons]
    simp only [List.length_cons, List.length_nil]
    omega
theorem q_find {k r : Int} (h : STq n s) (hn : n ≤ 64) : STq (n + 1) (oFind s k r).2.2 := by
  unfold oFind
  split
  · exact h.suc
  · split
    · exact h.wtp0.suc
    · split
      · exact h.wtp0.suc
      · rename_i D hD
        split
        · exact h.wtp0.suc
        · rename_i S hS
          split
          · rename_i F hF
            refine (h.wtp0.wpl.wres ?_).suc
            have h1 := hits_len S (hdV F) D
            have h2 := (h.ver hD).2.1
            have h3 := ids_len (hits S (hdV F) D)
            omega
          · exact h.wtp0.wpl.suc
          · exact h.suc
theorem q_cut {a : Int} (h : STq n s) : STq (n + 1) (oCut s a).2.2 := by
  unfold oCut
  split
  · exact h.suc
  · split
    · exact h.suc
    · rename_i q _
      have h' := h.suc
      exact ⟨h'.1, h'.2.1, by show (-1 : Int) ≤ a ∧ a ≤ 3; omega, h'.2.2.2.1, h'.2.2.2.2.1, h'.2.2.2.2.2⟩
theorem q_mount (h : STq n s) : STq (n + 1) (oMount s).2.2 := by
  have h' := h.suc
  exact ⟨h'.1, h'.2.1, by show (-1 : Int) ≤ -1 ∧ (-1 : Int) ≤ 3; decide, h'.2.2.2.1, h'.2.2.2.2.1, fun hd => by cases hd⟩
theorem q_word {i : Int} (h : STq n s) : STq (n + 1) (oWord s i).2.2 := by
  unfold oWord
  split <;> exact h.suc
theorem q_count {w : Int} (h : STq n s) : STq (n + 1) (oCount s w).2.2 := by
  unfold oCount
  split <;> exact h.suc
end
