/-! the law's calls of the component -/
set_option maxRecDepth 100000
set_option maxHeartbeats 4000000
theorem bLh_eq {cc : RM} {x : Int} {m : Mem} {f : Int → Mem → RM} {g : Int → Mem → RM} (h : cc = some (Sum.inl (some (pL x)), m)) : bLh cc f g = f x m := by rw [h]; rfl
theorem bLh_xq {cc : RM} {x : Int} {m : Mem} {f : Int → Mem → RM} {g : Int → Mem → RM} (h : cc = some (Sum.inr x, m)) : bLh cc f g = g x m := by rw [h]; rfl
theorem oPut_cd (s : St) (id : Int) : (oPut s id).1 = 0 ∨ (oPut s id).1 = 1 ∨ (oPut s id).1 = 2 ∨ (oPut s id).1 = 3 ∨ (oPut s id).1 = 4 := by
  unfold oPut
  split
  · simp
  · split
    · simp
    · split
      · split
        · simp
        · split <;> simp
      · simp
      · rename_i h; exact absurd h (sRdT_some _)
theorem oPatch_cd (s : St) (id : Int) : (oPatch s id).1 = 0 ∨ (oPatch s id).1 = 1 ∨ (oPatch s id).1 = 2 ∨ (oPatch s id).1 = 3 ∨ (oPatch s id).1 = 4 ∨ (oPatch s id).1 = 5 ∨ (oPatch s id).1 = 6 := by
  unfold oPatch
  split
  · simp
  · split
    · simp
    · split
      · split
        · simp
        · split
          · simp
          · split
            · simp
            · simp
            · split <;> simp
      · simp
      · rename_i h; exact absurd h (sRdT_some _)
theorem oGet_cd (s : St) (r id : Int) : (oGet s r id).1 = 0 ∨ (oGet s r id).1 = 1 ∨ (oGet s r id).1 = 2 ∨ (oGet s r id).1 = 3 := by
  unfold oGet
  split
  · simp
  · split
    · simp
    · split
      · simp
      · split <;> simp
theorem oOut_cd (s : St) (id : Int) : (oOut s id).1 = 0 ∨ (oOut s id).1 = 1 ∨ (oOut s id).1 = 2 ∨ (oOut s id).1 = 3 := by
  unfold oOut
  split
  · simp
  · split
    · simp
    · split
      · simp
      · split <;> simp
theorem oClear_cd (s : St) : (oClear s).1 = 0 ∨ (oClear s).1 = 1 := by
  unfold oClear
  split
  · simp
  · split <;> simp
theorem oOpen_cd (s : St) (r : Int) : (oOpen s r).1 = 0 ∨ (oOpen s r).1 = 1 ∨ (oOpen s r).1 = 2 := by
  unfold oOpen
  split
  · simp
  · split <;> simp
theorem oClose_cd (s : St) (r : Int) : (oClose s r).1 = 0 ∨ (oClose s r).1 = 1 ∨ (oClose s r).1 = 2 := by
  unfold oClose
  split
  · simp
  · split <;> simp
theorem oQuery_cd (s : St) (r : Int) : (oQuery s r).1 = 0 ∨ (oQuery s r).1 = 1 ∨ (oQuery s r).1 = 2 ∨ (oQuery s r).1 = 3 ∨ (oQuery s r).1 = 4 := by
  unfold oQuery
  split
  · simp
  · split
    · simp
    · split
      · simp
      · split
        · split <;> simp
        · simp
        · rename_i h; exact absurd h (sQuT_some _)
theorem oIndex_cd (s : St) (k : Int) : (oIndex s k).1 = 0 ∨ (oIndex s k).1 = 1 ∨ (oIndex s k).1 = 2 ∨ (oIndex s k).1 = 3 := by
  unfold oIndex
  split
  · simp
  · split
    · simp
    · split
      · split <;> simp
      · simp
      · rename_i h; exact absurd h (sQuT_some _)
theorem oFind_cd (s : St) (k r : Int) : (oFind s k r).1 = 0 ∨ (oFind s k r).1 = 1 ∨ (oFind s k r).1 = 2 ∨ (oFind s k r).1 = 3 := by
  unfold oFind
  split
  · simp
  · split
    · simp
    · split
      · simp
      · split
        · simp
        · split
          · simp
          · simp
          · rename_i h; exact absurd h (sRdT_some _)
theorem oEnd_cd (s : St) (a : Int) : (oEnd s a).1 = 0 ∨ (oEnd s a).1 = 1 := by
  unfold oEnd
  split <;> simp
theorem oCut_cd (s : St) (a : Int) : (oCut s a).1 = 0 ∨ (oCut s a).1 = 1 ∨ (oCut s a).1 = 2 := by
  unfold oCut
  split
  · simp
  · split <;> simp
theorem oWord_cd (s : St) (a : Int) : (oWord s a).1 = 0 ∨ (oWord s a).1 = 1 := by
  unfold oWord
  split <;> simp
theorem oCount_cd (s : St) (a : Int) : (oCount s a).1 = 0 ∨ (oCount s a).1 = 1 := by
  unfold oCount
  split <;> simp
section
variable {d n : Nat} {m m1 : Mem} {X O : Int} {A : Int → Int} {s : St} {g : GH}
/-- the law has a code, and what was answered -/
def WRi (n : Nat) (m : Mem) (X : Int) (A : Int → Int) (s : St) (g : GH) (Q : RM) (an : Ans) (O : Int) : Prop := ∃ m' g', CPt (n + 1) m' X A an.2.2 g' ∧ CST m s.tp (pcG g) m' an.2.2.tp (pcG g') ∧ Q = some (.inl (some (pI an.1)), m') ∧ (an.1 = 0 → vl m' O 0 = an.2.1)
/-- nothing is answered but a code -/
def WRv (n : Nat) (m : Mem) (X : Int) (A : Int → Int) (s : St) (g : GH) (Q : RM) (an : Ans) : Prop := ∃ m' g', CPt (n + 1) m' X A an.2.2 g' ∧ CST m s.tp (pcG g) m' an.2.2.tp (pcG g') ∧ Q = some (.inl (some (pI an.1)), m')
theorem CPt.sto {v : Int} (h : CPt n m X A s g) (hO : tg m O = 1102) : CPt n (mst m O 0 v) X A s g := h.all (UT.mst (by rw [hO]; decide)) (h.1.mst (by omega))
theorem wr_I {q : Nat} {as : List PV} {ex : Int → Int} {an : Ans} {G : Int → Mem → RM} (h : CPt n m X A s g) (k : CRi n m X A s g (cl d q as m) ex an (some (pI an.2.1))) (hO : tg m O = 1102 ∧ ln m O = 1) (hG : ∀ m', an.1 ≠ 0 → G (ex an.1) m' = some (.inl (some (pI an.1)), m')) : WRi n m X A s g (bIh (cl d q as m) (fun v1 m1 => gd (tg m1 O = 1102) <| gd ((0 : Int) ≤ 0 ∧ 0 < ln m1 O) <| some (.inl (some (pI 0)), (mst m1 O 0 v1))) G) an O := by
  obtain ⟨m', g', c1, c2, c3, c4⟩ := k
  have hz := h.1.tz
  by_cases h0 : an.1 = 0
  · have e := c3 h0
    have u := (ut_cl (ts := []) e rfl).1
    have l := tz_lt hz (by omega : tg m O ≠ 0)
    have t := u.2.2 O l
    have tO : tg m' O = 1102 := by rw [t.1]; exact hO.1
    refine ⟨mst m' O 0 an.2.1, g', c1.sto tO, c2, ?_, fun _ => by rw [vl_mst, if_pos ⟨rfl, rfl⟩]⟩
    rw [bIh_eq e, gd_of tO, gd_of ⟨Int.le_refl _, by rw [t.2, hO.2]; decide⟩, h0]
  · exact ⟨m', g', c1, c2, by rw [bIh_xq (c4 h0)]; exact hG m' h0, fun q => absurd q h0⟩
theorem wr_L {q : Nat} {as : List PV} {ex : Int → Int} {an : Ans} {G : Int → Mem → RM} (h : CPt n m X A s g) (k : CRi n m X A s g (cl d q as m) ex an (some (pL an.2.1))) (hO : tg m O = 1102 ∧ ln m O = 1) (hG : ∀ m', an.1 ≠ 0 → G (ex an.1) m' = some (.inl (some (pI an.1)), m')) : WRi n m X A s g (bLh (cl d q as m) (fun v1 m1 => gd (tg m1 O = 1102) <| gd ((0 : Int) ≤ 0 ∧ 0 < ln m1 O) <| some (.inl (some (pI 0)), (mst m1 O 0 v1))) G) an O := by
  obtain ⟨m', g', c1, c2, c3, c4⟩ := k
  have hz := h.1.tz
  by_cases h0 : an.1 = 0
  · have e := c3 h0
    have u := (ut_cl (ts := []) e rfl).1
    have l := tz_lt hz (by omega : tg m O ≠ 0)
    have t := u.2.2 O l
    have tO : tg m' O = 1102 := by rw [t.1]; exact hO.1
    refine ⟨mst m' O 0 an.2.1, g', c1.sto tO, c2, ?_, fun _ => by rw [vl_mst, if_pos ⟨rfl, rfl⟩]⟩
    rw [bLh_eq e, gd_of tO, gd_of ⟨Int.le_refl _, by rw [t.2, hO.2]; decide⟩, h0]
  · exact ⟨m', g', c1, c2, by rw [bLh_xq (c4 h0)]; exact hG m' h0, fun q => absurd q h0⟩
theorem wr_V {q : Nat} {as : List PV} {ex : Int → Int} {an : Ans} {G : Int → Mem → RM} (k : CRi n m X A s g (cl d q as m) ex an none) (hG : ∀ m', an.1 ≠ 0 → G (ex an.1) m' = some (.inl (some (pI an.1)), m')) : WRv n m X A s g (bVh (cl d q as m) (fun m1 => some (.inl (some (pI 0)), m1)) G) an := by
  obtain ⟨m', g', c1, c2, c3, c4⟩ := k
  by_cases h0 : an.1 = 0
  · exact ⟨m', g', c1, c2, by rw [bVh_eq (c3 h0), h0]⟩
  · exact ⟨m', g', c1, c2, by rw [bVh_xq (c4 h0)]; exact hG m' h0⟩
theorem WRi.imp {Q Q' : RM} {an : Ans} (h : WRi n m X A s g Q an O) (hQ : ∀ z, Q = some z → Q' = some z) : WRi n m X A s g Q' an O := by
  obtain ⟨m', g', a, b, c, e⟩ := h
  exact ⟨m', g', a, b, hQ _ c, e⟩
theorem WRv.imp {Q Q' : RM} {an : Ans} (h : WRv n m X A s g Q an) (hQ : ∀ z, Q = some z → Q' = some z) : WRv n m X A s g Q' an := by
  obtain ⟨m', g', a, b, c⟩ := h
  exact ⟨m', g', a, b, hQ _ c⟩
theorem wl1 {a1 a2 a3 a4 a5 : Int} (hd : 2000 ≤ d) (h : CPt n m X A s g) (hO : tg m O = 1102 ∧ ln m O = 1) (hl : (s.tp.length : Int) + 20 ≤ 1280) : WRi n m X A s g (cl d 1 [pR X, pI a1, pI a2, pI a3, pI a4, pI a5, pR O] m) (oFeed s a1 a2 a3 a4 a5) O :=
  (wr_I (G := fun x2 m2 => if x2 = 201 then (some (.inl (some (pI 1)), m2)) else none) h (c18 (d := d - 1) (by omega) h hl) hO fun m' q => absurd rfl q).imp fun z hz => q1 (by omega) h.1.tz _ (by rw [gd_of h.2.1.1]; exact hz)
theorem wl2 {a : Int} (hd : 2000 ≤ d) (h : CPt n m X A s g) (hO : tg m O = 1102 ∧ ln m O = 1) : WRi n m X A s g (cl d 2 [pR X, pI a, pR O] m) (oEnd s a) O :=
  (wr_I (G := fun x2 m2 => if x2 = 202 then (some (.inl (some (pI 1)), m2)) else none) h (c21 (d := d - 1) (by omega) h) hO fun m' q => by
    rcases oEnd_cd s a with e | e
    · exact absurd e q
    · rw [e]; rfl).imp fun z hz => q2 (by omega) h.1.tz _ (by rw [gd_of h.2.1.1]; exact hz)
theorem wl3 {id : Int} (hd : 2000 ≤ d) (h : CPt n m X A s g) (hO : tg m O = 1102 ∧ ln m O = 1) (hs : STq n s) (hn : n ≤ 63) : WRi n m X A s g (cl d 3 [pR X, pI id, pR O] m) (oPut s id) O :=
  (wr_I (G := fun x2 m2 => if x2 = 202 then (some (.inl (some (pI 1)), m2)) else if x2 = 203 then (some (.inl (some (pI 2)), m2)) else if x2 = 204 then (some (.inl (some (pI 3)), m2)) else if x2 = 201 then (some (.inl (some (pI 4)), m2)) else none) h (c24 (d := d - 1) (by omega) h hs hn) hO fun m' q => by
    rcases oPut_cd s id with e | e | e | e | e
    · exact absurd e q
    · rw [e]; rfl
    · rw [e]; rfl
    · rw [e]; rfl
    · rw [e]; rfl).imp fun z hz => q3 (by omega) h.1.tz _ (by rw [gd_of h.2.1.1]; exact hz)
theorem wl4 {r id : Int} (hd : 2000 ≤ d) (h : CPt n m X A s g) (hO : tg m O = 1102 ∧ ln m O = 1) (hr : pin r (-2147483648) 2147483648) : WRi n m X A s g (cl d 4 [pR X, pI r, pI id, pR O] m) (oGet s r id) O :=
  (wr_I (G := fun x2 m2 => if x2 = 202 then (some (.inl (some (pI 1)), m2)) else if x2 = 203 then (some (.inl (some (pI 2)), m2)) else if x2 = 205 then (some (.inl (some (pI 3)), m2)) else none) h (c30 (d := d - 1) (by omega) h hr) hO fun m' q => by
    rcases oGet_cd s r id with e | e | e | e
    · exact absurd e q
    · rw [e]; rfl
    · rw [e]; rfl
    · rw [e]; rfl).imp fun z hz => q4 (by omega) h.1.tz _ (by rw [gd_of h.2.1.1]; exact hz)
theorem wl7 {id : Int} (hd : 2000 ≤ d) (h : CPt n m X A s g) (hO : tg m O = 1102 ∧ ln m O = 1) (hs : STq n s) (hn : n ≤ 63) : WRi n m X A s g (cl d 7 [pR X, pI id, pR O] m) (oPatch s id) O :=
  (wr_I (G := fun x2 m2 => if x2 = 202 then (some (.inl (some (pI 1)), m2)) else if x2 = 203 then (some (.inl (some (pI 2)), m2)) else if x2 = 204 then (some (.inl (some (pI 3)), m2)) else if x2 = 205 then (some (.inl (some (pI 4)), m2)) else if x2 = 206 then (some (.inl (some (pI 5)), m2)) else if x2 = 201 then (some (.inl (some (pI 6)), m2)) else none) h (c35 (d := d - 1) (by omega) h hs hn) hO fun m' q => by
    rcases oPatch_cd s id with e | e | e | e | e | e | e
    · exact absurd e q
    · rw [e]; rfl
    · rw [e]; rfl
    · rw [e]; rfl
    · rw [e]; rfl
    · rw [e]; rfl
    · rw [e]; rfl).imp fun z hz => q7 (by omega) h.1.tz _ (by rw [gd_of h.2.1.1]; exact hz)
theorem wl10 {r : Int} (hd : 2000 ≤ d) (h : CPt n m X A s g) (hO : tg m O = 1102 ∧ ln m O = 1) (hr : pin r (-2147483648) 2147483648) (hn : n ≤ 64) : WRi n m X A s g (cl d 10 [pR X, pI r, pR O] m) (oQuery s r) O :=
  (wr_I (G := fun x2 m2 => if x2 = 202 then (some (.inl (some (pI 1)), m2)) else if x2 = 203 then (some (.inl (some (pI 2)), m2)) else if x2 = 204 then (some (.inl (some (pI 3)), m2)) else if x2 = 201 then (some (.inl (some (pI 4)), m2)) else none) h (c38 (d := d - 1) (by omega) h hr hn) hO fun m' q => by
    rcases oQuery_cd s r with e | e | e | e | e
    · exact absurd e q
    · rw [e]; rfl
    · rw [e]; rfl
    · rw [e]; rfl
    · rw [e]; rfl).imp fun z hz => q10 (by omega) h.1.tz _ (by rw [gd_of h.2.1.1]; exact hz)
theorem wl11 {k : Int} (hd : 2000 ≤ d) (h : CPt n m X A s g) : WRv n m X A s g (cl d 11 [pR X, pI k] m) (oIndex s k) :=
  (wr_V (G := fun x2 m2 => if x2 = 202 then (some (.inl (some (pI 1)), m2)) else if x2 = 203 then (some (.inl (some (pI 2)), m2)) else if x2 = 204 then (some (.inl (some (pI 3)), m2)) else none) (c43 (d := d - 1) (by omega) h) fun m' q => by
    rcases oIndex_cd s k with e | e | e | e
    · exact absurd e q
    · rw [e]; rfl
    · rw [e]; rfl
    · rw [e]; rfl).imp fun z hz => q11 (by omega) h.1.tz _ (by rw [gd_of h.2.1.1]; exact hz)
theorem wl12 {k r : Int} (hd : 2000 ≤ d) (h : CPt n m X A s g) (hA : A 60 = 0) (hO : tg m O = 1102 ∧ ln m O = 1) (hr : pin r (-2147483648) 2147483648) (hn : n ≤ 64) : WRi n m X A s g (cl d 12 [pR X, pI k, pI r, pR O] m) (oFind s k r) O :=
  (wr_I (G := fun x2 m2 => if x2 = 202 then (some (.inl (some (pI 1)), m2)) else if x2 = 203 then (some (.inl (some (pI 2)), m2)) else if x2 = 204 then (some (.inl (some (pI 3)), m2)) else none) h (c44 (d := d - 1) (by omega) h hA hr hn) hO fun m' q => by
    rcases oFind_cd s k r with e | e | e | e
    · exact absurd e q
    · rw [e]; rfl
    · rw [e]; rfl
    · rw [e]; rfl).imp fun z hz => q12 (by omega) h.1.tz _ (by rw [gd_of h.2.1.1]; exact hz)
theorem wl13 {a : Int} (hd : 2000 ≤ d) (h : CPt n m X A s g) : WRv n m X A s g (cl d 13 [pR X, pI a] m) (oCut s a) :=
  (wr_V (G := fun x2 m2 => if x2 = 202 then (some (.inl (some (pI 1)), m2)) else if x2 = 203 then (some (.inl (some (pI 2)), m2)) else none) (c47 (d := d - 1) (by omega) h) fun m' q => by
    rcases oCut_cd s a with e | e | e
    · exact absurd e q
    · rw [e]; rfl
    · rw [e]; rfl).imp fun z hz => q13 (by omega) h.1.tz _ (by rw [gd_of h.2.1.1]; exact hz)
theorem wl14 {a : Int} (hd : 2000 ≤ d) (h : CPt n m X A s g) (hO : tg m O = 1102 ∧ ln m O = 1) : WRi n m X A s g (cl d 14 [pR X, pI a, pR O] m) (oWord s a) O :=
  (wr_L (G := fun x2 m2 => if x2 = 201 then (some (.inl (some (pI 1)), m2)) else none) h (c48 (d := d - 1) (by omega) h) hO fun m' q => by
    rcases oWord_cd s a with e | e
    · exact absurd e q
    · rw [e]; rfl).imp fun z hz => q14 (by omega) h.1.tz _ (by rw [gd_of h.2.1.1]; exact hz)
theorem wl15 {w : Int} (hd : 2000 ≤ d) (h : CPt n m X A s g) (hO : tg m O = 1102 ∧ ln m O = 1) (hn : n ≤ 64) : WRi n m X A s g (cl d 15 [pR X, pI w, pR O] m) (oCount s w) O :=
  (wr_I (G := fun x2 m2 => if x2 = 202 then (some (.inl (some (pI 1)), m2)) else none) h (c49 (d := d - 1) (by omega) h hn) hO fun m' q => by
    rcases oCount_cd s w with e | e
    · exact absurd e q
    · rw [e]; rfl).imp fun z hz => q15 (by omega) h.1.tz _ (by rw [gd_of h.2.1.1]; exact hz)
theorem wl5 {id : Int} (hd : 2000 ≤ d) (h : CPt n m X A s g) (hO : tg m O = 1102 ∧ ln m O = 1) (hs : STq n s) (hn : n ≤ 63) : WRi n m X A s g (cl d 5 [pR X, pI id, pR O] m) (oOut s id) O :=
  (wr_I (G := fun x2 m2 => if x2 = 202 then (some (.inl (some (pI 1)), m2)) else if x2 = 203 then (some (.inl (some (pI 2)), m2)) else if x2 = 205 then (some (.inl (some (pI 3)), m2)) else none) h (c33 (d := d - 1) (by omega) h hs hn) hO fun m' q => by
    rcases oOut_cd s id with e | e | e | e
    · exact absurd e q
    · rw [e]; rfl
    · rw [e]; rfl
    · rw [e]; rfl).imp fun z hz => q5 (by omega) h.1.tz _ (by rw [gd_of h.2.1.1]; exact hz)
theorem wl6 (hd : 2000 ≤ d) (h : CPt n m X A s g) (hO : tg m O = 1102 ∧ ln m O = 1) (hs : STq n s) (hn : n ≤ 63) : WRi n m X A s g (cl d 6 [pR X, pR O] m) (oClear s) O :=
  (wr_I (G := fun x2 m2 => if x2 = 203 then (some (.inl (some (pI 1)), m2)) else none) h (c34 (d := d - 1) (by omega) h hs hn) hO fun m' q => by
    rcases oClear_cd s with e | e
    · exact absurd e q
    · rw [e]; rfl).imp fun z hz => q6 (by omega) h.1.tz _ (by rw [gd_of h.2.1.1]; exact hz)
theorem wl8 {r : Int} (hd : 2000 ≤ d) (h : CPt n m X A s g) : WRv n m X A s g (cl d 8 [pR X, pI r] m) (oOpen s r) :=
  (wr_V (G := fun x2 m2 => if x2 = 202 then (some (.inl (some (pI 1)), m2)) else if x2 = 203 then (some (.inl (some (pI 2)), m2)) else none) (c36 (d := d - 1) (by omega) h) fun m' q => by
    rcases oOpen_cd s r with e | e | e
    · exact absurd e q
    · rw [e]; rfl
    · rw [e]; rfl).imp fun z hz => q8 (by omega) h.1.tz _ (by rw [gd_of h.2.1.1]; exact hz)
theorem wl9 {r : Int} (hd : 2000 ≤ d) (h : CPt n m X A s g) : WRv n m X A s g (cl d 9 [pR X, pI r] m) (oClose s r) :=
  (wr_V (G := fun x2 m2 => if x2 = 202 then (some (.inl (some (pI 1)), m2)) else if x2 = 203 then (some (.inl (some (pI 2)), m2)) else none) (c37 (d := d - 1) (by omega) h) fun m' q => by
    rcases oClose_cd s r with e | e | e
    · exact absurd e q
    · rw [e]; rfl
    · rw [e]; rfl).imp fun z hz => q9 (by omega) h.1.tz _ (by rw [gd_of h.2.1.1]; exact hz)
end
