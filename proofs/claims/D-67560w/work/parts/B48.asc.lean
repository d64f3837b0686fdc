/-! what is printed is of plain characters; a path doesn't look at indices -/
set_option maxRecDepth 100000
set_option maxHeartbeats 4000000
def asc (xs : List Int) : Prop := ∀ b ∈ xs, 0 ≤ b ∧ b < 128
theorem asc_nil : asc [] := fun _ h => by cases h
theorem asc_app {a b : List Int} (ha : asc a) (hb : asc b) : asc (a ++ b) := fun x hx => (List.mem_append.mp hx).elim (ha x) (hb x)
theorem asc_cons {x : Int} {a : List Int} (h : 0 ≤ x ∧ x < 128) (ha : asc a) : asc (x :: a) := fun z hz => (List.mem_cons.mp hz).elim (fun e => by rw [e]; exact h) (ha z)
theorem asc_one {x : Int} (h : 0 ≤ x ∧ x < 128) : asc [x] := asc_cons h asc_nil
theorem asc.by {xs : List Int} (h : asc xs) : ∀ b ∈ xs, -128 ≤ b ∧ b < 128 := fun b hb => by have := h b hb; omega
theorem dl_asc : ∀ (k : Nat) (u : Int), asc (dl k u) := by
  intro k
  induction k with
  | zero => intro u; exact asc_one (by omega)
  | succ k ih => intro u; exact asc_cons (by omega) (ih u)
theorem prN_asc (v : Int) : asc (prN v) := by
  unfold prN
  split
  · exact asc_cons (by decide) (dl_asc _ _)
  · exact dl_asc _ _
theorem hx_asc {x : Int} (h : 0 ≤ x ∧ x < 16) : 0 ≤ hx x ∧ hx x < 128 := by unfold hx; split <;> omega
theorem prC_asc {q u : Int} (hq : 0 ≤ q ∧ q < 128) (hu : 0 ≤ u ∧ u < 65536) : asc (prC q u) := by
  unfold prC
  split
  · rename_i h
    exact asc_cons (by decide) (asc_one (by rcases h with h | h <;> omega))
  · split
    · exact asc_cons (by decide) (asc_one (by decide))
    · split
      · exact asc_cons (by decide) (asc_one (by decide))
      · split
        · exact asc_cons (by decide) (asc_one (by decide))
        · split
          · exact asc_cons (by decide) (asc_one (by decide))
          · split
            · exact asc_cons (by decide) (asc_one (by decide))
            · split
              · exact asc_cons (by decide) (asc_cons (by decide) (asc_cons (hx_asc (by omega)) (asc_cons (hx_asc (by omega)) (asc_cons (hx_asc (by omega)) (asc_one (hx_asc (by omega)))))))
              · exact asc_one (by omega)
theorem prS_asc {q : Int} {us : List Int} (hq : 0 ≤ q ∧ q < 128) (hu : wfU us) : asc (prS q us) := by
  unfold prS
  refine asc_cons hq (asc_app (fun b hb => ?_) (asc_one hq))
  obtain ⟨u, h1, h2⟩ := List.mem_flatMap.mp hb
  exact prC_asc hq (hu u h1) b h2
theorem prD_asc {d : ND} {body : List Int} (hd : wfN d) (hb : asc body) : asc (prD d body) := by
  unfold prD
  split
  · unfold cNul; exact asc_cons (by decide) (asc_cons (by decide) (asc_cons (by decide) (asc_one (by decide))))
  · split
    · unfold cFls; exact asc_cons (by decide) (asc_cons (by decide) (asc_cons (by decide) (asc_cons (by decide) (asc_one (by decide)))))
    · split
      · unfold cTru; exact asc_cons (by decide) (asc_cons (by decide) (asc_cons (by decide) (asc_one (by decide))))
      · split
        · exact prN_asc _
        · split
          · exact prS_asc (by decide) hd.2.2.2.1
          · split
            · exact asc_cons (by decide) (asc_app hb (asc_one (by decide)))
            · exact asc_cons (by decide) (asc_app hb (asc_one (by decide)))
theorem prF_asc : ∀ (F : Fo) (ob fst : Bool), wfF F → asc (prF ob fst F) := by
  intro F
  induction F with
  | leaf => intro ob fst _; rw [show prF ob fst (.leaf : Fo) = [] from prF_leaf ob fst]; exact asc_nil
  | inner n d u l r ihl ihr =>
    intro ob fst h
    obtain ⟨h1, -, -, -, h5, h6⟩ := h
    rw [prF_inner]
    refine asc_app ?_ (asc_app ?_ (asc_app (prD_asc h1 (ihl _ _ h5)) (ihr _ _ h6)))
    · split
      · exact asc_nil
      · exact asc_one (by decide)
    · split
      · exact asc_app (prS_asc (by decide) h1.2.2.2.2) (asc_one (by decide))
      · exact asc_nil
theorem prV_asc {d : ND} {l : Fo} (h : wfF (foC d l foN)) : asc (prV d l) := prD_asc h.1 (prF_asc l _ _ h.2.2.2.2.1)
/-- all names around a node are of units -/
def nmU (x : Nd) : Prop := ∀ y ∈ x, wfU y.2.2.1.2.2.2
theorem prP_asc : ∀ {x : Nd}, nmU x → asc (prP x) := by
  intro x
  induction x with
  | nil => intro _; exact asc_nil
  | cons y x ih =>
    intro h
    cases x with
    | nil => exact asc_one (by decide)
    | cons c x =>
      refine asc_app (ih fun z hz => h z (List.mem_cons_of_mem _ hz)) (asc_cons (by decide) (asc_app ?_ (asc_one (by decide))))
      split
      · exact prS_asc (by decide) (h y List.mem_cons_self)
      · exact prN_asc _
/-- without the twin's indices: the same path, the same line -/
theorem prP_er : ∀ (x : Nd), prP (eN x) = prP x := by
  intro x
  induction x with
  | nil => rfl
  | cons y x ih =>
    cases x with
    | nil => rfl
    | cons c x =>
      show prP (eN (c :: x)) ++ _ = prP (c :: x) ++ _
      rw [ih]
      rfl
theorem hdN_er (x : Nd) : hdN (eN x) = ((hdN x).1, erF (hdN x).2) := by
  cases x with
  | nil => rfl
  | cons y x => rfl
theorem lnQ_er (id : Int) (x : Nd) : lnQ id (eN x) = lnQ id x := by
  unfold lnQ
  rw [prP_er, hdN_er, prV_er]
/-- what a query chooses from a tree with indices, and without -/
theorem qDoc_er {S : Fo} {i : Nat} {nd : ND} {l : Fo} : Rl (List.map eN) ((evX [(0, i, nd, l, 0)] (foC (20, 1, [], []) S foN)).qry [(0, i, nd, l, 0)]) (qDoc S (nd, erF l)) := (evX_er (rt := [(0, i, nd, l, 0)]) (foC (20, 1, [], []) S foN)).2.2.2.2.2.2.2 [(0, i, nd, l, 0)]
