/-! queries as the twin's rows: lists in the making -/
set_option maxRecDepth 100000
set_option maxHeartbeats 4000000
/-- rows of a list, each with what is below -/
def gLs (g en : RF) (us : List Int) (w : Bool) (nf : Int) (P : Int → Prop) : (Nat → Int) → Fo → Prop
  | _, .leaf => True
  | p, .inner _ d _ l r => (gI g en us w P (p 0) d l ∧ d.1 ≠ 20 ∧ nf = (if d.1 = 21 then 3 else 1)) ∧ gLs g en us w nf P (fun j => p (j + 1)) r
/-- between lo and hi, none of os -/
def gP (lo hi : Int) (os : List Int) (a : Int) : Prop := lo ≤ a ∧ a < hi ∧ ∀ j : Int, 0 ≤ j → j < os.length → a ≠ gi os j
/-- a list in the making: x is the row that has it, os its rows -/
def gLI (g en : RF) (us : List Int) (w : Bool) (nf x lo hi : Int) (os : List Int) (A : Fo) : Prop :=
  (nf = 1 ∨ nf = 3) ∧ (0 ≤ x ∧ x < lo ∧ lo ≤ hi) ∧ cntF A = os.length ∧ (∀ j : Int, 0 ≤ j → j < os.length → lo ≤ gi os j ∧ gi os j < hi) ∧ (∀ i j : Int, 0 ≤ i → i < j → j < os.length → gi os i < gi os j) ∧ (∀ j : Int, 0 ≤ j → j + 1 < os.length → g (gi os j) nf = gi os (j + 1)) ∧ (0 < os.length → g (gi os (os.length - 1)) nf = -1 ∧ g x 2 = gi os 0) ∧ (os.length = 0 → g x 2 = -1) ∧ gLs g en us w nf (gP lo hi os) (fun j : Nat => gi os j) A
section
variable {g g' en en' : RF} {us vs : List Int}
theorem gLs.keep {nf : Int} : ∀ {F : Fo} {w : Bool} {P Q : Int → Prop} {p p' : Nat → Int}, AG P g en g' en' → (∀ a, P a → Q a) → (∀ j, j < cntF F → p' j = p j ∧ (∀ f, 0 ≤ f → f < 8 → f ≠ nf → g' (p j) f = g (p j) f) ∧ ∀ f, 0 ≤ f → f < 3 → en' (p j) f = en (p j) f) → gLs g en us w nf P p F → gLs g' en' (us ++ vs) w nf Q p' F := by
  intro F
  induction F with
  | leaf => intro w P Q p p' _ _ _ _; trivial
  | inner n d u l r ihl ihr =>
    intro w P Q p p' h hPQ hp hc
    obtain ⟨⟨h1, h2, h3⟩, h4⟩ := hc
    obtain ⟨e0, e1, e2⟩ := hp 0 (Nat.succ_pos _)
    refine ⟨⟨?_, h2, h3⟩, ihr h hPQ (fun j hj => hp (j + 1) (Nat.succ_lt_succ hj)) h4⟩
    rw [e0]
    exact (gI.keep h h2 (fun f f0 f1 hf => e1 f f0 f1 (by rw [h3]; exact hf)) e2 h1).imp hPQ
theorem gLs.app {nf : Int} : ∀ {A B : Fo} {w : Bool} {P : Int → Prop} {p : Nat → Int}, gLs g en us w nf P p A → gLs g en us w nf P (fun j => p (j + cntF A)) B → gLs g en us w nf P p (fapp A B) := by
  intro A
  induction A with
  | leaf => intro B w P p _ hB; exact hB
  | inner n d u l r ihl ihr =>
    intro B w P p hA hB
    obtain ⟨h1, h3⟩ := hA
    refine ⟨h1, ihr h3 ?_⟩
    have e : (fun j : Nat => (fun j : Nat => p (j + 1)) (j + cntF r)) = (fun j : Nat => p (j + cntF (.inner n d u l r))) := funext fun j => by show p (j + cntF r + 1) = p (j + (cntF r + 1)); rfl
    rw [e]; exact hB
theorem gLs.gf {nf : Int} : ∀ {F : Fo} {w : Bool} {P Q : Int → Prop} {p : Nat → Int}, (∀ a, P a → Q a) → (∀ j, j < cntF F → Q (p j)) → gLs g en us w nf P p F → gF g en us w Q p F := by
  intro F
  induction F with
  | leaf => intro w P Q p _ _ _; trivial
  | inner n d u l r ihl ihr =>
    intro w P Q p hPQ hp hc
    obtain ⟨⟨h1, h2, h3⟩, h4⟩ := hc
    have h1' := h1.imp hPQ
    exact ⟨⟨hp 0 (Nat.succ_pos _), h1'.1, h1'.2.1, h1'.2.2⟩, ihr hPQ (fun j hj => hp (j + 1) (Nat.succ_lt_succ hj)) h4⟩
/-- the list stays while other rows are made -/
theorem gLI.keep {w : Bool} {nf x lo hi hi' : Int} {os : List Int} {A : Fo} (h : gLI g en us w nf x lo hi os A) (hag : AG (fun a => lo ≤ a ∧ a < hi) g en g' en') (hx : g' x 2 = g x 2) (hh : hi ≤ hi') : gLI g' en' (us ++ vs) w nf x lo hi' os A := by
  obtain ⟨h1, h2, h3, h4, h5, h6, h7, h8, h9⟩ := h
  have own : ∀ j : Int, 0 ≤ j → j < os.length → (∀ f, 0 ≤ f → f < 8 → g' (gi os j) f = g (gi os j) f) ∧ ∀ f, 0 ≤ f → f < 3 → en' (gi os j) f = en (gi os j) f := fun j j0 j1 => hag _ (h4 j j0 j1)
  refine ⟨h1, by omega, h3, fun j j0 j1 => by have := h4 j j0 j1; omega, h5, fun j j0 j1 => by rw [(own j j0 (by omega)).1 nf (by omega) (by omega)]; exact h6 j j0 j1, fun hl => ⟨by rw [(own _ (by omega) (by omega)).1 nf (by omega) (by omega)]; exact (h7 hl).1, by rw [hx]; exact (h7 hl).2⟩, fun hl => by rw [hx]; exact h8 hl, ?_⟩
  refine gLs.keep (hag.imp (fun a ha => ⟨ha.1, ha.2.1⟩)) (fun a ha => ⟨ha.1, by have := ha.2.1; omega, ha.2.2⟩) (fun j hj => ?_) h9
  have := own j (by omega) (by omega)
  exact ⟨rfl, fun f f0 f1 _ => this.1 f f0 f1, this.2⟩
/-- one more in the list -/
theorem gLI.add {w : Bool} {nf x lo hi hi' c y fy : Int} {os : List Int} {A : Fo} {d : ND} {l : Fo} (h : gLI g en us w nf x lo hi os A) (hc : hi ≤ c ∧ c < hi') (hi1 : gI g en us w (fun a => hi ≤ a ∧ a < hi' ∧ a ≠ c) c d l) (hd : d.1 ≠ 20 ∧ nf = (if d.1 = 21 then 3 else 1)) (hn : g c nf = -1) (hy : (os.length = 0 ∧ y = x ∧ fy = 2) ∨ (0 < os.length ∧ y = gi os (os.length - 1) ∧ fy = nf)) (hg : ∀ a f, 0 ≤ f → f < 8 → g' a f = if a = y ∧ f = fy then c else g a f) (he : en' = en) : gLI g' en' us w nf x lo hi' (os ++ [c]) (fapp A (foC d l foN)) := by
  obtain ⟨h1, h2, h3, h4, h5, h6, h7, h8, h9⟩ := h
  subst he
  have hlen : ((os ++ [c]).length : Int) = os.length + 1 := by rw [List.length_append, List.length_singleton]; push_cast; rfl
  have go : ∀ j : Int, 0 ≤ j → j < os.length → gi (os ++ [c]) j = gi os j := fun j j0 j1 => gi_app_l j0 j1
  have gc : gi (os ++ [c]) os.length = c := by rw [gi_app_r (by omega), show (os.length : Int) - os.length = 0 by omega, gi_zero]
  have hylo : y < hi := by
    rcases hy with ⟨q1, q2, q3⟩ | ⟨q1, q2, q3⟩
    · omega
    · rw [q2]; exact (h4 _ (by omega) (by omega)).2
  have hyc : c ≠ y := by omega
  -- rows that nothing happens to
  have same : ∀ a, (a ≠ y ∨ False) → ∀ f, 0 ≤ f → f < 8 → g' a f = g a f := fun a ha f f0 f1 => by
    rw [hg a f f0 f1, if_neg (fun z => by rcases ha with q | q
                                          · exact q z.1
                                          · exact q)]
  have agold : AG (gP lo hi os) g en' g' en' := fun a ha => ⟨fun f f0 f1 => by
    refine same a (Or.inl ?_) f f0 f1
    rcases hy with ⟨q1, q2, q3⟩ | ⟨q1, q2, q3⟩
    · have := ha.1; omega
    · rw [q2]; exact ha.2.2 _ (by omega) (by omega), fun _ _ _ => rfl⟩
  have agnew : AG (fun a => hi ≤ a ∧ a < hi' ∧ a ≠ c) g en' g' en' := fun a ha => ⟨fun f f0 f1 => same a (Or.inl (by have := ha.1; omega)) f f0 f1, fun _ _ _ => rfl⟩
  refine ⟨h1, by omega, by rw [cntF_app, h3, List.length_append]; rfl, fun j j0 j1 => ?_, fun i j i0 ij j1 => ?_, fun j j0 j1 => ?_, fun _ => ⟨?_, ?_⟩, fun hl => by omega, gLs.app ?_ ?_⟩
  · by_cases q : j < os.length
    · rw [go j j0 q]; have := h4 j j0 q; omega
    · have : j = os.length := by omega
      rw [this, gc]; omega
  · by_cases q : j < os.length
    · rw [go j (by omega) q, go i i0 (by omega)]; exact h5 i j i0 ij q
    · have : j = os.length := by omega
      rw [this, gc, go i i0 (by omega)]; have := h4 i i0 (by omega); omega
  · by_cases q : j + 1 < os.length
    · rw [go j j0 (by omega), go (j + 1) (by omega) q]
      have hne : gi os j ≠ y := by
        rcases hy with ⟨q1, q2, q3⟩ | ⟨q1, q2, q3⟩
        · omega
        · rw [q2]; have := h5 j (os.length - 1) j0 (by omega) (by omega); omega
      rw [same _ (Or.inl hne) nf (by omega) (by omega)]; exact h6 j j0 q
    · have : j + 1 = os.length := by omega
      rw [go j j0 (by omega), this, gc]
      rcases hy with ⟨q1, q2, q3⟩ | ⟨q1, q2, q3⟩
      · omega
      · rw [hg _ nf (by omega) (by omega), if_pos ⟨by rw [q2]; congr 1; omega, q3.symm⟩]
  · rw [hlen, show (os.length : Int) + 1 - 1 = os.length by omega, gc, same c (Or.inl hyc) nf (by omega) (by omega)]; exact hn
  · rcases hy with ⟨q1, q2, q3⟩ | ⟨q1, q2, q3⟩
    · have : (os.length : Int) = 0 := by omega
      rw [this] at gc
      rw [gc, hg x 2 (by omega) (by omega), if_pos ⟨q2.symm, q3.symm⟩]
    · rw [go 0 (by omega) (by omega)]
      have hxy : x ≠ y := by rw [q2]; have := (h4 (os.length - 1) (by omega) (by omega)).1; omega
      rw [same x (Or.inl hxy) 2 (by omega) (by omega)]; exact (h7 q1).2
  · have := gLs.keep (vs := []) (p' := fun j : Nat => gi (os ++ [c]) j) (Q := gP lo hi' (os ++ [c])) agold (fun a ha => ⟨ha.1, by have := ha.2.1; omega, fun j j0 j1 => by
        by_cases q : j < os.length
        · rw [go j j0 q]; exact ha.2.2 j j0 q
        · have : j = os.length := by omega
          rw [this, gc]; have := ha.2.1; omega⟩) (fun j hj => ⟨go j (by omega) (by omega), fun f f0 f1 fn => ?_, fun _ _ _ => rfl⟩) h9
    · rwa [List.append_nil] at this
    · rw [hg _ f f0 f1, if_neg (fun z => ?_)]
      rcases hy with ⟨q1, q2, q3⟩ | ⟨q1, q2, q3⟩
      · have := h4 j (by omega) (by omega); omega
      · exact fn (z.2.trans q3)
  · refine ⟨⟨?_, hd⟩, trivial⟩
    have e0 : (fun j : Nat => gi (os ++ [c]) j) (0 + cntF A) = c := by
      show gi (os ++ [c]) ((0 + cntF A : Nat) : Int) = c
      rw [h3, Nat.zero_add]; exact gc
    show gI g' en' us w (gP lo hi' (os ++ [c])) ((fun j : Nat => gi (os ++ [c]) j) (0 + cntF A)) d l
    rw [e0]
    have := gI.keep (vs := []) agnew hd.1 (fun f f0 f1 _ => same c (Or.inl hyc) f f0 f1) (fun _ _ _ => rfl) hi1
    rw [List.append_nil] at this
    refine this.imp (fun a ha => ⟨by omega, ha.2.1, fun j j0 j1 => ?_⟩)
    by_cases q : j < os.length
    · rw [go j j0 q]; have := (h4 j j0 q).2; have := ha.1; omega
    · have : j = os.length := by omega
      rw [this, gc]; exact ha.2.2
/-- the chain of a list -/
theorem gLI.row {w : Bool} {nf x lo hi : Int} {os : List Int} {A : Fo} (h : gLI g en us w nf x lo hi os A) : (∀ j : Nat, j < os.length → chn g nf (g x 2) j = gi os j) ∧ chn g nf (g x 2) (cntF A) = -1 := by
  obtain ⟨h1, h2, h3, h4, h5, h6, h7, h8, h9⟩ := h
  have key : ∀ j : Nat, j < os.length → chn g nf (g x 2) j = gi os j := by
    intro j
    induction j with
    | zero => intro hj; exact (h7 hj).2
    | succ j ih =>
      intro hj
      show g (chn g nf (g x 2) j) nf = _
      rw [ih (by omega)]
      have := h6 j (by omega) (by omega)
      rw [this]; rfl
  refine ⟨key, ?_⟩
  rw [h3]
  by_cases q : os.length = 0
  · rw [q]; exact h8 q
  · obtain ⟨n, hn⟩ : ∃ n, os.length = n + 1 := ⟨os.length - 1, by omega⟩
    rw [hn]
    show g (chn g nf (g x 2) n) nf = -1
    rw [key n (by omega)]
    have := (h7 (by omega)).1
    rw [hn] at this
    have e : ((n + 1 : Nat) : Int) - 1 = n := by push_cast; omega
    rw [e] at this; exact this
/-- a list stands below its row -/
theorem gLI.fin {w : Bool} {nf x lo hi : Int} {os : List Int} {A : Fo} {P : Int → Prop} (h : gLI g en us w nf x lo hi os A) (hP : ∀ a, lo ≤ a → a < hi → P a) : gF g en us w P (chn g nf (g x 2)) A := by
  obtain ⟨c1, c2⟩ := h.row
  obtain ⟨h1, h2, h3, h4, h5, h6, h7, h8, h9⟩ := h
  have := gLs.gf (Q := P) (fun a ha => hP a ha.1 ha.2.1) (fun j hj => hP _ (h4 j (by omega) (by omega)).1 (h4 j (by omega) (by omega)).2) h9
  exact this.cg (fun j hj => c1 j (by omega))
end
