/-! queries as the twin's rows -/
set_option maxRecDepth 100000
set_option maxHeartbeats 4000000
abbrev RF : Type := Int → Int → Int
/-- a row that stands in a list for what may not -/
def unw (g : RF) (w : Bool) (k : Nat) (c : Int) : Int := if w = true ∧ (k = 30 ∨ k = 34) then g c 2 else c
/-- from row to row -/
def chn (g : RF) (nf c : Int) : Nat → Int
  | 0 => c
  | j + 1 => g (chn g nf c j) nf
/-- what a row says of itself -/
def gB (g en : RF) (us : List Int) (x : Int) (d : ND) (l : Fo) : Prop :=
  g x 0 = d.1 ∧
  (d.1 = 1 ∨ d.1 = 41 → At us (g x 2) d.2.2.1 ∧ g x 3 = d.2.2.1.length ∧ wfU d.2.2.1 ∧ sur d.2.2.1) ∧
  (d.1 = 3 ∨ d.1 = 40 → en x 0 = d.2.1) ∧
  (d.1 = 4 → ∃ hs s he e st sp, d.2.2.1 = [hs, s, he, e, sp] ∧ (hs = 0 ∨ hs = 1) ∧ (he = 0 ∨ he = 1) ∧ (st = 0 ∨ st = 1) ∧ g x 2 = hs + 2 * he + 4 * st ∧ (hs = 1 → en x 0 = s) ∧ (he = 1 → en x 1 = e) ∧ (st = 1 → en x 2 = sp) ∧ (st = 0 → sp = 1)) ∧
  (d.1 = 20 → g x 1 = d.2.1 ∧ g x 3 = b2i (sgF l) ∧ chn g 3 (g x 2) (cntF l) = -1) ∧
  (d.1 = 21 → g x 1 = d.2.1 ∧ chn g 1 (g x 2) (cntF l) = -1) ∧
  (d.1 = 30 ∨ d.1 = 31 → chn g 1 (g x 2) (cntF l) = -1) ∧
  (d.1 = 33 → g x 4 = d.2.1)
def gK (g : RF) (x : Int) (k : Nat) : Nat → Int :=
  if k = 20 then chn g 3 (g x 2) else if k = 21 ∨ k = 30 ∨ k = 31 then chn g 1 (g x 2) else fun j => if j = 0 then g x 2 else g x 3
/-- rows that stand for what was read; p says which, P holds for each -/
def gF (g en : RF) (us : List Int) : Bool → (Int → Prop) → (Nat → Int) → Fo → Prop
  | _, _, _, .leaf => True
  | w, P, p, .inner _ d _ l r => (P (p 0) ∧ (w = true ∧ (d.1 = 30 ∨ d.1 = 34) → g (p 0) 0 = 35 ∧ P (g (p 0) 2)) ∧ gB g en us (unw g w d.1 (p 0)) d l ∧ gF g en us (d.1 == 31) P (gK g (unw g w d.1 (p 0)) d.1) l) ∧ gF g en us w P (fun j => p (j + 1)) r
/-- one row with what is below; c itself isn't looked at below -/
def gI (g en : RF) (us : List Int) (w : Bool) (P : Int → Prop) (c : Int) (d : ND) (l : Fo) : Prop :=
  (w = true ∧ (d.1 = 30 ∨ d.1 = 34) → g c 0 = 35 ∧ P (g c 2)) ∧ gB g en us (unw g w d.1 c) d l ∧ gF g en us (d.1 == 31) P (gK g (unw g w d.1 c) d.1) l
section
variable {g g' en en' : RF} {us vs : List Int}
theorem gK_20 {x : Int} {k : Nat} (h : k = 20) : gK g x k = chn g 3 (g x 2) := if_pos h
theorem gK_c {x : Int} {k : Nat} (h : k = 21 ∨ k = 30 ∨ k = 31) : gK g x k = chn g 1 (g x 2) := by unfold gK; rw [if_neg (by omega), if_pos h]
theorem gK_o {x : Int} {k : Nat} (h : k ≠ 20 ∧ k ≠ 21 ∧ k ≠ 30 ∧ k ≠ 31) : gK g x k = fun j : Nat => if j = 0 then g x 2 else g x 3 := by unfold gK; rw [if_neg (by omega), if_neg (by omega)]
theorem gF.all : ∀ {F : Fo} {w : Bool} {P : Int → Prop} {p : Nat → Int}, gF g en us w P p F → ∀ j, j < cntF F → P (p j) := by
  intro F
  induction F with
  | leaf => intro w P p _ j hj; exact absurd hj (Nat.not_lt_zero j)
  | inner n d u l r ihl ihr =>
    intro w P p h j hj
    obtain ⟨⟨h1, -⟩, h2⟩ := h
    cases j with
    | zero => exact h1
    | succ j => exact ihr h2 j (Nat.lt_of_succ_lt_succ hj)
theorem gF.imp : ∀ {F : Fo} {w : Bool} {P Q : Int → Prop} {p : Nat → Int}, (∀ a, P a → Q a) → gF g en us w P p F → gF g en us w Q p F := by
  intro F
  induction F with
  | leaf => intro w P Q p _ _; trivial
  | inner n d u l r ihl ihr =>
    intro w P Q p hPQ h
    obtain ⟨⟨h1, h2, h3, h4⟩, h5⟩ := h
    exact ⟨⟨hPQ _ h1, fun z => ⟨(h2 z).1, hPQ _ (h2 z).2⟩, h3, ihl hPQ h4⟩, ihr hPQ h5⟩
/-- two rows are the same -/
def AG (P : Int → Prop) (g en g' en' : RF) : Prop := ∀ x, P x → (∀ f, 0 ≤ f → f < 8 → g' x f = g x f) ∧ ∀ f, 0 ≤ f → f < 3 → en' x f = en x f
theorem AG.imp {P Q : Int → Prop} (h : AG Q g en g' en') (hp : ∀ a, P a → Q a) : AG P g en g' en' := fun x hx => h x (hp x hx)
theorem AG.refl {P : Int → Prop} : AG P g en g en := fun _ _ => ⟨fun _ _ _ => rfl, fun _ _ _ => rfl⟩
theorem AG.trans {P : Int → Prop} {g2 en2 : RF} (h : AG P g en g' en') (h' : AG P g' en' g2 en2) : AG P g en g2 en2 := fun x hx => ⟨fun f f0 f1 => ((h' x hx).1 f f0 f1).trans ((h x hx).1 f f0 f1), fun f f0 f1 => ((h' x hx).2 f f0 f1).trans ((h x hx).2 f f0 f1)⟩
theorem chn_ag {P : Int → Prop} (h : AG P g en g' en') {nf c : Int} (hf : 0 ≤ nf ∧ nf < 8) : ∀ {n : Nat}, (∀ j, j < n → P (chn g nf c j)) → ∀ j, j ≤ n → chn g' nf c j = chn g nf c j := by
  intro n hP j
  induction j with
  | zero => intro _; rfl
  | succ j ih =>
    intro hj
    show g' (chn g' nf c j) nf = g (chn g nf c j) nf
    rw [ih (by omega)]
    exact (h _ (hP j (by omega))).1 nf hf.1 hf.2
/-- what a row says stays; its own next one may change -/
theorem gB.keep {P : Int → Prop} {x : Int} {d : ND} {l : Fo} (h : AG P g en g' en') (hx : ∀ f, 0 ≤ f → f < 8 → (f = 1 → d.1 = 20 ∨ d.1 = 21) → (f = 3 → d.1 ≠ 21) → g' x f = g x f) (he : ∀ f, 0 ≤ f → f < 3 → en' x f = en x f) (hP : ∀ j, j < cntF l → P (gK g x d.1 j)) (hb : gB g en us x d l) : gB g' en' (us ++ vs) x d l ∧ ∀ j, j < cntF l → gK g' x d.1 j = gK g x d.1 j := by
  obtain ⟨b1, b2, b3, b4, b5, b6, b7, b8⟩ := hb
  have x0 := hx 0 (by omega) (by omega) (by omega) (by omega)
  have x2 := hx 2 (by omega) (by omega) (by omega) (by omega)
  have x4 := hx 4 (by omega) (by omega) (by omega) (by omega)
  have e0 := he 0 (by omega) (by omega)
  have e1 := he 1 (by omega) (by omega)
  have e2 := he 2 (by omega) (by omega)
  have k20 : d.1 = 20 → ∀ j, j ≤ cntF l → chn g' 3 (g' x 2) j = chn g 3 (g x 2) j := fun q j hj => by
    rw [x2]; refine chn_ag h (by omega) (n := cntF l) (fun j hj => ?_) j hj
    have := hP j hj; rw [gK_20 q] at this; exact this
  have kc : (d.1 = 21 ∨ d.1 = 30 ∨ d.1 = 31) → ∀ j, j ≤ cntF l → chn g' 1 (g' x 2) j = chn g 1 (g x 2) j := fun q j hj => by
    rw [x2]; refine chn_ag h (by omega) (n := cntF l) (fun j hj => ?_) j hj
    have := hP j hj; rw [gK_c q] at this; exact this
  refine ⟨⟨by rw [x0]; exact b1, fun q => ?_, fun q => by rw [e0]; exact b3 q, fun q => ?_, fun q => ?_, fun q => ?_, fun q => ?_, fun q => by rw [x4]; exact b8 q⟩, fun j hj => ?_⟩
  · obtain ⟨c1, c2, c3⟩ := b2 q
    exact ⟨by rw [x2]; exact c1.mono, by rw [hx 3 (by omega) (by omega) (by omega) (by omega)]; exact c2, c3⟩
  · obtain ⟨hs, s, he, e, st, sp, c1, c2, c3, c4, c5, c6, c7, c8, c9⟩ := b4 q
    exact ⟨hs, s, he, e, st, sp, c1, c2, c3, c4, by rw [x2]; exact c5, fun z => by rw [e0]; exact c6 z, fun z => by rw [e1]; exact c7 z, fun z => by rw [e2]; exact c8 z, c9⟩
  · obtain ⟨c1, c2, c3⟩ := b5 q
    exact ⟨by rw [hx 1 (by omega) (by omega) (fun _ => Or.inl q) (by omega)]; exact c1, by rw [hx 3 (by omega) (by omega) (by omega) (by omega)]; exact c2, by rw [k20 q _ (Nat.le_refl _)]; exact c3⟩
  · obtain ⟨c1, c2⟩ := b6 q
    exact ⟨by rw [hx 1 (by omega) (by omega) (fun _ => Or.inr q) (by omega)]; exact c1, by rw [kc (Or.inl q) _ (Nat.le_refl _)]; exact c2⟩
  · rw [kc (Or.inr q) _ (Nat.le_refl _)]; exact b7 q
  · by_cases q : d.1 = 20
    · rw [gK_20 q, gK_20 q]; exact k20 q j (by omega)
    · by_cases q2 : d.1 = 21 ∨ d.1 = 30 ∨ d.1 = 31
      · rw [gK_c q2, gK_c q2]; exact kc q2 j (by omega)
      · rw [gK_o (by omega), gK_o (by omega)]
        dsimp only
        rw [x2, hx 3 (by omega) (by omega) (by omega) (by omega)]
theorem gF.keep : ∀ {F : Fo} {w : Bool} {P : Int → Prop} {p p' : Nat → Int}, AG P g en g' en' → (∀ j, j < cntF F → p' j = p j) → gF g en us w P p F → gF g' en' (us ++ vs) w P p' F := by
  intro F
  induction F with
  | leaf => intro w P p p' _ _ _; trivial
  | inner n d u l r ihl ihr =>
    intro w P p p' h hp hc
    obtain ⟨⟨h1, h2, h3, h4⟩, h5⟩ := hc
    have e0 : p' 0 = p 0 := hp 0 (Nat.succ_pos _)
    have a0 := h _ h1
    have hu : unw g' w d.1 (p 0) = unw g w d.1 (p 0) := by
      unfold unw
      rw [a0.1 2 (by omega) (by omega)]
    have hPu : P (unw g w d.1 (p 0)) := by
      unfold unw
      by_cases q : w = true ∧ (d.1 = 30 ∨ d.1 = 34)
      · rw [if_pos q]; exact (h2 q).2
      · rw [if_neg q]; exact h1
    have au := h _ hPu
    obtain ⟨k1, k2⟩ := gB.keep (vs := vs) h (fun f f0 f1 _ _ => au.1 f f0 f1) au.2 h4.all h3
    refine ⟨⟨by rw [e0]; exact h1, fun q => ?_, by rw [e0, hu]; exact k1, by rw [e0, hu]; exact ihl h k2 h4⟩, ihr h (fun j hj => hp (j + 1) (Nat.succ_lt_succ hj)) h5⟩
    rw [e0, a0.1 0 (by omega) (by omega), a0.1 2 (by omega) (by omega)]
    exact h2 q
/-- one row stays, but for its next one -/
theorem gI.keep {w : Bool} {P : Int → Prop} {c : Int} {d : ND} {l : Fo} (h : AG P g en g' en') (hd : d.1 ≠ 20) (hx : ∀ f, 0 ≤ f → f < 8 → f ≠ (if d.1 = 21 then 3 else 1) → g' c f = g c f) (he : ∀ f, 0 ≤ f → f < 3 → en' c f = en c f) (hi : gI g en us w P c d l) : gI g' en' (us ++ vs) w P c d l := by
  obtain ⟨h2, h3, h4⟩ := hi
  have x2 : g' c 2 = g c 2 := hx 2 (by omega) (by omega) (by split <;> omega)
  have x0 : g' c 0 = g c 0 := hx 0 (by omega) (by omega) (by split <;> omega)
  have hu : unw g' w d.1 c = unw g w d.1 c := by
    unfold unw; rw [x2]
  have key : gB g' en' (us ++ vs) (unw g w d.1 c) d l ∧ ∀ j, j < cntF l → gK g' (unw g w d.1 c) d.1 j = gK g (unw g w d.1 c) d.1 j := by
    by_cases q : w = true ∧ (d.1 = 30 ∨ d.1 = 34)
    · have hPu : P (unw g w d.1 c) := by unfold unw; rw [if_pos q]; exact (h2 q).2
      have au := h _ hPu
      exact gB.keep (vs := vs) h (fun f f0 f1 _ _ => au.1 f f0 f1) au.2 h4.all h3
    · have e9 : unw g w d.1 c = c := by unfold unw; rw [if_neg q]
      rw [e9] at h3 h4 ⊢
      refine gB.keep (vs := vs) h (fun f f0 f1 q1 q3 => hx f f0 f1 ?_) he h4.all h3
      by_cases z : d.1 = 21
      · rw [if_pos z]; intro w; exact q3 w z
      · rw [if_neg z]; intro w; rcases q1 w with y | y
        · exact hd y
        · exact z y
  exact ⟨fun q => by rw [x0, x2]; exact h2 q, by rw [hu]; exact key.1, by rw [hu]; exact gF.keep h key.2 h4⟩
theorem gI.imp {w : Bool} {P Q : Int → Prop} {c : Int} {d : ND} {l : Fo} (hPQ : ∀ a, P a → Q a) (h : gI g en us w P c d l) : gI g en us w Q c d l := ⟨fun q => ⟨(h.1 q).1, hPQ _ (h.1 q).2⟩, h.2.1, h.2.2.imp hPQ⟩
theorem gF.one {w : Bool} {P : Int → Prop} {p : Nat → Int} {d : ND} {l : Fo} (hp : P (p 0)) (h : gI g en us w P (p 0) d l) : gF g en us w P p (foC d l foN) := ⟨⟨hp, h.1, h.2.1, h.2.2⟩, trivial⟩
theorem gF.app : ∀ {A B : Fo} {w : Bool} {P : Int → Prop} {p : Nat → Int}, gF g en us w P p A → gF g en us w P (fun j => p (j + cntF A)) B → gF g en us w P p (fapp A B) := by
  intro A
  induction A with
  | leaf => intro B w P p _ hB; exact hB
  | inner n d u l r ihl ihr =>
    intro B w P p hA hB
    obtain ⟨h1, h3⟩ := hA
    refine ⟨h1, ihr h3 ?_⟩
    have e : (fun j : Nat => (fun j : Nat => p (j + 1)) (j + cntF r)) = (fun j : Nat => p (j + cntF (.inner n d u l r))) := funext fun j => by show p (j + cntF r + 1) = p (j + (cntF r + 1)); rfl
    rw [e]; exact hB
theorem gF.cg : ∀ {F : Fo} {w : Bool} {P : Int → Prop} {p p' : Nat → Int}, (∀ j, j < cntF F → p' j = p j) → gF g en us w P p F → gF g en us w P p' F := by
  intro F w P p p' hp h
  have := gF.keep (vs := []) (AG.refl (P := P)) hp h
  rwa [List.append_nil] at this
end
