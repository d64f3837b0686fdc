/-! the twin's trees: a name for a node, a node taken out -/
set_option maxRecDepth 100000
set_option maxHeartbeats 4000000
/-- ks stands in tree t' at s (t' may be t itself) -/
def SRC (m : Mem) (t t' : Int) (us : List Int) (s : Int) (ks : List Int) : Prop := (t' ≠ t ∧ ∃ n' us' C', TW m t' n' us' C' ∧ At us' s ks) ∨ (t' = t ∧ At us s ks)
section
variable {d : Nat} {m : Mem} {t t' n C s : Int} {us ks : List Int}
theorem SRC.yq {m' : Mem} {vs : List Int} (h : SRC m t t' us s ks) (y : YQ t n C m (us ++ vs) m') : SRC m' t t' (us ++ vs) s ks := by
  rcases h with ⟨h1, n', us', C', h2, h3⟩ | ⟨h1, h2⟩
  · exact Or.inl ⟨h1, n', us', C', (y.2.1.2.1 t' h1 n' us' C' h2).1, h3⟩
  · exact Or.inr ⟨h1, h2.ext⟩
theorem SRC.ld (h : SRC m t t' us s ks) (hw : TW m t n us C) {j : Int} (hj : 0 ≤ j ∧ j < ks.length) : tg m t' = 13 ∧ (tg m (vl m t' 11) = 284104 ∨ tg m (vl m t' 11) = 288104) ∧ 0 ≤ s ∧ s + j < ln m (vl m t' 11) ∧ s + ks.length ≤ 100000 ∧ vl m (vl m t' 11) (s + j) = gi ks j := by
  have key : ∀ n' us' C', TW m t' n' us' C' → At us' s ks → tg m t' = 13 ∧ (tg m (vl m t' 11) = 284104 ∨ tg m (vl m t' 11) = 288104) ∧ 0 ≤ s ∧ s + j < ln m (vl m t' 11) ∧ s + ks.length ≤ 100000 ∧ vl m (vl m t' 11) (s + j) = gi ks j := by
    intro n' us' C' h1 h2
    obtain ⟨a1, a2, a3, a4, a5⟩ := h1.uni h2
    exact ⟨h1.1, h1.2.2.2.1, a1, by omega, by omega, a5 j hj.1 hj.2⟩
  rcases h with ⟨h1, n', us', C', h2, h3⟩ | ⟨h1, h2⟩
  · exact key n' us' C' h2 h3
  · subst h1; exact key n us C hw h2
/-- units of a tree come behind the others -/
theorem c293_21 {x : Int} (hd : 1 ≤ d) : ∀ (rest pre : List Int) (m : Mem) (us : List Int), ks = pre ++ rest → TW m t n us C → TI m → OK m → wfU us → wfU ks → (us.length : Int) + rest.length ≤ 40000 → SRC m t t' us s ks → ∃ m', rn d 293 21 [pR t, pI x, pR t', pI s, pI ks.length, pI pre.length] [] m = some (.inl none, m') ∧ YQ t n C m (us ++ rest) m' := by
  intro rest
  induction rest with
  | nil =>
    intro pre m us hks hw hT ok hU hK hL hS
    rw [List.append_nil] at hks
    refine ⟨m, q293_21 (by omega) ok.1 _ (by rw [if_neg (by rw [hks]; omega)]), ?_⟩
    rw [List.append_nil]
    exact ⟨hw, TU.refl hT, GR.refl, by omega, hU⟩
  | cons u rest ih =>
    intro pre m us hks hw hT ok hU hK hL hS
    have hl : (ks.length : Int) = pre.length + 1 + rest.length := by rw [hks]; simp; omega
    obtain ⟨a1, a2, a3, a4, a5, a6⟩ := hS.ld hw (j := pre.length) ⟨by omega, by omega⟩
    have hg : gi ks pre.length = u := by rw [hks, gi_app_r (by omega), Int.sub_self]; rfl
    rw [hg] at a6
    have hu := hK u (by rw [hks]; simp)
    simp only [List.length_cons] at hL
    obtain ⟨m1, e1, y1⟩ := YQ.unit (d := d - 1) (u := u) hw hT ok hU (by omega) hu
    obtain ⟨m2, e2, y2⟩ := ih (pre ++ [u]) m1 (us ++ [u]) (by simp [hks]) y1.1 y1.2.1.1 (ok.fr (cl_FRM e1)) y1.2.2.2.2 hK (by simp; omega) (hS.yq y1)
    refine ⟨m2, ?_, ?_⟩
    · refine q293_21 (by omega) ok.1 _ ?_
      have e3 : ((pre ++ [u]).length : Int) = pre.length + 1 := by simp
      rw [if_pos (by omega), gd_of a1, nm_eq, nm_eq, w32_of (z := s + pre.length) (by omega) (by omega), gd_of a2, gd_of ⟨by omega, by omega⟩, a6, gd_of hw.1, bV_eq e1, w32_of (by omega) (by omega), ← e3]; exact e2
    · have := y1.trans hw y2 (by simp)
      simpa using this
theorem c293 {x : Int} (hd : 1 ≤ d) (hx : 0 ≤ x ∧ x < n) (hw : TW m t n us C) (hT : TI m) (ok : OK m) (hU : wfU us) (hK : wfU ks) (hL : (us.length : Int) + ks.length ≤ 40000) (hS : SRC m t t' us s ks) : ∃ m', cl d 293 [pR t, pI x, pR t', pI s, pI ks.length] m = some (.inl none, m') ∧ YT t x m n us C m' n (us ++ ks) C ∧ (∀ f j, 0 ≤ f → f ≤ 9 → nv m' t f j = up (up (nv m t) 6 x us.length) 7 x ks.length f j) := by
  have hc := hw.2.2.2.2.2.2.1
  have l6 := hw.ld (f := 6) ⟨by decide, by decide⟩ (by decide)
  have l7 := hw.ld (f := 7) ⟨by decide, by decide⟩ (by decide)
  obtain ⟨a1, a2, a3, a4⟩ := hw.put (f := 6) (i := x) (v := us.length) (TG.refl hT ok) ⟨by decide, by decide⟩ rfl
  obtain ⟨b1, b2, b3, b4⟩ := a1.put (f := 7) (i := x) (v := ks.length) a2 ⟨by decide, by decide⟩ (a4 7).symm
  have y1 : YT t x m n us C (mst (mst m (vl m t 6) x us.length) (vl m t 7) x ks.length) n us C := YT.tg b1 b2 (fun f j f0 f1 j0 j1 => by rw [up_ne _ _ _ _ _ _ (by omega), up_ne _ _ _ _ _ _ (by omega)]) (by rw [b3, a3]) rfl rfl hU
  have ok1 : OK (mst (mst m (vl m t 6) x us.length) (vl m t 7) x ks.length) := ok
  have hS1 : SRC (mst (mst m (vl m t 6) x us.length) (vl m t 7) x ks.length) t t' us s ks := by
    rcases hS with ⟨h1, n', us', C', h2, h3⟩ | ⟨h1, h2⟩
    · exact Or.inl ⟨h1, n', us', C', (b2.2.2.1 t' h1 n' us' C' h2).1, h3⟩
    · exact Or.inr ⟨h1, h2⟩
  obtain ⟨m2, e2, y2⟩ := c293_21 (d := d) (x := x) (t' := t') hd ks [] _ us rfl b1 b2.1 ok1 hU hK (by omega) hS1
  refine ⟨m2, ?_, y1.trans ((YT.of y2 b1 ⟨ks, rfl⟩).mono (by omega)) (Int.le_refl _), fun f j f0 f1 => ?_⟩
  · refine q293 ok.1 _ ?_
    rw [gd_of hw.1, nm_eq, gd_of l6.1, gd_of ⟨by omega, by omega⟩, nm_eq, gd_of l7.1, gd_of ⟨by omega, by omega⟩, hw.2.2.2.2.2.1]; exact e2
  · rw [y2.2.1.2.2 t f j _ _ _ b1 f0 f1, b2.2.2.2 f j f0 f1]
/-- what is left when a kid is taken out -/
def rmG (g : Int → Int → Int) (p b v : Int) : Int → Int → Int := if b < 0 then up g 4 p v else up g 5 b v
theorem TF.mid {g : Int → Int → Int} {p : Int} {ob : Bool} {B : Fo} : ∀ {A : Fo}, TF g us n p ob (fapp A B) → TF g us n p ob B := by
  intro A
  induction A with
  | leaf => intro h; exact h
  | inner i d u l r _ ih => intro h; exact ih h.2.2.2.2.2.2.2.2.2
theorem TF.cut {g g' : Int → Int → Int} {p b : Int} {ob : Bool} {B B' : Fo} (hB' : TF g' us n p ob B') : ∀ (A : Fo) (x : Int), TF g us n p ob (fapp A B) → A ≠ .leaf → b = lsI x A → (idF A).Nodup → g' 5 b = hdI B' → (∀ f (j : Nat), 0 ≤ f → f ≤ 9 → j ∈ idF A → ¬ (f = 5 ∧ (j : Int) = b) → g' f j = g f j) → TF g' us n p ob (fapp A B') := by
  intro A
  induction A with
  | leaf => intro x _ h; exact absurd rfl h
  | inner i d u l r _ ih =>
    intro x h _ hb hnd h5 hg
    obtain ⟨f1, f2, f3, f4, f5, f6, f7, f8, f9, f10⟩ := h
    simp only [idF, List.nodup_cons, List.nodup_append, List.mem_append, not_or] at hnd
    obtain ⟨⟨nil_, nir⟩, ndl, ndr, ndis⟩ := hnd
    have hib : ∀ f, 0 ≤ f → f ≤ 9 → f ≠ 5 → g' f i = g f i := fun f f0 f1 f5 => hg f i f0 f1 (by simp [idF]) (by omega)
    have hl : TF g' us n i (d.1 == 6) l := by
      refine f9.keep0 (fun f j f0 f1 hj => hg f j f0 f1 (by simp [idF]; exact Or.inr (Or.inl hj)) ?_)
      rintro ⟨-, q⟩
      rcases lsI_mem (.inner i d u l r) x with ⟨e, -⟩ | ⟨b', hb1, hb2⟩
      · cases e
      · -- b is a node at the top
        have : b = (i : Int) ∨ ∃ b' : Nat, b' ∈ idF r ∧ b = b' := by
          rw [hb]
          show lsI (i : Int) r = _ ∨ _
          rcases lsI_mem r (i : Int) with ⟨-, e2⟩ | ⟨b', c1, c2⟩
          · exact Or.inl e2
          · exact Or.inr ⟨b', c1, c2⟩
        rcases this with e | ⟨b', c1, c2⟩
        · have : j = i := by omega
          exact nil_ (this ▸ hj)
        · have : j = b' := by omega
          exact ndis j hj b' c1 this
    by_cases hr : r = .leaf
    · subst hr
      have hbi : b = (i : Int) := hb
      refine ⟨f1, by rw [hib 0 (by decide) (by decide) (by decide)]; exact f2, fun q => by rw [hib 1 (by decide) (by decide) (by decide)]; exact f3 q, by rw [hib 3 (by decide) (by decide) (by decide), hib 2 (by decide) (by decide) (by decide)]; exact f4, fun q => by rw [hib 7 (by decide) (by decide) (by decide), hib 6 (by decide) (by decide) (by decide)]; exact f5 q, by rw [hib 8 (by decide) (by decide) (by decide)]; exact f6, by rw [hib 4 (by decide) (by decide) (by decide)]; exact f7, ?_, hl, hB'⟩
      rw [← hbi]; exact h5
    · have hb2 : b = lsI (i : Int) r := hb
      have hbi : (i : Int) ≠ b := by
        rcases lsI_mem r (i : Int) with ⟨e, -⟩ | ⟨b', c1, c2⟩
        · exact absurd e hr
        · intro q
          have : i = b' := by omega
          exact nir (this ▸ c1)
      refine ⟨f1, by rw [hib 0 (by decide) (by decide) (by decide)]; exact f2, fun q => by rw [hib 1 (by decide) (by decide) (by decide)]; exact f3 q, by rw [hib 3 (by decide) (by decide) (by decide), hib 2 (by decide) (by decide) (by decide)]; exact f4, fun q => by rw [hib 7 (by decide) (by decide) (by decide), hib 6 (by decide) (by decide) (by decide)]; exact f5 q, by rw [hib 8 (by decide) (by decide) (by decide)]; exact f6, by rw [hib 4 (by decide) (by decide) (by decide)]; exact f7, ?_, hl, ih (i : Int) f10 hr hb2 ndr h5 (fun f j f0 f1 hj hne => hg f j f0 f1 (by simp [idF]; exact Or.inr (Or.inr hj)) hne)⟩
      rw [hg 5 i (by decide) (by decide) (by simp [idF]) (by omega)]
      rw [hdI_fapp _ _ hr] at f8 ⊢
      exact f8
/-- the forest without the kid -/
theorem TF.rm {g : Int → Int → Int} {p k : Nat} {ob : Bool} {A B l : Fo} {nd : ND} (h : TF g us n p ob (fapp A (.inner k nd () l B))) (nA : (idF A).Nodup) (dA : ∀ y, y ∈ idF A → y ∉ idF B) (pA : p ∉ idF B) : TF (rmG g p (lsI (-1) A) (hdI B)) us n p ob (fapp A B) ∧ (A = .leaf → rmG g p (lsI (-1) A) (hdI B) 4 p = hdI (fapp A B)) ∧ (A ≠ .leaf → g 4 p = hdI (fapp A (.inner k nd () l B)) → rmG g p (lsI (-1) A) (hdI B) 4 p = hdI (fapp A B)) := by
  have hB : TF g us n p ob B := (h.mid).2.2.2.2.2.2.2.2.2
  by_cases hA : A = .leaf
  · subst hA
    have e : rmG g p (lsI (-1) .leaf) (hdI B) = up g 4 p (hdI B) := if_pos (by show (-1 : Int) < 0; decide)
    rw [e]
    refine ⟨hB.keep0 (fun f j f0 f1 hj => up_ne _ _ _ _ _ _ ?_), fun _ => up_eq _ _ _ _, fun q => absurd rfl q⟩
    rintro ⟨-, q⟩
    have : j = p := by omega
    exact pA (this ▸ hj)
  · rcases lsI_mem A (-1) with ⟨q, -⟩ | ⟨b, hb1, hb2⟩
    · exact absurd q hA
    have e : rmG g p (lsI (-1) A) (hdI B) = up g 5 b (hdI B) := by rw [hb2]; exact if_neg (by omega)
    rw [e]
    have hB2 : TF (up g 5 b (hdI B)) us n p ob B := hB.keep0 (fun f j f0 f1 hj => up_ne _ _ _ _ _ _ (by
      rintro ⟨-, q⟩
      have : j = b := by omega
      exact dA b hb1 (this ▸ hj)))
    refine ⟨TF.cut (g := g) (b := b) hB2 A (-1) h hA hb2.symm nA (up_eq _ _ _ _) (fun f j f0 f1 hj hne => up_ne _ _ _ _ _ _ hne), fun q => absurd q hA, fun _ h4 => ?_⟩
    rw [up_ne _ _ _ _ _ _ (by omega), h4, hdI_fapp _ _ hA, hdI_fapp _ _ hA]
theorem c294_37 {p k : Int} {nd : ND} {l B : Fo} {ob : Bool} {kk : Nat} (hk : k = kk) (hkn : k < n) (hw : TW m t n us C) (ok : OK m) : ∀ (A : Fo) (q : Int), TF (nv m t) us n q ob (fapp A (.inner kk nd () l B)) → A ≠ .leaf → kk ∉ idF A → rn d 294 37 [pR t, pI k, pI p, pI (hdI A)] [] m = some (.inl none, mst m (vl m t 5) (lsI (-1) A) (hdI B)) := by
  have hc := hw.2.2.2.2.2.2.1
  have l5 := hw.ld (f := 5) ⟨by decide, by decide⟩ (by decide)
  intro A
  induction A with
  | leaf => intro q _ h; exact absurd rfl h
  | inner i d' u l' r _ ih =>
    intro q h _ hnk
    have hin : (i : Int) < n := h.1
    have f8 : vl m (vl m t 5) i = hdI (fapp r (.inner kk nd () l B)) := h.2.2.2.2.2.2.2.1
    have f10 : TF (nv m t) us n q ob (fapp r (.inner kk nd () l B)) := h.2.2.2.2.2.2.2.2.2
    refine q294_37 ok.1 _ ?_
    rw [show hdI (.inner i d' u l' r) = (i : Int) from rfl, gd_of hw.1, nm_eq, gd_of l5.1, gd_of ⟨by omega, by omega⟩, nm_eq, f8]
    by_cases hr : r = .leaf
    · subst hr
      have e8 : vl m (vl m t 5) k = hdI B := by rw [hk]; exact f10.2.2.2.2.2.2.2.1
      rw [show hdI (fapp .leaf (.inner kk nd () l B)) = (kk : Int) from rfl, if_pos hk.symm, gd_of ⟨by omega, by omega⟩, e8]
      rfl
    · have hne : hdI (fapp r (.inner kk nd () l B)) ≠ k := by
        rw [hdI_fapp _ _ hr]
        cases r with
        | leaf => exact absurd rfl hr
        | inner i2 d2 u2 l2 r2 =>
          show (i2 : Int) ≠ k
          intro q
          have : i2 = kk := by omega
          exact hnk (by rw [← this]; simp [idF])
      rw [if_neg hne, hdI_fapp _ _ hr]
      have := ih q f10 hr (fun q => hnk (by simp [idF]; exact Or.inr (Or.inr q)))
      rw [this]
      have : lsI (-1) (.inner i d' u l' r) = lsI (-1) r := by
        show lsI (i : Int) r = lsI (-1) r
        cases r with
        | leaf => exact absurd rfl hr
        | inner i2 d2 u2 l2 r2 => rfl
      rw [this]
theorem c294 {p k : Nat} {nd : ND} {l A B : Fo} {ob : Bool} (hkn : (k : Int) < n) (hpn : (p : Int) < n) (hw : TW m t n us C) (hT : TI m) (ok : OK m) (hU : wfU us) (h : TF (nv m t) us n p ob (fapp A (.inner k nd () l B))) (h4 : nv m t 4 p = hdI (fapp A (.inner k nd () l B))) (hnk : k ∉ idF A) : ∃ m', cl d 294 [pR t, pI k] m = some (.inl none, m') ∧ TW m' t n us C ∧ TG t m m' (rmG (nv m t) p (lsI (-1) A) (hdI B)) ∧ uC m' t = uC m t ∧ nx m' = nx m ∧ sl m' = sl m := by
  have hc := hw.2.2.2.2.2.2.1
  have l5 := hw.ld (f := 5) ⟨by decide, by decide⟩ (by decide)
  have l8 := hw.ld (f := 8) ⟨by decide, by decide⟩ (by decide)
  have l4 := hw.ld (f := 4) ⟨by decide, by decide⟩ (by decide)
  have hk := h.mid
  have e8 : vl m (vl m t 8) k = p := hk.2.2.2.2.2.1
  have e5 : vl m (vl m t 5) k = hdI B := hk.2.2.2.2.2.2.2.1
  have e4 : vl m (vl m t 4) p = hdI (fapp A (.inner k nd () l B)) := h4
  unfold rmG
  by_cases hA : A = .leaf
  · subst hA
    obtain ⟨a1, a2, a3, a4⟩ := hw.put (f := 4) (i := p) (v := hdI B) (TG.refl hT ok) ⟨by decide, by decide⟩ rfl
    rw [if_pos (show lsI (-1) .leaf < 0 by decide)]
    refine ⟨mst m (vl m t 4) p (hdI B), ?_, a1, a2, a3, rfl, rfl⟩
    refine q294 ok.1 _ ?_
    rw [gd_of hw.1, nm_eq, gd_of l8.1, gd_of ⟨by omega, by omega⟩, nm_eq, e8, nm_eq, gd_of l4.1, gd_of ⟨by omega, by omega⟩, nm_eq, e4, show hdI (fapp .leaf (.inner k nd () l B)) = (k : Int) from rfl, if_pos rfl, nm_eq, gd_of l5.1, gd_of ⟨by omega, by omega⟩, e5]
  · have hls : ¬ lsI (-1) A < 0 := by
      rcases lsI_mem A (-1) with ⟨q, -⟩ | ⟨b, hb1, hb2⟩
      · exact absurd q hA
      · omega
    rw [if_neg hls]
    obtain ⟨a1, a2, a3, a4⟩ := hw.put (f := 5) (i := lsI (-1) A) (v := hdI B) (TG.refl hT ok) ⟨by decide, by decide⟩ rfl
    refine ⟨mst m (vl m t 5) (lsI (-1) A) (hdI B), ?_, a1, a2, a3, rfl, rfl⟩
    refine q294 ok.1 _ ?_
    have hne : ¬ hdI (fapp A (.inner k nd () l B)) = (k : Int) := by
      rw [hdI_fapp _ _ hA]
      cases A with
      | leaf => exact absurd rfl hA
      | inner i2 d2 u2 l2 r2 =>
        show ¬ (i2 : Int) = k
        intro q
        have : i2 = k := by omega
        exact hnk (by rw [← this]; simp [idF])
    rw [gd_of hw.1, nm_eq, gd_of l8.1, gd_of ⟨by omega, by omega⟩, nm_eq, e8, nm_eq, gd_of l4.1, gd_of ⟨by omega, by omega⟩, nm_eq, e4, if_neg hne, hdI_fapp _ _ hA]
    exact c294_37 rfl hkn hw ok A p h hA hnk
end
