/-! the component: the tape is read -/
set_option maxRecDepth 100000
set_option maxHeartbeats 4000000
theorem RI_f {m : Mem} {a f v : Int} (hf : f ≠ 0) (h : RI m) : RI (mst m a f v) := by
  have e : ∀ r, vl (mst m a f v) r 0 = vl m r 0 := fun r => by rw [vl_mst, if_neg (fun z => hf z.2.symm)]
  exact ⟨fun r hr => by rw [e]; exact h.1 r hr, fun r r' h1 h2 h3 h4 => by rw [e] at h4 ⊢; rw [e]; exact h.2 r r' h1 h2 h3 h4⟩
/-- a row is emptied -/
theorem RW.clr {m : Mem} {r c : Int} {xs : List Int} (h : RW m r xs c) (hI : RI m) : RW (mst m r 1 0) r [] c ∧ RO r m (mst m r 1 0) := by
  obtain ⟨a1, a2, a3, a4, a5, a6, a7⟩ := h
  have e : ∀ q, vl (mst m r 1 0) q 0 = vl m q 0 := fun q => by rw [vl_mst, if_neg (by omega)]
  refine ⟨⟨a1, by rw [e]; exact a2, by rw [e]; exact a3, by rw [vl_mst, if_pos ⟨rfl, rfl⟩]; rfl, by simp; omega, a6, fun i i0 i1 => absurd i1 (by simp; omega)⟩, RI_f (by decide) hI, fun q hq ys c2 hw => ?_⟩
  obtain ⟨b1, b2, b3, b4, b5, b6, b7⟩ := hw
  exact ⟨b1, by rw [e]; exact b2, by rw [e]; exact b3, by rw [vl_mst, if_neg (fun z => hq z.1)]; exact b4, b5, b6, fun i i0 i1 => by rw [e, vl_mst, if_neg (fun z => by rw [z.1, a1] at b2; omega)]; exact b7 i i0 i1⟩
section
variable {d n : Nat} {m m1 : Mem} {X : Int} {A : Int → Int} {s : St} {g : GH}
theorem CPt.clr10 (h : CPt n m X A s g) : CPt n (mst m (A 10) 1 0) X A s (g.c, g.ns, g.sq, g.srl, g.hist, ([], g.c1), (g.ls, g.c2), g.k, g.cap) ∧ UT noR m (mst m (A 10) 1 0) := by
  have b := h.1
  have t8 := h.2.1.a10
  obtain ⟨w1, w2⟩ := h.2.2.2.2.2.1.1.clr b.2.1
  have u : UT (noR ++ strT) m (mst m (A 10) 1 0) := UT.mst (by rw [t8]; decide)
  exact ⟨h.r10 (u.sub (by decide)) ⟨b.1, w2.1, SI_mst (by omega) b.2.2.1, b.2.2.2.1, b.2.2.2.2.ut u b.tz (by decide) (by decide)⟩ w2 ⟨w1, h.2.2.2.2.2.1.2⟩, u.sub (by decide)⟩
/-- fuel is there -/
theorem sRdT_some (tp : List Int) : sRdT tp ≠ none := sRd_some (gtp tp) (by omega) (by push_cast; omega)
/-- the tape is read: a value, or broken -/
theorem c27 (hd : 121 ≤ d) (h : CPt n m X A s g) (hs : s.tp = []) {tp : List Int} (hl : (tp.length : Int) ≤ 1280) (htp : ∀ j : Int, 0 ≤ j → j < tp.length → vl m (A 0) j = gi tp j) :
    (∀ F, sRdT tp = some (.inr F) → ∃ nd l, F = foC nd l foN ∧ nd.2.2.2 = [] ∧ wfF F ∧ ((enV nd l).length : Int) ≤ 3 * tp.length ∧ ∃ m' c', cl d 27 [pR X, pI tp.length] m = some (.inl none, m') ∧ CPt n m' X A (s.wpl (-1)) (g.c, g.ns, g.sq, g.srl, g.hist, (enV nd l, c'), (g.ls, g.c2), g.k, g.cap) ∧ GR m m' g.c1 c') ∧
    (∀ p, sRdT tp = some (.inl p) → ∃ m' xs c', cl d 27 [pR X, pI tp.length] m = some (.inr 204, m') ∧ CPt n m' X A (s.wpl p) (g.c, g.ns, g.sq, g.srl, g.hist, (xs, c'), (g.ls, g.c2), g.k, g.cap) ∧ g.c1 ≤ c' ∧ nx m' - nx m ≤ (c' - g.c1) / 16 + 2 ∧ sl m' - sl m ≤ 2 * (c' - g.c1) + 12) := by
  have b := h.1
  have hX := h.2.1
  have hz := b.tz
  obtain ⟨h1, u1⟩ := h.clr10
  have h2 := h1.place (p := -1)
  have hX2 := h2.2.1
  have hR2 := h2.2.2.2.2.2.1
  have n0 : A 0 ≠ A 10 := fun z => by have := hX.a0.1; rw [z, hX.a10] at this; omega
  have n1 : A 0 ≠ X := fun z => by have := hX.a0.1; rw [z, hX.1] at this; omega
  have hT : TP (mst (mst m (A 10) 1 0) X 19 (-1)) (A 0) tp.length (gtp tp) := ⟨hX2.a0.1, by omega, by rw [hX2.a0.2]; omega, by rw [hX2.a0.2]; decide, fun j j0 j1 => by rw [vl_mst, if_neg (fun z => n1 z.1), vl_mst, if_neg (fun z => n0 z.1)]; exact htp j j0 j1⟩
  obtain ⟨k1, k2⟩ := c75 (d := d - 1) (n := 2 * tp.length + 10) (T := A 5) (by omega) h2.1.1 h2.1.2.1 hX2.a5 h2.1.2.2.2.2.stx hT hR2.1 (show ((([] : List Int).length : Nat) : Int) + 3 * (tp.length : Int) ≤ 5900 by rw [List.length_nil]; omega)
  have st : ∀ Z, (bVh (cl (d - 1) 75 [pR (A 5), pR (A 0), pI tp.length, pR (A 10)] (mst (mst m (A 10) 1 0) X 19 (-1))) (fun m1 => some (.inl none, m1)) fun x2 m2 => if x2 = 204 then (nm (vl m2 X 5) fun v5 => gd (tg m2 v5 = 4) <| some (.inr 204, mal (mst m2 X 19 (vl m2 v5 3)) 204 6)) else none) = some Z → cl d 27 [pR X, pI tp.length] m = some Z := fun Z hZ => by
    refine q27 (by omega) hz _ ?_
    rw [gd_of hX.1, nm_eq, hX.f (by omega), gd_of hX.a10, nm_eq, hX.f (by omega), gd_of hX.a5, hX.f (by omega)]
    exact hZ
  refine ⟨fun F hF => ?_, fun p hp => ?_⟩
  · obtain ⟨nd, l, e1, e2, e3, e4, m', c', e5, ⟨g1, g2, g3, g4⟩⟩ := k1 F hF
    rw [List.nil_append] at g1 g4
    have hb : utN (eM 75) noR = true := by decide +kernel
    have u := ut_cl (ts := noR) e5 hb
    have bb := h2.1.ca' e5 (by decide +kernel) g2.1 (h2.1.2.2.1.fr (cl_FRM e5) (cl_NZ e5) h2.1.tz (by decide +kernel))
    have h3 := h2.r10 u bb g2 ⟨g1, by have := h.2.2.2.2.2.1.2; omega⟩
    refine ⟨nd, l, e1, e2, e3, e4, m', c', st _ (by unfold bVh; rw [e5]; rfl), h3, ?_⟩
    obtain ⟨y1, y2, y3⟩ := g3
    exact ⟨y1, y2, y3⟩
  · obtain ⟨m', e5, zs, c', g1, g2, g3, g4, g5⟩ := k2 p hp
    have hb : utN (eM 75) noR = true := by decide +kernel
    have u := ut_cl (ts := noR) e5 hb
    have bb := h2.1.ca' e5 (by decide +kernel) g2.1 (h2.1.2.2.1.fr (cl_FRM e5) (cl_NZ e5) h2.1.tz (by decide +kernel))
    have h3 := h2.r10 u bb g2 ⟨g1, by have := h.2.2.2.2.2.1.2; omega⟩
    have hX3 := h3.2.1
    have h4 := (h3.place (p := p)).exc (t := 204) (by decide)
    refine ⟨mal (mst m' X 19 p) 204 6, zs, c', st _ ?_, h4, g3.1, ?_, ?_⟩
    · unfold bVh
      rw [e5]
      show (if (204 : Int) = 204 then (nm (vl m' X 5) fun v5 => gd (tg m' v5 = 4) <| some (.inr 204, mal (mst m' X 19 (vl m' v5 3)) 204 6)) else none) = _
      rw [if_pos rfl, nm_eq, hX3.f (by omega), gd_of hX3.a5, g5]
    · show nx m' + 1 - nx m ≤ _
      have := g3.2.1
      have e : nx (mst (mst m (A 10) 1 0) X 19 (-1)) = nx m := rfl
      have eg : GH.c1 (g.c, g.ns, g.sq, g.srl, g.hist, (([] : List Int), g.c1), (g.ls, g.c2), g.k, g.cap) = g.c1 := rfl
      rw [e, eg] at this
      omega
    · show sl m' + 6 - sl m ≤ _
      have := g3.2.2
      have e : sl (mst (mst m (A 10) 1 0) X 19 (-1)) = sl m := rfl
      have eg : GH.c1 (g.c, g.ns, g.sq, g.srl, g.hist, (([] : List Int), g.c1), (g.ls, g.c2), g.k, g.cap) = g.c1 := rfl
      rw [e, eg] at this
      omega
end
