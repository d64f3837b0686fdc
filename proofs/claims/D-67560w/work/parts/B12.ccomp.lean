/-! the component: a query is compiled -/
set_option maxRecDepth 100000
set_option maxHeartbeats 4000000
theorem sQuT_some (tp : List Int) : sQuT tp ≠ none := sQu_some (gtp tp) (by omega) (by push_cast; omega)
section
variable {d n : Nat} {m m1 : Mem} {X : Int} {A : Int → Int} {s : St} {g : GH}
/-- a compiled query -/
def CQ (m m' : Mem) (A : Int → Int) (o : Int) (S : Fo) : Prop := ∃ N xs cN, RW m' N xs cN ∧ xs.length < 60000 ∧ tg m N = 0 ∧ CF m' N xs aT (fun _ => o) (foC (20, 1, [], []) S foN) ∧ tg m' o = 15 ∧ vl m' o 1 = b2i (sgF S)
theorem c39 (hd : 501 ≤ d) (h : CPt n m X A s g) {tp : List Int} (hl : (tp.length : Int) ≤ 1280) (htp : ∀ j : Int, 0 ≤ j → j < tp.length → vl m (A 0) j = gi tp j) :
    (∀ S, sQuT tp = some (.inr S) → ∃ m' o, cl d 39 [pR X, pI tp.length] m = some (.inl (some (pR o)), m') ∧ CPt n m' X A (s.wpl (-1)) g ∧ CQ m m' A o S ∧ (nx m' ≤ nx m + 40 * tp.length + 1000 ∧ sl m' ≤ sl m + 40 * tp.length + 24200)) ∧
    (∀ p, sQuT tp = some (.inl p) → ∃ m', cl d 39 [pR X, pI tp.length] m = some (.inr 204, m') ∧ CPt n m' X A (s.wpl p) g ∧ (nx m' ≤ nx m + 40 * tp.length + 1001 ∧ sl m' ≤ sl m + 40 * tp.length + 24206)) := by
  have b := h.1
  have hX := h.2.1
  have hz := b.tz
  have h2 := h.place (p := -1)
  have hX2 := h2.2.1
  have n1 : A 0 ≠ X := fun z => by have := hX.a0.1; rw [z, hX.1] at this; omega
  have hT : TP (mst m X 19 (-1)) (A 0) tp.length (gtp tp) := ⟨hX2.a0.1, by omega, by rw [hX2.a0.2]; omega, by rw [hX2.a0.2]; decide, fun j j0 j1 => by rw [vl_mst, if_neg (fun z => n1 z.1)]; exact htp j j0 j1⟩
  obtain ⟨k1, k2⟩ := c81 (d := d - 1) (n := 8 * tp.length + 10) (T := A 6) (by omega) h2.1.1 h2.1.2.1 hX2.a6 h2.1.2.2.2.2.csc hT (by omega)
  have st : ∀ Z, (bRh (cl (d - 1) 81 [pR (A 6), pR (A 0), pI tp.length] (mst m X 19 (-1))) (fun v1 m1 => some (.inl (some (pR v1)), m1)) fun x2 m2 => if x2 = 204 then (nm (vl m2 X 6) fun v4 => gd (tg m2 v4 = 5) <| some (.inr 204, mal (mst m2 X 19 (vl m2 v4 3)) 204 6)) else none) = some Z → cl d 39 [pR X, pI tp.length] m = some Z := fun Z hZ => by
    refine q39 (by omega) hz _ ?_
    rw [gd_of hX.1, nm_eq, hX.f (by omega), gd_of hX.a6, hX.f (by omega)]
    exact hZ
  -- what stays
  have stay : ∀ {r : Rs} {m' : Mem}, cl (d - 1) 81 [pR (A 6), pR (A 0), pI tp.length] (mst m X 19 (-1)) = some (r, m') → RI m' → QKp (mst m X 19 (-1)) m' → (∀ r ys c, RW (mst m X 19 (-1)) r ys c → RW m' r ys c) → CPt n m' X A (s.wpl (-1)) g := fun {r} {m'} e hI hq hr => by
    obtain ⟨b0, x, t1, fl, k, r1, r2, rn, p, dk, tb⟩ := h2
    have hb : utN (eM 81) ([1, 31, 103, 17103, 6, 7, 2, 52103] ++ [10, 17115] ++ dkT ++ tbT) = true := by decide +kernel
    have u := ut_cl e hb
    have bb := b0.ca' e (by decide +kernel) hI (b0.2.2.1.fr (cl_FRM e) (cl_NZ e) b0.tz (by decide +kernel))
    have hz := b0.tz
    obtain ⟨p1, p2⟩ := p.gen u bb.2.1 (by decide) (fun r ys c _ _ hw => hr r ys c hw) fun ys q => ⟨ys, q.ut u hz (by decide) (by decide)⟩
    exact ⟨bb, x.ut u hz (by decide), t1.ut x u hz (by decide) (by decide), fl.ut x u hz (by decide), k.ut x u hz (by decide) (by decide) (by decide), ⟨hr _ _ _ r1.1, r1.2⟩, ⟨hr _ _ _ r2.1, r2.2⟩, rn.ut u hz (by decide), p1, dk.ut x u hz (by decide) (by decide) (by decide) (by decide), tb.keep x u hz (by decide) hq p2⟩
  refine ⟨fun S hS => ?_, fun p hp => ?_⟩
  · obtain ⟨m', o, N, xs, cN, e5, g1, g2, g3, g4, g5, g6, g7, g8, g9, g10⟩ := k1 S hS
    have h3 := stay e5 g2 g4 g9
    have cb := g8.1.1
    rw [CB_20 rfl] at cb
    refine ⟨m', o, st _ (by unfold bRh; rw [e5]; rfl), h3, ⟨N, xs, cN, g5, by omega, g7, g8.imp (fun _ _ => trivial), g3, cb.2.2.1⟩, g10⟩
  · obtain ⟨m', e5, g1, g2, g3, g4, g5, g6⟩ := k2 p hp
    have h3 := stay e5 g3 g4 g5
    have hX3 := h3.2.1
    have h4 := (h3.place (p := p)).exc (t := 204) (by decide)
    refine ⟨mal (mst m' X 19 p) 204 6, st _ ?_, h4, ?_, ?_⟩
    · unfold bRh
      rw [e5]
      show (if (204 : Int) = 204 then (nm (vl m' X 6) fun v4 => gd (tg m' v4 = 5) <| some (.inr 204, mal (mst m' X 19 (vl m' v4 3)) 204 6)) else none) = _
      rw [if_pos rfl, nm_eq, hX3.f (by omega), gd_of hX3.a6, g1]
    · show nx m' + 1 ≤ _
      have e : nx (mst m X 19 (-1)) = nx m := rfl
      omega
    · show sl m' + 6 ≤ _
      have e : sl (mst m X 19 (-1)) = sl m := rfl
      omega
end
