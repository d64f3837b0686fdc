/-! a whole text read by the component -/
set_option maxRecDepth 100000
set_option maxHeartbeats 4000000
/-- a whole text: broken at a place, or a value -/
def sRd (t : Int → Int) (e : Int) (n : Nat) : Option (Int ⊕ Fo) := match sP t e n false 0 false [] (sB t e 0) with
  | none => none
  | some (.inl p) => some (.inl p)
  | some (.inr (F, j)) => if sB t e j = e then some (.inr F) else some (.inl (sB t e j))
/-- a tape of bytes -/
def TP (m : Mem) (tp e : Int) (t : Int → Int) : Prop := tg m tp = 17103 ∧ 0 ≤ e ∧ e ≤ ln m tp ∧ ln m tp ≤ 16384 ∧ ∀ j, 0 ≤ j → j < e → vl m tp j = t j
section
variable {d n : Nat} {m : Mem} {T tp e r c : Int} {t : Int → Int} {xs : List Int}
theorem c61 (hz : TZ m) (hT : tg m T = 4 ∨ tg m T = 5) : cl d 61 [pR T, pR tp, pI e] m = some (.inl none, mst (mst (mst m T 0 tp) T 1 e) T 2 0) := by
  refine q61 hz _ ?_
  rw [gd_of hT]
theorem TX.over (hT : tg m T = 4 ∨ tg m T = 5) (hp : TP m tp e t) : TX (mst (mst (mst m T 0 tp) T 1 e) T 2 0) T tp e 0 t := by
  obtain ⟨p1, p2, p3, p4, p5⟩ := hp
  have hne : tp ≠ T := by intro q; rw [q] at p1; omega
  refine ⟨hT, ?_, ?_, ?_, p1, ⟨by omega, p2, p3, p4⟩, fun j j0 j1 => ?_⟩
  · rw [vl_mst, if_neg (by omega), vl_mst, if_neg (by omega), vl_mst, if_pos ⟨rfl, rfl⟩]
  · rw [vl_mst, if_neg (by omega), vl_mst, if_pos ⟨rfl, rfl⟩]
  · rw [vl_mst, if_pos ⟨rfl, rfl⟩]
  · rw [vl_mst, if_neg (by omega), vl_mst, if_neg (by omega), vl_mst, if_neg (by omega)]; exact p5 j j0 j1
theorem RG.mT {f v : Int} (hR : RW m r xs c) (hT : tg m T ≠ 8 ∧ tg m T < 100) (hI : RI m) : RG r m c xs (mst m T f v) c := ⟨hR.mT hT, RO.mT hT hI, ⟨by omega, by show nx m - nx m ≤ _; omega, by show sl m - sl m ≤ _; omega⟩, by omega⟩
theorem c75 (hd : 120 ≤ d) (ok : OK m) (hI : RI m) (h4 : tg m T = 4) (hS : STX m) (hp : TP m tp e t) (hR : RW m r xs c) (hL : (xs.length : Int) + 3 * e ≤ 5900) :
    (∀ F, sRd t e n = some (.inr F) → ∃ nd l, F = foC nd l foN ∧ nd.2.2.2 = [] ∧ wfF F ∧ ((enV nd l).length : Int) ≤ 3 * e ∧ ∃ m' c', cl d 75 [pR T, pR tp, pI e, pR r] m = some (.inl none, m') ∧ RG r m c (xs ++ enV nd l) m' c') ∧
    (∀ p, sRd t e n = some (.inl p) → ∃ m', cl d 75 [pR T, pR tp, pI e, pR r] m = some (.inr 204, m') ∧ BR T r m c p m') := by
  have hT : tg m T = 4 ∨ tg m T = 5 := Or.inl h4
  have h8 : tg m T ≠ 8 ∧ tg m T < 100 := by omega
  have e61 := c61 (d := d - 1) (tp := tp) (e := e) ok.1 hT
  have hx0 := TX.over hT hp
  have he := hp.2.1
  -- the state with nothing nested
  have h1 : RDS (mst (mst (mst (mst m T 0 tp) T 1 e) T 2 0) T 4 0) T tp e 0 t 0 := by
    refine ⟨ok, h4, by rw [vl_mst, if_pos ⟨rfl, rfl⟩]; rfl, (((hS.mT h4).mT h4).mT h4).mT h4, hx0.m4⟩
  have g0 : RG r m c xs (mst m T 0 tp) c := RG.mT hR h8 hI
  have g1 := g0.trans (RG.mT (T := T) (f := 1) (v := e) g0.1 h8 g0.2.1.1) (by simp)
  have g2 := g1.trans (RG.mT (T := T) (f := 2) (v := 0) g1.1 h8 g1.2.1.1) (by simp)
  have g3 := g2.trans (RG.mT (T := T) (f := 4) (v := 0) g2.1 h8 g2.2.1.1) (by simp)
  have e62 := c62 (d := d - 1) (by omega) h1.1.1 h1.2.2.2.2
  have hb := sB_rng t (i := 0) (e := e) he
  have h2 := h1.at (j := sB t e 0) (by omega) hb.2
  have g4 := g3.trans (RG.atR (j := sB t e 0) g3.1 h1.2.2.2.2.1 g3.2.1.1) (by simp)
  have hV := (PVs_all (T := T) (tp := tp) (e := e) (r := r) (t := t) n).1 (d - 1) 0 _ c (sB t e 0) xs false [] (by omega) (by omega) h2.1 g4.2.1.1 h2.2.1 h2.2.2.1 h2.2.2.2.1 h2.2.2.2.2 g4.1 (by omega)
  have step : ∀ X : RM, (bV (cl (d - 1) 76 [pR T, pR r] (mst (mst (mst (mst (mst m T 0 tp) T 1 e) T 2 0) T 4 0) T 2 (sB t e 0))) fun m3 => bV (cl (d - 1) 62 [pR T] m3) fun m4 => if (vl m4 T 2) = (vl m4 T 1) then (bV (cl (d - 1) 66 [pR T, pI 1] m4) fun m6 => some (.inl none, m6)) else bV (cl (d - 1) 66 [pR T, pI 0] m4) fun m5 => some (.inl none, m5)) = X → ∀ Q, X = some Q → cl d 75 [pR T, pR tp, pI e, pR r] m = some Q := by
    intro X hX Q hQ
    refine q75 (by omega) ok.1 _ ?_
    rw [gd_of h4, bV_eq e61, bV_eq e62, hX]; exact hQ
  have hl6 : xs.length ≤ 6000 := by omega
  unfold sRd
  cases hs : sP t e n false 0 false [] (sB t e 0) with
  | none => exact ⟨fun F hF => (by cases hF), fun p hp => (by cases hp)⟩
  | some w =>
    cases w with
    | inl p0 =>
      refine ⟨fun F hF => (by cases hF), fun p hp => ?_⟩
      cases hp
      obtain ⟨m2, e2, hbr⟩ := hV.2 p0 hs
      exact ⟨m2, step _ (bV_xq e2) _ rfl, hbr.pre g4 hl6⟩
    | inr w =>
      obtain ⟨F0, j⟩ := w
      obtain ⟨nd, l, f1, f2, f3, f4, f5, f6, m2, c2, e2, hx2, hn2, g5⟩ := hV.1 F0 j hs
      have h3 := h2.fr2 (cl_FRM e2) hx2 (by rfl) hn2
      have e62b := c62 (d := d - 1) (by omega) h3.1.1 hx2
      have hb2 := sB_rng t (i := j) (e := e) f5
      have h4' := h3.at (j := sB t e j) (by omega) hb2.2
      have g6 := (g4.trans g5 (by simp)).trans (RG.atR (j := sB t e j) g5.1 hx2.1 g5.2.1.1) (by simp)
      have v2 : vl (mst m2 T 2 (sB t e j)) T 2 = sB t e j := by rw [vl_mst, if_pos ⟨rfl, rfl⟩]
      have v1 : vl (mst m2 T 2 (sB t e j)) T 1 = e := h4'.2.2.2.2.2.2.1
      dsimp only
      by_cases hje : sB t e j = e
      · rw [if_pos hje]
        refine ⟨fun F hF => ?_, fun p hp => (by cases hp)⟩
        cases hF
        have h66 := c66_1 (d := d - 1) (T := T) (m := mst m2 T 2 (sB t e j)) (by omega) h4'.1.1
        refine ⟨nd, l, f1, f2, f3, by omega, _, c2, step _ ?_ _ rfl, g6⟩
        rw [bV_eq e2, bV_eq e62b, v2, v1, if_pos hje, bV_eq h66]
      · rw [if_neg hje]
        refine ⟨fun F hF => (by cases hF), fun p hp => ?_⟩
        cases hp
        have h660 := c66_0 (d := d - 1) (by omega) h4'.1.1 h4'.2.2.2.2
        refine ⟨_, step _ ?_ _ rfl, (BR.mk (p := sB t e j) h4'.1.1 h4'.2.2.2.2.1 g6.2.1.1 g6.1).pre g6 (by rw [List.length_append]; omega)⟩
        rw [bV_eq e2, bV_eq e62b, v2, v1, if_neg hje, bV_xq h660]
end
