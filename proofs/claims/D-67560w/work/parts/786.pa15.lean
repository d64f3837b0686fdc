/-! the patcher: moving and copying -/
set_option maxRecDepth 100000
set_option maxHeartbeats 4000000
/-- what a move or a copy does -/
def trS (mv : Bool) (path fr : List Int) (v : Vl) : Option Vl := match ptr path with
  | none => none
  | some tks => match ptr fr with
    | none => none
    | some ftk => match goZ ftk [] v with
      | none => none
      | some (_, w) =>
        if mv = false then adZ tks w v
        else if path = fr then some v
        else if fr ++ [47] <+: path then none
        else match rmZ ftk v with
          | none => none
          | some v' => adZ tks w v'
section
variable {d : Nat} {m m' : Mem} {P k r c : Int} {L xs : List Int} {Ho : Option (List Int)} {To : Option (List (List Int))}
/-- the row of what is moved comes to other bytes -/
theorem PB.rg8 {q : Nat} {ms ys : List Int} {cm c' : Int} (h : PB m P L Ho To k) (hf : FRM (eM q) m m') (hA : pbA (eM q) = true) (hB : pbB (eM q) = true) (hV : pvN (eM q) = true) (ok : OK m') (hR : RW m (vl m P 8) ms cm) (hg : RG (vl m P 8) m cm ys m' c') (hl : ys.length ≤ 6000) : (∃ k', PB m' P L Ho To k' ∧ PX m P k m' k' 0) ∧ vl m' P 8 = vl m P 8 := by
  obtain ⟨rd, ro, rh, rm, rt, sa, aa, rw, cd, co, ch, cm', ct, cw, os, hs, ms', ts, h1, h2, h3, ⟨e5, e6, e7, e8, e9, e10, e12, e0⟩, h5, h6, ⟨w1, w2, w3, w4, w5, w6⟩, h8, h9, h10, h11, h12⟩ := h
  rw [e8] at hR hg
  have ec : cm = cm' := by rw [← hR.2.2.1, w4.2.2.1]
  subst ec
  obtain ⟨p3, ⟨p7, p8, p9, p10, p12, p0⟩, p5, p6⟩ := PBF hf hA h1 h3 ⟨e7, e8, e9, e10, e12, e0⟩ h5 h6
  obtain ⟨q5, q6⟩ := PBG hf hB h1 h3 ⟨e5, e6⟩
  have hro := hg.2.1
  have hmx := hg.2.2.2
  have hG := hg.2.2.1
  refine ⟨⟨cd + co + ch + c' + ct, ⟨rd, ro, rh, rm, rt, sa, aa, rw, cd, co, ch, c', ct, cw, os, hs, ys, ts, ok, hro.1, p3, ⟨q5, q6, p7, p8, p9, p10, p12, p0⟩, p5, p6, ⟨hro.2 _ h8.e3 _ _ w1, hro.2 _ h8.e6 _ _ w2, hro.2 _ h8.e8 _ _ w3, hg.1, hro.2 _ h8.e10.symm _ _ w5, hro.2 _ h9.d4 _ _ w6⟩, h8, h9, ⟨rfl, by omega, by omega, by omega, by omega, by omega⟩, h11, fun tks q => ⟨(h12 tks q).1.fr hf hV, (h12 tks q).2⟩⟩, fun r' hr' ys c hw => hro.2 r' (fun q => hr' (by rw [q]; exact pRw_8 e8)) ys c hw, fun r' => ?_, ?_, ?_, ?_⟩, by rw [p8, e8]⟩
  · unfold pRw; rw [q5, q6, p7, p8, p9, e5, e6, e7, e8, e9]
  · have := hG.1; omega
  · have := hG.2.1; omega
  · have := hG.2.2; omega
/-- the row of what is held comes to other bytes -/
theorem PB.rg7 {q : Nat} {ms ys : List Int} {cm c' : Int} (h : PB m P L Ho To k) (hf : FRM (eM q) m m') (hA : pbA (eM q) = true) (hB : pbB (eM q) = true) (hV : pvN (eM q) = true) (ok : OK m') (hR : RW m (vl m P 7) ms cm) (hg : RG (vl m P 7) m cm ys m' c') (hl : ys.length ≤ 6000) : ∃ k', PB m' P L (some ys) To k' ∧ PX m P k m' k' 0 := by
  obtain ⟨rd, ro, rh, rm, rt, sa, aa, rw, cd, co, ch, cm', ct, cw, os, hs, ms', ts, h1, h2, h3, ⟨e5, e6, e7, e8, e9, e10, e12, e0⟩, h5, h6, ⟨w1, w2, w3, w4, w5, w6⟩, h8, h9, h10, h11, h12⟩ := h
  rw [e7] at hR hg
  have ec : cm = ch := by rw [← hR.2.2.1, w3.2.2.1]
  subst ec
  obtain ⟨p3, ⟨p7, p8, p9, p10, p12, p0⟩, p5, p6⟩ := PBF hf hA h1 h3 ⟨e7, e8, e9, e10, e12, e0⟩ h5 h6
  obtain ⟨q5, q6⟩ := PBG hf hB h1 h3 ⟨e5, e6⟩
  have hro := hg.2.1
  have hmx := hg.2.2.2
  have hG := hg.2.2.1
  refine ⟨cd + co + c' + cm' + ct, ⟨rd, ro, rh, rm, rt, sa, aa, rw, cd, co, c', cm', ct, cw, os, ys, ms', ts, ok, hro.1, p3, ⟨q5, q6, p7, p8, p9, p10, p12, p0⟩, p5, p6, ⟨hro.2 _ h8.e2 _ _ w1, hro.2 _ h8.e5 _ _ w2, hg.1, hro.2 _ h8.e8.symm _ _ w4, hro.2 _ h8.e9.symm _ _ w5, hro.2 _ h9.d3 _ _ w6⟩, h8, h9, ⟨rfl, by omega, by omega, by omega, by omega, by omega⟩, fun H q => Option.some.inj q, fun tks q => ⟨(h12 tks q).1.fr hf hV, (h12 tks q).2⟩⟩, fun r' hr' ys c hw => hro.2 r' (fun q => hr' (by rw [q]; exact pRw_7 e7)) ys c hw, fun r' => ?_, ?_, ?_, ?_⟩
  · unfold pRw; rw [q5, q6, p7, p8, p9, e5, e6, e7, e8, e9]
  · have := hG.1; omega
  · have := hG.2.1; omega
  · have := hG.2.2; omega
theorem PB.rows (h : PB m P L Ho To k) : (∃ ms cm, RW m (vl m P 8) ms cm) ∧ (∃ hs ch, RW m (vl m P 7) hs ch ∧ ∀ H, Ho = some H → hs = H) ∧ vl m P 7 ≠ vl m P 8 ∧ vl m P 8 ≠ vl m P 6 ∧ vl m P 5 ≠ vl m P 7 := by
  obtain ⟨rd, ro, rh, rm, rt, sa, aa, rw, cd, co, ch, cm', ct, cw, os, hs, ms', ts, h1, h2, h3, ⟨e5, e6, e7, e8, e9, e10, e12, e0⟩, h5, h6, ⟨w1, w2, w3, w4, w5, w6⟩, h8, h9, h10, h11, h12⟩ := h
  rw [e7, e8, e6, e5]
  exact ⟨⟨_, _, w4⟩, ⟨_, _, w3, h11⟩, h8.e8, h8.e6.symm, h8.e2⟩
/-- the bytes of one row come to another -/
theorem cpy {x y cx cy : Int} {us vs : List Int} (hd : 1 ≤ d) (ok : OK m) (hI : RI m) (hX : RW m x us cx) (hY : RW m y vs cy) (hne : x ≠ y) (hl : us.length ≤ 6000) : ∃ m' c', cl d 143 [pR y, pR (vl (mst m y 1 0) x 0), pI 0, pI (vl (mst m y 1 0) x 1)] (mst m y 1 0) = some (.inl none, m') ∧ RG y m cy us m' c' ∧ FRM (eM 143) m m' ∧ OK m' := by
  have g1 := RG.clear hY hI ok
  have ok1 : OK (mst m y 1 0) := ok
  have hX1 := g1.2.1.2 x hne us cx hX
  have hX1' := hX1
  obtain ⟨b1, b2, b3, b4, b5, b6, b7⟩ := hX1'
  rw [b4]
  obtain ⟨m2, c2, e2, g2⟩ := c143 (d := d) (x := vl (mst m y 1 0) x 0) (fr := 0) (ys := us) (n := us.length) hd ok1 g1.2.1.1 g1.1 (by omega) ⟨by omega, by omega⟩ (fun j j0 j1 => by rw [Int.zero_add]; exact b7 j j0 j1) rfl (by simp; omega)
  have f1 : FRM (eM 143) m (mst m y 1 0) := frm_mst (by rw [hY.1]; rfl)
  have f2 := f1.trans (cl_FRM e2)
  exact ⟨m2, c2, e2, g1.trans g2 (by simp), f2, ok.fr f2⟩
/-- the pointer again, and then it comes in -/
theorem c127_201 {t : Int} {v w : Vl} {H path : List Int} {tks : List (List Int)} {a2 a4 a5 a6 a7 : Int} (hd : 9 ≤ d) (hL : L = enV v.2.1 v.2.2) (hLl : L.length ≤ 750) (hH : H = enV w.2.1 w.2.2) (hHl : H.length ≤ 750) (hw : wfF (foC v.2.1 v.2.2 foN)) (hdp : dpV v.2.1 v.2.2 ≤ 32) (h : PB m P L (some H) To k) (hr : ¬ pRw m P r) (hR : RW m r xs c) (hx : xs.length < 60000) (hT : At xs t (4 :: nmB path)) (wp : wfU path) (sp : sur path) (hpl : (uts path).length ≤ 1300) (hpt : ptr path = some tks) :
    (∀ v', adZ tks w v = some v' → ∃ m' k', rn d 127 201 [pR P, pR r, pI a2, pI t, pI a4, pI a5, pI a6, pI a7] [] m = some (.inl none, m') ∧ PB m' P (enV v'.2.1 v'.2.2) none none k' ∧ PX m P k m' k' 0) ∧
    (adZ tks w v = none → ∃ m' k' L', rn d 127 201 [pR P, pR r, pI a2, pI t, pI a4, pI a5, pI a6, pI a7] [] m = some (.inr 206, m') ∧ PB m' P L' none none k' ∧ PX m P k m' k' 1) := by
  obtain ⟨okm, -, hP, -⟩ := h.ok
  obtain ⟨m1, k1, e1, b1, x1⟩ := (t120 (d := d - 1) (by omega) h hr hR hT wp hx (by omega)).1 tks hpt
  have hu := ptr_up hpt
  have h121 := t121 (d := d - 1) (by omega) hL hH (ptr_okT wp sp (by omega) hpt) hw hdp b1 (by omega)
  have s : ∀ X : RM, (bV (cl (d - 1) 121 [pR P] m1) fun m2 => some (.inl none, m2)) = X → ∀ Q, X = some Q → rn d 127 201 [pR P, pR r, pI a2, pI t, pI a4, pI a5, pI a6, pI a7] [] m = some Q := fun X hX Q hQ => q127_201 (by omega) okm.1 _ (by rw [gd_of hP, bV_eq e1, hX, hQ])
  refine ⟨fun v' hv => ?_, fun hv => ?_⟩
  · obtain ⟨m2, k2, e2, b2, x2⟩ := h121.1 v' hv
    exact ⟨m2, k2, s _ (by rw [bV_eq e2]) _ rfl, b2, x1.tr0 x2⟩
  · obtain ⟨m2, e2, b2, x2⟩ := h121.2 hv
    exact ⟨m2, k1, _, s _ (by rw [bV_xq e2]) _ rfl, b2, x1.tr0 x2⟩
end
