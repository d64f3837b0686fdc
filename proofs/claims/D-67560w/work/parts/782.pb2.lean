/-! the patcher as a whole: its parts -/
set_option maxRecDepth 100000
set_option maxHeartbeats 4000000
def pbA (e : Nat) : Bool := [0, 1, 2, 3, 4, 7, 8, 9, 10, 12].all (fun f : Int => !(Nat.testBit e (bix 7 f)))
def pbB (e : Nat) : Bool := [5, 6].all (fun f : Int => !(Nat.testBit e (bix 7 f)))
theorem all_bit {e : Nat} {l : List Int} (h : l.all (fun f : Int => !(Nat.testBit e (bix 7 f))) = true) {f : Int} (hf : f ∈ l) : Nat.testBit e (bix 7 f) = false := by
  have h1 := List.all_eq_true.mp h f hf
  cases hb : Nat.testBit e (bix 7 f)
  · rfl
  · rw [hb] at h1; cases h1
section
variable {d : Nat} {m m' : Mem} {P k r c a : Int} {L xs : List Int} {Ho : Option (List Int)} {To : Option (List (List Int))}
theorem PBF {q : Nat} {rh rm rt sa aa rw : Int} (hf : FRM (eM q) m m') (hn : pbA (eM q) = true) (ok : OK m) (h3 : tg m P = 7) (h4 : vl m P 7 = rh ∧ vl m P 8 = rm ∧ vl m P 9 = rt ∧ vl m P 10 = sa ∧ vl m P 12 = aa ∧ vl m P 0 = rw) (h5 : vl m P 1 = 0 ∧ vl m P 2 = 4 ∧ vl m P 3 = 10 ∧ vl m P 4 = 17) (h6 : tg m sa = 112101 ∧ ln m sa = 16384 ∧ tg m aa = 112101 ∧ ln m aa = 33 ∧ sa ≠ aa) :
    tg m' P = 7 ∧ (vl m' P 7 = rh ∧ vl m' P 8 = rm ∧ vl m' P 9 = rt ∧ vl m' P 10 = sa ∧ vl m' P 12 = aa ∧ vl m' P 0 = rw) ∧ (vl m' P 1 = 0 ∧ vl m' P 2 = 4 ∧ vl m' P 3 = 10 ∧ vl m' P 4 = 17) ∧ (tg m' sa = 112101 ∧ ln m' sa = 16384 ∧ tg m' aa = 112101 ∧ ln m' aa = 33 ∧ sa ≠ aa) := by
  have z := ok.1
  have v : ∀ f : Int, f ∈ ([0, 1, 2, 3, 4, 7, 8, 9, 10, 12] : List Int) → vl m' P f = vl m P f := fun f hm => vl_of hf z h3 (by decide) (all_bit hn hm)
  rw [v 7 (by simp), v 8 (by simp), v 9 (by simp), v 10 (by simp), v 12 (by simp), v 0 (by simp), v 1 (by simp), v 2 (by simp), v 3 (by simp), v 4 (by simp)]
  exact ⟨by rw [tg_of hf z (by omega)]; exact h3, h4, h5, by rw [tg_of hf z (by omega)]; exact h6.1, by rw [ln_of hf z (by omega)]; exact h6.2.1, by rw [tg_of hf z (by omega)]; exact h6.2.2.1, by rw [ln_of hf z (by omega)]; exact h6.2.2.2.1, h6.2.2.2.2⟩
theorem PBG {q : Nat} {rd ro : Int} (hf : FRM (eM q) m m') (hn : pbB (eM q) = true) (ok : OK m) (h3 : tg m P = 7) (h4 : vl m P 5 = rd ∧ vl m P 6 = ro) : vl m' P 5 = rd ∧ vl m' P 6 = ro := by
  have v : ∀ f : Int, f ∈ ([5, 6] : List Int) → vl m' P f = vl m P f := fun f hm => vl_of hf ok.1 h3 (by decide) (all_bit hn hm)
  rw [v 5 (by simp), v 6 (by simp)]; exact h4
theorem pTk_up : ∀ (n : Nat) (acc l : List Int) (ts : List (List Int)), l.length ≤ n → pTk acc l = some ts → (tkB ts).length ≤ 2 + (uts acc).length + 2 * (uts l).length := by
  intro n
  induction n with
  | zero =>
    intro acc l ts hl h
    match l with
    | [] => unfold pTk at h; cases h; simp [tkB_one, nmB_len]
    | _ :: _ => simp at hl
  | succ n ih =>
    intro acc l ts hl h
    match l with
    | [] => unfold pTk at h; cases h; simp [tkB_one, nmB_len]
    | c :: r =>
      have hln : r.length ≤ n := by simpa using hl
      have hu := utf_len c
      have hcc : (uts (c :: r)).length = (utf c).length + (uts r).length := by rw [uts_cons, List.length_append]
      by_cases h47 : c = 47
      · subst h47
        rw [pTk_sl] at h
        obtain ⟨t2, h2, rfl⟩ := Option.map_eq_some_iff.mp h
        have h3 := ih [] r t2 hln h2
        rw [show acc :: t2 = [acc] ++ t2 from rfl, tkB_app, tkB_one, List.length_append, nmB_len]
        rw [uts_nil, List.length_nil] at h3
        omega
      · by_cases h126 : c = 126
        · subst h126
          match r, hln, h with
          | [], _, h => unfold pTk at h; simp at h
          | x :: r2, hln, h =>
            unfold pTk at h
            simp only [show ¬ (126 : Int) = 47 by decide, if_false, if_true] at h
            have hx := utf_len x
            have hc2 : (uts (x :: r2)).length = (utf x).length + (uts r2).length := by rw [uts_cons, List.length_append]
            have hl2 : r2.length ≤ n := by simp at hln; omega
            by_cases h48 : x = 48
            · rw [if_pos h48] at h
              have h3 := ih _ r2 ts hl2 h
              rw [uts_app, List.length_append, uts_one] at h3
              have : (utf 126).length = 1 := by decide
              omega
            · rw [if_neg h48] at h
              by_cases h49 : x = 49
              · rw [if_pos h49] at h
                have h3 := ih _ r2 ts hl2 h
                rw [uts_app, List.length_append, uts_one] at h3
                have : (utf 47).length = 1 := by decide
                omega
              · rw [if_neg h49] at h; cases h
        · rw [pTk_u _ _ ⟨h47, h126⟩] at h
          have h3 := ih _ r ts hln h
          rw [uts_app, List.length_append, uts_one] at h3
          omega
theorem ptr_up {us : List Int} {tks : List (List Int)} (h : ptr us = some tks) : (tkB tks).length ≤ 2 * (uts us).length := by
  unfold ptr at h
  match us, h with
  | [], h => cases h; simp [tkB]
  | c :: r, h =>
    dsimp only at h
    split at h
    · have h3 := pTk_up _ _ _ _ (Nat.le_refl _) h
      rw [uts_nil, List.length_nil] at h3
      have hu := utf_len c
      have hcc : (uts (c :: r)).length = (utf c).length + (uts r).length := by rw [uts_cons, List.length_append]
      omega
    · cases h
/-- a pointer is read -/
theorem t120 {us : List Int} (hd : 3 ≤ d) (h : PB m P L Ho To k) (hr : ¬ pRw m P r) (hR : RW m r xs c) (hA : At xs a (4 :: nmB us)) (hw : wfU us) (hx : xs.length < 60000) (hl : (uts us).length ≤ 1900) :
    (∀ tks, ptr us = some tks → ∃ m' k', cl d 120 [pR P, pR r, pI a] m = some (.inl none, m') ∧ PB m' P L Ho (some tks) k' ∧ PX m P k m' k' 0) ∧
    (ptr us = none → ∃ m' k', cl d 120 [pR P, pR r, pI a] m = some (.inr 206, m') ∧ PB m' P L none none k' ∧ PX m P k m' k' 1) := by
  obtain ⟨rd, ro, rh, rm, rt, sa, aa, rw, cd, co, ch, cm, ct, cw, os, hs, ms, ts, h1, h2, h3, ⟨e5, e6, e7, e8, e9, e10, e12, e0⟩, h5, h6, ⟨w1, w2, w3, w4, w5, w6⟩, h8, h9, h10, h11, h12⟩ := h
  have hne : r ≠ vl m P 9 := fun q => hr (Or.inr (Or.inr (Or.inr (Or.inr q))))
  have hc := c120 (d := d) (m := m) (P := P) (r := r) (a := a) (ts := ts) (ct := ct) hd h3 ⟨by rw [e10]; exact h6.1, by rw [e10]; exact h6.2.1⟩ h1 h2 hR (by rw [e9]; exact w5) hne hA hw hx hl
  rw [e9, e10] at hc
  refine ⟨fun tks ht => ?_, fun ht => ?_⟩
  · obtain ⟨m', c', he, hg, hp⟩ := hc.1 tks ht
    obtain ⟨p3, ⟨p7, p8, p9, p10, p12, p0⟩, p5, p6⟩ := PBF (cl_FRM he) (by rfl) h1 h3 ⟨e7, e8, e9, e10, e12, e0⟩ h5 h6
    obtain ⟨q5, q6⟩ := PBG (cl_FRM he) (by rfl) h1 h3 ⟨e5, e6⟩
    have hro := hg.2.1
    have hmx := hg.2.2.2
    have hG := hg.2.2.1
    have hu := ptr_up ht
    refine ⟨m', cd + co + ch + cm + c', he, ⟨rd, ro, rh, rm, rt, sa, aa, rw, cd, co, ch, cm, c', cw, os, hs, ms, tkB tks, hp.1, hro.1, p3, ⟨q5, q6, p7, p8, p9, p10, p12, p0⟩, p5, p6, ⟨hro.2 _ h8.e4 _ _ w1, hro.2 _ h8.e7 _ _ w2, hro.2 _ h8.e9 _ _ w3, hro.2 _ h8.e10 _ _ w4, hg.1, hro.2 _ h9.d5 _ _ w6⟩, h8, h9, ⟨rfl, by omega, by omega, by omega, by omega, by omega⟩, h11, fun tks' q => by cases q; exact ⟨hp, rfl⟩⟩, fun r' hr' ys c hw => hro.2 r' (fun q => hr' (by rw [q]; exact pRw_9 e9)) ys c hw, fun r' => ?_, ?_, ?_, ?_⟩
    · unfold pRw; rw [q5, q6, p7, p8, p9, e5, e6, e7, e8, e9]
    · have := hG.1; omega
    · have := hG.2.1; omega
    · have := hG.2.2; omega
  · obtain ⟨m', he, hg⟩ := hc.2 ht
    obtain ⟨L', c', g1, hro, hG, hmx⟩ := hg
    obtain ⟨p3, ⟨p7, p8, p9, p10, p12, p0⟩, p5, p6⟩ := PBF (cl_FRM he) (by rfl) h1 h3 ⟨e7, e8, e9, e10, e12, e0⟩ h5 h6
    obtain ⟨q5, q6⟩ := PBG (cl_FRM he) (by rfl) h1 h3 ⟨e5, e6⟩
    refine ⟨m', cd + co + ch + cm + c', he, ⟨rd, ro, rh, rm, rt, sa, aa, rw, cd, co, ch, cm, c', cw, os, hs, ms, L', h1.fr (cl_FRM he), hro.1, p3, ⟨q5, q6, p7, p8, p9, p10, p12, p0⟩, p5, p6, ⟨hro.2 _ h8.e4 _ _ w1, hro.2 _ h8.e7 _ _ w2, hro.2 _ h8.e9 _ _ w3, hro.2 _ h8.e10 _ _ w4, g1, hro.2 _ h9.d5 _ _ w6⟩, h8, h9, ⟨rfl, by omega, by omega, by omega, by omega, by omega⟩, fun _ q => (by cases q), fun _ q => (by cases q)⟩, fun r' hr' ys c hw => hro.2 r' (fun q => hr' (by rw [q]; exact pRw_9 e9)) ys c hw, fun r' => ?_, ?_, ?_, ?_⟩
    · unfold pRw; rw [q5, q6, p7, p8, p9, e5, e6, e7, e8, e9]
    · omega
    · omega
    · omega
/-- a value is held; it stands in any row but that -/
theorem t119 {nd : ND} {l : Fo} (hd : 3 ≤ d) (h : PB m P L Ho To k) (hr : r ≠ vl m P 7) (hR : RW m r xs c) (hA : At xs a (enV nd l)) (hw : wfN nd) (hx : xs.length < 60000) (hl : (enV nd l).length ≤ 6000) : ∃ m' k', cl d 119 [pR P, pR r, pI a] m = some (.inl none, m') ∧ PB m' P L (some (enV nd l)) To k' ∧ PX m P k m' k' 0 := by
  obtain ⟨rd, ro, rh, rm, rt, sa, aa, rw, cd, co, ch, cm, ct, cw, os, hs, ms, ts, h1, h2, h3, ⟨e5, e6, e7, e8, e9, e10, e12, e0⟩, h5, h6, ⟨w1, w2, w3, w4, w5, w6⟩, h8, h9, h10, h11, h12⟩ := h
  obtain ⟨m', c', he, hg⟩ := c119 (d := d) hd h3 h1 h2 hR (by rw [e7]; exact w3) hr hA hw hx
  rw [e7] at hg
  obtain ⟨p3, ⟨p7, p8, p9, p10, p12, p0⟩, p5, p6⟩ := PBF (cl_FRM he) (by rfl) h1 h3 ⟨e7, e8, e9, e10, e12, e0⟩ h5 h6
  obtain ⟨q5, q6⟩ := PBG (cl_FRM he) (by rfl) h1 h3 ⟨e5, e6⟩
  have hro := hg.2.1
  have hmx := hg.2.2.2
  have hG := hg.2.2.1
  refine ⟨m', cd + co + c' + cm + ct, he, ⟨rd, ro, rh, rm, rt, sa, aa, rw, cd, co, c', cm, ct, cw, os, _, ms, ts, h1.fr (cl_FRM he), hro.1, p3, ⟨q5, q6, p7, p8, p9, p10, p12, p0⟩, p5, p6, ⟨hro.2 _ h8.e2 _ _ w1, hro.2 _ h8.e5 _ _ w2, hg.1, hro.2 _ h8.e8.symm _ _ w4, hro.2 _ h8.e9.symm _ _ w5, hro.2 _ h9.d3 _ _ w6⟩, h8, h9, ⟨rfl, by omega, by omega, by omega, by omega, by omega⟩, fun H q => by cases q; rfl, fun tks q => ⟨(h12 tks q).1.fr (cl_FRM he) (by rfl), (h12 tks q).2⟩⟩, fun r' hr' ys c hw => hro.2 r' (fun q => hr' (by rw [q]; exact pRw_7 e7)) ys c hw, fun r' => ?_, ?_, ?_, ?_⟩
  · unfold pRw; rw [q5, q6, p7, p8, p9, e5, e6, e7, e8, e9]
  · have := hG.1; omega
  · have := hG.2.1; omega
  · have := hG.2.2; omega
/-- found, deep and around don't matter -/
theorem PB.gf (h : PB m P L Ho To k) (g : GF P (vl m P 12) m m') : PB m' P L Ho To k ∧ PX m P k m' k 0 := by
  obtain ⟨rd, ro, rh, rm, rt, sa, aa, rw, cd, co, ch, cm, ct, cw, os, hs, ms, ts, h1, h2, h3, ⟨e5, e6, e7, e8, e9, e10, e12, e0⟩, h5, h6, ⟨w1, w2, w3, w4, w5, w6⟩, h8, h9, h10, h11, h12⟩ := h
  rw [e12] at g
  have haa := h6.2.2.1
  have hPa : P ≠ aa := by intro q; rw [q] at h3; omega
  have hv : ∀ f, f ≠ 13 ∧ f ≠ 14 → vl m' P f = vl m P f := fun f hf => g.2.2.2 P f hPa (by omega)
  have ht : ∀ b, tg m' b = tg m b ∧ ln m' b = ln m b := g.2.2.1
  refine ⟨⟨rd, ro, rh, rm, rt, sa, aa, rw, cd, co, ch, cm, ct, cw, os, hs, ms, ts, h1.gf g, h2.gf h3 haa g, by rw [(ht P).1]; exact h3, ?_, ?_, ?_, ⟨w1.gf h3 haa g, w2.gf h3 haa g, w3.gf h3 haa g, w4.gf h3 haa g, w5.gf h3 haa g, w6.gf h3 haa g⟩, h8, h9, h10, h11, fun tks q => ⟨(h12 tks q).1.gf h6.2.2.2.2 haa g, (h12 tks q).2⟩⟩, fun r' _ ys c hw => hw.gf h3 haa g, fun r' => ?_, by omega, ?_, ?_⟩
  · rw [hv 5 (by omega), hv 6 (by omega), hv 7 (by omega), hv 8 (by omega), hv 9 (by omega), hv 10 (by omega), hv 12 (by omega), hv 0 (by omega)]
    exact ⟨e5, e6, e7, e8, e9, e10, e12, e0⟩
  · rw [hv 1 (by omega), hv 2 (by omega), hv 3 (by omega), hv 4 (by omega)]; exact h5
  · rw [(ht sa).1, (ht sa).2, (ht aa).1, (ht aa).2]; exact h6
  · unfold pRw; rw [hv 5 (by omega), hv 6 (by omega), hv 7 (by omega), hv 8 (by omega), hv 9 (by omega)]
  · have := g.1; omega
  · have := g.2.1; omega
/-- the bundle as going wants it -/
theorem PB.gs {tks : List (List Int)} (h : PB m P L Ho (some tks) k) : ∃ ct cd, GS m P (vl m P 9) (vl m P 10) (vl m P 5) (vl m P 12) tks ct L cd := by
  obtain ⟨rd, ro, rh, rm, rt, sa, aa, rw, cd, co, ch, cm, ct, cw, os, hs, ms, ts, h1, h2, h3, ⟨e5, e6, e7, e8, e9, e10, e12, e0⟩, h5, h6, ⟨w1, w2, w3, w4, w5, w6⟩, h8, h9, h10, h11, h12⟩ := h
  obtain ⟨a1, a2⟩ := h12 tks rfl
  rw [e5, e9, e10, e12]
  exact ⟨ct, cd, a1, h2, e5, w1, by rw [← a2]; exact w5, e12, h6.2.2.1, h6.2.2.2.1, h6.2.2.2.2⟩
/-- tokens as one wants them -/
def okT (tks : List (List Int)) : Prop := (∀ tk, tk ∈ tks → wfU tk ∧ (uts tk).length < 6000) ∧ (tkB tks).length ≤ 6000
/-- going along all tokens -/
theorem t123 {v0 : Vl} {tks : List (List Int)} (hd : 6 ≤ d) (hL : L = enV v0.2.1 v0.2.2) (hLl : L.length < 60000) (htk : okT tks) (hw : wfF (foC v0.2.1 v0.2.2 foN)) (hdp : dpV v0.2.1 v0.2.2 ≤ 32) (h : PB m P L Ho (some tks) k) :
    (∀ kz w, goZ tks [] v0 = some (kz, w) → plug kz w = v0 ∧ okK kz ∧ wfF (foC w.2.1 w.2.2 foN) ∧ kz.length + dpV w.2.1 w.2.2 ≤ 32 ∧ ∃ m', cl d 123 [pR P, pI (vl m P 11)] m = some (.inl none, m') ∧ GF P (vl m P 12) m m' ∧ GP m' P (vl m P 12) kz ∧ PB m' P L Ho (some tks) k ∧ PX m P k m' k 0) ∧
    (goZ tks [] v0 = none → ∃ m', cl d 123 [pR P, pI (vl m P 11)] m = some (.inr 206, m') ∧ PB m' P L none none k ∧ PX m P k m' k 1) := by
  obtain ⟨ct, cd, hG⟩ := h.gs
  have hlen : (stL 0 tks).length = tks.length := stL_len _ _
  have h11 : vl m P 11 = tks.length := by rw [← hlen]; exact hG.1.2.2.2.2.2.2.1
  have hc := c123 (d := d) hd hLl (by rw [← hL]; exact At.self) htk.1 htk.2 tks.length (Nat.le_refl _) hw hdp hG
  rw [List.take_length] at hc
  rw [h11]
  refine ⟨fun kz w hz => ?_, fun hz => ?_⟩
  · obtain ⟨a1, a2, a3, a4, m', e1, g1, g2⟩ := hc.1 kz w hz
    obtain ⟨b1, b2⟩ := h.gf g1
    exact ⟨a1, a2, a3, a4, m', e1, g1, g2, b1, b2⟩
  · obtain ⟨m1, e1, g1⟩ := hc.2 hz
    obtain ⟨b1, b2⟩ := h.gf g1
    obtain ⟨b3, b4⟩ := b1.thr
    exact ⟨_, e1, b3, b2.tr0 b4⟩
/-- after a splice -/
theorem PB.adr {m1 : Mem} {rd ro rh co ch : Int} {q : Nat} {as : List PV} {L' : List Int} (h : PB m P L Ho To k) (g : GF P (vl m P 12) m m1) (e : cl d q as m1 = some (.inl none, m')) (hn : pbA (eM q) = true) (h5 : vl m P 5 = rd) (h6 : vl m P 6 = ro) (h7 : vl m P 7 = rh) {os hs : List Int} (hRo : RW m ro os co) (hRh : RW m rh hs ch) (hA : ADR m P rd ro rh co ch L' m') : (∃ k', PB m' P L' none none k' ∧ PX m P k m' k' 0) ∧ (∀ r', r' ≠ vl m P 6 → r' ≠ vl m P 7 → ∀ ys c, RW m r' ys c → RW m' r' ys c) ∧ vl m' P 7 = vl m P 7 ∧ vl m' P 8 = vl m P 8 := by
  obtain ⟨rd', ro', rh', rm, rt, sa, aa, rw, cd, co', ch', cm, ct, cw, os', hs', ms, ts, g1, g2, g3, ⟨e5, e6, e7, e8, e9, e10, e12, e0⟩, g5, g6, ⟨w1, w2, w3, w4, w5, w6⟩, g8, g9, g10, g11, g12⟩ := h
  obtain rfl : rd' = rd := e5.symm.trans h5
  obtain rfl : ro' = ro := e6.symm.trans h6
  obtain rfl : rh' = rh := e7.symm.trans h7
  have eco : co = co' := by rw [← hRo.2.2.1, w2.2.2.1]
  have ech : ch = ch' := by rw [← hRh.2.2.1, w3.2.2.1]
  subst eco ech
  obtain ⟨co2, ch2, hs2, a1, a2, a3, a4, a5, a6, a7, a8, a9, a10⟩ := hA
  rw [e12] at g
  have haa := g6.2.2.1
  have hPa : P ≠ aa := by intro q; rw [q] at g3; omega
  have hv : ∀ f, f ≠ 13 ∧ f ≠ 14 → vl m1 P f = vl m P f := fun f hf => g.2.2.2 P f hPa (by omega)
  have ht : ∀ b, tg m1 b = tg m b ∧ ln m1 b = ln m b := g.2.2.1
  obtain ⟨p3, ⟨p7, p8, p9, p10, p12, p0⟩, p5, p6⟩ := PBF (P := P) (rh := rh') (rm := rm) (rt := rt) (sa := sa) (aa := aa) (rw := rw) (cl_FRM e) hn (g1.gf g) (by rw [(ht P).1]; exact g3) (by rw [hv 7 (by omega), hv 8 (by omega), hv 9 (by omega), hv 10 (by omega), hv 12 (by omega), hv 0 (by omega)]; exact ⟨e7, e8, e9, e10, e12, e0⟩) (by rw [hv 1 (by omega), hv 2 (by omega), hv 3 (by omega), hv 4 (by omega)]; exact g5) (by rw [(ht sa).1, (ht sa).2, (ht aa).1, (ht aa).2]; exact g6)
  refine ⟨?_, fun r' n1 n2 ys c hw => a7 r' (fun q => n1 (by rw [q, e6])) (fun q => n2 (by rw [q, e7])) ys c hw, by rw [p7, e7], by rw [p8, e8]⟩
  refine ⟨co2 + cd + ch2 + cm + ct, ⟨ro', rd', rh', rm, rt, sa, aa, rw, co2, cd, ch2, cm, ct, cw, L, hs2, ms, ts, a4, a3, p3, ⟨a5, a6, p7, p8, p9, p10, p12, p0⟩, p5, p6, ⟨a1, a7 _ g8.e1 g8.e2 _ _ w1, a2, a7 _ g8.e6.symm g8.e8.symm _ _ w4, a7 _ g8.e7.symm g8.e9.symm _ _ w5, a7 _ g9.d2 g9.d3 _ _ w6⟩, g8.sw, g9.sw, ⟨by omega, by omega, by omega, by omega, by omega, by omega⟩, fun _ q => (by cases q), fun _ q => (by cases q)⟩, fun r' hr' ys c hw => a7 r' (fun q => hr' (by rw [q]; exact pRw_6 e6)) (fun q => hr' (by rw [q]; exact pRw_7 e7)) ys c hw, fun r' => ?_, ?_, ?_, ?_⟩
  · unfold pRw; rw [a5, a6, p7, p8, p9, e5, e6, e7, e8, e9]; omega
  · have := a8.1; omega
  · have := a8.2.1; omega
  · have := a8.2.2; omega
/-- adding what is held -/
theorem t121 {v w : Vl} {H : List Int} {tks : List (List Int)} (hd : 7 ≤ d) (hL : L = enV v.2.1 v.2.2) (hH : H = enV w.2.1 w.2.2) (htk : okT tks) (hw : wfF (foC v.2.1 v.2.2 foN)) (hdp : dpV v.2.1 v.2.2 ≤ 32) (h : PB m P L (some H) (some tks) k) (hl : L.length + 2 * H.length + 2 + (tkB tks).length ≤ 5900) :
    (∀ v', adZ tks w v = some v' → ∃ m' k', cl d 121 [pR P] m = some (.inl none, m') ∧ PB m' P (enV v'.2.1 v'.2.2) none none k' ∧ PX m P k m' k' 0) ∧
    (adZ tks w v = none → ∃ m', cl d 121 [pR P] m = some (.inr 206, m') ∧ PB m' P L none none k ∧ PX m P k m' k 1) := by
  obtain ⟨ct0, cd0, hG⟩ := h.gs
  have h0 := h
  obtain ⟨rd, ro, rh, rm, rt, sa, aa, rw, cd, co, ch, cm, ct, cw, os, hs, ms, ts, g1, g2, g3, ⟨e5, e6, e7, e8, e9, e10, e12, e0⟩, g5, g6, ⟨w1, w2, w3, w4, w5, w6⟩, g8, g9, g10, g11, g12⟩ := h
  obtain rfl := g11 H rfl
  rw [e5, e9, e10, e12] at hG
  rcases List.eq_nil_or_concat tks with rfl | ⟨init, tk, rfl⟩
  · refine ⟨fun v' hv => ?_, fun hv => ?_⟩
    · obtain rfl : w = v' := by unfold adZ at hv; exact Option.some.inj hv
      obtain ⟨m', e1, A1⟩ := c121_root (d := d) hd hG e6 e7 w2 w3 g8.e1 g8.e5.symm (by omega)
      rw [hH] at A1
      obtain ⟨⟨k', b1, b2⟩, b3⟩ := h0.adr GF.refl e1 (by rfl) e5 e6 e7 w2 w3 A1
      exact ⟨m', k', e1, b1, b2⟩
    · unfold adZ at hv; cases hv
  · rw [List.concat_eq_append] at *
    have htl : (nmB tk).length ≤ (tkB (init ++ [tk])).length := by rw [tkB_app, tkB_one, List.length_append]; omega
    have hc := c121 (d := d) hd hL hH htk.1 htk.2 hw hdp hG e6 e7 w2 w3 g8.e1 g8.e5.symm g8.e2 g8.e9.symm g8.e7.symm (by omega)
    refine ⟨fun v' hv => ?_, fun hv => ?_⟩
    · obtain ⟨m', e1, A1⟩ := hc.1 v' hv
      obtain ⟨⟨k', b1, b2⟩, b3⟩ := h0.adr GF.refl e1 (by rfl) e5 e6 e7 w2 w3 A1
      exact ⟨m', k', e1, b1, b2⟩
    · obtain ⟨m1, e1, G1⟩ := hc.2 hv
      obtain ⟨b1, b2⟩ := h0.gf (by rw [e12]; exact G1)
      obtain ⟨b3, b4⟩ := b1.thr
      exact ⟨_, e1, b3, b2.tr0 b4⟩
/-- taking away what is there -/
theorem t126 {v : Vl} {tks : List (List Int)} (hd : 8 ≤ d) (hL : L = enV v.2.1 v.2.2) (htk : okT tks) (hw : wfF (foC v.2.1 v.2.2 foN)) (hdp : dpV v.2.1 v.2.2 ≤ 32) (h : PB m P L Ho (some tks) k) (hl : L.length ≤ 5900) :
    (∀ v', rmZ tks v = some v' → ∃ m' k', cl d 126 [pR P] m = some (.inl none, m') ∧ PB m' P (enV v'.2.1 v'.2.2) none none k' ∧ PX m P k m' k' 0 ∧ (∀ r', r' ≠ vl m P 6 → r' ≠ vl m P 7 → ∀ ys c, RW m r' ys c → RW m' r' ys c) ∧ vl m' P 7 = vl m P 7 ∧ vl m' P 8 = vl m P 8) ∧
    (rmZ tks v = none → ∃ m', cl d 126 [pR P] m = some (.inr 206, m') ∧ PB m' P L none none k ∧ PX m P k m' k 1) := by
  obtain ⟨ct0, cd0, hG⟩ := h.gs
  have h0 := h
  obtain ⟨rd, ro, rh, rm, rt, sa, aa, rw, cd, co, ch, cm, ct, cw, os, hs, ms, ts, g1, g2, g3, ⟨e5, e6, e7, e8, e9, e10, e12, e0⟩, g5, g6, ⟨w1, w2, w3, w4, w5, w6⟩, g8, g9, g10, g11, g12⟩ := h
  rw [e5, e9, e10, e12] at hG
  rcases List.eq_nil_or_concat tks with rfl | ⟨init, tk, rfl⟩
  · refine ⟨fun v' hv => ?_, fun hv => ?_⟩
    · unfold rmZ goZ at hv; cases hv
    · have e1 := c126_0 (d := d) (by omega) hG
      obtain ⟨b3, b4⟩ := h0.thr
      exact ⟨_, e1, b3, b4⟩
  · rw [List.concat_eq_append] at *
    have hc := c126 (d := d) hd hL htk.1 htk.2 hw hdp hG e6 e7 w2 w3 g8.e1 g8.e5.symm g8.e2 hl
    refine ⟨fun v' hv => ?_, fun hv => ?_⟩
    · obtain ⟨m', e1, A1⟩ := hc.1 v' hv
      obtain ⟨⟨k', b1, b2⟩, b3⟩ := h0.adr GF.refl e1 (by rfl) e5 e6 e7 w2 w3 A1
      exact ⟨m', k', e1, b1, b2, b3⟩
    · obtain ⟨m1, e1, G1⟩ := hc.2 hv
      obtain ⟨b1, b2⟩ := h0.gf (by rw [e12]; exact G1)
      obtain ⟨b3, b4⟩ := b1.thr
      exact ⟨_, e1, b3, b2.tr0 b4⟩
/-- replacing what was found by what is held -/
theorem t122_rep {v w W : Vl} {H : List Int} {kz : List Fr} {m1 : Mem} {tks : List (List Int)} (hd : 3 ≤ d) (hL : L = enV v.2.1 v.2.2) (hH : H = enV W.2.1 W.2.2) (h : PB m P L (some H) (some tks) k) (g : GF P (vl m P 12) m m1) (hgp : GP m1 P (vl m P 12) kz) (hk : okK kz) (hkl : kz.length ≤ 33) (hp : plug kz w = v) (hl : L.length + H.length ≤ 5900) :
    ∃ m' k', cl d 122 [pR P, pI (offK kz), pI (enV w.2.1 w.2.2).length, pI 0] m1 = some (.inl none, m') ∧ PB m' P (enV (plug kz W).2.1 (plug kz W).2.2) none none k' ∧ PX m P k m' k' 0 := by
  obtain ⟨ct0, cd0, hG⟩ := h.gs
  have h0 := h
  obtain ⟨rd, ro, rh, rm, rt, sa, aa, rw, cd, co, ch, cm, ct, cw, os, hs, ms, ts, g1, g2, g3, ⟨e5, e6, e7, e8, e9, e10, e12, e0⟩, g5, g6, ⟨w1, w2, w3, w4, w5, w6⟩, g8, g9, g10, g11, g12⟩ := h
  obtain rfl := g11 H rfl
  rw [e5, e9, e10, e12] at hG
  rw [e12] at g hgp
  have hPa : P ≠ aa := by intro q; rw [q] at g3; omega
  obtain ⟨m', e1, A1⟩ := c122_rep (d := d) hd hG g hgp e6 e7 w2 w3 g8.e1 g8.e5.symm hk hkl hp hL hH hl
  obtain ⟨⟨k', b1, b2⟩, b3⟩ := h0.adr (by rw [e12]; exact g) e1 (by rfl) e5 e6 e7 w2 w3 A1
  exact ⟨m', k', e1, b1, b2⟩
end
