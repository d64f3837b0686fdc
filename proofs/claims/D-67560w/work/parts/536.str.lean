/-! texts: quoted strings -/
set_option maxRecDepth 100000
set_option maxHeartbeats 4000000
def pS (t : Int → Int) (e q : Int) : Nat → Int → Int ⊕ (List Int × Int)
  | 0, i => .inl i
  | n + 1, i => if pk t e i = q then .inr ([], i + 1) else match sC t e q i with
    | .inl p => .inl p
    | .inr (us, j) => match pS t e q n j with
      | .inl p => .inl p
      | .inr (vs, k) => .inr (us ++ vs, k)
/-- what stands from i on up to the quote -/
def sS (t : Int → Int) (e q i : Int) : Int ⊕ (List Int × Int) := pS t e q (e - i).toNat i
theorem uts_app (us vs : List Int) : uts (us ++ vs) = uts us ++ uts vs := by unfold uts; rw [List.flatMap_append]
theorem wfU_app {us vs : List Int} (h : wfU us) (h' : wfU vs) : wfU (us ++ vs) := by
  intro u hu; rcases List.mem_append.mp hu with h1 | h1
  · exact h u h1
  · exact h' u h1
section
variable {d : Nat} {T tp e r c q : Int} {t : Int → Int}
theorem sC_end {i : Int} (h : e ≤ i) : sC t e q i = .inl i := by
  unfold sC; rw [if_pos]; left; unfold pk; rw [if_neg (by omega)]; decide
theorem c68_l (hd : 7 ≤ d) (hq : q = 34 ∨ q = 39) : ∀ (n : Nat) (i : Int) (m : Mem) (c : Int) (pre us0 : List Int), (e - i).toNat ≤ n → OK m → RI m → TX m T tp e i t → RW m r (pre ++ 0 :: 0 :: uts us0) c → (pre.length : Int) + 2 + (uts us0).length + 3 * (e - i) ≤ 5990 →
    (∀ us j, pS t e q n i = .inr (us, j) → wfU us ∧ i < j ∧ j ≤ e ∧ ((uts us).length : Int) ≤ 3 * (j - i) ∧ ∃ m' c', rn d 68 25 [pR T, pR r, pI q, pI pre.length] [] m = some (.inl none, m') ∧ TX m' T tp e j t ∧ RG r m c (pre ++ nmB (us0 ++ us)) m' c') ∧
    (∀ p, pS t e q n i = .inl p → ∃ m', rn d 68 25 [pR T, pR r, pI q, pI pre.length] [] m = some (.inr 204, m') ∧ BR T r m c p m') := by
  intro n
  induction n with
  | zero =>
    intro i m c pre us0 hn ok hI h hR hL
    have hT := h.1
    have hr8 := hR.1
    have h63 := c63 (d := d - 1) ok.1 h
    have hpm : pk t e i = -1 := by unfold pk; rw [if_neg (by omega)]
    have hbi := h.2.2.2.2.2.1
    simp only [pS]
    refine ⟨fun us j hE => (by cases hE), fun p hp => ?_⟩
    cases hp
    obtain ⟨m2, e3, hb⟩ := (c69 (d := d - 1) (q := q) (by omega) ok hI h hR (by simp; omega) hq).2 i (sC_end (by omega))
    refine ⟨m2, ?_, hb⟩
    refine q68_25 (by omega) ok.1 _ ?_
    simp (disch := first | assumption | omega) only [↓nm_eq, ↓gd_m1, ↓gd_m2, ↓gd_of, ↓bI_eq h63, ↓if_neg, ↓bV_xq e3]
  | succ n ih =>
    intro i m c pre us0 hn ok hI h hR hL
    have hT := h.1
    have hr8 := hR.1
    have h63 := c63 (d := d - 1) ok.1 h
    have hs := hR.2.2.2.1
    obtain ⟨b1, b2, b3, b4, b5, b6, b7⟩ := h
    have h : TX m T tp e i t := ⟨b1, b2, b3, b4, b5, b6, b7⟩
    unfold pS
    by_cases hqq : pk t e i = q
    · rw [if_pos hqq]
      refine ⟨fun us j hE => ?_, fun p hp => (by cases hp)⟩
      cases hE
      have hie : i < e := pkf_lt (t := t) (by omega)
      have g0 : RG r m c (pre ++ 0 :: 0 :: uts us0) (mst m T 2 (i + 1)) c := RG.atR hR hT hI
      obtain ⟨m2, e3, g2⟩ := c133 (d := d - 1) (m := mst m T 2 (i + 1)) (a := pre.length) (b := (uts us0).length) ok g0.2.1.1 g0.1 rfl ⟨by omega, by omega⟩
      refine ⟨fun u hu => (by simp at hu), by omega, by omega, by simp [uts_nil]; omega, m2, c, ?_, ?_, ?_⟩
      · refine q68_25 (by omega) ok.1 _ ?_
        simp only [List.length_append, List.length_cons] at hs
        have ev : vl m r 1 - (pre.length : Int) - 2 = (uts us0).length := by rw [hs]; omega
        simp (disch := first | assumption | omega) only [↓nm_eq, ↓gd_m1, ↓gd_m2, ↓gd_of, ↓bI_eq h63, ↓if_pos, ev, b4, w32_of, bV_eq e3]
      · exact (h.at (by omega) (by omega)).fr (cl_FRM e3) ok.1 (by rfl)
      · rw [List.append_nil]
        exact g0.trans g2 (by simp [nmB, l2_len]; omega)
    · rw [if_neg hqq]
      have hch := c69 (d := d - 1) (q := q) (by omega) ok hI h hR (by simp; omega) hq
      cases hc : sC t e q i with
      | inl p0 =>
        refine ⟨fun us j hE => (by cases hE), fun p hp => ?_⟩
        cases hp
        obtain ⟨m2, e3, hb⟩ := hch.2 p0 hc
        refine ⟨m2, ?_, hb⟩
        refine q68_25 (by omega) ok.1 _ ?_
        simp (disch := first | assumption | omega) only [↓nm_eq, ↓gd_m1, ↓gd_m2, ↓gd_of, ↓bI_eq h63, ↓if_neg, ↓bV_xq e3]
      | inr w =>
        obtain ⟨us1, j1⟩ := w
        obtain ⟨a1, a2, a3, m2, c2, e3, a4, a5⟩ := hch.1 us1 j1 hc
        have hl1 := sC_len hc
        have ok2 := ok.fr (cl_FRM e3)
        have a5' : RG r m c (pre ++ 0 :: 0 :: uts (us0 ++ us1)) m2 c2 := by
          rw [uts_app]; simpa using a5
        have hII := ih j1 m2 c2 pre (us0 ++ us1) (by omega) ok2 a5'.2.1.1 a4 a5'.1 (by rw [uts_app, List.length_append]; omega)
        have step : ∀ Q, rn d 68 25 [pR T, pR r, pI q, pI pre.length] [] m2 = some Q → rn d 68 25 [pR T, pR r, pI q, pI pre.length] [] m = some Q := by
          intro Q hQ
          refine q68_25 (by omega) ok.1 _ ?_
          simp (disch := first | assumption | omega) only [↓nm_eq, ↓gd_m1, ↓gd_m2, ↓gd_of, ↓bI_eq h63, ↓if_neg, ↓bV_eq e3]
          exact hQ
        dsimp only
        cases hp2 : pS t e q n j1 with
        | inl p0 =>
          refine ⟨fun us j hE => (by cases hE), fun p hp => ?_⟩
          cases hp
          obtain ⟨m3, e4, hb⟩ := hII.2 p0 hp2
          exact ⟨m3, step _ e4, hb.pre a5' (by simp [uts_app]; omega)⟩
        | inr w =>
          obtain ⟨vs, k⟩ := w
          refine ⟨fun us j hE => ?_, fun p hp => (by cases hp)⟩
          cases hE
          obtain ⟨d1, d2, d3, d4, m3, c3, e4, d5, d6⟩ := hII.1 vs k hp2
          refine ⟨wfU_app a1 d1, by omega, d3, by rw [uts_app, List.length_append]; omega, m3, c3, step _ e4, d5, ?_⟩
          rw [List.append_assoc] at d6
          exact a5'.trans d6 (by simp [nmB, uts_app, l2_len]; omega)
theorem c68 {i : Int} {m : Mem} {xs : List Int} (hd : 7 ≤ d) (hq : q = 34 ∨ q = 39) (ok : OK m) (hI : RI m) (h : TX m T tp e i t) (hp : pk t e i = q) (hR : RW m r xs c) (hL : (xs.length : Int) + 3 * (e - i) ≤ 5980) :
    (∀ us j, sS t e q (i + 1) = .inr (us, j) → wfU us ∧ i + 1 < j ∧ j ≤ e ∧ ((uts us).length : Int) ≤ 3 * (j - i - 1) ∧ ∃ m' c', cl d 68 [pR T, pR r, pI q] m = some (.inl none, m') ∧ TX m' T tp e j t ∧ RG r m c (xs ++ nmB us) m' c') ∧
    (∀ p, sS t e q (i + 1) = .inl p → ∃ m', cl d 68 [pR T, pR r, pI q] m = some (.inr 204, m') ∧ BR T r m c p m') := by
  have hie : i < e := pkf_lt (t := t) (by omega)
  have hT := h.1
  have hr8 := hR.1
  have hs := hR.2.2.2.1
  have hbi := h.2.2.2.2.2.1
  obtain ⟨m1, c1, e1, g1⟩ := c130 (d := d - 1) (b := 0) (by omega) ok hI hR (by omega)
  have ok1 := ok.fr (cl_FRM e1)
  obtain ⟨m2, c2, e2, g2⟩ := c130 (d := d - 1) (b := 0) (by omega) ok1 g1.2.1.1 g1.1 (by simp; omega)
  have ok2 := ok1.fr (cl_FRM e2)
  have gg := g1.trans g2 (by simp)
  have hx2 := (h.fr (cl_FRM e1) ok.1 (by rfl)).fr (cl_FRM e2) ok1.1 (by rfl)
  have e0 : xs ++ [w8 0] ++ [w8 0] = xs ++ 0 :: 0 :: uts [] := by rw [uts_nil]; simp [show w8 0 = 0 from rfl]
  rw [e0] at gg
  have hT2 := hx2.1
  have e24 : vl m2 T 2 = i := hx2.2.2.2.1
  have g3 : RG r m2 c2 (xs ++ 0 :: 0 :: uts []) (mst m2 T 2 (i + 1)) c2 := RG.atR gg.1 hT2 gg.2.1.1
  have hx3 := hx2.at (j := i + 1) (by omega) (by omega)
  have gg3 := gg.trans g3 (by simp)
  have hl := c68_l (r := r) (e := e) hd hq (e - (i + 1)).toNat (i + 1) (mst m2 T 2 (i + 1)) c2 xs [] (by omega) ok2 g3.2.1.1 hx3 g3.1 (by simp [uts_nil]; omega)
  have step : ∀ Q, rn d 68 25 [pR T, pR r, pI q, pI xs.length] [] (mst m2 T 2 (i + 1)) = some Q → cl d 68 [pR T, pR r, pI q] m = some Q := by
    intro Q hQ
    refine q68 (by omega) ok.1 _ ?_
    simp (disch := first | assumption | omega) only [↓nm_eq, ↓gd_m1, ↓gd_m2, ↓gd_of, ↓bV_eq e1, ↓bV_eq e2, hs, e24, w32_of]
    exact hQ
  refine ⟨fun us j hE => ?_, fun p hp => ?_⟩
  · obtain ⟨d1, d2, d3, d4, m3, c3, e4, d5, d6⟩ := hl.1 us j hE
    refine ⟨d1, by omega, d3, by omega, m3, c3, step _ e4, d5, ?_⟩
    rw [List.nil_append] at d6
    exact gg3.trans d6 (by simp [nmB, l2_len, uts_nil])
  · obtain ⟨m3, e4, hb⟩ := hl.2 p hp
    exact ⟨m3, step _ e4, hb.pre gg3 (by simp [uts_nil]; omega)⟩
end
