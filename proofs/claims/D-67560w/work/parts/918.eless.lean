/-! evaluation by the component: what is less -/
set_option maxRecDepth 100000
set_option maxHeartbeats 4000000
section
variable {d : Nat} {m : Mem} {a b r r2 c c2 : Int} {xs ys : List Int} {v u : VR}
theorem uts_pos {u : Int} {us : List Int} : 1 ≤ (uts (u :: us)).length := by
  rw [uts_cons, List.length_append]; have := utf_len u; omega
theorem c335_120 {a4 a5 : Int} (hd : 3 ≤ d) (hz : TZ m) (h : tg m a = 27) (h' : tg m b = 27) (h1 : vl m a 1 = r) (h1' : vl m b 1 = r2) (hR : RW m r xs c) (hR2 : RW m r2 ys c2) (hx : xs.length < 60000) (hy : ys.length < 60000) : ∀ (N : Nat) (us vs : List Int) (i j : Int) (z6 z7 : PV), cat z6 = 1 → cat z7 = 1 → us.length ≤ N → At xs i (uts us) → At ys j (uts vs) → wfU us → wfU vs → sur us → sur vs → i + (uts us).length = a4 → j + (uts vs).length = a5 → rn d 335 120 [pR a, pR b, pI i, pI j, pI a4, pI a5, z6, z7] [] m = some (.inl (some (pI (b2i (decide (orC (chU us) (chU vs) < 0))))), m) := by
  intro N
  induction N with
  | zero =>
    intro us vs i j z6 z7 hz6 hz7 hN hA hB hw hw' hs hs' he he'
    have : us = [] := List.length_eq_zero_iff.mp (by omega)
    subst this
    have hi : i = a4 := by simp [uts] at he; omega
    refine q335_120 (by omega) hz hz6 hz7 _ ?_
    rw [if_neg (by omega)]
    refine q335_197 hz hz6 hz7 _ ?_
    rw [if_pos hi]
    cases vs with
    | nil => rw [if_neg (by simp [uts] at he'; omega)]; rfl
    | cons w vs =>
      obtain ⟨ch, rest, e1, -⟩ := chU_cons hw' hs'
      have := uts_pos (u := w) (us := vs)
      rw [if_pos (by omega), e1]; rfl
  | succ N ih =>
    intro us vs i j z6 z7 hz6 hz7 hN hA hB hw hw' hs hs' he he'
    cases us with
    | nil => exact ih [] vs i j z6 z7 hz6 hz7 (by simp) hA hB hw hw' hs hs' he he'
    | cons w us =>
      obtain ⟨ch, rest, e1, e2, e3, e4⟩ := chU_cons hw hs
      have hp := uts_pos (u := w) (us := us)
      refine q335_120 (by omega) hz hz6 hz7 _ ?_
      rw [if_pos (by omega)]
      cases vs with
      | nil =>
        rw [if_neg (by simp [uts] at he'; omega)]
        refine q335_197 hz hz6 hz7 _ ?_
        rw [if_neg (by omega), e1]; rfl
      | cons w2 vs =>
        obtain ⟨ch', rest', g1, g2, g3, g4⟩ := chU_cons hw' hs'
        have hp' := uts_pos (u := w2) (us := vs)
        obtain ⟨q, f1, f2, f3, f4, f5, f6, f7⟩ := c331 (d := d - 1) (by omega) hz hR hA hw hx e4
        obtain ⟨q', k1, k2, k3, k4, k5, k6, k7⟩ := c331 (d := d - 1) (by omega) hz hR2 hB hw' hy g4
        have a0 := hA.1
        have a1 := hA.2.1
        have b0 := hB.1
        have b1 := hB.2.1
        rw [if_pos (by omega), gd_of h, h1, bI_eq f2, gd_of h', h1', bI_eq k2, e1, g1]
        unfold orC
        by_cases z : ch = ch'
        · rw [if_pos z, if_pos z, h1, bI_eq f1, h1', bI_eq k1, (w32_of (by omega) (by omega) : w32 (i + q) = i + q), (w32_of (by omega) (by omega) : w32 (j + q') = j + q')]
          exact ih rest rest' (i + q) (j + q') (pI ch) (pI ch') (by rfl) (by rfl) (by simp only [List.length_cons] at hN; omega) f5 k5 e3 g3 e2 g2 (by omega) (by omega)
        · rw [if_neg z, if_neg z]
          by_cases y : ch < ch'
          · rw [if_pos y, if_pos y]; rfl
          · rw [if_neg y, if_neg y]; rfl
theorem vLt_0 (h : ¬ (vIs v = true ∧ vIs u = true)) (hv : ∀ d l, v = some (d, l) → ∀ d' l', u = some (d', l') → ¬ (d.1 = 4 ∧ d'.1 = 4)) : vLt v u = false := by
  cases v with
  | none => rfl
  | some x =>
    cases u with
    | none => rfl
    | some y =>
      obtain ⟨dd, l⟩ := x
      obtain ⟨dd', l'⟩ := y
      show (if dd.1 = 3 ∧ dd'.1 = 3 then _ else if dd.1 = 4 ∧ dd'.1 = 4 then _ else false) = false
      rw [if_neg (fun q => h ⟨by show (dd.1 == 3) = true; rw [q.1]; rfl, by show (dd'.1 == 3) = true; rw [q.2]; rfl⟩), if_neg (hv dd l rfl dd' l' rfl)]
theorem str_at {dd : ND} {l : Fo} {p : Int} (hA : At xs p (enV dd l)) (h4 : dd.1 = 4) : At xs (p + 3) (uts dd.2.2.1) ∧ (enV dd l).length = (uts dd.2.2.1).length + 3 := by
  have en : enV dd l = 4 :: nmB dd.2.2.1 := by unfold enV enD; rw [if_neg (by omega), if_neg (by omega), if_pos h4]
  rw [en] at hA ⊢
  have b6 := hA.cons.2
  unfold nmB at b6
  obtain ⟨b7, b8⟩ := b6.app
  rw [l2_len] at b8
  exact ⟨by rw [show p + 3 = p + 1 + ((2 : Nat) : Int) by omega]; exact b8, by rw [List.length_cons, nmB_len]; omega⟩
/-- results that aren't two numbers -/
theorem c335_32 (hd : 4 ≤ d) (hz : TZ m) (h : RS m a v) (h' : RS m b u) (hn : ¬ (vIs v = true ∧ vIs u = true)) : rn d 335 32 [pR a, pR b, pU, pU, pU, pU, pU, pU] [] m = some (.inl (some (pI (b2i (vLt v u)))), m) := by
  refine q335_32 (by omega) hz _ ?_
  rw [gd_of h.1]
  cases v with
  | none =>
    have h0 : vl m a 0 = 0 := h.2
    rw [if_neg (by omega), vLt_0 hn (fun d l q => (by cases q))]; rfl
  | some x =>
    obtain ⟨dd, l⟩ := x
    rcases h.2 with ⟨b1, xs, c, b2, b3, b4, b5⟩ | ⟨b1, b2, b3⟩
    · rw [if_pos b1, gd_of h'.1]
      cases u with
      | none =>
        have h0 : vl m b 0 = 0 := h'.2
        rw [if_neg (by omega), vLt_0 hn (fun d l q d' l' q' => (by cases q'))]; rfl
      | some y =>
        obtain ⟨dd', l'⟩ := y
        rcases h'.2 with ⟨g1, ys, c2, g2, g3, g4, g5⟩ | ⟨g1, g2, g3⟩
        · have hp := enV_pos dd l
          have hp' := enV_pos dd' l'
          have hr := b3.2.1
          have hr0 := b3.1
          have hr' := g3.2.1
          have hr0' := g3.1
          have e139 := c139 (d := d - 1) hz b2 b3.1 (by omega)
          rw [gi_kind b3] at e139
          have e139' := c139 (d := d - 1) hz g2 g3.1 (by omega)
          rw [gi_kind g3] at e139'
          rw [if_pos g1, nm_eq, gd_of b2.1, bI_eq e139]
          by_cases z : dd.1 = 4
          · rw [if_pos (by omega), nm_eq, gd_of g2.1, bI_eq e139']
            by_cases z' : dd'.1 = 4
            · have e137 := c137 (d := d - 1) (by omega) hz b2 b3 b4.1 (by omega)
              have e137' := c137 (d := d - 1) (by omega) hz g2 g3 g4.1 (by omega)
              obtain ⟨s1, s2⟩ := str_at b3 z
              obtain ⟨s1', s2'⟩ := str_at g3 z'
              rw [if_pos (by omega), nm_eq, nm_eq, gd_of b2.1, bI_eq e137, nm_eq, gd_of g2.1, bI_eq e137', (w32_of (by omega) (by omega) : w32 (vl m a 2 + 3) = vl m a 2 + 3), (w32_of (by omega) (by omega) : w32 (vl m b 2 + 3) = vl m b 2 + 3)]
              have ev : vLt (some (dd, l)) (some (dd', l')) = decide (orC (chU dd.2.2.1) (chU dd'.2.2.1) < 0) := by
                show (if dd.1 = 3 ∧ dd'.1 = 3 then _ else if dd.1 = 4 ∧ dd'.1 = 4 then _ else false) = _
                rw [if_neg (by omega), if_pos ⟨z, z'⟩]
              rw [ev]
              exact c335_120 (by omega) hz h.1 h'.1 rfl rfl b2 g2 b5 g5 _ _ _ _ _ pU pU (by rfl) (by rfl) (Nat.le_refl _) s1 s1' b4.1.2.2.2.1 g4.1.2.2.2.1 b4.2.1 g4.2.1 (by omega) (by omega)
            · rw [if_neg (by omega), vLt_0 hn (fun d l q d' l' q' => by cases q; cases q'; omega)]; rfl
          · rw [if_neg (by omega), vLt_0 hn (fun d l q d' l' q' => by cases q; cases q'; omega)]; rfl
        · rw [if_neg (by omega), vLt_0 hn (fun d l q d' l' q' => by cases q; cases q'; omega)]; rfl
    · rw [if_neg (by omega), vLt_0 hn (fun d l q d' l' q' => by cases q; omega)]; rfl
/-- whether one result is less -/
theorem c335 (hd : 5 ≤ d) (hz : TZ m) (h : RS m a v) (h' : RS m b u) : cl d 335 [pR a, pR b] m = some (.inl (some (pI (b2i (vLt v u)))), m) := by
  refine q335 (by omega) hz _ ?_
  have e1 := c333 (d := d - 1) (by omega) hz h
  have e2 := c333 (d := d - 1) (by omega) hz h'
  rw [gd_of h.1, bI_eq e1]
  by_cases z : vIs v = true
  · rw [z, if_neg (by decide), gd_of h'.1, bI_eq e2]
    by_cases z' : vIs u = true
    · rw [z', if_neg (by decide)]
      cases v with
      | none => cases z
      | some x =>
        cases u with
        | none => cases z'
        | some y =>
          obtain ⟨dd, l⟩ := x
          obtain ⟨dd', l'⟩ := y
          have k1 : dd.1 = 3 := by have : (dd.1 == 3) = true := z; simpa using this
          have k2 : dd'.1 = 3 := by have : (dd'.1 == 3) = true := z'; simpa using this
          have e3 := c334 (d := d - 1) (by omega) hz h k1
          have e4 := c334 (d := d - 1) (by omega) hz h' k2
          have ev : vLt (some (dd, l)) (some (dd', l')) = decide (dd.2.1 < dd'.2.1) := by
            show (if dd.1 = 3 ∧ dd'.1 = 3 then _ else if dd.1 = 4 ∧ dd'.1 = 4 then _ else false) = _
            rw [if_pos ⟨k1, k2⟩]
          rw [bL_eq e3, bL_eq e4, ev]
          by_cases q : dd.2.1 < dd'.2.1
          · rw [if_pos q, decide_eq_true q]; rfl
          · rw [if_neg q, decide_eq_false q]; rfl
    · have z0 : vIs u = false := by simpa using z'
      rw [z0, if_pos (by rfl)]
      exact c335_32 (by omega) hz h h' (fun q => z' q.2)
  · have z0 : vIs v = false := by simpa using z
    rw [z0, if_pos (by rfl)]
    exact c335_32 (by omega) hz h h' (fun q => z q.1)
end
