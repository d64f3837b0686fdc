/-! the disk: a torn header's sum is wrong -/
set_option maxRecDepth 100000
set_option maxHeartbeats 4000000
theorem w32_31 {a b : Int} (ha : -2147483648 ≤ a ∧ a < 2147483648) (hb : -2147483648 ≤ b ∧ b < 2147483648) (h : w32 (w32 (31 * a) + 0) = w32 (w32 (31 * b) + 0)) : a = b := by
  unfold w32 at h
  omega
theorem sumN_inj {f g : Int → Int} {k : Nat} (hf : ∀ j : Int, (k : Int) ≤ j → f j = 0) (hg : ∀ j : Int, (k : Int) ≤ j → g j = 0) : ∀ n : Nat, k ≤ n → sumN f n = sumN g n → sumN f k = sumN g k := by
  intro n
  induction n with
  | zero => intro hk h; have : k = 0 := by omega
            subst this; exact h
  | succ n ih =>
    intro hk h
    rcases Nat.lt_or_ge n k with q | q
    · have : k = n + 1 := by omega
      subst this; exact h
    · refine ih q (w32_31 (sumN_rng f n) (sumN_rng g n) ?_)
      have h' : w32 (w32 (31 * sumN f n) + f n) = w32 (w32 (31 * sumN g n) + g n) := h
      rw [hf n (by omega), hg n (by omega)] at h'
      exact h'
/-- the four bytes give the sum -/
theorem seal_inj {a b : Int} (ha : -2147483648 ≤ a ∧ a < 2147483648) (hb : -2147483648 ≤ b ∧ b < 2147483648) (h : ∀ k : Int, 0 ≤ k → k < 4 → w8 (pShr a (24 - 8 * k)) = w8 (pShr b (24 - 8 * k))) : a = b := by
  have s : ∀ (x : Int), -2147483648 ≤ x ∧ x < 2147483648 → pShr x 24 = x / 16777216 ∧ pShr x 16 = x / 65536 ∧ pShr x 8 = x / 256 ∧ pShr x 0 = x / 1 := fun x hx => ⟨pShr_div 24 (by decide) hx, pShr_div 16 (by decide) hx, pShr_div 8 (by decide) hx, pShr_div 0 (by decide) hx⟩
  obtain ⟨a1, a2, a3, a4⟩ := s a ha
  obtain ⟨b1, b2, b3, b4⟩ := s b hb
  have h0 : w8 (pShr a 24) = w8 (pShr b 24) := h 0 (by decide) (by decide)
  have h1 : w8 (pShr a 16) = w8 (pShr b 16) := h 1 (by decide) (by decide)
  have h2 : w8 (pShr a 8) = w8 (pShr b 8) := h 2 (by decide) (by decide)
  have h3 : w8 (pShr a 0) = w8 (pShr b 0) := h 3 (by decide) (by decide)
  rw [a1, b1] at h0
  rw [a2, b2] at h1
  rw [a3, b3] at h2
  rw [a4, b4] at h3
  unfold w8 at h0 h1 h2 h3
  omega
theorem hb_zero {s r n j : Int} (h : 9 ≤ j) : hb s r n j = 0 := by
  unfold hb
  rw [if_neg (by omega), if_neg (by omega), if_neg (by omega), if_neg (by omega), if_neg (by omega), if_neg (by omega), if_neg (by omega)]
/-- the first nine bytes' sum, but for turns -/
theorem hb_sum9 {s r n : Int} (hs : 0 ≤ s ∧ s < 128) (hr : 0 ≤ r ∧ r < 1600) (hn : 0 ≤ n ∧ n ≤ 100) : ∃ q b : Int, sumN (hb s r n) 9 = 17 * 26439622160671 + 4 * 852891037441 + s * 923521 + (r / 256) * 29791 + b * 961 + n + 4294967296 * q ∧ -128 ≤ b ∧ b < 128 := by
  have e : ∀ k : Nat, sumN (hb s r n) (k + 1) = w32 (w32 (31 * sumN (hb s r n) k) + hb s r n k) := fun k => rfl
  have w : ∀ z : Int, ∃ q : Int, w32 z = z + 4294967296 * q := fun z => ⟨-((z + 2147483648) / 4294967296), by unfold w32; omega⟩
  have st : ∀ a v : Int, ∃ q : Int, w32 (w32 (31 * a) + v) = 31 * a + v + 4294967296 * q := fun a v => by
    obtain ⟨q1, h1⟩ := w (31 * a)
    obtain ⟨q2, h2⟩ := w (w32 (31 * a) + v)
    exact ⟨q1 + q2, by rw [h2, h1]; omega⟩
  have b0 : hb s r n ((0 : Nat) : Int) = 4 := rfl
  have b1 : hb s r n ((1 : Nat) : Int) = 0 := rfl
  have b2 : hb s r n ((2 : Nat) : Int) = 0 := rfl
  have b3 : hb s r n ((3 : Nat) : Int) = 0 := by
    show w8 (s / 256) = 0
    rw [show s / 256 = 0 by omega]; decide
  have b4 : hb s r n ((4 : Nat) : Int) = s := by
    show w8 s = s
    exact w8_of (by omega) (by omega)
  have b5 : hb s r n ((5 : Nat) : Int) = r / 256 := by
    show w8 (r / 256) = r / 256
    exact w8_of (by omega) (by omega)
  have b6 : hb s r n ((6 : Nat) : Int) = w8 r := rfl
  have b7 : hb s r n ((7 : Nat) : Int) = 0 := by
    show w8 (n / 256) = 0
    rw [show n / 256 = 0 by omega]; decide
  have b8 : hb s r n ((8 : Nat) : Int) = n := by
    show w8 n = n
    exact w8_of (by omega) (by omega)
  have s0 : sumN (hb s r n) 0 = 17 := rfl
  obtain ⟨q1, h1⟩ := st (sumN (hb s r n) 0) (hb s r n ((0 : Nat) : Int))
  obtain ⟨q2, h2⟩ := st (sumN (hb s r n) 1) (hb s r n ((1 : Nat) : Int))
  obtain ⟨q3, h3⟩ := st (sumN (hb s r n) 2) (hb s r n ((2 : Nat) : Int))
  obtain ⟨q4, h4⟩ := st (sumN (hb s r n) 3) (hb s r n ((3 : Nat) : Int))
  obtain ⟨q5, h5⟩ := st (sumN (hb s r n) 4) (hb s r n ((4 : Nat) : Int))
  obtain ⟨q6, h6⟩ := st (sumN (hb s r n) 5) (hb s r n ((5 : Nat) : Int))
  obtain ⟨q7, h7⟩ := st (sumN (hb s r n) 6) (hb s r n ((6 : Nat) : Int))
  obtain ⟨q8, h8⟩ := st (sumN (hb s r n) 7) (hb s r n ((7 : Nat) : Int))
  obtain ⟨q9, h9⟩ := st (sumN (hb s r n) 8) (hb s r n ((8 : Nat) : Int))
  rw [← e, b0, s0] at h1
  rw [← e, b1] at h2
  rw [← e, b2] at h3
  rw [← e, b3] at h4
  rw [← e, b4] at h5
  rw [← e, b5] at h6
  rw [← e, b6] at h7
  rw [← e, b7] at h8
  rw [← e, b8] at h9
  have hw : -128 ≤ w8 r ∧ w8 r < 128 := by unfold w8; omega
  refine ⟨q9 + 31 * q8 + 961 * q7 + 29791 * q6 + 923521 * q5 + 28629151 * q4 + 887503681 * q3 + 27512614111 * q2 + 852891037441 * q1, w8 r, ?_, hw⟩
  rw [show (8 : Nat) + 1 = 9 from rfl] at h9
  rw [show (7 : Nat) + 1 = 8 from rfl] at h8
  rw [show (6 : Nat) + 1 = 7 from rfl] at h7
  rw [show (5 : Nat) + 1 = 6 from rfl] at h6
  rw [show (4 : Nat) + 1 = 5 from rfl] at h5
  rw [show (3 : Nat) + 1 = 4 from rfl] at h4
  rw [show (2 : Nat) + 1 = 3 from rfl] at h3
  rw [show (1 : Nat) + 1 = 2 from rfl] at h2
  rw [show (0 : Nat) + 1 = 1 from rfl] at h1
  rw [h9, h8, h7, h6, h5, h4, h3, h2, h1]
  omega
/-- a torn header over the one before the last isn't right -/
theorem torn {f : Int → Int} {s r n r0 n0 : Int} (hs : 2 ≤ s ∧ s < 128) (hr : 0 ≤ r ∧ r < 1600) (hn : 0 ≤ n ∧ n ≤ 100) (hr0 : 0 ≤ r0 ∧ r0 < 1600) (hn0 : 0 ≤ n0 ∧ n0 ≤ 100) (hf : ∀ j : Int, 0 ≤ j → j < 732 → f j = hb s r n j) (ht : ∀ k : Int, 0 ≤ k → k < 4 → f (732 + k) = w8 (pShr (sumN (hb (s - 2) r0 n0) 732) (24 - 8 * k))) : ¬ SLD f := by
  intro hS
  have e1 : sumN f 732 = sumN (hb s r n) 732 := sumN_cg 732 fun j j0 j1 => (hf j j0 (by omega))
  have e2 : sumN (hb s r n) 732 = sumN (hb (s - 2) r0 n0) 732 := seal_inj (sumN_rng _ _) (sumN_rng _ _) fun k k0 k1 => by
    rw [← e1, ← hS k k0 k1, ht k k0 k1]
  have e3 := sumN_inj (k := 9) (fun j hj => hb_zero hj) (fun j hj => hb_zero hj) 732 (by decide) e2
  obtain ⟨q1, b1, h1, g1⟩ := hb_sum9 (s := s) (r := r) (n := n) (by omega) hr hn
  obtain ⟨q2, b2, h2, g2⟩ := hb_sum9 (s := s - 2) (r := r0) (n := n0) (by omega) hr0 hn0
  rw [h1, h2] at e3
  have hX : 1400000 ≤ 1847042 + 29791 * (r / 256) - 29791 * (r0 / 256) + 961 * b1 - 961 * b2 + n - n0 ∧ 1847042 + 29791 * (r / 256) - 29791 * (r0 / 256) + 961 * b1 - 961 * b2 + n - n0 ≤ 2300000 := by
    clear e3 h1 h2
    omega
  have e4 : 1847042 + 29791 * (r / 256) - 29791 * (r0 / 256) + 961 * b1 - 961 * b2 + n - n0 = 4294967296 * (q2 - q1) := by
    clear hX
    omega
  rw [e4] at hX
  clear e3 e4
  omega
/-- nor is one over a block that was never written -/
theorem torn0 {f : Int → Int} {r n : Int} (hr : 0 ≤ r ∧ r < 1600) (hn : 0 ≤ n ∧ n ≤ 100) (hf : ∀ j : Int, 0 ≤ j → j < 732 → f j = hb 2 r n j) (ht : ∀ k : Int, 0 ≤ k → k < 4 → f (732 + k) = 0) : ¬ SLD f := by
  intro hS
  have e1 : sumN f 732 = sumN (hb 2 r n) 732 := sumN_cg 732 fun j j0 j1 => (hf j j0 (by omega))
  have e2 : sumN (hb 2 r n) 732 = 0 := seal_inj (sumN_rng _ _) (by decide) fun k k0 k1 => by
    rw [← e1, ← hS k k0 k1, ht k k0 k1]
    have : pShr 0 (24 - 8 * k) = 0 := by
      have hk : k = 0 ∨ k = 1 ∨ k = 2 ∨ k = 3 := by omega
      rcases hk with rfl | rfl | rfl | rfl <;> decide
    rw [this]; rfl
  have dn : ∀ k : Nat, 9 ≤ k → sumN (hb 2 r n) k = 0 → sumN (hb 2 r n) 9 = 0 := by
    intro k
    induction k with
    | zero => intro h; omega
    | succ k ih =>
      intro h9 h
      rcases Nat.lt_or_ge k 9 with q | q
      · have : k = 8 := by omega
        subst this; exact h
      · have h' : w32 (w32 (31 * sumN (hb 2 r n) k) + hb 2 r n k) = 0 := h
        rw [hb_zero (by omega)] at h'
        exact ih q (w32_31 (sumN_rng _ _) (by decide) (by rw [h']; rfl))
  have e3 := dn 732 (by decide) e2
  obtain ⟨q1, b1, h1, g1⟩ := hb_sum9 (s := 2) (r := r) (n := n) (by omega) hr hn
  rw [h1] at e3
  have hX : -140000 ≤ 29791 * (r / 256) + 961 * b1 + n ∧ 29791 * (r / 256) + 961 * b1 + n ≤ 320000 := by
    clear e3 h1
    omega
  generalize hv : 29791 * (r / 256) + 961 * b1 + n = v at hX
  have e4 : v + 4294967296 * q1 = -452885142728213 := by
    clear hX
    omega
  clear e3 hv
  omega
