/-! printing numbers and strings -/
set_option maxRecDepth 100000
set_option maxHeartbeats 4000000
def kd : Nat → Int → Nat
  | 0, _ => 0
  | n + 1, u => if u < 10 then 0 else kd n (u / 10) + 1
def dl : Nat → Int → List Int
  | 0, u => [48 + u % 10]
  | k + 1, u => (48 + u / ((10 ^ (k + 1) : Nat) : Int) % 10) :: dl k u
/-- a number in digits -/
def prN (v : Int) : List Int := if v < 0 then 45 :: dl (kd 17 (-v)) (-v) else dl (kd 17 v) v
def hx (x : Int) : Int := if x < 10 then 48 + x else 87 + x
/-- a unit within quotes -/
def prC (q u : Int) : List Int := if u = q ∨ u = 92 then [92, u] else if u = 8 then [92, 98] else if u = 9 then [92, 116] else if u = 10 then [92, 110] else if u = 12 then [92, 102] else if u = 13 then [92, 114] else if u < 32 ∨ 126 < u then [92, 117, hx (u / 4096 % 16), hx (u / 256 % 16), hx (u / 16 % 16), hx (u % 16)] else [u]
def prS (q : Int) (us : List Int) : List Int := q :: (us.flatMap (prC q) ++ [q])
section
variable {d : Nat} {m : Mem} {s cap r c : Int} {ys xs : List Int}
theorem c55_50 {a1 : Int} (hd : 2 ≤ d) : ∀ (k : Nat) (u : Int) (m : Mem) (ys : List Int), k ≤ 16 → 0 ≤ u → u ≤ 9007199254740992 → OK m → SI m → SK m s ys cap → PRC (rn d 55 50 [pR s, pL a1, pU, pL u, pU, pL ((10 ^ k : Nat) : Int), pU] [] m) s m ys cap (dl k u) := by
  intro k
  induction k with
  | zero =>
    intro u m ys hk h0 h1 ok hI h
    have hp := c54 (d := d - 1) (b := 48 + u % 10) ok hI h
    rw [w8_of (by omega) (by omega)] at hp
    have := hp.bind (f := fun m1 => rn d 55 50 [pR s, pL a1, pU, pL u, pU, pL 0, pU] [] m1) (z2 := []) (fun m1 g1 => (PRC.done g1.1 g1.2.1.1).imp (fun q hq => q55_50 (by omega) (ok.fr g1.2.2.1).1 _ (by rw [if_neg (by decide)]; exact hq)))
    refine this.imp (fun q hq => q55_50 (by omega) ok.1 _ ?_)
    have e1 : u.tdiv ((10 ^ 0 : Nat) : Int) = u := by simp
    have e2 : u.tdiv 10 = u / 10 := Int.tdiv_eq_ediv_of_nonneg h0
    rw [if_pos (by decide), gd_of (by decide), nm_eq, gd_of h.1, e1, w64_of (z := u) (by omega) (by omega), e2, w64_of (z := u / 10) (by omega) (by omega), w64_of (z := u - u / 10 * 10) (by omega) (by omega), w64_of (by omega) (by omega), w32_of (by omega) (by omega), show 48 + (u - u / 10 * 10) = 48 + u % 10 by omega, show w64 (((10 ^ 0 : Nat) : Int).tdiv 10) = 0 by decide]
    exact hq
  | succ k ih =>
    intro u m ys hk h0 h1 ok hI h
    have hp := c54 (d := d - 1) (b := 48 + u / ((10 ^ (k + 1) : Nat) : Int) % 10) ok hI h
    rw [w8_of (by omega) (by omega)] at hp
    have := hp.bind (f := fun m1 => rn d 55 50 [pR s, pL a1, pU, pL u, pU, pL ((10 ^ k : Nat) : Int), pU] [] m1) (z2 := dl k u) (fun m1 g1 => ih u m1 _ (by omega) h0 h1 (ok.fr g1.2.2.1) g1.2.1.1 g1.1)
    refine this.imp (fun q hq => q55_50 (by omega) ok.1 _ ?_)
    have hpp : 0 < 10 ^ k := Nat.pow_pos (by decide)
    have hpl : 10 ^ (k + 1) ≤ 10 ^ 16 := Nat.pow_le_pow_right (by decide) (by omega)
    have hps : 10 ^ (k + 1) = 10 ^ k * 10 := Nat.pow_succ ..
    generalize hP : 10 ^ (k + 1) = P at *
    have e1 : u.tdiv (P : Int) = u / (P : Int) := Int.tdiv_eq_ediv_of_nonneg h0
    have b1 : 0 ≤ u / (P : Int) := Int.ediv_nonneg h0 (by omega)
    have b2 : u / (P : Int) ≤ u := Int.ediv_le_self _ h0
    generalize u / (P : Int) = w at *
    have e2 : w.tdiv 10 = w / 10 := Int.tdiv_eq_ediv_of_nonneg b1
    have e3 : ((P : Int)).tdiv 10 = ((10 ^ k : Nat) : Int) := by rw [Int.tdiv_eq_ediv_of_nonneg (by omega)]; omega
    rw [if_pos (by omega), gd_of (by omega), nm_eq, gd_of h.1, e1, w64_of (z := w) (by omega) (by omega), e2, w64_of (z := w / 10) (by omega) (by omega), w64_of (z := w - w / 10 * 10) (by omega) (by omega), w64_of (by omega) (by omega), w32_of (by omega) (by omega), show 48 + (w - w / 10 * 10) = 48 + w % 10 by omega, e3, w64_of (by omega) (by omega)]
    exact hq
theorem c55_28 {a1 : Int} (hz : TZ m) : ∀ (n k : Nat) (u : Int), 0 ≤ u → u ≤ 9007199254740992 → 17 ≤ n + k → k ≤ 16 → (k = 0 ∨ ((10 ^ k : Nat) : Int) ≤ u) → ∀ Q, rn d 55 50 [pR s, pL a1, pU, pL u, pU, pL ((10 ^ (k + kd n (u / ((10 ^ k : Nat) : Int))) : Nat) : Int), pU] [] m = some Q → rn d 55 28 [pR s, pL a1, pU, pL u, pU, pL ((10 ^ k : Nat) : Int), pU] [] m = some Q := by
  intro n
  induction n with
  | zero => intro k u h0 h1 hn hk; omega
  | succ n ih =>
    intro k u h0 h1 hn hk hku Q hQ
    have hpp : 0 < 10 ^ k := Nat.pow_pos (by decide)
    have hpl : 10 ^ k ≤ 10 ^ 16 := Nat.pow_le_pow_right (by decide) hk
    have e1 : u.tdiv ((10 ^ k : Nat) : Int) = u / ((10 ^ k : Nat) : Int) := Int.tdiv_eq_ediv_of_nonneg h0
    have b1 : 0 ≤ u / ((10 ^ k : Nat) : Int) := Int.ediv_nonneg h0 (by omega)
    have b2 : u / ((10 ^ k : Nat) : Int) ≤ u := Int.ediv_le_self _ h0
    refine q55_28 hz _ ?_
    rw [gd_of (by omega), e1, w64_of (by omega) (by omega)]
    unfold kd at hQ
    by_cases hlt : u / ((10 ^ k : Nat) : Int) < 10
    · rw [if_pos hlt, Nat.add_zero] at hQ
      rw [if_neg (by omega)]; exact hQ
    · rw [if_neg hlt] at hQ
      rw [if_pos (by omega)]
      have hps : 10 ^ (k + 1) = 10 ^ k * 10 := Nat.pow_succ ..
      have hge : ((10 ^ (k + 1) : Nat) : Int) ≤ u := by
        have := Int.ediv_mul_le u (b := ((10 ^ k : Nat) : Int)) (by omega)
        have h3 : 10 * ((10 ^ k : Nat) : Int) ≤ u / ((10 ^ k : Nat) : Int) * ((10 ^ k : Nat) : Int) := Int.mul_le_mul_of_nonneg_right (by omega) (by omega)
        rw [hps]; omega
      have hk15 : k + 1 ≤ 16 := by
        rcases Nat.lt_or_ge 16 (k + 1) with hh | hh
        · have : 10 ^ 16 < 10 ^ (k + 1) := Nat.pow_lt_pow_right (by decide) hh
          omega
        · exact hh
      have e4 : u / ((10 ^ k : Nat) : Int) / 10 = u / ((10 ^ (k + 1) : Nat) : Int) := by
        rw [hps, Int.natCast_mul, Int.ediv_ediv_of_nonneg (by omega)]; rfl
      have := ih (k + 1) u h0 h1 (by omega) hk15 (Or.inr hge) Q (by rw [← e4, show k + 1 + kd n (u / ((10 ^ k : Nat) : Int) / 10) = k + (kd n (u / ((10 ^ k : Nat) : Int) / 10) + 1) by omega]; exact hQ)
      have e5 : w64 (((10 ^ k : Nat) : Int) * 10) = ((10 ^ (k + 1) : Nat) : Int) := by rw [hps, w64_of (by omega) (by omega)]; omega
      rw [e5]; exact this
theorem kd_le : ∀ (n : Nat) (u : Int), kd n u ≤ n := by
  intro n
  induction n with
  | zero => intro u; exact Nat.le_refl _
  | succ n ih => intro u; unfold kd; split
                 · omega
                 · have := ih (u / 10); omega
theorem kd_16 {u : Int} (h : u ≤ 9007199254740992) : kd 17 u ≤ 16 := by
  have aux : ∀ (n : Nat) (u : Int) (j : Nat), u < ((10 ^ (j + 1) : Nat) : Int) → kd n u ≤ j := by
    intro n
    induction n with
    | zero => intro u j _; unfold kd; omega
    | succ n ih =>
      intro u j hu
      unfold kd; split
      · omega
      · cases j with
        | zero => simp at hu; omega
        | succ j =>
          have := ih (u / 10) j (by rw [Nat.pow_succ] at hu; omega)
          omega
  exact aux 17 u 16 (by omega)
theorem c55 {v : Int} (hd : 3 ≤ d) (ok : OK m) (hI : SI m) (h : SK m s ys cap) (h0 : -9007199254740992 ≤ v) (h1 : v ≤ 9007199254740992) : PRC (cl d 55 [pR s, pL v] m) s m ys cap (prN v) := by
  have main : ∀ (m : Mem) (ys : List Int) (u : Int), 0 ≤ u → u ≤ 9007199254740992 → OK m → SI m → SK m s ys cap → PRC (rn d 55 28 [pR s, pL v, pU, pL u, pU, pL 1, pU] [] m) s m ys cap (dl (kd 17 u) u) := by
    intro m ys u u0 u1 ok hI h
    refine (c55_50 (d := d) (a1 := v) (by omega) (kd 17 u) u m ys (kd_16 u1) u0 u1 ok hI h).imp (fun q hq => ?_)
    have := c55_28 (d := d) (s := s) (a1 := v) ok.1 17 0 u u0 u1 (by omega) (by omega) (Or.inl rfl) q
    simp at this
    exact this (by simpa using hq)
  unfold prN
  by_cases hv : v < 0
  · rw [if_pos hv]
    have hp := c54 (d := d - 1) (b := 45) ok hI h
    have := hp.bind (f := fun m1 => rn d 55 12 [pR s, pL v, pU, pU, pU, pU, pU] [] m1) (z2 := dl (kd 17 (-v)) (-v)) (fun m1 g1 => (main m1 _ (-v) (by omega) (by omega) (ok.fr g1.2.2.1) g1.2.1.1 g1.1).imp (fun q hq => q55_12 (ok.fr g1.2.2.1).1 _ (by rw [if_pos hv, w64_of (by omega) (by omega)]; exact hq)))
    refine (this.cast (by rfl)).imp (fun q hq => q55 (by omega) ok.1 _ ?_)
    rw [if_pos hv, gd_of h.1]; exact hq
  · rw [if_neg hv]
    refine (main m ys v (by omega) h1 ok hI h).imp (fun q hq => q55 (by omega) ok.1 _ ?_)
    rw [if_neg hv]
    refine q55_12 ok.1 _ ?_
    rw [if_neg hv]; exact hq
theorem c57 {u : Int} (hz : TZ m) : cl d 57 [pI u] m = some (.inl (some (pI (if u = 8 then 98 else if u = 9 then 116 else if u = 10 then 110 else if u = 12 then 102 else if u = 13 then 114 else 0))), m) := by
  refine q57 hz _ ?_
  by_cases h1 : u = 8
  · rw [if_pos h1, if_pos h1]
  · rw [if_neg h1, if_neg h1]
    by_cases h2 : u = 9
    · rw [if_pos h2, if_pos h2]
    · rw [if_neg h2, if_neg h2]
      by_cases h3 : u = 10
      · rw [if_pos h3, if_pos h3]
      · rw [if_neg h3, if_neg h3]
        by_cases h4 : u = 12
        · rw [if_pos h4, if_pos h4]
        · rw [if_neg h4, if_neg h4]
          by_cases h5 : u = 13
          · rw [if_pos h5, if_pos h5]
          · rw [if_neg h5, if_neg h5]
            split <;> rfl
theorem c58_s {u : Int} (hd : 2 ≤ d) (j : Nat) (hj : j ≤ 12) (k : Int) (hk : k = (j : Int) - 4) {zs : List Int} (hu : 0 ≤ u ∧ u < 65536) (ok : OK m) (hI : SI m) (h : SK m s ys cap) (z : PV) (hcz : cat z = 1) (hn : ∀ (m1 : Mem) (ys1 : List Int) (z1 : PV), cat z1 = 1 → OK m1 → SI m1 → SK m1 s ys1 cap → PRC (rn d 58 15 [pR s, pI u, pI k, z1] [] m1) s m1 ys1 cap zs) : PRC (rn d 58 15 [pR s, pI u, pI (j : Int), z] [] m) s m ys cap (hx (u / ((2 ^ j : Nat) : Int) % 16) :: zs) := by
  have hs : pAnd (pShr u (j : Int)) 15 = u / ((2 ^ j : Nat) : Int) % 16 := by rw [pShr_div j (by omega) ⟨by omega, by omega⟩, pAnd_15]
  generalize hw : u / ((2 ^ j : Nat) : Int) % 16 = w at *
  have hw16 : 0 ≤ w ∧ w < 16 := by omega
  have hp := c54 (d := d - 1) (b := hx w) ok hI h
  have hx8 : w8 (hx w) = hx w := by unfold hx; split <;> exact w8_of (by omega) (by omega)
  rw [hx8] at hp
  have := hp.bind (f := fun m1 => rn d 58 15 [pR s, pI u, pI k, pI w] [] m1) (z2 := zs) (fun m1 g1 => hn m1 _ (pI w) rfl (ok.fr g1.2.2.1) g1.2.1.1 g1.1)
  refine (this.cast (by rfl)).imp (fun q hq => q58_15 (by omega) ok.1 hcz _ ?_)
  have ek : w32 ((j : Int) + (-4)) = k := by rw [w32_of (by omega) (by omega)]; omega
  rw [if_neg (by omega), nm_eq, hs, ek]
  unfold hx at hq
  by_cases h10 : w < 10
  · rw [if_pos h10] at hq
    rw [if_pos h10, gd_of h.1, w32_of (by omega) (by omega)]; exact hq
  · rw [if_neg h10] at hq
    rw [if_neg h10, gd_of h.1, w32_of (z := 97 + w) (by omega) (by omega), w32_of (by omega) (by omega), show 97 + w - 10 = 87 + w by omega]; exact hq
theorem c58 {u : Int} (hd : 3 ≤ d) (hu : 0 ≤ u ∧ u < 65536) (ok : OK m) (hI : SI m) (h : SK m s ys cap) : PRC (cl d 58 [pR s, pI u] m) s m ys cap [92, 117, hx (u / 4096 % 16), hx (u / 256 % 16), hx (u / 16 % 16), hx (u % 16)] := by
  have l0 : ∀ (m : Mem) (ys : List Int) (z : PV), cat z = 1 → OK m → SI m → SK m s ys cap → PRC (rn d 58 15 [pR s, pI u, pI (-4), z] [] m) s m ys cap [] := fun m ys z hz ok hI h => (PRC.done h hI).imp (fun q hq => q58_15 (by omega) ok.1 hz _ (by rw [if_pos (by decide)]; exact hq))
  have l1 : ∀ (m : Mem) (ys : List Int) (z : PV), cat z = 1 → OK m → SI m → SK m s ys cap → PRC (rn d 58 15 [pR s, pI u, pI 0, z] [] m) s m ys cap [hx (u % 16)] := fun m ys z hz ok hI h => (c58_s (by omega) 0 (by omega) (-4) (by decide) hu ok hI h z hz l0).cast (by simp)
  have l2 : ∀ (m : Mem) (ys : List Int) (z : PV), cat z = 1 → OK m → SI m → SK m s ys cap → PRC (rn d 58 15 [pR s, pI u, pI 4, z] [] m) s m ys cap [hx (u / 16 % 16), hx (u % 16)] := fun m ys z hz ok hI h => (c58_s (by omega) 4 (by omega) 0 (by decide) hu ok hI h z hz l1).cast (by simp)
  have l3 : ∀ (m : Mem) (ys : List Int) (z : PV), cat z = 1 → OK m → SI m → SK m s ys cap → PRC (rn d 58 15 [pR s, pI u, pI 8, z] [] m) s m ys cap [hx (u / 256 % 16), hx (u / 16 % 16), hx (u % 16)] := fun m ys z hz ok hI h => (c58_s (by omega) 8 (by omega) 4 (by decide) hu ok hI h z hz l2).cast (by simp)
  have l4 : ∀ (m : Mem) (ys : List Int) (z : PV), cat z = 1 → OK m → SI m → SK m s ys cap → PRC (rn d 58 15 [pR s, pI u, pI 12, z] [] m) s m ys cap [hx (u / 4096 % 16), hx (u / 256 % 16), hx (u / 16 % 16), hx (u % 16)] := fun m ys z hz ok hI h => (c58_s (by omega) 12 (by omega) 8 (by decide) hu ok hI h z hz l3).cast (by simp)
  have h1 := c54 (d := d - 1) (b := 92) ok hI h
  have := h1.bind (f := fun m1 => bV (cl (d - 1) 54 [pR s, pI 117] m1) fun m2 => rn d 58 15 [pR s, pI u, pI 12, pU] [] m2) (z2 := [w8 117] ++ [hx (u / 4096 % 16), hx (u / 256 % 16), hx (u / 16 % 16), hx (u % 16)]) (fun m1 g1 => (c54 (d := d - 1) (b := 117) (ok.fr g1.2.2.1) g1.2.1.1 g1.1).bind (fun m2 g2 => l4 m2 _ pU rfl ((ok.fr g1.2.2.1).fr g2.2.2.1) g2.2.1.1 g2.1))
  refine (this.cast (by rfl)).imp (fun q hq => q58 (by omega) ok.1 _ ?_)
  rw [gd_of h.1]; exact hq
end
