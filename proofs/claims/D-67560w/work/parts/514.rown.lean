/-! units and numbers as bytes -/
set_option maxRecDepth 100000
set_option maxHeartbeats 4000000
theorem pOr_comm (x y : Int) : pOr x y = pOr y x := by unfold pOr; rw [Int32.or_comm]
theorem pOr_192 {b : Int} (h : 0 ≤ b) (h' : b < 64) : pOr 192 b = 192 + b := pOr_add (a := 3) 6 (by decide) h (by simpa using h') (by simp; omega)
theorem pOr_128 {b : Int} (h : 0 ≤ b) (h' : b < 128) : pOr 128 b = 128 + b := pOr_add (a := 1) 7 (by decide) h (by simpa using h') (by simp; omega)
theorem pOr_224 {b : Int} (h : 0 ≤ b) (h' : b < 32) : pOr 224 b = 224 + b := pOr_add (a := 7) 5 (by decide) h (by simpa using h') (by simp; omega)
theorem pShr_6 {x : Int} (hx : pin x (-2147483648) 2147483648) : pShr x 6 = x / 64 := pShr_div 6 (by decide) hx
theorem pShr_12 {x : Int} (hx : pin x (-2147483648) 2147483648) : pShr x 12 = x / 4096 := pShr_div 12 (by decide) hx
theorem qUshr_7 {x : Int} (hx : 0 ≤ x) (hx2 : x < 9223372036854775808) : qUshr x 7 = x / 128 := qUshr_div 7 (by decide) hx hx2
theorem qUshr_1 {x : Int} (hx : 0 ≤ x) (hx2 : x < 9223372036854775808) : qUshr x 1 = x / 2 := qUshr_div 1 (by decide) hx hx2
theorem qShr_63 {x : Int} (hx : pin x (-9223372036854775808) 9223372036854775808) : qShr x 63 = x / 9223372036854775808 := qShr_div 63 (by decide) hx
theorem qShl_1 {x : Int} (h : -4611686018427387904 ≤ x) (h' : x < 4611686018427387904) : qShl x 1 = 2 * x := by
  have e : (Int64.ofInt x <<< ((Int32.ofInt ((1 : Nat) : Int)).toInt64 &&& 63)).toBitVec.toNat = (x % 18446744073709551616).toNat * 2 % 18446744073709551616 := by
    rw [Int64.toBitVec_shiftLeft]
    show ((Int64.ofInt x).toBitVec <<< (((Int32.ofInt ((1 : Nat) : Int)).toInt64 &&& 63).toBitVec.smod 64).toNat).toNat = _
    rw [sl64 1 (by decide), BitVec.toNat_shiftLeft, b64_nat, Nat.shiftLeft_eq]
  unfold qShl
  rw [← Int64.toInt_toBitVec, BitVec.toInt_eq_toNat_cond]
  have e' : (Int64.ofInt x <<< ((Int32.ofInt 1).toInt64 &&& 63)).toBitVec.toNat = (x % 18446744073709551616).toNat * 2 % 18446744073709551616 := e
  rw [e']
  simp only [Nat.reducePow]
  split <;> omega
/-- a unit's bytes -/
def utf (u : Int) : List Int := if u < 128 then [u] else if u < 2048 then [w8 (192 + u / 64), w8 (128 + u % 64)] else [w8 (224 + u / 4096), w8 (128 + u / 64 % 64), w8 (128 + u % 64)]
def uts (us : List Int) : List Int := us.flatMap utf
/-- a number in sevens -/
def vi : Nat → Int → List Int
  | 0, u => [w8 u]
  | n + 1, u => if u / 128 = 0 then [w8 u] else w8 (128 + u % 128) :: vi n (u / 128)
def zz (v : Int) : Int := if 0 ≤ v then 2 * v else -2 * v - 1
def unzz (u : Int) : Int := if u % 2 = 0 then u / 2 else -(u / 2) - 1
theorem unzz_zz (v : Int) : unzz (zz v) = v := by unfold zz; split <;> (unfold unzz; split <;> omega)
def nuB (v : Int) : List Int := vi 9 (zz v)
theorem utf_len (u : Int) : 1 ≤ (utf u).length ∧ (utf u).length ≤ 3 := by unfold utf; split <;> (try split) <;> simp
theorem vi_len (n : Nat) (u : Int) : 1 ≤ (vi n u).length ∧ (vi n u).length ≤ n + 1 := by
  induction n generalizing u with
  | zero => simp [vi]
  | succ n ih =>
    unfold vi; split
    · simp
    · have := ih (u / 128); simp; omega
section
variable {d : Nat} {m : Mem} {r a b n c : Int} {xs : List Int}
theorem RG.self (hI : RI m) (hR : RW m r xs c) : RG r m c xs m c := ⟨hR, RO.refl hI, GR.refl, by omega⟩
theorem c143 {x fr : Int} {ys : List Int} (hd : 1 ≤ d) (ok : OK m) (hI : RI m) (hR : RW m r xs c) (hx : tg m x = 130103 ∨ tg m x = 132103 ∨ tg m x = 153103) (hxr : 0 ≤ fr ∧ fr + ys.length ≤ ln m x) (hxv : ∀ j : Int, 0 ≤ j → j < ys.length → vl m x (fr + j) = gi ys j) (hn : n = ys.length) (h1 : (xs.length : Int) + ys.length ≤ 90000) : ∃ m' c', cl d 143 [pR r, pR x, pI fr, pI n] m = some (.inl none, m') ∧ RG r m c (xs ++ ys) m' c' := by
  subst hn
  obtain ⟨m1, c1, e1, hR1, hl1, hO1, hG1, hc1, hu1⟩ := c131 (d := d - 1) (n := ys.length) ok.1 ok.2.1 hI hR (by omega) (by omega)
  have ok1 := ok.fr (cl_FRM e1)
  have hI1 := hO1.1
  have hR1' := hR1
  have hne := hR1.ne
  have hb0 := hR1.b0 ok1.2.1
  have ht := hR.1
  have hxn : x < nx m := tz_lt ok.1 (by omega)
  have hxr2 : x ≠ r := by intro e; rw [e] at hx; omega
  have htx : tg m1 x = 130103 ∨ tg m1 x = 132103 ∨ tg m1 x = 153103 := by rw [tg_of (cl_FRM e1) ok.1 (by omega)]; exact hx
  have hlx : ln m1 x = ln m x := ln_of (cl_FRM e1) ok.1 (by omega)
  obtain ⟨ht1, hb1, hcc1, hs1, hll1, hcr1, hv1⟩ := hR1
  have hu := hR1'.upd (m' := mst (mcp m1 x fr (vl m1 r 0) xs.length ys.length) r 1 ((xs.length : Int) + ys.length)) (ys := xs ++ ys) hI1 hb0 rfl (fun _ => rfl) (fun _ => rfl) (by simp; omega) (by rw [vl_mst, if_pos ⟨rfl, rfl⟩]; simp)
    (fun q => by
      by_cases ha : q = vl m1 r 0
      · exact Or.inr ha
      · left; rw [vl_mst, if_neg (by omega), vl_mcp, if_neg (by omega)])
    (fun i i0 i1 => by
      simp at i1
      rw [vl_mst, if_neg (by omega), vl_mcp]
      by_cases hi : i < xs.length
      · rw [if_neg (by omega), gi_app_l i0 hi]; exact hv1 i i0 hi
      · rw [if_pos (by omega), gi_app_r (by omega), hu1 x _ hxn hxr2]; exact hxv (i - xs.length) (by omega) (by omega))
    (fun q f h1 h2 => by rw [vl_mst, if_neg (by omega), vl_mcp, if_neg (by omega)])
  refine ⟨_, c1, ?_, hu.1, hO1.trans hu.2, ?_, by simp; omega⟩
  · refine q143 (by omega) ok.1 _ ?_
    simp (disch := first | assumption | omega) only [nm, gd_of, e1, bV_ok, hs1, w32_of]
  · unfold GR at *
    show _ ∧ nx m1 - _ ≤ _ ∧ sl m1 - _ ≤ _
    omega
theorem c132 (hd : 2 ≤ d) (ok : OK m) (hI : RI m) (hR : RW m r xs c) (h0 : 0 ≤ b) (h2 : b < 65536) (h1 : (xs.length : Int) + 3 ≤ 90000) : ∃ m' c', cl d 132 [pR r, pI b] m = some (.inl none, m') ∧ RG r m c (xs ++ utf b) m' c' := by
  have ht := hR.1
  have e6 : pShr b 6 = b / 64 := pShr_6 ⟨by omega, by omega⟩
  have e12 : pShr b 12 = b / 4096 := pShr_12 ⟨by omega, by omega⟩
  by_cases hA : b < 128
  · obtain ⟨m1, c1, e1, g1⟩ := c130 (d := d - 1) (b := b) (by omega) ok hI hR (by omega)
    refine ⟨m1, c1, ?_, ?_⟩
    · refine q132 (by omega) ok.1 _ ?_
      simp (disch := first | assumption | omega) only [if_pos, gd_of, e1, bV_ok]
    · unfold utf; rw [if_pos hA]
      rw [w8_of (by omega) hA] at g1; exact g1
  · by_cases hB : b < 2048
    · obtain ⟨m1, c1, e1, g1⟩ := c130 (d := d - 1) (b := 192 + b / 64) (by omega) ok hI hR (by omega)
      have ok1 := ok.fr (cl_FRM e1)
      obtain ⟨m2, c2, e2, g2⟩ := c130 (d := d - 1) (b := 128 + b % 64) (by omega) ok1 g1.2.1.1 g1.1 (by simp; omega)
      refine ⟨m2, c2, ?_, ?_⟩
      · refine q132 (by omega) ok.1 _ ?_
        simp (disch := first | assumption | omega) only [if_pos, if_neg, gd_of, e6, pAnd_63, pOr_192, pOr_128, e1, e2, bV_ok]
      · unfold utf; rw [if_neg hA, if_pos hB]
        have := g1.trans g2 (by simp)
        simpa using this
    · obtain ⟨m1, c1, e1, g1⟩ := c130 (d := d - 1) (b := 224 + b / 4096) (by omega) ok hI hR (by omega)
      have ok1 := ok.fr (cl_FRM e1)
      obtain ⟨m2, c2, e2, g2⟩ := c130 (d := d - 1) (b := 128 + b / 64 % 64) (by omega) ok1 g1.2.1.1 g1.1 (by simp; omega)
      have ok2 := ok1.fr (cl_FRM e2)
      obtain ⟨m3, c3, e3, g3⟩ := c130 (d := d - 1) (b := 128 + b % 64) (by omega) ok2 g2.2.1.1 g2.1 (by simp; omega)
      refine ⟨m3, c3, ?_, ?_⟩
      · refine q132 (by omega) ok.1 _ ?_
        simp (disch := first | assumption | omega) only [if_pos, if_neg, gd_of, e6, e12, pAnd_63, pOr_224, pOr_128, e1, e2, e3, bV_ok]
      · unfold utf; rw [if_neg hA, if_neg hB]
        have := (g1.trans g2 (by simp)).trans g3 (by simp)
        simpa using this
theorem c138_l {a1 : Int} (hd : 2 ≤ d) : ∀ (n : Nat) (u : Int) (m : Mem) (c : Int) (xs : List Int), 0 ≤ u → u < 2 ^ 56 → u < 128 ^ (n + 1) → OK m → RI m → RW m r xs c → (xs.length : Int) + n + 1 ≤ 90000 → ∃ m' c', rn d 138 9 [pR r, pL a1, pU, pL u, pU] [] m = some (.inl none, m') ∧ RG r m c (xs ++ vi n u) m' c' := by
  intro n
  induction n with
  | zero =>
    intro u m c xs h0 hu1 hu ok hI hR h1
    have ht := hR.1
    have e7 : qUshr u 7 = u / 128 := qUshr_7 h0 (by omega)
    simp at hu
    obtain ⟨m1, c1, e1, g1⟩ := c130 (d := d - 1) (b := u) (by omega) ok hI hR (by omega)
    refine ⟨m1, c1, ?_, g1⟩
    refine q138_9 (by omega) ok.1 _ ?_
    rw [e7]
    simp (disch := first | assumption | omega) only [if_pos, gd_of, w32_of, e1, bV_ok]
  | succ n ih =>
    intro u m c xs h0 hu1 hu ok hI hR h1
    have ht := hR.1
    have e7 : qUshr u 7 = u / 128 := qUshr_7 h0 (by omega)
    by_cases hz : u / 128 = 0
    · obtain ⟨m1, c1, e1, g1⟩ := c130 (d := d - 1) (b := u) (by omega) ok hI hR (by omega)
      refine ⟨m1, c1, ?_, ?_⟩
      · refine q138_9 (by omega) ok.1 _ ?_
        rw [e7]
        simp (disch := first | assumption | omega) only [if_pos, gd_of, w32_of, e1, bV_ok]
      · unfold vi; rw [if_pos hz]; exact g1
    · obtain ⟨m1, c1, e1, g1⟩ := c130 (d := d - 1) (b := 128 + u % 128) (by omega) ok hI hR (by omega)
      have ok1 := ok.fr (cl_FRM e1)
      obtain ⟨m2, c2, e2, g2⟩ := ih (u / 128) m1 c1 _ (by omega) (by omega) (by rw [Int.pow_succ] at hu; omega) ok1 g1.2.1.1 g1.1 (by simp; omega)
      refine ⟨m2, c2, ?_, ?_⟩
      · refine q138_9 (by omega) ok.1 _ ?_
        have ew : pOr (pAnd (w32 u) 127) 128 = 128 + u % 128 := by
          rw [pAnd_127, pOr_comm]
          have : w32 u % 128 = u % 128 := by unfold w32; omega
          rw [this, pOr_128 (by omega) (by omega)]
        rw [e7, ew]
        simp (disch := first | assumption | omega) only [if_neg, gd_of, e1, bV_ok, e2]
      · have := g1.trans g2 (by simp)
        unfold vi; rw [if_neg hz]
        simpa using this
theorem c138 (hd : 2 ≤ d) (ok : OK m) (hI : RI m) (hR : RW m r xs c) (h0 : -9007199254740992 < b) (h2 : b < 9007199254740992) (h1 : (xs.length : Int) + 10 ≤ 90000) : ∃ m' c', cl d 138 [pR r, pL b] m = some (.inl none, m') ∧ RG r m c (xs ++ nuB b) m' c' := by
  have ez : qXor (qShl b 1) (qShr b 63) = zz b := by
    rw [qShl_1 (by omega) (by omega), qShr_63 ⟨by omega, by omega⟩]
    unfold zz
    by_cases hb : 0 ≤ b
    · rw [if_pos hb, show b / 9223372036854775808 = 0 by omega, qXor_zero _ ⟨by omega, by omega⟩]
    · rw [if_neg hb, show b / 9223372036854775808 = -1 by omega, qXor_m1 _ ⟨by omega, by omega⟩]; omega
  have hzz : 0 ≤ zz b ∧ zz b < 2 ^ 56 := by unfold zz; split <;> omega
  obtain ⟨m1, c1, e1, g1⟩ := c138_l (r := r) (a1 := b) hd 9 (zz b) m c xs hzz.1 hzz.2 (by omega) ok hI hR (by omega)
  refine ⟨m1, c1, ?_, g1⟩
  refine q138 ok.1 _ ?_
  rw [ez]; exact e1
end
