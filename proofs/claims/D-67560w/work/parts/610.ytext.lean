/-! the twin's texts -/
set_option maxRecDepth 100000
set_option maxHeartbeats 4000000
/-- the twin at M reads the bytes t up to e, now at i, and nothing is broken -/
def YX (m : Mem) (M tp e i : Int) (t : Int → Int) : Prop := tg m M = 11 ∧ vl m M 11 = tp ∧ vl m M 13 = e ∧ vl m M 12 = i ∧ vl m M 14 = -1 ∧ (tg m tp = 186103 ∨ tg m tp = 276103 ∨ tg m tp = 278103) ∧ (0 ≤ i ∧ i ≤ e ∧ e ≤ ln m tp ∧ ln m tp ≤ 16384) ∧ ∀ j, 0 ≤ j → j < e → vl m tp j = t j
def yxN (e : Nat) : Bool := !(Nat.testBit e (bix 11 11)) && !(Nat.testBit e (bix 11 12)) && !(Nat.testBit e (bix 11 13)) && !(Nat.testBit e (bix 11 14)) && !(Nat.testBit e (bix 186103 0)) && !(Nat.testBit e (bix 276103 0)) && !(Nat.testBit e (bix 278103 0))
theorem YX.fr {k : Nat} {m m' : Mem} {M tp e i : Int} {t : Int → Int} (h : YX m M tp e i t) (hf : FRM (eM k) m m') (hz : TZ m) (hn : yxN (eM k) = true) : YX m' M tp e i t := by
  obtain ⟨h1, h2, h3, h4, h8, h5, h6, h7⟩ := h
  unfold yxN at hn
  simp only [Bool.and_eq_true, Bool.not_eq_true'] at hn
  obtain ⟨⟨⟨⟨⟨⟨n1, n2⟩, n3⟩, n4⟩, n5⟩, n6⟩, n7⟩ := hn
  have g : ∀ j, vl m' tp j = vl m tp j := fun j => by
    rcases h5 with h | h | h
    · exact vl_of hf hz h (by decide) (by rw [bix_arr (by decide)]; exact n5)
    · exact vl_of hf hz h (by decide) (by rw [bix_arr (by decide)]; exact n6)
    · exact vl_of hf hz h (by decide) (by rw [bix_arr (by decide)]; exact n7)
  refine ⟨?_, by rw [vl_of hf hz h1 (by decide) n1]; exact h2, by rw [vl_of hf hz h1 (by decide) n3]; exact h3, by rw [vl_of hf hz h1 (by decide) n2]; exact h4, by rw [vl_of hf hz h1 (by decide) n4]; exact h8, ?_, ?_, fun j j0 j1 => by rw [g]; exact h7 j j0 j1⟩
  · rw [tg_of hf hz (by omega)]; exact h1
  · rw [tg_of hf hz (by omega)]; exact h5
  · rw [ln_of hf hz (by omega)]; exact h6
theorem YX.at {m : Mem} {M tp e i j : Int} {t : Int → Int} (h : YX m M tp e i t) (h0 : 0 ≤ j) (h1 : j ≤ e) : YX (mst m M 12 j) M tp e j t := by
  obtain ⟨a1, a2, a3, a4, a8, a5, a6, a7⟩ := h
  have hne : tp ≠ M := by intro q; rw [q] at a5; omega
  exact ⟨a1, by rw [vl_mst, if_neg (by omega)]; exact a2, by rw [vl_mst, if_neg (by omega)]; exact a3, by rw [vl_mst, if_pos ⟨rfl, rfl⟩], by rw [vl_mst, if_neg (by omega)]; exact a8, a5, ⟨h0, h1, a6.2.2⟩, fun k k0 k1 => by rw [vl_mst, if_neg (by omega)]; exact a7 k k0 k1⟩
/-- a place of an array that isn't the text's is written -/
theorem YX.st {m : Mem} {M tp e i a k v : Int} {t : Int → Int} (h : YX m M tp e i t) (ha : a ≠ M ∧ a ≠ tp) : YX (mst m a k v) M tp e i t := by
  obtain ⟨a1, a2, a3, a4, a8, a5, a6, a7⟩ := h
  exact ⟨a1, by rw [vl_mst, if_neg (by omega)]; exact a2, by rw [vl_mst, if_neg (by omega)]; exact a3, by rw [vl_mst, if_neg (by omega)]; exact a4, by rw [vl_mst, if_neg (by omega)]; exact a8, a5, a6, fun k k0 k1 => by rw [vl_mst, if_neg (by omega)]; exact a7 k k0 k1⟩
section
variable {d : Nat} {m : Mem} {M tp e i : Int} {t : Int → Int}
theorem c199 (hz : TZ m) (h : YX m M tp e i t) : cl d 199 [pR M] m = some (.inl (some (pI (pk t e i))), m) := by
  obtain ⟨a1, a2, a3, a4, a8, a5, a6, a7⟩ := h
  refine q199 hz _ ?_
  unfold pk
  rw [gd_of a1, nm_eq, a4, a3]
  by_cases hi : i < e
  · rw [if_pos hi, if_pos hi, nm_eq, a2, gd_of a5, gd_of ⟨by omega, by omega⟩, a7 i (by omega) hi, pAnd_255]
  · rw [if_neg hi, if_neg hi]
theorem c206 {x : Int} (hz : TZ m) : cl d 206 [pI x] m = some (.inl (some (pI (if 48 ≤ x ∧ x ≤ 57 then 1 else 0))), m) := by
  refine q206 hz _ ?_
  by_cases h1 : x < 48
  · rw [if_pos h1, if_neg (by omega)]
  · rw [if_neg h1]
    by_cases h2 : 57 < x
    · rw [if_pos h2, if_neg (by omega)]
    · rw [if_neg h2, if_pos (by omega)]
theorem c205 {x : Int} (hd : 1 ≤ d) (hz : TZ m) (hx : -1 ≤ x ∧ x < 256) : cl d 205 [pI x] m = some (.inl (some (pI (hexV x))), m) := by
  refine q205 (by omega) hz _ ?_
  rw [bI_eq (c206 hz)]
  unfold hexV
  by_cases h : 48 ≤ x ∧ x ≤ 57
  · rw [if_pos h, if_pos h, if_neg (by decide), w32_of (by omega) (by omega)]
  · rw [if_neg h, if_neg h, if_pos rfl]
    have e36 : rn d 205 36 [pI x] [] m = some (.inl (some (pI (if 65 ≤ x ∧ x ≤ 70 then x - 55 else -1))), m) := by
      refine q205_36 hz _ ?_
      by_cases h1 : x < 65
      · rw [if_pos h1, if_neg (by omega)]
      · rw [if_neg h1]
        by_cases h2 : 70 < x
        · rw [if_pos h2, if_neg (by omega)]
        · rw [if_neg h2, if_pos (by omega), (w32_of (by omega) (by omega) : w32 (x - 65) = x - 65), w32_of (by omega) (by omega), show x - 65 + 10 = x - 55 by omega]
    by_cases h1 : x < 97
    · rw [if_pos h1, if_neg (by omega)]; exact e36
    · rw [if_neg h1]
      by_cases h2 : 102 < x
      · rw [if_pos h2, if_neg (by omega)]; exact e36
      · rw [if_neg h2, if_pos (by omega), (w32_of (by omega) (by omega) : w32 (x - 97) = x - 97), w32_of (by omega) (by omega), show x - 97 + 10 = x - 87 by omega]
theorem c202 {p : Int} (hz : TZ m) (h1 : tg m M = 11) (h2 : vl m M 14 = -1) : cl d 202 [pR M, pI p] m = some (.inl (some (pI 0)), mst m M 14 p) := by
  refine q202 hz _ ?_
  rw [gd_of h1, if_pos (by omega)]
theorem c198_l (hd : 1 ≤ d) : ∀ (n : Nat) (i : Int) (m : Mem), TZ m → YX m M tp e i t → (e - i).toNat = n → rn d 198 0 [pR M] [] m = some (.inl none, mst m M 12 (sB t e i)) := by
  intro n
  induction n with
  | zero =>
    intro i m hz h hn
    have h63 := c199 (d := d - 1) hz h
    have hp : pk t e i = -1 := by unfold pk; rw [if_neg (by obtain ⟨a1, a2, a3, a4, a8, a5, a6, a7⟩ := h; omega)]
    obtain ⟨a1, a2, a3, a4, a8, a5, a6, a7⟩ := h
    rw [sB_eq, if_neg (by rw [hp]; decide), mst_self a4]
    refine q198_0 (by omega) hz _ ?_
    rw [hp] at h63
    rw [gd_of a1, bI_eq h63, if_neg (by decide), bI_eq h63, if_neg (by decide), bI_eq h63, if_neg (by decide), bI_eq h63, if_neg (by decide)]
  | succ n ih =>
    intro i m hz h hn
    have h63 := c199 (d := d - 1) hz h
    have h' := h
    obtain ⟨a1, a2, a3, a4, a8, a5, a6, a7⟩ := h
    have hg := ih (i + 1) (mst m M 12 (i + 1)) hz (h'.at (by omega) (by omega)) (by omega)
    rw [mst_mst] at hg
    rw [sB_eq]
    refine q198_0 (by omega) hz _ ?_
    rw [gd_of a1, bI_eq h63, a4, w32_of (by omega) (by omega)]
    by_cases b1 : pk t e i = 32
    · rw [if_pos b1, if_pos (by unfold bk; omega)]; exact hg
    rw [if_neg b1, bI_eq h63]
    by_cases b2 : pk t e i = 9
    · rw [if_pos b2, if_pos (by unfold bk; omega), a4, w32_of (by omega) (by omega)]; exact hg
    rw [if_neg b2, bI_eq h63]
    by_cases b3 : pk t e i = 10
    · rw [if_pos b3, if_pos (by unfold bk; omega), a4, w32_of (by omega) (by omega)]; exact hg
    rw [if_neg b3, bI_eq h63]
    by_cases b4 : pk t e i = 13
    · rw [if_pos b4, if_pos (by unfold bk; omega), a4, w32_of (by omega) (by omega)]; exact hg
    rw [if_neg b4, if_neg (by unfold bk; omega), mst_self a4]
theorem c198 (hd : 1 ≤ d) (hz : TZ m) (h : YX m M tp e i t) : cl d 198 [pR M] m = some (.inl none, mst m M 12 (sB t e i)) := by
  refine q198 hz _ ?_
  exact c198_l hd _ i m hz h rfl
theorem c201_1 {x : Int} (hd : 1 ≤ d) (hz : TZ m) (h : YX m M tp e i t) (hx : pk t e i = x) (hx0 : 0 ≤ x) : cl d 201 [pR M, pI x] m = some (.inl (some (pI 1)), mst m M 12 (i + 1)) := by
  have h63 := c199 (d := d - 1) hz h
  have hi : i < e := pkf_lt (t := t) (by rw [hx]; omega)
  obtain ⟨a1, a2, a3, a4, a8, a5, a6, a7⟩ := h
  refine q201 (by omega) hz _ ?_
  rw [gd_of a1, bI_eq h63, if_pos hx, a4, w32_of (by omega) (by omega)]
theorem c201_0 {x : Int} (hd : 1 ≤ d) (hz : TZ m) (h : YX m M tp e i t) (hx : pk t e i ≠ x) : cl d 201 [pR M, pI x] m = some (.inl (some (pI 0)), mst m M 14 i) := by
  have h63 := c199 (d := d - 1) hz h
  obtain ⟨a1, a2, a3, a4, a8, a5, a6, a7⟩ := h
  refine q201 (by omega) hz _ ?_
  rw [gd_of a1, bI_eq h63, if_neg hx, a4, bI_eq (c202 hz a1 a8), gd_of (Or.inl rfl)]
end
