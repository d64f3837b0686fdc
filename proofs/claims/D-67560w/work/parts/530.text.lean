/-! texts: peek, blanks, expect -/
set_option maxRecDepth 100000
set_option maxHeartbeats 4000000
/-- a text at T: the bytes t up to e, now at i -/
def TX (m : Mem) (T tp e i : Int) (t : Int → Int) : Prop := (tg m T = 4 ∨ tg m T = 5) ∧ vl m T 0 = tp ∧ vl m T 1 = e ∧ vl m T 2 = i ∧ tg m tp = 17103 ∧ (0 ≤ i ∧ i ≤ e ∧ e ≤ ln m tp ∧ ln m tp ≤ 16384) ∧ ∀ j, 0 ≤ j → j < e → vl m tp j = t j
def pk (t : Int → Int) (e i : Int) : Int := if i < e then t i % 256 else -1
def txN (e : Nat) : Bool := !(Nat.testBit e (bix 4 0)) && !(Nat.testBit e (bix 4 1)) && !(Nat.testBit e (bix 4 2)) && !(Nat.testBit e (bix 5 0)) && !(Nat.testBit e (bix 5 1)) && !(Nat.testBit e (bix 5 2)) && !(Nat.testBit e (bix 17103 0))
theorem pkf_lt {t : Int → Int} {e i : Int} (h : pk t e i ≠ -1) : i < e := by unfold pk at h; split at h <;> first | assumption | omega
theorem pkf_rng (t : Int → Int) (e i : Int) : -1 ≤ pk t e i ∧ pk t e i < 256 := by unfold pk; split <;> omega
theorem TX.fr {k : Nat} {m m' : Mem} {T tp e i : Int} {t : Int → Int} (h : TX m T tp e i t) (hf : FRM (eM k) m m') (hz : TZ m) (hn : txN (eM k) = true) : TX m' T tp e i t := by
  obtain ⟨h1, h2, h3, h4, h5, h6, h7⟩ := h
  unfold txN at hn
  simp only [Bool.and_eq_true, Bool.not_eq_true'] at hn
  obtain ⟨⟨⟨⟨⟨⟨n1, n2⟩, n3⟩, n4⟩, n5⟩, n6⟩, n7⟩ := hn
  have f : ∀ f, Nat.testBit (eM k) (bix 4 f) = false → Nat.testBit (eM k) (bix 5 f) = false → vl m' T f = vl m T f := by
    intro f a b
    rcases h1 with h | h
    · exact vl_of hf hz h (by decide) a
    · exact vl_of hf hz h (by decide) b
  have g : ∀ j, vl m' tp j = vl m tp j := fun j => vl_of hf hz h5 (by decide) (by rw [bix_arr (by decide)]; exact n7)
  refine ⟨?_, by rw [f 0 n1 n4]; exact h2, by rw [f 1 n2 n5]; exact h3, by rw [f 2 n3 n6]; exact h4, ?_, ?_, fun j j0 j1 => by rw [g]; exact h7 j j0 j1⟩
  · rw [tg_of hf hz (by omega)]; exact h1
  · rw [tg_of hf hz (by omega)]; exact h5
  · rw [ln_of hf hz (by omega)]; exact h6
theorem TX.at {m : Mem} {T tp e i j : Int} {t : Int → Int} (h : TX m T tp e i t) (h0 : 0 ≤ j) (h1 : j ≤ e) : TX (mst m T 2 j) T tp e j t := by
  obtain ⟨a1, a2, a3, a4, a5, a6, a7⟩ := h
  have hne : tp ≠ T := by intro q; rw [q] at a5; omega
  exact ⟨a1, by rw [vl_mst, if_neg (by omega)]; exact a2, by rw [vl_mst, if_neg (by omega)]; exact a3, by rw [vl_mst, if_pos ⟨rfl, rfl⟩], a5, ⟨h0, h1, a6.2.2⟩, fun k k0 k1 => by rw [vl_mst, if_neg (by omega)]; exact a7 k k0 k1⟩
theorem mst_mst (m : Mem) (a k v w : Int) : mst (mst m a k v) a k w = mst m a k w := by
  unfold mst
  congr 4
  funext b j
  show (if b = a ∧ j = k then w else if b = a ∧ j = k then v else m.2.2.2.2 b j) = _
  split <;> rfl
theorem mst_self {m : Mem} {a k v : Int} (h : vl m a k = v) : mst m a k v = m := by
  obtain ⟨m1, m2, m3, m4, m5⟩ := m
  unfold mst
  congr 4
  funext b j
  show (if b = a ∧ j = k then v else m5 b j) = m5 b j
  split
  · rename_i hh; rw [hh.1, hh.2, ← h]; rfl
  · rfl
abbrev bk (c : Int) : Prop := c = 32 ∨ c = 9 ∨ c = 10 ∨ c = 13
def pB : Nat → (Int → Int) → Int → Int
  | 0, _, i => i
  | n + 1, p, i => if bk (p i) then pB n p (i + 1) else i
/-- blanks go -/
def sB (t : Int → Int) (e i : Int) : Int := pB (e - i).toNat (pk t e) i
theorem sB_eq (t : Int → Int) (e i : Int) : sB t e i = if bk (pk t e i) then sB t e (i + 1) else i := by
  unfold sB
  by_cases h : bk (pk t e i)
  · have hi : i < e := pkf_lt (by intro q; rw [q] at h; revert h; decide)
    rw [if_pos h, show (e - i).toNat = (e - (i + 1)).toNat + 1 by omega]
    show (if bk (pk t e i) then _ else _) = _
    rw [if_pos h]
  · rw [if_neg h]
    cases hn : (e - i).toNat with
    | zero => rfl
    | succ n => show (if bk (pk t e i) then _ else _) = _; rw [if_neg h]
theorem pB_rng (p : Int → Int) : ∀ (n : Nat) (i : Int), i ≤ pB n p i ∧ pB n p i ≤ i + n := by
  intro n
  induction n with
  | zero => intro i; simp [pB]
  | succ n ih =>
    intro i
    unfold pB; split
    · have := ih (i + 1); omega
    · omega
theorem sB_rng (t : Int → Int) {e i : Int} (h : i ≤ e) : i ≤ sB t e i ∧ sB t e i ≤ e := by
  have := pB_rng (pk t e) (e - i).toNat i; unfold sB; omega
section
variable {d : Nat} {m : Mem} {T tp e i : Int} {t : Int → Int}
theorem c63 (hz : TZ m) (h : TX m T tp e i t) : cl d 63 [pR T] m = some (.inl (some (pI (pk t e i))), m) := by
  obtain ⟨a1, a2, a3, a4, a5, a6, a7⟩ := h
  refine q63 hz _ ?_
  unfold pk
  by_cases hi : i < e
  · simp (disch := first | assumption | omega) only [nm, gd_of, a2, a3, a4, if_pos, a7, pAnd_255]
  · simp (disch := first | assumption | omega) only [nm, gd_of, a2, a3, a4, if_neg]
theorem c62_l (hd : 1 ≤ d) : ∀ (n : Nat) (i : Int) (m : Mem), TZ m → TX m T tp e i t → (e - i).toNat = n → rn d 62 0 [pR T] [] m = some (.inl none, mst m T 2 (sB t e i)) := by
  intro n
  induction n with
  | zero =>
    intro i m hz h hn
    have h63 := c63 (d := d - 1) hz h
    have hp : pk t e i = -1 := by unfold pk; rw [if_neg (by omega)]
    obtain ⟨a1, a2, a3, a4, a5, a6, a7⟩ := h
    rw [sB_eq, if_neg (by rw [hp]; decide), mst_self a4]
    refine q62_0 (by omega) hz _ ?_
    rw [hp] at h63
    simp (disch := first | assumption | omega) only [gd_of, h63, bI_ok, reduceIte, Int.reduceEq, Int.reduceNeg]
  | succ n ih =>
    intro i m hz h hn
    have h63 := c63 (d := d - 1) hz h
    have h' := h
    obtain ⟨a1, a2, a3, a4, a5, a6, a7⟩ := h
    have hg := ih (i + 1) (mst m T 2 (i + 1)) hz (h'.at (by omega) (by omega)) (by omega)
    rw [mst_mst] at hg
    rw [sB_eq]
    refine q62_0 (by omega) hz _ ?_
    by_cases hb : bk (pk t e i)
    · rw [if_pos hb]
      rcases hb with hb | hb | hb | hb <;> rw [hb] at h63 <;> simp (disch := first | assumption | omega) only [gd_of, h63, bI_ok, reduceIte, Int.reduceEq, a4, w32_of, hg]
    · rw [if_neg hb, mst_self a4]
      unfold bk at hb
      simp (disch := first | assumption | omega) only [gd_of, h63, bI_ok, if_neg]
theorem c62 (hd : 1 ≤ d) (hz : TZ m) (h : TX m T tp e i t) : cl d 62 [pR T] m = some (.inl none, mst m T 2 (sB t e i)) := by
  refine q62 hz _ ?_
  exact c62_l hd _ i m hz h rfl
theorem c67 {p : Int} (hz : TZ m) (h : tg m T = 4 ∨ tg m T = 5) : cl d 67 [pR T, pI p] m = some (.inr 204, mal (mst m T 3 p) 204 6) := by
  refine q67 hz _ ?_
  simp (disch := first | assumption | omega) only [gd_of]
theorem c66_1 (hd : 1 ≤ d) (hz : TZ m) : cl d 66 [pR T, pI 1] m = some (.inl none, m) := by
  refine q66 (by omega) hz _ ?_
  simp only [reduceIte, Int.reduceEq]
theorem c66_0 (hd : 2 ≤ d) (hz : TZ m) (h : TX m T tp e i t) : cl d 66 [pR T, pI 0] m = some (.inr 204, mal (mst m T 3 i) 204 6) := by
  obtain ⟨a1, a2, a3, a4, a5, a6, a7⟩ := h
  refine q66 (by omega) hz _ ?_
  simp (disch := first | assumption | omega) only [reduceIte, gd_of, a4, c67 hz a1, bV_ex]
theorem c65_1 {x : Int} (hd : 3 ≤ d) (hz : TZ m) (h : TX m T tp e i t) (hx : pk t e i = x) (hx0 : 0 ≤ x) : cl d 65 [pR T, pI x] m = some (.inl none, mst m T 2 (i + 1)) := by
  have h63 := c63 (d := d - 1) hz h
  have hi : i < e := pkf_lt (t := t) (by rw [hx]; omega)
  obtain ⟨a1, a2, a3, a4, a5, a6, a7⟩ := h
  refine q65 (by omega) hz _ ?_
  rw [hx] at h63
  simp (disch := first | assumption | omega) only [gd_of, h63, bI_ok, reduceIte, c66_1, bV_ok, a4, w32_of]
theorem c65_0 {x : Int} (hd : 3 ≤ d) (hz : TZ m) (h : TX m T tp e i t) (hx : pk t e i ≠ x) : cl d 65 [pR T, pI x] m = some (.inr 204, mal (mst m T 3 i) 204 6) := by
  have h63 := c63 (d := d - 1) hz h
  have h66 := c66_0 (d := d - 1) (by omega) hz h
  obtain ⟨a1, a2, a3, a4, a5, a6, a7⟩ := h
  refine q65 (by omega) hz _ ?_
  simp (disch := first | assumption | omega) only [gd_of, h63, bI_ok, if_neg hx, h66, bV_ex]
theorem c73 {x : Int} (hz : TZ m) : cl d 73 [pI x] m = some (.inl (some (pI (if 48 ≤ x ∧ x ≤ 57 then 1 else 0))), m) := by
  refine q73 hz _ ?_
  by_cases h : 48 ≤ x ∧ x ≤ 57
  · rw [if_pos h]; simp (disch := omega) only [if_neg]
  · rw [if_neg h]
    by_cases h1 : x < 48
    · simp only [if_pos h1]
    · simp (disch := omega) only [if_pos, if_neg]
def hexV (x : Int) : Int := if 48 ≤ x ∧ x ≤ 57 then x - 48 else if 97 ≤ x ∧ x ≤ 102 then x - 87 else if 65 ≤ x ∧ x ≤ 70 then x - 55 else -1
theorem c72 {x : Int} (hd : 1 ≤ d) (hz : TZ m) (hx : -1 ≤ x ∧ x < 256) : cl d 72 [pI x] m = some (.inl (some (pI (hexV x))), m) := by
  refine q72 (by omega) hz _ ?_
  rw [c73 hz, bI_ok]
  unfold hexV
  by_cases h : 48 ≤ x ∧ x ≤ 57
  · simp (disch := omega) only [if_pos h, reduceIte, Int.reduceEq, w32_of]
  · simp only [if_neg h, reduceIte]
    have e34 : rn d 72 34 [pI x] [] m = some (.inl (some (pI (if 65 ≤ x ∧ x ≤ 70 then x - 55 else -1))), m) := by
      refine q72_34 hz _ ?_
      by_cases h1 : x < 65
      · rw [if_pos h1, if_neg (by omega)]
      · by_cases h2 : 70 < x
        · rw [if_neg h1, if_pos h2, if_neg (by omega)]
        · rw [if_neg h1, if_neg h2, if_pos (by omega), w32_of (by rw [w32_of (by omega) (by omega)]; omega) (by rw [w32_of (by omega) (by omega)]; omega), w32_of (by omega) (by omega), show x - 65 + 10 = x - 55 by omega]
    by_cases h1 : x < 97
    · rw [if_pos h1, e34, if_neg (by omega : ¬ (97 ≤ x ∧ x ≤ 102))]
    · by_cases h2 : 102 < x
      · rw [if_neg h1, if_pos h2, e34, if_neg (by omega : ¬ (97 ≤ x ∧ x ≤ 102))]
      · rw [if_neg h1, if_neg h2, if_pos (by omega : 97 ≤ x ∧ x ≤ 102), w32_of (by rw [w32_of (by omega) (by omega)]; omega) (by rw [w32_of (by omega) (by omega)]; omega), w32_of (by omega) (by omega), show x - 97 + 10 = x - 87 by omega]
end
