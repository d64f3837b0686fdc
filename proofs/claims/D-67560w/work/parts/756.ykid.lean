/-! the twin's patches: the i-th kid; an index -/
set_option maxRecDepth 100000
set_option maxHeartbeats 4000000
def kdI : Fo → Int → Int
  | .leaf, _ => -1
  | .inner j _ _ _ r, i => if i = 0 then (j : Int) else kdI r (i - 1)
theorem kdI_sp : ∀ (F : Fo) (i : Nat), (∀ x, spI i F = some x → kdI F i = x.2.1) ∧ (spI i F = none → kdI F i = -1) := by
  intro F
  induction F with
  | leaf => intro i; exact ⟨fun x h => (by cases i <;> cases h), fun _ => rfl⟩
  | inner j d u l r _ ih =>
    intro i
    simp only [kdI]
    cases i with
    | zero =>
      rw [if_pos (by omega)]
      exact ⟨fun x h => (by cases h; rfl), fun h => (by cases h)⟩
    | succ i =>
      rw [if_neg (by omega), show ((i + 1 : Nat) : Int) - 1 = i by omega]
      obtain ⟨h1, h2⟩ := ih i
      simp only [spI]
      refine ⟨fun x h => ?_, fun h => h2 (by simpa using h)⟩
      cases hs : spI i r with
      | none => rw [hs] at h; cases h
      | some y => rw [hs] at h; cases h; exact h1 y hs
section
variable {d : Nat} {m : Mem} {M D n C : Int} {us : List Int}
theorem c234_14 {x i0 : Int} (hM : tg m M = 11) (hD : vl m M 18 = D) (ok : OK m) (h : TW m D n us C) : ∀ (F : Fo) (p : Int) (ob : Bool) (i : Int), 0 ≤ i → i < 4611686018427387904 → TF (nv m D) us n p ob F → rn d 234 14 [pR M, pI x, pL i0, pU, pL i, pU, pI (hdI F)] [] m = some (.inl (some (pI (kdI F i))), m) := by
  have hc := h.2.2.2.2.2.2.1
  have l5 := h.ld (f := 5) ⟨by decide, by decide⟩ (by decide)
  intro F
  induction F with
  | leaf =>
    intro p ob i h0 h1 hF
    refine q234_14 ok.1 _ ?_
    rw [if_pos (show hdI .leaf < 0 by decide)]; rfl
  | inner j dd u l r _ ih =>
    intro p ob i h0 h1 hF
    obtain ⟨f1, f2, f3, f4, f5, f6, f7, f8, f9, f10⟩ := hF
    have e5 : vl m (vl m D 5) j = hdI r := f8
    refine q234_14 ok.1 _ ?_
    rw [show hdI (.inner j dd u l r) = (j : Int) from rfl, if_neg (by omega)]
    simp only [kdI]
    by_cases hi : i = 0
    · rw [if_pos hi, if_pos hi]
    · rw [if_neg hi, if_neg hi, gd_of hM, nm_eq, hD, gd_of h.1, nm_eq, gd_of l5.1, gd_of ⟨by omega, by omega⟩, e5, w64_of (by omega) (by omega)]
      exact ih p ob (i - 1) (by omega) (by omega) f10
theorem c234 {x : Nat} {dd : ND} {l : Fo} {i : Int} (hM : tg m M = 11) (hD : vl m M 18 = D) (ok : OK m) (h : TW m D n us C) (hN : TN (nv m D) us n x dd l) (h0 : 0 ≤ i) (h1 : i < 4611686018427387904) : cl d 234 [pR M, pI x, pL i] m = some (.inl (some (pI (kdI l i))), m) := by
  have hc := h.2.2.2.2.2.2.1
  have l4 := h.ld (f := 4) ⟨by decide, by decide⟩ (by decide)
  obtain ⟨f1, f2, f3, f4, f5, f6⟩ := hN
  have e4 : vl m (vl m D 4) x = hdI l := f5
  refine q234 ok.1 _ ?_
  rw [gd_of hM, nm_eq, hD, gd_of h.1, nm_eq, gd_of l4.1, gd_of ⟨by omega, by omega⟩, e4]
  exact c234_14 hM hD ok h l x _ i h0 h1 f6
end
/-- tokens in the twin: their units stand in the tree of names -/
def TKS (m : Mem) (M NT : Int) (tks : List (List Int)) : Prop := tg m M = 11 ∧ vl m M 25 = NT ∧ (tg m (vl m M 22) = 186101 ∧ ln m (vl m M 22) = 16385) ∧ (tg m (vl m M 23) = 186101 ∧ ln m (vl m M 23) = 16385) ∧ vl m M 24 = tks.length ∧ tks.length ≤ 16000 ∧ ∃ n us C, TW m NT n us C ∧ ∀ (k : Nat) (hk : k < tks.length), vl m (vl m M 23) k = tks[k].length ∧ At us (vl m (vl m M 22) k) tks[k] ∧ wfU tks[k]
/-- the index that a token is, of at most nine digits -/
def ix9 (tk : List Int) : Int := if 9 < tk.length then -1 else match ixT tk with
  | none => -1
  | some i => i
theorem digs_lt : ∀ (tk : List Int) (v i : Nat), digs tk v = some i → i < (v + 1) * 10 ^ tk.length := by
  intro tk
  induction tk with
  | nil => intro v i h; cases h; simp
  | cons c tk ih =>
    intro v i h
    unfold digs at h
    split at h
    · have := ih _ i h
      rename_i hc
      rw [List.length_cons, Nat.pow_succ]
      refine Nat.lt_of_lt_of_le this ?_
      rw [Nat.mul_comm (10 ^ tk.length) 10, ← Nat.mul_assoc]
      exact Nat.mul_le_mul_right _ (by omega)
    · cases h
theorem digs_ge : ∀ (tk : List Int) (v i : Nat), digs tk v = some i → v * 10 ^ tk.length ≤ i := by
  intro tk
  induction tk with
  | nil => intro v i h; cases h; simp
  | cons c tk ih =>
    intro v i h
    unfold digs at h
    split at h
    · have := ih _ i h
      rw [List.length_cons, Nat.pow_succ]
      refine Nat.le_trans ?_ this
      rw [Nat.mul_comm (10 ^ tk.length) 10, ← Nat.mul_assoc]
      exact Nat.mul_le_mul_right _ (by omega)
    · cases h
/-- ten digits and more lead nowhere -/
theorem ixT_big {tk : List Int} {i : Nat} (h : ixT tk = some i) (hl : 9 < tk.length) : 1000000000 ≤ i := by
  unfold ixT at h
  split at h
  · cases h
  · rename_i hn
    cases tk with
    | nil => simp at hl
    | cons c tk =>
      unfold digs at h
      split at h
      · rename_i hc
        have h48 : c ≠ 48 := by
          intro q
          exact hn (Or.inr ⟨by omega, by rw [q]; rfl⟩)
        have h1 := digs_ge _ _ _ h
        have h2 : 10 ^ 9 ≤ 10 ^ tk.length := Nat.pow_le_pow_right (by decide) (by simp at hl; omega)
        have h3 : 1 * 10 ^ tk.length ≤ (10 * 0 + (c - 48).toNat) * 10 ^ tk.length := Nat.mul_le_mul_right _ (by omega)
        omega
      · cases h
