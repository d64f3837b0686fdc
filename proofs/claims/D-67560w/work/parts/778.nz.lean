/-! frames: what is new is blank where a method doesn't write -/
set_option maxRecDepth 100000
set_option maxHeartbeats 4000000
def NZ (e : Nat) (m m' : Mem) : Prop := ∀ a f, nx m ≤ a → a < nx m' → 0 < tg m' a → tg m' a < 100 → Nat.testBit e (bix (tg m' a) f) = false → vl m' a f = 0
theorem NZ.same {e : Nat} {m m' : Mem} (h : nx m' = nx m) : NZ e m m' := fun a f h1 h2 => absurd h2 (by omega)
theorem NZ.trans {e : Nat} {m m1 m2 : Mem} (f1 : FRM e m m1) (h : NZ e m m1) (f2 : FRM e m1 m2) (h' : NZ e m1 m2) : NZ e m m2 := by
  intro a f h1 h2 h3 h4 h5
  by_cases ha : a < nx m1
  · have e1 := f2.1.2.2 a ha
    rw [e1.1] at h3 h4 h5
    rw [f2.2.1 a f ha h5]
    exact h a f h1 ha h3 h4 h5
  · exact h' a f (by omega) h2 h3 h4 h5
theorem nz_mal {e : Nat} {m : Mem} {t n : Int} : NZ e m (mal m t n) := by
  intro a f h1 h2 _ _ _
  have h2 : a < nx m + 1 := h2
  show (if a = nx m then 0 else vl m a f) = 0
  rw [if_pos (by omega)]
theorem nz_mgr {e : Nat} {m : Mem} {t u n k : Int} (ht : 100 ≤ t) (hu : 100 ≤ u) : NZ e m (mgr m t u n k) := by
  intro a f h1 h2 h3 h4 _
  have h2 : a < nx m + 1 + n := h2
  have h4 : (if a = nx m then t else if nx m < a ∧ a ≤ nx m + n then u else tg m a) < 100 := h4
  by_cases ha : a = nx m
  · rw [if_pos ha] at h4; omega
  · rw [if_neg ha, if_pos (by omega)] at h4; omega
theorem NZ.sub {k1 k : Nat} {m m' : Mem} (h : NZ (eM k1) m m') (hs : subE k1 k = true) : NZ (eM k) m m' :=
  fun a f h1 h2 h3 h4 h5 => h a f h1 h2 h3 h4 (subE_bit hs h5)
theorem stp_NZ {c k rk ik pc len p : Nat} {i : Instr} {ls st l s : List PV} {m m1 : Mem} (h : stp c k rk ik i pc len ls st m = some (.inl (p, l, s, m1))) (e : Nat) : NZ e m m1 := by
  cases i
  case new n =>
    dsimp only [stp] at h
    split at h
    · rw [nG_m h]; exact nz_mal
    · split at h
      · exact (nT_m h).elim
      · cases h
    · cases h
  case newarray n =>
    dsimp only [stp] at h
    split at h
    · split at h
      · rw [nG_m h]; exact nz_mal
      · cases h
    · cases h
  case anewarray n =>
    dsimp only [stp] at h
    split at h
    · split at h
      · rw [nG_m h]; exact nz_mal
      · cases h
    · cases h
  case multianewarray n d =>
    dsimp only [stp] at h
    split at h
    · split at h
      · rw [nG_m h]; exact nz_mgr (by omega) (by omega)
      · cases h
    · cases h
  all_goals (dsimp only [stp] at h; (repeat' split at h) <;> first | (rw [nG_m h]; exact NZ.same rfl) | (rw [nJ_m h]; exact NZ.same rfl) | exact (nR_m h).elim | exact (nC_m h).elim | exact (nT_m h).elim | cases h)
theorem exec2_NZ : ∀ (n d k pc : Nat) (ls st : List PV) (m : Mem) (r : Rs) (m1 : Mem), exec2 n d k pc ls st m = some (r, m1) → NZ (eM k) m m1 := by
  intro n
  induction n with
  | zero => intro d k pc ls st m r m1 h; cases h
  | succ n ih =>
    intro d k pc ls st m r m' h
    obtain ⟨c, rk, ik, i, len, hf, hc, h⟩ := run1_inv h
    rcases h with ⟨p, l, s, m1, hs, h⟩ | ⟨k1, as, rest, ln1, d1, e1, r1, m1, hs, rfl, he, hl, hsub, hEE, h⟩ | ⟨v, hs, hq⟩ | ⟨e, m1, hs, hk, hh, hq⟩
    · exact NZ.trans (stp_FRM hs hc) (stp_NZ hs _) (exec2_FRM _ _ _ _ _ _ _ _ _ h) (ih _ _ _ _ _ _ _ _ h)
    · have f1 := (exec2_FRM _ _ _ _ _ _ _ _ _ hEE).sub hsub
      have n1 := (ih _ _ _ _ _ _ _ _ hEE).sub hsub
      rcases h with ⟨v, rfl, h⟩ | ⟨e, rfl, hk, ⟨h1, hq, h⟩ | ⟨hq, hz⟩⟩
      · exact NZ.trans f1 n1 (exec2_FRM _ _ _ _ _ _ _ _ _ h) (ih _ _ _ _ _ _ _ _ h)
      · exact NZ.trans f1 n1 (exec2_FRM _ _ _ _ _ _ _ _ _ h) (ih _ _ _ _ _ _ _ _ h)
      · cases hz; exact n1
    · cases hq; exact NZ.same rfl
    · cases hq
      obtain ⟨n2, e2, f2, rfl, -, -, -, -, rfl⟩ := stp_thr hs
      exact nz_mal
theorem rn_NZ {d k pc : Nat} {ls st : List PV} {m m1 : Mem} {r : Rs} (h : rn d k pc ls st m = some (r, m1)) : NZ (eM k) m m1 := by
  obtain ⟨n, hn⟩ := rn_iff.mp h
  exact exec2_NZ _ _ _ _ _ _ _ _ _ hn
theorem cl_NZ {d k : Nat} {as : List PV} {m m1 : Mem} {r : Rs} (h : cl d k as m = some (r, m1)) : NZ (eM k) m m1 := by
  unfold cl at h
  split at h
  · split at h
    · cases h
    · exact rn_NZ h
  · cases h
/-- no sink was made or given other bytes -/
theorem SI.fr {e : Nat} {m m' : Mem} (h : SI m) (f : FRM e m m') (n : NZ e m m') (hz : TZ m) (hb : Nat.testBit e (bix 2 0) = false) : SI m' := by
  intro s s' h1 h2 h3 h4
  have hz' := f.1.1 hz
  have lt : ∀ x, tg m' x = 2 → x < nx m' := fun x hx => by
    rcases Int.lt_or_le x (nx m') with q | q
    · exact q
    · have := hz' x q; omega
  by_cases a1 : s < nx m
  · have e1 := f.1.2.2 s a1
    rw [e1.1] at h1
    have v1 := f.2.1 s 0 a1 (by rw [h1]; exact hb)
    by_cases a2 : s' < nx m
    · have e2 := f.1.2.2 s' a2
      rw [e2.1] at h2
      rw [v1, f.2.1 s' 0 a2 (by rw [h2]; exact hb)]
      rw [v1] at h4
      exact h s s' h1 h2 h3 h4
    · rw [n s' 0 (by omega) (lt s' h2) (by omega) (by omega) (by rw [h2]; exact hb)]
      exact h4
  · rw [n s 0 (by omega) (lt s h1) (by omega) (by omega) (by rw [h1]; exact hb)] at h4
    exact absurd rfl h4
/-- no row was made or given other bytes -/
theorem RI.fr2 {e : Nat} {m m' : Mem} (h : RI m) (f : FRM e m m') (n : NZ e m m') (hz : TZ m) (h0 : 0 ≤ nx m) (hb : Nat.testBit e (bix 8 0) = false) (hp : 0 < nx m') : RI m' := by
  have hz' := f.1.1 hz
  have lt : ∀ x, tg m' x = 8 → x < nx m' := fun x hx => by
    rcases Int.lt_or_le x (nx m') with q | q
    · exact q
    · have := hz' x q; omega
  have val : ∀ x, tg m' x = 8 → (x < nx m ∧ tg m x = 8 ∧ vl m' x 0 = vl m x 0) ∨ (nx m ≤ x ∧ vl m' x 0 = 0) := fun x hx => by
    by_cases a1 : x < nx m
    · have e1 := f.1.2.2 x a1
      rw [e1.1] at hx
      exact Or.inl ⟨a1, hx, f.2.1 x 0 a1 (by rw [hx]; exact hb)⟩
    · exact Or.inr ⟨by omega, n x 0 (by omega) (lt x hx) (by omega) (by omega) (by rw [hx]; exact hb)⟩
  have hx := f.1.2.1
  refine ⟨fun r hr => ?_, fun r r' h1 h2 h3 h4 => ?_⟩
  · rcases val r hr with ⟨a1, a2, a3⟩ | ⟨a1, a2⟩
    · rw [a3]; have := h.1 r a2; omega
    · rw [a2]; omega
  · rcases val r h1 with ⟨a1, a2, a3⟩ | ⟨a1, a2⟩
    · rcases val r' h2 with ⟨b1, b2, b3⟩ | ⟨b1, b2⟩
      · rw [a3, b3]; rw [a3] at h4; exact h.2 r r' a2 b2 h3 h4
      · rw [b2]; exact h4
    · rw [a2] at h4; exact absurd rfl h4
def tiN (e : Nat) : Bool := (List.range 12).all (fun f => !(Nat.testBit e (bix 13 (f : Nat))) || f == 10)
theorem tiN_f {e : Nat} (h : tiN e = true) {f : Int} (hf : aF f) : Nat.testBit e (bix 13 f) = false := by
  have h1 := List.all_eq_true.mp h f.toNat (List.mem_range.mpr (by omega))
  rw [Int.toNat_of_nonneg (by omega)] at h1
  cases hb : Nat.testBit e (bix 13 f)
  · rfl
  · rw [hb] at h1
    have h2 : (f.toNat == 10) = true := by simpa using h1
    have h3 : f.toNat = 10 := by simpa using h2
    omega
/-- no tree was made or given other arrays -/
theorem TI.fr {e : Nat} {m m' : Mem} (h : TI m) (f : FRM e m m') (n : NZ e m m') (hz : TZ m) (hb : tiN e = true) (hp : 0 < nx m') : TI m' := by
  have hz' := f.1.1 hz
  have lt : ∀ x, tg m' x = 13 → x < nx m' := fun x hx => by
    rcases Int.lt_or_le x (nx m') with q | q
    · exact q
    · have := hz' x q; omega
  have val : ∀ x g, tg m' x = 13 → aF g → (x < nx m ∧ tg m x = 13 ∧ vl m' x g = vl m x g) ∨ (nx m ≤ x ∧ vl m' x g = 0) := fun x g hx hg => by
    by_cases a1 : x < nx m
    · have e1 := f.1.2.2 x a1
      rw [e1.1] at hx
      exact Or.inl ⟨a1, hx, f.2.1 x g a1 (by rw [hx]; exact tiN_f hb hg)⟩
    · exact Or.inr ⟨by omega, n x g (by omega) (lt x hx) (by omega) (by omega) (by rw [hx]; exact tiN_f hb hg)⟩
  have hx := f.1.2.1
  refine ⟨fun r g hr hg => ?_, fun r r' g g' h1 h2 i1 i2 h3 h4 => ?_⟩
  · rcases val r g hr hg with ⟨a1, a2, a3⟩ | ⟨a1, a2⟩
    · rw [a3]; have := h.1 r g a2 hg; omega
    · rw [a2]; omega
  · rcases val r g h1 i1 with ⟨a1, a2, a3⟩ | ⟨a1, a2⟩
    · rcases val r' g' h2 i2 with ⟨b1, b2, b3⟩ | ⟨b1, b2⟩
      · rw [a3, b3]; rw [a3] at h4; exact h.2 r r' g g' a2 b2 i1 i2 h3 h4
      · rw [b2]; exact h4
    · rw [a2] at h4; exact absurd rfl h4
