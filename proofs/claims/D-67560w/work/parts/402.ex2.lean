/-! the pure machine with effects looked after; without a count of steps -/
set_option maxRecDepth 100000
set_option maxHeartbeats 4000000
def ft (k pc : Nat) : Option (Nat × Nat × Nat × Instr × Nat) := match mI k with
  | some e => match decode e.2.2.1 pc with
    | .ok (i, len) => if len = ilen i len then some (e.1, e.2.2.2.2.2.1, e.2.2.2.2.2.2.2.1, i, len) else none
    | .error _ => none
  | none => none
def mHd (k : Nat) : Option (ByteArray × Nat × Nat × Nat) := (mI k).map (fun e => (e.2.2.1, e.1, e.2.2.2.2.2.1, e.2.2.2.2.2.2.2.1))
theorem ft_mk {k pc len c rk ik : Nat} {i : Instr} {bs : ByteArray} (hm : mHd k = some (bs, c, rk, ik)) (h : decode bs pc = .ok (i, len)) (hl : len = ilen i len) : ft k pc = some (c, rk, ik, i, len) := by
  unfold mHd at hm
  cases he : mI k with
  | none => rw [he] at hm; cases hm
  | some e =>
    rw [he] at hm
    have h1 := Option.some.inj hm
    obtain ⟨a1, a2, a3, a4, a5, a6, a7, a8, a9⟩ := e
    injection h1 with h2 h3; injection h3 with h3 h4; injection h4 with h4 h5
    subst h2 h3 h4 h5
    unfold ft
    rw [he]
    dsimp only
    rw [h]
    dsimp only
    rw [if_pos hl]
theorem ft_inv {k pc len c rk ik : Nat} {i : Instr} (h : ft k pc = some (c, rk, ik, i, len)) : ∃ a2 bs a4 a5 a7 a9, mI k = some (c, a2, bs, a4, a5, rk, a7, ik, a9) ∧ decode bs pc = .ok (i, len) ∧ len = ilen i len := by
  unfold ft at h
  split at h
  · rename_i e he
    obtain ⟨a1, a2, a3, a4, a5, a6, a7, a8, a9⟩ := e
    split at h
    · rename_i j l hd
      split at h
      · rename_i hl
        cases h
        exact ⟨a2, a3, a4, a5, a7, a9, he, hd, hl⟩
      · cases h
    · cases h
  · cases h
def chk (c k : Nat) (i : Instr) (st : List PV) (m : Mem) : Bool := match i with
  | .putfield n => match lkN (rFt c) n, st with
    | some (_, f, _, _, _), _ :: .inr (.inr (.inl a)) :: _ => Nat.testBit (eM k) (bix (tg m a) f)
    | _, _ => false
  | .iastore => match st with
    | _ :: _ :: .inr (.inr (.inl a)) :: _ => Nat.testBit (eM k) (bix (tg m a) 0)
    | _ => false
  | .lastore => match st with
    | _ :: _ :: .inr (.inr (.inl a)) :: _ => Nat.testBit (eM k) (bix (tg m a) 0)
    | _ => false
  | .bastore => match st with
    | _ :: _ :: .inr (.inr (.inl a)) :: _ => Nat.testBit (eM k) (bix (tg m a) 0)
    | _ => false
  | .castore => match st with
    | _ :: _ :: .inr (.inr (.inl a)) :: _ => Nat.testBit (eM k) (bix (tg m a) 0)
    | _ => false
  | .aastore => match st with
    | _ :: _ :: .inr (.inr (.inl a)) :: _ => Nat.testBit (eM k) (bix (tg m a) 0)
    | _ => false
  | .invokestatic n => match lkN (rIt c) n with
    | some (4, _) => match st with
      | _ :: _ :: .inr (.inr (.inl a)) :: _ => Nat.testBit (eM k) (bix (tg m a) 0)
      | _ => false
    | _ => true
  | .new _ => Nat.testBit (eM k) 1
  | .newarray _ => Nat.testBit (eM k) 1
  | .anewarray _ => Nat.testBit (eM k) 1
  | .multianewarray _ _ => Nat.testBit (eM k) 1
  | _ => true
abbrev EX : Type := Nat → Nat → Nat → List PV → List PV → Mem → Option (Rs × Mem)
def subE (k1 k : Nat) : Bool := Nat.beq (Nat.land (eM k1) (eM k)) (eM k1)
def run1 (E : EX) (d k pc : Nat) (ls st : List PV) (m : Mem) : Option (Rs × Mem) := match ft k pc with
  | none => none
  | some (c, rk, ik, i, len) => if chk c k i st m = false then none else match stp c k rk ik i pc len ls st m with
    | none => none
    | some (.inl (pc1, ls1, st1, m1)) => E d k pc1 ls1 st1 m1
    | some (.inr (.inl (k1, as, rest, len1))) => (match d with
      | 0 => none
      | d1 + 1 => match mI k1 with
        | none => none
        | some e1 => if e1.2.2.2.1 < (arL as).length then none else if subE k1 k = false then none else match E d1 k1 0 (ini e1.2.2.2.1 as) [] m with
          | none => none
          | some (.inl v, m1) => E (d1 + 1) k (pc + len1) ls (v.toList ++ rest) m1
          | some (.inr e, m1) => if k = 0 then none else match hdlC (rHt k) pc e with
            | some (some h) => E (d1 + 1) k h ls [pU] m1
            | some none => some (.inr e, m1)
            | none => none)
    | some (.inr (.inr (.inl v))) => some (.inl v, m)
    | some (.inr (.inr (.inr (e, m1)))) => if k = 0 then none else match hdl (rHt k) (pc + 7) e with
      | some none => some (.inr e, m1)
      | _ => none
def exec2 (n : Nat) : EX := match n with
  | 0 => fun _ _ _ _ _ _ => none
  | n + 1 => run1 (exec2 n)
def R1 (E : EX) (d k pc : Nat) (ls st : List PV) (m : Mem) (q : Rs × Mem) : Prop :=
  ∃ c rk ik i len, ft k pc = some (c, rk, ik, i, len) ∧ chk c k i st m = true ∧
  ((∃ p l s m1, stp c k rk ik i pc len ls st m = some (.inl (p, l, s, m1)) ∧ E d k p l s m1 = some q) ∨
   (∃ k1 as rest ln1 d1 e1 r m1, stp c k rk ik i pc len ls st m = some (.inr (.inl (k1, as, rest, ln1))) ∧ d = d1 + 1 ∧ mI k1 = some e1 ∧ (arL as).length ≤ e1.2.2.2.1 ∧ subE k1 k = true ∧ E d1 k1 0 (ini e1.2.2.2.1 as) [] m = some (r, m1) ∧
      ((∃ v, r = .inl v ∧ E d k (pc + ln1) ls (v.toList ++ rest) m1 = some q) ∨ (∃ e, r = .inr e ∧ k ≠ 0 ∧ ((∃ h, hdlC (rHt k) pc e = some (some h) ∧ E d k h ls [pU] m1 = some q) ∨ (hdlC (rHt k) pc e = some none ∧ q = (.inr e, m1)))))) ∨
   (∃ v, stp c k rk ik i pc len ls st m = some (.inr (.inr (.inl v))) ∧ q = (.inl v, m)) ∨
   (∃ e m1, stp c k rk ik i pc len ls st m = some (.inr (.inr (.inr (e, m1)))) ∧ k ≠ 0 ∧ hdl (rHt k) (pc + 7) e = some none ∧ q = (.inr e, m1)))
theorem run1_inv {E : EX} {d k pc : Nat} {ls st : List PV} {m : Mem} {q : Rs × Mem} (h : run1 E d k pc ls st m = some q) : R1 E d k pc ls st m q := by
  unfold run1 at h
  split at h
  · cases h
  · rename_i c rk ik i len hf
    split at h
    · cases h
    · rename_i hc
      have hc : chk c k i st m = true := by simpa using hc
      refine ⟨c, rk, ik, i, len, hf, hc, ?_⟩
      split at h
      · cases h
      · rename_i p l s m1 hs
        exact Or.inl ⟨p, l, s, m1, hs, h⟩
      · rename_i k1 as rest ln1 hs
        split at h
        · cases h
        · rename_i d1
          split at h
          · cases h
          · rename_i e1 he
            split at h
            · cases h
            · rename_i hl
              split at h
              · cases h
              · rename_i hsub
                have hsub : subE k1 k = true := by simpa using hsub
                split at h
                · cases h
                · rename_i v m1 hE
                  exact Or.inr (Or.inl ⟨k1, as, rest, ln1, d1, e1, _, m1, hs, rfl, he, by omega, hsub, hE, Or.inl ⟨v, rfl, h⟩⟩)
                · rename_i e m1 hE
                  split at h
                  · cases h
                  · rename_i hk
                    split at h
                    · rename_i hh hq
                      exact Or.inr (Or.inl ⟨k1, as, rest, ln1, d1, e1, _, m1, hs, rfl, he, by omega, hsub, hE, Or.inr ⟨e, rfl, hk, Or.inl ⟨hh, hq, h⟩⟩⟩)
                    · rename_i hq
                      exact Or.inr (Or.inl ⟨k1, as, rest, ln1, d1, e1, _, m1, hs, rfl, he, by omega, hsub, hE, Or.inr ⟨e, rfl, hk, Or.inr ⟨hq, (Option.some.inj h).symm⟩⟩⟩)
                    · cases h
      · rename_i v hs
        exact Or.inr (Or.inr (Or.inl ⟨v, hs, (Option.some.inj h).symm⟩))
      · rename_i e m1 hs
        split at h
        · cases h
        · rename_i hk
          split at h
          · rename_i hq
            exact Or.inr (Or.inr (Or.inr ⟨e, m1, hs, hk, hq, (Option.some.inj h).symm⟩))
          · cases h
theorem run1_mk {E : EX} {d k pc : Nat} {ls st : List PV} {m : Mem} {q : Rs × Mem} (h : R1 E d k pc ls st m q) : run1 E d k pc ls st m = some q := by
  obtain ⟨c, rk, ik, i, len, hf, hc, h⟩ := h
  unfold run1
  rw [hf]
  dsimp only
  rw [if_neg (by simp [hc])]
  rcases h with ⟨p, l, s, m1, hs, h⟩ | ⟨k1, as, rest, ln1, d1, e1, r, m1, hs, rfl, he, hl, hsub, hE, h⟩ | ⟨v, hs, rfl⟩ | ⟨e, m1, hs, hk, hq, rfl⟩
  · rw [hs]; exact h
  · rw [hs]; dsimp only
    rw [he]; dsimp only
    rw [if_neg (by omega), if_neg (by simp [hsub]), hE]
    rcases h with ⟨v, rfl, h⟩ | ⟨e, rfl, hk, ⟨h1, hq, h⟩ | ⟨hq, rfl⟩⟩
    · exact h
    · dsimp only
      rw [if_neg hk, hq]; exact h
    · dsimp only
      rw [if_neg hk, hq]
  · rw [hs]
  · rw [hs]; dsimp only
    rw [if_neg hk, hq]
theorem R1_mono {E E' : EX} (hE : ∀ d k pc ls st m q, E d k pc ls st m = some q → ∀ d', d ≤ d' → E' d' k pc ls st m = some q) {d k pc : Nat} {ls st : List PV} {m : Mem} {q : Rs × Mem} (h : R1 E d k pc ls st m q) {d' : Nat} (hd : d ≤ d') : R1 E' d' k pc ls st m q := by
  obtain ⟨c, rk, ik, i, len, hf, hc, h⟩ := h
  refine ⟨c, rk, ik, i, len, hf, hc, ?_⟩
  rcases h with ⟨p, l, s, m1, hs, h⟩ | ⟨k1, as, rest, ln1, d1, e1, r, m1, hs, rfl, he, hl, hsub, hEE, h⟩ | h | h
  · exact Or.inl ⟨p, l, s, m1, hs, hE _ _ _ _ _ _ _ h _ hd⟩
  · obtain ⟨d2, rfl⟩ : ∃ d2, d' = d2 + 1 := ⟨d' - 1, by omega⟩
    refine Or.inr (Or.inl ⟨k1, as, rest, ln1, d2, e1, r, m1, hs, rfl, he, hl, hsub, hE _ _ _ _ _ _ _ hEE _ (by omega), ?_⟩)
    rcases h with ⟨v, rfl, h⟩ | ⟨e, rfl, hk, ⟨h1, hq, h⟩ | h⟩
    · exact Or.inl ⟨v, rfl, hE _ _ _ _ _ _ _ h _ hd⟩
    · exact Or.inr ⟨e, rfl, hk, Or.inl ⟨h1, hq, hE _ _ _ _ _ _ _ h _ hd⟩⟩
    · exact Or.inr ⟨e, rfl, hk, Or.inr h⟩
  · exact Or.inr (Or.inr (Or.inl h))
  · exact Or.inr (Or.inr (Or.inr h))
theorem exec2_le : ∀ (n n' : Nat), n ≤ n' → ∀ d k pc ls st m q, exec2 n d k pc ls st m = some q → ∀ d', d ≤ d' → exec2 n' d' k pc ls st m = some q := by
  intro n
  induction n with
  | zero => intro n' _ d k pc ls st m q h; cases h
  | succ n ih =>
    intro n' hn d k pc ls st m q h d' hd
    obtain ⟨n2, rfl⟩ : ∃ n2, n' = n2 + 1 := ⟨n' - 1, by omega⟩
    exact run1_mk (R1_mono (ih n2 (by omega)) (run1_inv h) hd)
noncomputable def rn (d k pc : Nat) (ls st : List PV) (m : Mem) : Option (Rs × Mem) := @dite _ (∃ q, ∃ n, exec2 n d k pc ls st m = some q) (Classical.propDecidable _) (fun h => some h.choose) (fun _ => none)
theorem rn_iff {d k pc : Nat} {ls st : List PV} {m : Mem} {q : Rs × Mem} : rn d k pc ls st m = some q ↔ ∃ n, exec2 n d k pc ls st m = some q := by
  constructor
  · intro h
    unfold rn at h
    split at h
    · rename_i hx
      cases h
      exact hx.choose_spec
    · cases h
  · rintro ⟨n, hn⟩
    have hx : ∃ q, ∃ n, exec2 n d k pc ls st m = some q := ⟨q, n, hn⟩
    unfold rn
    rw [dif_pos hx]
    obtain ⟨n2, hn2⟩ := hx.choose_spec
    have e1 := exec2_le _ (max n n2) (Nat.le_max_left _ _) _ _ _ _ _ _ _ hn _ (Nat.le_refl _)
    have e2 := exec2_le _ (max n n2) (Nat.le_max_right _ _) _ _ _ _ _ _ _ hn2 _ (Nat.le_refl _)
    exact e2.symm.trans e1
theorem rn_le {d d' k pc : Nat} {ls st : List PV} {m : Mem} {q : Rs × Mem} (h : rn d k pc ls st m = some q) (hd : d ≤ d') : rn d' k pc ls st m = some q := by
  obtain ⟨n, hn⟩ := rn_iff.mp h
  exact rn_iff.mpr ⟨n, exec2_le _ _ (Nat.le_refl _) _ _ _ _ _ _ _ hn _ hd⟩
theorem R1_cont {d k pc : Nat} {ls st : List PV} {m : Mem} {q : Rs × Mem} (h : R1 rn d k pc ls st m q) : ∃ n, R1 (exec2 n) d k pc ls st m q := by
  obtain ⟨c, rk, ik, i, len, hf, hc, h⟩ := h
  rcases h with ⟨p, l, s, m1, hs, h⟩ | ⟨k1, as, rest, ln1, d1, e1, r, m1, hs, rfl, he, hl, hsub, hEE, h⟩ | h | h
  · obtain ⟨n, hn⟩ := rn_iff.mp h
    exact ⟨n, c, rk, ik, i, len, hf, hc, Or.inl ⟨p, l, s, m1, hs, hn⟩⟩
  · obtain ⟨n, hn⟩ := rn_iff.mp hEE
    rcases h with ⟨v, rfl, h⟩ | ⟨e, rfl, hk, ⟨h1, hq, h⟩ | h⟩
    · obtain ⟨n2, hn2⟩ := rn_iff.mp h
      exact ⟨max n n2, c, rk, ik, i, len, hf, hc, Or.inr (Or.inl ⟨k1, as, rest, ln1, d1, e1, _, m1, hs, rfl, he, hl, hsub, exec2_le _ _ (Nat.le_max_left _ _) _ _ _ _ _ _ _ hn _ (Nat.le_refl _), Or.inl ⟨v, rfl, exec2_le _ _ (Nat.le_max_right _ _) _ _ _ _ _ _ _ hn2 _ (Nat.le_refl _)⟩⟩)⟩
    · obtain ⟨n2, hn2⟩ := rn_iff.mp h
      exact ⟨max n n2, c, rk, ik, i, len, hf, hc, Or.inr (Or.inl ⟨k1, as, rest, ln1, d1, e1, _, m1, hs, rfl, he, hl, hsub, exec2_le _ _ (Nat.le_max_left _ _) _ _ _ _ _ _ _ hn _ (Nat.le_refl _), Or.inr ⟨e, rfl, hk, Or.inl ⟨h1, hq, exec2_le _ _ (Nat.le_max_right _ _) _ _ _ _ _ _ _ hn2 _ (Nat.le_refl _)⟩⟩⟩)⟩
    · exact ⟨n, c, rk, ik, i, len, hf, hc, Or.inr (Or.inl ⟨k1, as, rest, ln1, d1, e1, _, m1, hs, rfl, he, hl, hsub, hn, Or.inr ⟨e, rfl, hk, Or.inr h⟩⟩)⟩
  · exact ⟨0, c, rk, ik, i, len, hf, hc, Or.inr (Or.inr (Or.inl h))⟩
  · exact ⟨0, c, rk, ik, i, len, hf, hc, Or.inr (Or.inr (Or.inr h))⟩
theorem rn_mk {d k pc : Nat} {ls st : List PV} {m : Mem} {q : Rs × Mem} (h : R1 rn d k pc ls st m q) : rn d k pc ls st m = some q := by
  obtain ⟨n, hn⟩ := R1_cont h
  exact rn_iff.mpr ⟨n + 1, run1_mk hn⟩
noncomputable def cl (d k : Nat) (as : List PV) (m : Mem) : Option (Rs × Mem) := match mI k with
  | some e => if e.2.2.2.1 < (arL as).length then none else rn d k 0 (ini e.2.2.2.1 as) [] m
  | none => none
theorem cl_le {d d' k : Nat} {as : List PV} {m : Mem} {q : Rs × Mem} (h : cl d k as m = some q) (hd : d ≤ d') : cl d' k as m = some q := by
  unfold cl at h ⊢
  split at h
  · split at h
    · cases h
    · rename_i hn
      rw [if_neg hn]; exact rn_le h hd
  · cases h
theorem exec2_exec : ∀ (n d k pc : Nat) (ls st : List PV) (m : Mem) (q : Rs × Mem), exec2 n d k pc ls st m = some q → exec n d k pc ls st m = some q := by
  intro n
  induction n with
  | zero => intro d k pc ls st m q h; cases h
  | succ n ih =>
    intro d k pc ls st m q h
    obtain ⟨c, rk, ik, i, len, hf, hc, h⟩ := run1_inv h
    obtain ⟨a2, bs, a4, a5, a7, a9, hm, hdc, hl⟩ := ft_inv hf
    unfold exec
    rw [hm]
    dsimp only
    rw [hdc]
    dsimp only
    rw [if_neg (by simp [← hl])]
    rcases h with ⟨p, l, s, m1, hs, h⟩ | ⟨k1, as, rest, ln1, d1, e1, r1, m1, hs, rfl, he, hl, hsub, hEE, h⟩ | ⟨v, hs, hq⟩ | ⟨e, m1, hs, hk, hh, hq⟩
    · rw [hs]; exact ih _ _ _ _ _ _ _ h
    · rw [hs]; dsimp only
      rw [he]; dsimp only
      rw [if_neg (by omega), ih _ _ _ _ _ _ _ hEE]
      rcases h with ⟨v, rfl, h⟩ | ⟨e, rfl, hk, ⟨h1, hq, h⟩ | ⟨hq, hz⟩⟩
      · exact ih _ _ _ _ _ _ _ h
      · dsimp only
        rw [if_neg hk, hq]; exact ih _ _ _ _ _ _ _ h
      · subst hz
        dsimp only
        rw [if_neg hk, hq]
    · subst hq; rw [hs]
    · subst hq; rw [hs]; dsimp only
      rw [if_neg hk, hh]
