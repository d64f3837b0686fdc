/-! evaluation by the component: results -/
set_option maxRecDepth 100000
set_option maxHeartbeats 4000000
/-- a result holds what a comparable is -/
def RS (m : Mem) (a : Int) (v : VR) : Prop := tg m a = 27 ∧ match v with
  | none => vl m a 0 = 0
  | some (d, l) => (vl m a 0 = 1 ∧ ∃ xs c, RW m (vl m a 1) xs c ∧ At xs (vl m a 2) (enV d l) ∧ wfF (foC d l foN) ∧ xs.length < 60000) ∨ (vl m a 0 = 2 ∧ d.1 = 3 ∧ d.2.1 = vl m a 3)
section
variable {P : Int → Prop} {d : Nat} {m m1 : Mem} {a b : Int} {v u : VR}
theorem RS.keep (h : RS m a v) (k : EK P m m1) (hp : ¬ P a) : RS m1 a v := by
  obtain ⟨h1, h2⟩ := h
  have g : ∀ j, vl m1 a j = vl m a j := fun j => k.2 a j (by omega) (by omega) (by omega) (by omega) (fun _ => hp)
  refine ⟨by rw [(k.1 a (by omega)).1]; exact h1, ?_⟩
  cases v with
  | none => show vl m1 a 0 = 0; rw [g]; exact h2
  | some x =>
    obtain ⟨dd, l⟩ := x
    rcases h2 with ⟨b1, xs, c, b2, b3⟩ | ⟨b1, b2, b3⟩
    · exact Or.inl ⟨by rw [g]; exact b1, xs, c, by rw [g]; exact k.row b2, by rw [g]; exact b3⟩
    · exact Or.inr ⟨by rw [g]; exact b1, b2, by rw [g]; exact b3⟩
def vIs (v : VR) : Bool := match v with
  | none => false
  | some (d, _) => d.1 == 3
theorem vSm_0 : vSm none v = (v.isNone) := by cases v <;> rfl
theorem c333 (hd : 1 ≤ d) (hz : TZ m) (h : RS m a v) : cl d 333 [pR a] m = some (.inl (some (pI (b2i (vIs v)))), m) := by
  obtain ⟨h1, h2⟩ := h
  refine q333 (by omega) hz _ ?_
  rw [gd_of h1, nm_eq]
  cases v with
  | none => have : vl m a 0 = 0 := h2; rw [if_neg (by omega), if_neg (by omega)]; rfl
  | some x =>
    obtain ⟨dd, l⟩ := x
    rcases h2 with ⟨b1, xs, c, b2, b3, b4, b5⟩ | ⟨b1, b2, b3⟩
    · have hp := enV_pos dd l
      have e139 := c139 (d := d - 1) hz b2 b3.1 (by have := b3.2.1; omega)
      rw [gi_kind b3] at e139
      rw [if_neg (by omega), if_pos b1, nm_eq, gd_of b2.1, bI_eq e139]
      by_cases z : dd.1 = 3
      · rw [if_pos (by omega), show vIs (some (dd, l)) = true by show (dd.1 == 3) = true; rw [z]; rfl]; rfl
      · rw [if_neg (by omega), show vIs (some (dd, l)) = false by show (dd.1 == 3) = false; simpa using z]; rfl
    · rw [if_pos b1, show vIs (some (dd, l)) = true by show (dd.1 == 3) = true; rw [b2]; rfl]; rfl
theorem c334 {dd : ND} {l : Fo} (hd : 1 ≤ d) (hz : TZ m) (h : RS m a (some (dd, l))) (h3 : dd.1 = 3) : cl d 334 [pR a] m = some (.inl (some (pL dd.2.1)), m) := by
  obtain ⟨h1, h2⟩ := h
  refine q334 (by omega) hz _ ?_
  rw [gd_of h1]
  rcases h2 with ⟨b1, xs, c, b2, b3, b4, b5⟩ | ⟨b1, b2, b3⟩
  · have hp := b3.2.1
    have hp1 := enV_pos dd l
    have hp0 := b3.1
    have en : enV dd l = 3 :: nuB dd.2.1 := by unfold enV enD; rw [if_neg (by omega), if_pos h3]
    have b3' := b3
    rw [en] at b3'
    have e140 := c140 (d := d - 1) hz b2 b3'.cons.2 b4.1.2.1 b4.1.2.2.1
    rw [if_neg (by omega), nm_eq, gd_of b2.1, (w32_of (by omega) (by omega) : w32 (vl m a 2 + 1) = vl m a 2 + 1), bL_eq e140]
  · rw [if_pos b1, b3]
theorem smV_ne {d d' : ND} {l l' : Fo} (h : d.1 ≠ d'.1) : smV d l d' l' = false := by
  unfold smV smD
  have : (d.1 == d'.1) = false := by simpa using h
  rw [this, Bool.false_and]
theorem smV_num {d d' : ND} {l l' : Fo} (h : d.1 = 3) (h' : d'.1 = 3) : smV d l d' l' = (d.2.1 == d'.2.1) := by
  unfold smV smD
  have : (d.1 == d'.1) = true := by rw [h, h']; rfl
  rw [this, Bool.true_and, if_neg (by omega), if_pos h]
/-- how deep a comparable is -/
def vDp (v : VR) : Nat := match v with
  | none => 0
  | some (_, l) => dpF l
theorem c332_45 (hd : 2 ≤ d) (hz : TZ m) (h : RS m a v) (h' : RS m b u) (hn : vIs v = true ∨ vIs u = true) (hv : v.isSome = true) (hu : u.isSome = true) : rn d 332 45 [pR a, pR b] [] m = some (.inl (some (pI (b2i (vSm v u)))), m) := by
  have e1 := c333 (d := d - 1) (by omega) hz h
  have e2 := c333 (d := d - 1) (by omega) hz h'
  cases v with
  | none => cases hv
  | some x =>
  cases u with
  | none => cases hu
  | some y =>
  obtain ⟨dd, l⟩ := x
  obtain ⟨dd', l'⟩ := y
  have i1 : vIs (some (dd, l)) = (dd.1 == 3) := rfl
  have i2 : vIs (some (dd', l')) = (dd'.1 == 3) := rfl
  refine q332_45 (by omega) hz _ ?_
  have evs : vSm (some (dd, l)) (some (dd', l')) = smV dd l dd' l' := rfl
  rw [evs]
  rw [gd_of h.1, bI_eq e1]
  rw [i1] at e1 hn ⊢
  rw [i2] at e2 hn
  by_cases z : dd.1 = 3
  · have z1 : (dd.1 == 3) = true := by rw [z]; rfl
    rw [z1, if_neg (by decide), gd_of h'.1, bI_eq e2]
    by_cases z' : dd'.1 = 3
    · have z2 : (dd'.1 == 3) = true := by rw [z']; rfl
      have e3 := c334 (d := d - 1) (by omega) hz h z
      have e4 := c334 (d := d - 1) (by omega) hz h' z'
      rw [z2, if_neg (by decide), bL_eq e3, bL_eq e4, smV_num z z']
      by_cases q : dd.2.1 = dd'.2.1
      · rw [if_pos q, q]; simp [b2i]
      · rw [if_neg q]
        have : (dd.2.1 == dd'.2.1) = false := by simpa using q
        rw [this]; rfl
    · have z2 : (dd'.1 == 3) = false := by simpa using z'
      rw [z2, if_pos (by rfl), smV_ne (by omega)]; rfl
  · have z1 : (dd.1 == 3) = false := by simpa using z
    rw [z1] at hn ⊢
    rw [if_pos (by rfl)]
    have z' : dd'.1 = 3 := by
      rcases hn with q | q
      · cases q
      · simpa using q
    rw [smV_ne (by omega)]; rfl
theorem RS.some_0 {x : ND × Fo} (h : RS m a (some x)) : vl m a 0 = 1 ∨ vl m a 0 = 2 := by
  obtain ⟨dd, l⟩ := x
  rcases h.2 with ⟨b1, _⟩ | ⟨b1, _⟩
  · exact Or.inl b1
  · exact Or.inr b1
/-- whether two results are the same -/
theorem c332 (hd : 9 + 2 * vDp v ≤ d) (hz : TZ m) (h : RS m a v) (h' : RS m b u) : cl d 332 [pR a, pR b] m = some (.inl (some (pI (b2i (vSm v u)))), m) := by
  refine q332 (by omega) hz _ ?_
  rw [gd_of h.1, nm_eq]
  cases v with
  | none =>
    have h0 : vl m a 0 = 0 := h.2
    rw [if_pos h0, gd_of h'.1, h0]
    cases u with
    | none => have h0' : vl m b 0 = 0 := h'.2; rw [if_pos h0'.symm]; rfl
    | some y => have := h'.some_0; rw [if_neg (by omega)]; rfl
  | some x =>
    have ha := h.some_0
    rw [if_neg (by omega), gd_of h'.1, nm_eq]
    cases u with
    | none => have h0' : vl m b 0 = 0 := h'.2; rw [if_pos h0', h0', if_neg (by omega)]; rfl
    | some y =>
      have hb := h'.some_0
      have e1 := c333 (d := d - 1) (by omega) hz h
      have e2 := c333 (d := d - 1) (by omega) hz h'
      rw [if_neg (by omega), bI_eq e1]
      by_cases z : vIs (some x) = true
      · rw [z, if_neg (by decide)]
        exact c332_45 (by omega) hz h h' (Or.inl z) rfl rfl
      · have z0 : vIs (some x) = false := by simpa using z
        rw [z0, if_pos (by rfl), bI_eq e2]
        by_cases z' : vIs (some y) = true
        · rw [z', if_neg (by decide)]
          exact c332_45 (by omega) hz h h' (Or.inr z') rfl rfl
        · have z0' : vIs (some y) = false := by simpa using z'
          rw [z0', if_pos (by rfl), nm_eq]
          obtain ⟨dd, l⟩ := x
          obtain ⟨dd', l'⟩ := y
          have k1 : dd.1 ≠ 3 := by
            intro q; exact z (by show (dd.1 == 3) = true; rw [q]; rfl)
          have k2 : dd'.1 ≠ 3 := by
            intro q; exact z' (by show (dd'.1 == 3) = true; rw [q]; rfl)
          rcases h.2 with ⟨b1, xs, c, b2, b3, b4, b5⟩ | ⟨b1, b2, b3⟩
          · rcases h'.2 with ⟨g1, ys, c2, g2, g3, g4, g5⟩ | ⟨g1, g2, g3⟩
            · have hd' : 9 + 2 * dpF l ≤ d := hd
              have e147 := c147 (d := d - 1) (by omega) hz b2 g2 b5 g5 b4 g4 b3 g3
              rw [gd_of b2.1, bI_eq e147, gd_of (by unfold b2i; split <;> omega)]
              rfl
            · exact absurd g2 k2
          · exact absurd b2 k1
end
