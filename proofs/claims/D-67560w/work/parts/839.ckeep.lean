/-! queries as objects: they stay -/
set_option maxRecDepth 100000
set_option maxHeartbeats 4000000
theorem qkt {t k : Int} (t0 : Int) (h : t = t0) (hd : qOk t0 k) : qOk t k := by rw [h]; exact hd
theorem qka1 {t j : Int} (h : t = 303113 ∨ t = 304113) : qOk t j := by
  rcases h with h | h <;> subst h
  · exact Or.inr (Or.inr (Or.inr (Or.inr (Or.inr (Or.inr (Or.inr (Or.inr (Or.inr (Or.inr (Or.inr (Or.inr (Or.inr (Or.inl rfl)))))))))))))
  · exact Or.inr (Or.inr (Or.inr (Or.inr (Or.inr (Or.inr (Or.inr (Or.inr (Or.inr (Or.inr (Or.inr (Or.inr (Or.inr (Or.inr (Or.inl rfl))))))))))))))
theorem qka2 {t j : Int} (h : t = 305111 ∨ t = 306111) : qOk t j := by
  rcases h with h | h <;> subst h
  · exact Or.inr (Or.inr (Or.inr (Or.inr (Or.inr (Or.inr (Or.inr (Or.inr (Or.inr (Or.inr (Or.inr (Or.inr (Or.inr (Or.inr (Or.inr (Or.inl rfl)))))))))))))))
  · exact Or.inr (Or.inr (Or.inr (Or.inr (Or.inr (Or.inr (Or.inr (Or.inr (Or.inr (Or.inr (Or.inr (Or.inr (Or.inr (Or.inr (Or.inr (Or.inr (Or.inl rfl))))))))))))))))
theorem qka3 {t j : Int} (h : t = 338112 ∨ t = 339112) : qOk t j := by
  rcases h with h | h <;> subst h
  · exact Or.inr (Or.inr (Or.inr (Or.inr (Or.inr (Or.inr (Or.inr (Or.inr (Or.inr (Or.inr (Or.inr (Or.inr (Or.inr (Or.inr (Or.inr (Or.inr (Or.inr (Or.inl rfl)))))))))))))))))
  · exact Or.inr (Or.inr (Or.inr (Or.inr (Or.inr (Or.inr (Or.inr (Or.inr (Or.inr (Or.inr (Or.inr (Or.inr (Or.inr (Or.inr (Or.inr (Or.inr (Or.inr (Or.inr (rfl))))))))))))))))))
section
variable {m : Mem} {N : Int} {xs : List Int} {o : Int} {d : ND} {l : Fo}
abbrev CB1 (m : Mem) (N : Int) (xs : List Int) (o : Int) (d : ND) : Prop := tg m o = 17 ∧ vl m o 0 = N ∧ At xs (vl m o 1) (nmB d.2.2.1) ∧ wfU d.2.2.1
abbrev CB4 (m : Mem) (o : Int) (d : ND) : Prop := tg m o = 29 ∧ d.2.2.1 = [vl m o 0, vl m o 1, vl m o 2, vl m o 3, vl m o 4]
abbrev CB20 (m : Mem) (o : Int) (d : ND) (l : Fo) : Prop := tg m o = 15 ∧ vl m o 0 = d.2.1 ∧ vl m o 1 = b2i (sgF l) ∧ (tg m (vl m o 2) = 303113 ∨ tg m (vl m o 2) = 304113) ∧ vl m o 3 = cntF l ∧ (cntF l : Int) ≤ ln m (vl m o 2)
abbrev CB21 (m : Mem) (o : Int) (d : ND) (l : Fo) : Prop := tg m o = 16 ∧ vl m o 0 = d.2.1 ∧ (tg m (vl m o 1) = 305111 ∨ tg m (vl m o 1) = 306111) ∧ vl m o 2 = cntF l ∧ (cntF l : Int) ≤ ln m (vl m o 1)
abbrev CB30 (m : Mem) (o : Int) (d : ND) (l : Fo) : Prop := cntF l = 1 ∨ (tg m o = 28 ∧ vl m o 0 = (if d.1 = 30 then 1 else 0) ∧ (tg m (vl m o 1) = 338112 ∨ tg m (vl m o 1) = 339112) ∧ vl m o 2 = cntF l ∧ (cntF l : Int) ≤ ln m (vl m o 1))
abbrev CB33 (m : Mem) (o : Int) (d : ND) : Prop := tg m o = 26 ∧ vl m o 0 = d.2.1 ∧ tg m (vl m o 3) = 27 ∧ tg m (vl m o 4) = 27 ∧ vl m o 3 ≠ vl m o 4
abbrev CB45 (m : Mem) (o : Int) (d : ND) : Prop := tg m o = 23 ∧ vl m o 1 = (if d.1 = 47 then 1 else 0)
abbrev CB40 (m : Mem) (N : Int) (xs : List Int) (o : Int) (d : ND) : Prop := (40 ≤ d.1 ∧ d.1 ≤ 44) ∧ tg m o = 24 ∧ vl m o 0 = N ∧ At xs (vl m o 1) (enV (litN d) foN) ∧ wfF (foC (litN d) foN foN)
theorem CB_cases (h : CB m N xs o d l) : (d.1 = 1 ∧ CB1 m N xs o d) ∨ (d.1 = 2 ∧ tg m o = 19) ∨ (d.1 = 3 ∧ tg m o = 18 ∧ vl m o 0 = d.2.1) ∨ (d.1 = 4 ∧ CB4 m o d) ∨ (d.1 = 5 ∧ tg m o = 20) ∨ (d.1 = 20 ∧ CB20 m o d l) ∨ (d.1 = 21 ∧ CB21 m o d l) ∨ ((d.1 = 30 ∨ d.1 = 31) ∧ CB30 m o d l) ∨ (d.1 = 32 ∧ tg m o = 21) ∨ (d.1 = 33 ∧ CB33 m o d) ∨ (d.1 = 34 ∧ tg m o = 22) ∨ ((d.1 = 45 ∨ d.1 = 47 ∨ d.1 = 48) ∧ CB45 m o d) ∨ (d.1 = 46 ∧ tg m o = 25) ∨ CB40 m N xs o d := by
  unfold CB at h
  by_cases q0 : d.1 = 1
  · rw [if_pos q0] at h; exact Or.inl ⟨q0, h⟩
  rw [if_neg q0] at h
  refine Or.inr ?_
  by_cases q1 : d.1 = 2
  · rw [if_pos q1] at h; exact Or.inl ⟨q1, h⟩
  rw [if_neg q1] at h
  refine Or.inr ?_
  by_cases q2 : d.1 = 3
  · rw [if_pos q2] at h; exact Or.inl ⟨q2, h⟩
  rw [if_neg q2] at h
  refine Or.inr ?_
  by_cases q3 : d.1 = 4
  · rw [if_pos q3] at h; exact Or.inl ⟨q3, h⟩
  rw [if_neg q3] at h
  refine Or.inr ?_
  by_cases q4 : d.1 = 5
  · rw [if_pos q4] at h; exact Or.inl ⟨q4, h⟩
  rw [if_neg q4] at h
  refine Or.inr ?_
  by_cases q5 : d.1 = 20
  · rw [if_pos q5] at h; exact Or.inl ⟨q5, h⟩
  rw [if_neg q5] at h
  refine Or.inr ?_
  by_cases q6 : d.1 = 21
  · rw [if_pos q6] at h; exact Or.inl ⟨q6, h⟩
  rw [if_neg q6] at h
  refine Or.inr ?_
  by_cases q7 : d.1 = 30 ∨ d.1 = 31
  · rw [if_pos q7] at h; exact Or.inl ⟨q7, h⟩
  rw [if_neg q7] at h
  refine Or.inr ?_
  by_cases q8 : d.1 = 32
  · rw [if_pos q8] at h; exact Or.inl ⟨q8, h⟩
  rw [if_neg q8] at h
  refine Or.inr ?_
  by_cases q9 : d.1 = 33
  · rw [if_pos q9] at h; exact Or.inl ⟨q9, h⟩
  rw [if_neg q9] at h
  refine Or.inr ?_
  by_cases q10 : d.1 = 34
  · rw [if_pos q10] at h; exact Or.inl ⟨q10, h⟩
  rw [if_neg q10] at h
  refine Or.inr ?_
  by_cases q11 : d.1 = 45 ∨ d.1 = 47 ∨ d.1 = 48
  · rw [if_pos q11] at h; exact Or.inl ⟨q11, h⟩
  rw [if_neg q11] at h
  refine Or.inr ?_
  by_cases q12 : d.1 = 46
  · rw [if_pos q12] at h; exact Or.inl ⟨q12, h⟩
  rw [if_neg q12] at h
  exact Or.inr h
theorem CB_1 (q : d.1 = 1) : CB m N xs o d l = CB1 m N xs o d := by unfold CB; rw [if_pos q]
theorem CB_2 (q : d.1 = 2) : CB m N xs o d l = (tg m o = 19) := by unfold CB; rw [if_neg (by omega), if_pos q]
theorem CB_3 (q : d.1 = 3) : CB m N xs o d l = (tg m o = 18 ∧ vl m o 0 = d.2.1) := by unfold CB; rw [if_neg (by omega), if_neg (by omega), if_pos q]
theorem CB_4 (q : d.1 = 4) : CB m N xs o d l = CB4 m o d := by unfold CB; rw [if_neg (by omega), if_neg (by omega), if_neg (by omega), if_pos q]
theorem CB_5 (q : d.1 = 5) : CB m N xs o d l = (tg m o = 20) := by unfold CB; rw [if_neg (by omega), if_neg (by omega), if_neg (by omega), if_neg (by omega), if_pos q]
theorem CB_20 (q : d.1 = 20) : CB m N xs o d l = CB20 m o d l := by unfold CB; rw [if_neg (by omega), if_neg (by omega), if_neg (by omega), if_neg (by omega), if_neg (by omega), if_pos q]
theorem CB_21 (q : d.1 = 21) : CB m N xs o d l = CB21 m o d l := by unfold CB; rw [if_neg (by omega), if_neg (by omega), if_neg (by omega), if_neg (by omega), if_neg (by omega), if_neg (by omega), if_pos q]
theorem CB_30 (q : d.1 = 30 ∨ d.1 = 31) : CB m N xs o d l = CB30 m o d l := by unfold CB; rw [if_neg (by omega), if_neg (by omega), if_neg (by omega), if_neg (by omega), if_neg (by omega), if_neg (by omega), if_neg (by omega), if_pos q]
theorem CB_32 (q : d.1 = 32) : CB m N xs o d l = (tg m o = 21) := by unfold CB; rw [if_neg (by omega), if_neg (by omega), if_neg (by omega), if_neg (by omega), if_neg (by omega), if_neg (by omega), if_neg (by omega), if_neg (by omega), if_pos q]
theorem CB_33 (q : d.1 = 33) : CB m N xs o d l = CB33 m o d := by unfold CB; rw [if_neg (by omega), if_neg (by omega), if_neg (by omega), if_neg (by omega), if_neg (by omega), if_neg (by omega), if_neg (by omega), if_neg (by omega), if_neg (by omega), if_pos q]
theorem CB_34 (q : d.1 = 34) : CB m N xs o d l = (tg m o = 22) := by unfold CB; rw [if_neg (by omega), if_neg (by omega), if_neg (by omega), if_neg (by omega), if_neg (by omega), if_neg (by omega), if_neg (by omega), if_neg (by omega), if_neg (by omega), if_neg (by omega), if_pos q]
theorem CB_45 (q : d.1 = 45 ∨ d.1 = 47 ∨ d.1 = 48) : CB m N xs o d l = CB45 m o d := by unfold CB; rw [if_neg (by omega), if_neg (by omega), if_neg (by omega), if_neg (by omega), if_neg (by omega), if_neg (by omega), if_neg (by omega), if_neg (by omega), if_neg (by omega), if_neg (by omega), if_neg (by omega), if_pos q]
theorem CB_46 (q : d.1 = 46) : CB m N xs o d l = (tg m o = 25) := by unfold CB; rw [if_neg (by omega), if_neg (by omega), if_neg (by omega), if_neg (by omega), if_neg (by omega), if_neg (by omega), if_neg (by omega), if_neg (by omega), if_neg (by omega), if_neg (by omega), if_neg (by omega), if_neg (by omega), if_pos q]
theorem CB_40 (q : 40 ≤ d.1 ∧ d.1 ≤ 44) : CB m N xs o d l = CB40 m N xs o d := by unfold CB; rw [if_neg (by omega), if_neg (by omega), if_neg (by omega), if_neg (by omega), if_neg (by omega), if_neg (by omega), if_neg (by omega), if_neg (by omega), if_neg (by omega), if_neg (by omega), if_neg (by omega), if_neg (by omega), if_neg (by omega)]
/-- whose places are looked at: none but the own -/
theorem CA.one {P : Int → Prop} (a : P o) (h : d.1 ≠ 20 ∧ d.1 ≠ 21 ∧ d.1 ≠ 30 ∧ d.1 ≠ 31 ∧ d.1 ≠ 33) : CA m P o d l := ⟨a, fun q => absurd q h.1, fun q => absurd q h.2.1, fun q => by
  rcases q with q | q
  · exact absurd q h.2.2.1
  · exact absurd q h.2.2.2.1, fun q => absurd q h.2.2.2.2⟩
theorem CP.keep {m' : Mem} {P : Int → Prop} (h : QKq P m m') (h1 : CB m N xs o d l) (ho : P o) {a : Int} (ha : CP m P o d a) : CP m' P o d a := by
  refine ⟨ha.1, fun q => ?_⟩
  rw [CB_33 q] at h1
  rw [h.2 o ho 3 (qkt 26 h1.1 (by decide)), h.2 o ho 4 (qkt 26 h1.1 (by decide))]
  exact ha.2 q
/-- one object stays -/
def KO (m m' : Mem) (N : Int) (xs ys : List Int) (P : Int → Prop) (o : Int) (d : ND) (l : Fo) : Prop := CB m' N (xs ++ ys) o d l ∧ CA m' P o d l ∧ ∀ j : Nat, CK m' o d l j = CK m o d l j
theorem KO.mk {m' : Mem} {ys : List Int} {P : Int → Prop} (h : QKq P m m') (h1 : CB m N xs o d l) (ha : CA m P o d l) : KO m m' N xs ys P o d l := by
  have E : ∀ a, P a → ∀ k, qOk (tg m a) k → vl m' a k = vl m a k := h.2
  have G : ∀ a t, tg m a = t → t ≠ 0 → tg m' a = t := fun a t ht h0 => by rw [(h.1 a (by rw [ht]; exact h0)).1]; exact ht
  have L : ∀ a, tg m a ≠ 0 → ln m' a = ln m a := fun a ha => (h.1 a ha).2
  obtain ⟨a1, a2, a3, a4, a5⟩ := ha
  clear h
  rcases CB_cases h1 with ⟨q, b⟩ | ⟨q, b⟩ | ⟨q, b⟩ | ⟨q, b⟩ | ⟨q, b⟩ | ⟨q, b⟩ | ⟨q, b⟩ | ⟨q, b⟩ | ⟨q, b⟩ | ⟨q, b⟩ | ⟨q, b⟩ | ⟨q, b⟩ | ⟨q, b⟩ | b
  · clear h1 a2 a3 a4 a5
    obtain ⟨b1, b2, b3, b4⟩ := b
    refine ⟨?_, CA.one a1 (by omega), fun j => by rw [CK_0 (Or.inl (by omega)), CK_0 (Or.inl (by omega))]⟩
    rw [CB_1 q]
    exact ⟨G o 17 b1 (by decide), by rw [E o a1 0 (qkt 17 b1 (by decide))]; exact b2, by rw [E o a1 1 (qkt 17 b1 (by decide))]; exact b3.mono, b4⟩
  · clear h1 a2 a3 a4 a5
    refine ⟨?_, CA.one a1 (by omega), fun j => by rw [CK_0 (Or.inl (by omega)), CK_0 (Or.inl (by omega))]⟩
    rw [CB_2 q]; exact G o 19 b (by decide)
  · clear h1 a2 a3 a4 a5
    refine ⟨?_, CA.one a1 (by omega), fun j => by rw [CK_0 (Or.inl (by omega)), CK_0 (Or.inl (by omega))]⟩
    rw [CB_3 q]; exact ⟨G o 18 b.1 (by decide), by rw [E o a1 0 (qkt 18 b.1 (by decide))]; exact b.2⟩
  · clear h1 a2 a3 a4 a5
    obtain ⟨b1, b2⟩ := b
    refine ⟨?_, CA.one a1 (by omega), fun j => by rw [CK_0 (Or.inl (by omega)), CK_0 (Or.inl (by omega))]⟩
    rw [CB_4 q]
    exact ⟨G o 29 b1 (by decide), by rw [E o a1 0 (qkt 29 b1 (by decide)), E o a1 1 (qkt 29 b1 (by decide)), E o a1 2 (qkt 29 b1 (by decide)), E o a1 3 (qkt 29 b1 (by decide)), E o a1 4 (qkt 29 b1 (by decide))]; exact b2⟩
  · clear h1 a2 a3 a4 a5
    refine ⟨?_, CA.one a1 (by omega), fun j => by rw [CK_w (Or.inl q), CK_w (Or.inl q), E o a1 0 (qkt 20 b (by decide))]⟩
    rw [CB_5 q]; exact G o 20 b (by decide)
  · clear h1 a3 a4 a5
    obtain ⟨b1, b2, b3, b4, b5, b6⟩ := b
    have e2 := E o a1 2 (qkt 15 b1 (by decide))
    have n2 : tg m (vl m o 2) ≠ 0 := by rcases b4 with z | z <;> rw [z] <;> decide
    refine ⟨?_, ⟨a1, fun _ => by rw [e2]; exact a2 q, fun z => absurd z (by rw [q]; decide), fun z => absurd z (by rw [q]; decide), fun z => absurd z (by rw [q]; decide)⟩, fun j => ?_⟩
    · rw [CB_20 q]
      refine ⟨G o 15 b1 (by decide), by rw [E o a1 0 (qkt 15 b1 (by decide))]; exact b2, by rw [E o a1 1 (qkt 15 b1 (by decide))]; exact b3, ?_, by rw [E o a1 3 (qkt 15 b1 (by decide))]; exact b5, by rw [e2, L _ n2]; exact b6⟩
      rw [e2]
      rcases b4 with z | z
      · exact Or.inl (G _ _ z (by decide))
      · exact Or.inr (G _ _ z (by decide))
    · rw [CK_20 q, CK_20 q, e2]; exact E _ (a2 q) j (qka1 b4)
  · clear h1 a2 a4 a5
    obtain ⟨b1, b2, b4, b5, b6⟩ := b
    have e2 := E o a1 1 (qkt 16 b1 (by decide))
    have n2 : tg m (vl m o 1) ≠ 0 := by rcases b4 with z | z <;> rw [z] <;> decide
    refine ⟨?_, ⟨a1, fun z => absurd z (by rw [q]; decide), fun _ => by rw [e2]; exact a3 q, fun z => absurd z (by rw [q]; decide), fun z => absurd z (by rw [q]; decide)⟩, fun j => ?_⟩
    · rw [CB_21 q]
      refine ⟨G o 16 b1 (by decide), by rw [E o a1 0 (qkt 16 b1 (by decide))]; exact b2, ?_, by rw [E o a1 2 (qkt 16 b1 (by decide))]; exact b5, by rw [e2, L _ n2]; exact b6⟩
      rw [e2]
      rcases b4 with z | z
      · exact Or.inl (G _ _ z (by decide))
      · exact Or.inr (G _ _ z (by decide))
    · rw [CK_21 q, CK_21 q, e2]; exact E _ (a3 q) j (qka2 b4)
  · clear h1 a2 a3 a5
    have n20 : ¬ d.1 = 20 := by omega
    have n21 : ¬ d.1 = 21 := by omega
    have n33 : ¬ d.1 = 33 := by omega
    by_cases kc : cntF l = 1
    · refine ⟨?_, ⟨a1, fun z => absurd z n20, fun z => absurd z n21, fun _ z => absurd kc z, fun z => absurd z n33⟩, fun j => by rw [CK_31 q kc, CK_31 q kc]⟩
      rw [CB_30 q]; exact Or.inl kc
    · rcases b with z | ⟨b1, b2, b4, b5, b6⟩
      · exact absurd z kc
      · have e2 := E o a1 1 (qkt 28 b1 (by decide))
        have n2 : tg m (vl m o 1) ≠ 0 := by rcases b4 with z | z <;> rw [z] <;> decide
        refine ⟨?_, ⟨a1, fun z => absurd z n20, fun z => absurd z n21, fun _ _ => by rw [e2]; exact a4 q kc, fun z => absurd z n33⟩, fun j => ?_⟩
        · rw [CB_30 q]
          refine Or.inr ⟨G o 28 b1 (by decide), by rw [E o a1 0 (qkt 28 b1 (by decide))]; exact b2, ?_, by rw [E o a1 2 (qkt 28 b1 (by decide))]; exact b5, by rw [e2, L _ n2]; exact b6⟩
          rw [e2]
          rcases b4 with z | z
          · exact Or.inl (G _ _ z (by decide))
          · exact Or.inr (G _ _ z (by decide))
        · rw [CK_3n q kc, CK_3n q kc, e2]; exact E _ (a4 q kc) j (qka3 b4)
  · clear h1 a2 a3 a4 a5
    refine ⟨?_, CA.one a1 (by omega), fun j => by rw [CK_w (Or.inr (Or.inl q)), CK_w (Or.inr (Or.inl q)), E o a1 0 (qkt 21 b (by decide))]⟩
    rw [CB_32 q]; exact G o 21 b (by decide)
  · clear h1 a2 a3 a4
    obtain ⟨b1, b2, b3, b4, b5⟩ := b
    refine ⟨?_, ⟨a1, fun z => absurd z (by rw [q]; decide), fun z => absurd z (by rw [q]; decide), fun z => absurd z (by rw [q]; decide), fun _ => ?_⟩, fun j => ?_⟩
    · rw [CB_33 q]
      refine ⟨G o 26 b1 (by decide), by rw [E o a1 0 (qkt 26 b1 (by decide))]; exact b2, ?_, ?_, ?_⟩
      · rw [E o a1 3 (qkt 26 b1 (by decide))]; exact G _ 27 b3 (by decide)
      · rw [E o a1 4 (qkt 26 b1 (by decide))]; exact G _ 27 b4 (by decide)
      · rw [E o a1 3 (qkt 26 b1 (by decide)), E o a1 4 (qkt 26 b1 (by decide))]; exact b5
    · rw [E o a1 3 (qkt 26 b1 (by decide)), E o a1 4 (qkt 26 b1 (by decide))]; exact a5 q
    · rw [CK_33 q, CK_33 q]
      dsimp only
      by_cases hj : j = 0
      · rw [if_pos hj, E o a1 1 (qkt 26 b1 (by decide))]
      · rw [if_neg hj, E o a1 2 (qkt 26 b1 (by decide))]
  · clear h1 a2 a3 a4 a5
    refine ⟨?_, CA.one a1 (by omega), fun j => by rw [CK_w (Or.inr (Or.inr (Or.inl q))), CK_w (Or.inr (Or.inr (Or.inl q))), E o a1 0 (qkt 22 b (by decide))]⟩
    rw [CB_34 q]; exact G o 22 b (by decide)
  · clear h1 a2 a3 a4 a5
    obtain ⟨b1, b2⟩ := b
    have hk : oneK d.1 := by omega
    refine ⟨?_, CA.one a1 (by omega), fun j => by rw [CK_w hk, CK_w hk, E o a1 0 (qkt 23 b1 (by decide))]⟩
    rw [CB_45 q]; exact ⟨G o 23 b1 (by decide), by rw [E o a1 1 (qkt 23 b1 (by decide))]; exact b2⟩
  · clear h1 a2 a3 a4 a5
    have hk : oneK d.1 := by omega
    refine ⟨?_, CA.one a1 (by omega), fun j => by rw [CK_w hk, CK_w hk, E o a1 0 (qkt 25 b (by decide))]⟩
    rw [CB_46 q]; exact G o 25 b (by decide)
  · clear h1 a2 a3 a4 a5
    obtain ⟨q, b1, b2, b3, b4⟩ := b
    refine ⟨?_, CA.one a1 (by omega), fun j => by rw [CK_0 (Or.inr q), CK_0 (Or.inr q)]⟩
    rw [CB_40 q]
    exact ⟨q, G o 24 b1 (by decide), by rw [E o a1 0 (qkt 24 b1 (by decide))]; exact b2, by rw [E o a1 1 (qkt 24 b1 (by decide))]; exact b3.mono, b4⟩
theorem CF.keep {m' : Mem} {ys : List Int} : ∀ {F : Fo} {P : Int → Prop} {p p' : Nat → Int}, QKq P m m' → (∀ j, p' j = p j) → CF m N xs P p F → CF m' N (xs ++ ys) P p' F := by
  intro F
  induction F with
  | leaf => intro P p p' _ _ _; trivial
  | inner n d u l r ihl ihr =>
    intro P p p' h hp hc
    obtain ⟨⟨h1, ha, h2⟩, h3⟩ := hc
    obtain ⟨k1, k2, k3⟩ := KO.mk (ys := ys) h h1 ha
    have e0 : p' 0 = p 0 := hp 0
    have key := ihl (h.imp (fun a z => z.1)) k3 h2
    exact ⟨⟨by rw [e0]; exact k1, by rw [e0]; exact k2, by rw [e0]; exact CF.imp (fun a z => CP.keep h h1 ha.1 z) key⟩, ihr h (fun j => hp (j + 1)) h3⟩
end
