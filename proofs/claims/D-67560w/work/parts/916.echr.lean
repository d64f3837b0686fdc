/-! evaluation by the component: characters, how long, what is less -/
set_option maxRecDepth 100000
set_option maxHeartbeats 4000000
section
variable {d : Nat} {m : Mem} {r c k : Int} {xs : List Int}
theorem utf_3 {u : Int} (h : 2048 ≤ u) : (utf u).length = 3 := by
  unfold utf; rw [if_neg (by omega), if_neg (by omega)]; rfl
/-- one character: how long it stands, and what it is -/
theorem c331 {u ch : Int} {us rest : List Int} (hd : 1 ≤ d) (hz : TZ m) (hR : RW m r xs c) (hA : At xs k (uts (u :: us))) (hw : wfU (u :: us)) (hx : xs.length < 60000) (hc : (ch = u ∧ rest = us ∧ ¬ (55296 ≤ u ∧ u ≤ 56319)) ∨ (∃ v, us = v :: rest ∧ 55296 ≤ u ∧ u ≤ 56319 ∧ 56320 ≤ v ∧ v ≤ 57343 ∧ ch = 65536 + (u - 55296) * 1024 + v - 56320)) : ∃ n : Int, cl d 331 [pR r, pI k] m = some (.inl (some (pI n)), m) ∧ cl d 336 [pR r, pI k] m = some (.inl (some (pI ch)), m) ∧ 1 ≤ n ∧ n ≤ 6 ∧ At xs (k + n) (uts rest) ∧ k + n + (uts rest).length = k + (uts (u :: us)).length ∧ rest.length ≤ us.length := by
  have hu := hw u (List.mem_cons_self)
  rw [uts_cons] at hA ⊢
  obtain ⟨b1, b2⟩ := hA.app
  have hl := utf_len u
  have e141 := c141 (d := d - 1) hz hR b1 hu
  have e142 := c142 (d := d - 1) hz hR b1 hu
  have h0 := b1.1
  have h1 := b1.2.1
  rcases hc with ⟨a1, a2, a3⟩ | ⟨v, a1, a2, a3, a4, a5, a6⟩
  · refine ⟨(utf u).length, q331 (by omega) hz _ ?_, q336 (by omega) hz _ ?_, by omega, by omega, by rw [a2]; exact b2, by rw [a2, List.length_append]; push_cast; omega, by rw [a2]; omega⟩
    · rw [gd_of hR.1, bI_eq e141]
      by_cases z : u < 55296
      · rw [if_pos z, bI_eq e142]
      · rw [if_neg z, if_pos (by omega), bI_eq e142]
    · rw [gd_of hR.1, bI_eq e141, a1]
      by_cases z : u < 55296
      · rw [if_pos z]
      · rw [if_neg z, if_pos (by omega)]
  · have hu3 := utf_3 (u := u) (by omega)
    have hv3 := utf_3 (u := v) (by omega)
    rw [a1, uts_cons, hu3] at b2
    obtain ⟨b3, b4⟩ := b2.app
    rw [hv3] at b4
    have b3' : At xs (k + 3) (utf v) := b3
    have e141' := c141 (d := d - 1) hz hR b3' ⟨by omega, by omega⟩
    have h3 := b3.2.1
    have es : pShl (u - 55296) 10 = (u - 55296) * 1024 := by
      have := pShl_mul (x := u - 55296) 10 (by decide) (by omega) (by omega)
      simpa using this
    refine ⟨6, q331 (by omega) hz _ ?_, q336 (by omega) hz _ ?_, by omega, by omega, by rw [show k + 6 = k + ((3 : Nat) : Int) + ((3 : Nat) : Int) by omega]; exact b4, by rw [a1, uts_cons, List.length_append, List.length_append, hu3, hv3]; push_cast; omega, by rw [a1, List.length_cons]; omega⟩
    · rw [gd_of hR.1, bI_eq e141, if_neg (by omega), if_neg (by omega)]
    · rw [gd_of hR.1, bI_eq e141, if_neg (by omega), if_neg (by omega), (w32_of (by omega) (by omega) : w32 (k + 3) = k + 3), bI_eq e141', (w32_of (by omega) (by omega) : w32 (u - 55296) = u - 55296), es, (w32_of (by omega) (by omega) : w32 (65536 + (u - 55296) * 1024) = 65536 + (u - 55296) * 1024), (w32_of (by omega) (by omega) : w32 (65536 + (u - 55296) * 1024 + v) = 65536 + (u - 55296) * 1024 + v), (w32_of (by omega) (by omega) : w32 (65536 + (u - 55296) * 1024 + v - 56320) = 65536 + (u - 55296) * 1024 + v - 56320), a6]
end
/-- but for a's cells all is as it was -/
def ER (a : Int) (m m' : Mem) : Prop := (OK m → OK m') ∧ (∀ b, tg m' b = tg m b ∧ ln m' b = ln m b) ∧ ∀ b j, b ≠ a → vl m' b j = vl m b j
theorem ER.set {a f v : Int} {m : Mem} : ER a m (mst m a f v) := ⟨fun o => o, fun _ => ⟨rfl, rfl⟩, fun b j hb => by rw [vl_mst, if_neg (fun z => hb z.1)]⟩
theorem ER.trans {a : Int} {m m1 m2 : Mem} (h : ER a m m1) (h' : ER a m1 m2) : ER a m m2 := ⟨fun o => h'.1 (h.1 o), fun b => ⟨by rw [(h'.2.1 b).1, (h.2.1 b).1], by rw [(h'.2.1 b).2, (h.2.1 b).2]⟩, fun b j hb => by rw [h'.2.2 b j hb, h.2.2 b j hb]⟩
section
variable {P : Int → Prop} {d : Nat} {m : Mem} {a b : Int} {v u : VR}
/-- a result is told -/
theorem c327 {r p c : Int} {xs : List Int} {dd : ND} {l : Fo} (hz : TZ m) (h : tg m a = 27) (hp : P a) (hR : RW m r xs c) (hA : At xs p (enV dd l)) (hw : wfF (foC dd l foN)) (hx : xs.length < 60000) : ∃ m', cl d 327 [pR a, pR r, pI p] m = some (.inl none, m') ∧ RS m' a (some (dd, l)) ∧ EK P m m' ∧ ER a m m' ∧ (nx m' = nx m ∧ sl m' = sl m) := by
  have k1 : EK P m (mst m a 0 1) := EK.set (Or.inr (Or.inr (Or.inr ⟨h, hp⟩)))
  have k2 : EK P (mst m a 0 1) (mst (mst m a 0 1) a 1 r) := EK.set (Or.inr (Or.inr (Or.inr ⟨h, hp⟩)))
  have k3 : EK P (mst (mst m a 0 1) a 1 r) (mst (mst (mst m a 0 1) a 1 r) a 2 p) := EK.set (Or.inr (Or.inr (Or.inr ⟨h, hp⟩)))
  have k := (k1.trans k2).trans k3
  refine ⟨mst (mst (mst m a 0 1) a 1 r) a 2 p, q327 hz _ ?_, ⟨h, Or.inl ⟨?_, xs, c, ?_, ?_, hw, hx⟩⟩, k, (ER.set.trans ER.set).trans ER.set, rfl, rfl⟩
  · rw [gd_of h]
  · rw [vl_mst, if_neg (by omega), vl_mst, if_neg (by omega), vl_mst, if_pos ⟨rfl, rfl⟩]
  · rw [show vl (mst (mst (mst m a 0 1) a 1 r) a 2 p) a 1 = r by rw [vl_mst, if_neg (by omega), vl_mst, if_pos ⟨rfl, rfl⟩]]
    exact k.row hR
  · rw [vl_mst, if_pos ⟨rfl, rfl⟩]; exact hA
theorem c328 {n : Int} (hz : TZ m) (h : tg m a = 27) (hp : P a) : ∃ m', cl d 328 [pR a, pL n] m = some (.inl none, m') ∧ RS m' a (vNum n) ∧ EK P m m' ∧ ER a m m' ∧ (nx m' = nx m ∧ sl m' = sl m) := by
  have k1 : EK P m (mst m a 0 2) := EK.set (Or.inr (Or.inr (Or.inr ⟨h, hp⟩)))
  have k2 : EK P (mst m a 0 2) (mst (mst m a 0 2) a 3 n) := EK.set (Or.inr (Or.inr (Or.inr ⟨h, hp⟩)))
  refine ⟨mst (mst m a 0 2) a 3 n, q328 hz _ ?_, ⟨h, Or.inr ⟨?_, rfl, ?_⟩⟩, k1.trans k2, ER.set.trans ER.set, rfl, rfl⟩
  · rw [gd_of h]
  · rw [vl_mst, if_neg (by omega), vl_mst, if_pos ⟨rfl, rfl⟩]
  · rw [vl_mst, if_pos ⟨rfl, rfl⟩]
theorem c329 (hz : TZ m) (h : tg m a = 27) (hp : P a) : ∃ m', cl d 329 [pR a] m = some (.inl none, m') ∧ RS m' a none ∧ EK P m m' ∧ ER a m m' ∧ (nx m' = nx m ∧ sl m' = sl m) := by
  refine ⟨mst m a 0 0, q329 hz _ ?_, ⟨h, ?_⟩, EK.set (Or.inr (Or.inr (Or.inr ⟨h, hp⟩))), ER.set, rfl, rfl⟩
  · rw [gd_of h]
  · show vl (mst m a 0 0) a 0 = 0
    rw [vl_mst, if_pos ⟨rfl, rfl⟩]
/-- characters are counted -/
theorem c330_82 {r c en : Int} {xs : List Int} (hd : 3 ≤ d) (hz : TZ m) (h : tg m a = 27) (h1 : vl m a 1 = r) (hp : P a) (hR : RW m r xs c) (hx : xs.length < 60000) : ∀ (N : Nat) (us : List Int) (k n : Int), us.length ≤ N → At xs k (uts us) → wfU us → sur us → k + (uts us).length = en → 0 ≤ n → n + us.length ≤ 100000 → ∃ m', rn d 330 82 [pR a, pL n, pU, pI en, pI k] [] m = some (.inl none, m') ∧ RS m' a (vNum (n + (chU us).length)) ∧ EK P m m' ∧ ER a m m' ∧ (nx m' = nx m ∧ sl m' = sl m) := by
  intro N
  induction N with
  | zero =>
    intro us k n hN hA hw hs he hn0 hn1
    have : us = [] := List.length_eq_zero_iff.mp (by omega)
    subst this
    obtain ⟨m', e1, g1, g2, g3, g4⟩ := c328 (d := d - 1) (n := n) hz h hp
    refine ⟨m', q330_82 (by omega) hz _ ?_, by simpa [chU] using g1, g2, g3, g4⟩
    rw [if_neg (by simp [uts] at he; omega), gd_of h, bV_eq e1]
  | succ N ih =>
    intro us k n hN hA hw hs he hn0 hn1
    cases us with
    | nil => exact ih [] k n (by simp) hA hw hs he hn0 hn1
    | cons u us =>
      obtain ⟨ch, rest, e1, e2, e3, e4⟩ := chU_cons hw hs
      obtain ⟨q, f1, f2, f3, f4, f5, f6, f7⟩ := c331 (d := d - 1) (by omega) hz hR hA hw hx e4
      have hkl := hA.1
      have hkr := hA.2.1
      have hul : 1 ≤ (uts (u :: us)).length := by rw [uts_cons, List.length_append]; have := utf_len u; omega
      have hcl : ((chU rest).length : Int) + 1 = (chU (u :: us)).length := by rw [e1, List.length_cons]; push_cast; rfl
      simp only [List.length_cons] at hN hn1
      obtain ⟨m', g0, g1, g2, g3, g4⟩ := ih rest (k + q) (n + 1) (by omega) f5 e3 e2 (by omega) (by omega) (by push_cast at hn1; omega)
      refine ⟨m', q330_82 (by omega) hz _ ?_, by rw [show n + ((chU (u :: us)).length : Int) = n + 1 + (chU rest).length by omega]; exact g1, g2, g3, g4⟩
      rw [if_pos (by omega), gd_of h, h1, bI_eq f1, (w64_of (by omega) (by omega) : w64 (n + 1) = n + 1), (w32_of (by omega) (by omega) : w32 (k + q) = k + q)]
      exact g0
/-- how long a result is -/
theorem c330 (hd : 4 ≤ d) (hz : TZ m) (h : RS m a v) (hp : P a) : ∃ m', cl d 330 [pR a] m = some (.inl none, m') ∧ RS m' a (vLen v) ∧ EK P m m' ∧ ER a m m' ∧ (nx m' = nx m ∧ sl m' = sl m) := by
  obtain ⟨z1, z2, z3, z4, z5⟩ := c329 (P := P) (d := d - 1) hz h.1 hp
  cases v with
  | none =>
    have h0 : vl m a 0 = 0 := h.2
    refine ⟨z1, q330 (by omega) hz _ ?_, z3, z4, z5⟩
    rw [gd_of h.1, if_neg (by omega), bV_eq z2]
  | some x =>
    obtain ⟨dd, l⟩ := x
    rcases h.2 with ⟨b1, xs, c, b2, b3, b4, b5⟩ | ⟨b1, b2, b3⟩
    · have hp1 := enV_pos dd l
      have e139 := c139 (d := d - 1) hz b2 b3.1 (by have := b3.2.1; omega)
      rw [gi_kind b3] at e139
      by_cases h4 : dd.1 < 4
      · refine ⟨z1, q330 (by omega) hz _ ?_, by rw [show vLen (some (dd, l)) = none from if_pos h4]; exact z3, z4, z5⟩
        rw [gd_of h.1, if_pos b1, nm_eq, gd_of b2.1, bI_eq e139, if_pos (by omega), bV_eq z2]
      · by_cases h4' : dd.1 = 4
        · have en : enV dd l = 4 :: nmB dd.2.2.1 := by unfold enV enD; rw [if_neg (by omega), if_neg (by omega), if_pos h4']
          have b3' := b3
          rw [en] at b3'
          have b6 := b3'.cons.2
          unfold nmB at b6
          obtain ⟨b7, b8⟩ := b6.app
          rw [l2_len] at b8
          have e137 := c137 (d := d - 1) (by omega) hz b2 b3 b4.1 (by have := b3.2.1; have := b3.1; omega)
          have enl : (enV dd l).length = (uts dd.2.2.1).length + 3 := by rw [en, List.length_cons, nmB_len]; omega
          have hr := b3.2.1
          have hr0 := b3.1
          have hul : dd.2.2.1.length ≤ (uts dd.2.2.1).length := by
            have : ∀ us : List Int, us.length ≤ (uts us).length := by
              intro us
              induction us with
              | nil => simp
              | cons u us ih => rw [uts_cons, List.length_append, List.length_cons]; have := utf_len u; omega
            exact this _
          obtain ⟨m', g0, g1, g2, g3, g4⟩ := c330_82 (P := P) (d := d) (by omega) hz h.1 rfl hp b2 b5 _ dd.2.2.1 (vl m a 2 + 3) 0 (Nat.le_refl _) (by rw [show vl m a 2 + 3 = vl m a 2 + 1 + ((2 : Nat) : Int) by omega]; exact b8) b4.1.2.2.2.1 b4.2.1 rfl (by omega) (by omega)
          refine ⟨m', q330 (by omega) hz _ ?_, ?_, g2, g3, g4⟩
          · rw [gd_of h.1, if_pos b1, nm_eq, gd_of b2.1, bI_eq e139, if_neg (by omega), nm_eq, gd_of b2.1, bI_eq e139, if_neg (by omega), nm_eq, gd_of b2.1, bI_eq e137, (w32_of (by omega) (by omega) : w32 (vl m a 2 + 3) = vl m a 2 + 3), show vl m a 2 + ((enV dd l).length : Int) = vl m a 2 + 3 + (uts dd.2.2.1).length by rw [enl]; push_cast; omega]
            exact g0
          · have ev : vLen (some (dd, l)) = vNum (chU dd.2.2.1).length := by unfold vLen; dsimp only; rw [if_neg h4, if_pos h4']
            rw [ev, show ((chU dd.2.2.1).length : Int) = 0 + (chU dd.2.2.1).length by omega]
            exact g1
        · have e145 := c145 (d := d - 1) (by omega) hz b2 b3 b4 (by omega) b5
          obtain ⟨m', g0, g1, g2, g3, g4⟩ := c328 (P := P) (d := d - 1) (n := (cntF l : Int)) hz h.1 hp
          refine ⟨m', q330 (by omega) hz _ ?_, by rw [show vLen (some (dd, l)) = vNum (cntF l) by unfold vLen; dsimp only; rw [if_neg h4, if_neg h4']]; exact g1, g2, g3, g4⟩
          rw [gd_of h.1, if_pos b1, nm_eq, gd_of b2.1, bI_eq e139, if_neg (by omega), nm_eq, gd_of b2.1, bI_eq e139, if_pos (by omega), nm_eq, gd_of b2.1, bI_eq e145, bV_eq g0]
    · refine ⟨z1, q330 (by omega) hz _ ?_, by rw [show vLen (some (dd, l)) = none from if_pos (by omega)]; exact z3, z4, z5⟩
      rw [gd_of h.1, if_neg (by omega), bV_eq z2]
end
