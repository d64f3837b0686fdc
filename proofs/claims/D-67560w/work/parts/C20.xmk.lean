/-! the component is made: its steps -/
set_option maxRecDepth 100000
set_option maxHeartbeats 8000000
/-- the base, and where the sinks' bytes are -/
def BX (m : Mem) : Prop := BSm m ∧ ∀ s, tg m s = 2 → vl m s 0 < nx m
/-- owner W of tag w: its field f is set -/
def STW (W w f v : Int) (m m' : Mem) : Prop := SFr (fun a _ => a = W) m m' ∧ (∀ j, vl m' W j = if j = f then v else vl m W j) ∧ BX m' ∧ tg m' W = w
abbrev wOK (w : Int) : Prop := w ≠ 0 ∧ w ≠ 2 ∧ w ≠ 8 ∧ w ≠ 31 ∧ w ≠ 103
section
variable {d : Nat} {m m0 m1 : Mem} {W w : Int}
theorem BX.tz (h : BX m) : TZ m := h.1.1.1
theorem BX.mal' {t n : Int} (h : BX m) (h1 : t ≠ 2) (h2 : t ≠ 8) (hn : n ≤ 2000000) : BX (mal m t n) := ⟨h.1.mal h1 h2 hn, fun s hs => by
  rw [tg_mal] at hs
  by_cases q : s = nx m
  · rw [if_pos q] at hs; exact absurd hs h1
  · rw [if_neg q] at hs
    rw [vl_mal, if_neg q]
    have := h.2 s hs
    show _ < nx m + 1
    omega⟩
theorem BX.mst' {f v : Int} (h : BX m) (hw : wOK (tg m W)) : BX (mst m W f v) := ⟨h.1.mst ⟨hw.2.1, hw.2.2.1, hw.2.2.2⟩, fun s hs => by
  rw [vl_mst, if_neg (fun z => hw.2.1 (by rw [← z.1]; exact hs))]; exact h.2 s hs⟩
theorem STW.of {f v : Int} (h : OLD m m1) (hb : BX m1) (hW : tg m W = w) (hw : wOK w) (hz : TZ m) : STW W w f v m (mst m1 W f v) := by
  have t := h.t hz hW hw.1
  have lt := tz_lt hz (by rw [hW]; exact hw.1)
  have k := h.trans (SFr.mst (m := m1) (M := W) (f := f) (v := v))
  refine ⟨⟨k.1, fun a j ha hj => k.2 a j ha fun z => z.elim id fun z => hj z.1⟩, fun j => ?_, hb.mst' (by rw [t]; exact hw), t⟩
  rw [vl_mst]
  by_cases q : j = f
  · rw [if_pos ⟨rfl, q⟩, if_pos q]
  · rw [if_neg (fun z => q z.2), if_neg q]; exact h.2 W j lt id
theorem sw_arr {f t n : Int} (hb : BX m) (hW : tg m W = w) (hw : wOK w) (h2 : t ≠ 2) (h8 : t ≠ 8) (hn : n ≤ 2000000) : STW W w f (nx m) m (mst (mal m t n) W f (nx m)) ∧ (tg (mst (mal m t n) W f (nx m)) (nx m) = t ∧ ln (mst (mal m t n) W f (nx m)) (nx m) = n) ∧ (∀ j, vl (mst (mal m t n) W f (nx m)) (nx m) j = 0) ∧ nx (mst (mal m t n) W f (nx m)) = nx m + 1 ∧ sl (mst (mal m t n) W f (nx m)) = sl m + n := by
  have lt := tz_lt hb.tz (by rw [hW]; exact hw.1)
  refine ⟨STW.of OLD.rfl'.mal' (hb.mal' h2 h8 hn) hW hw hb.tz, ⟨?_, ?_⟩, fun j => ?_, rfl, rfl⟩
  · show tg (mal m t n) (nx m) = t; rw [tg_mal, if_pos rfl]
  · show ln (mal m t n) (nx m) = n; rw [ln_mal, if_pos rfl]
  · rw [vl_mst, if_neg (by omega), vl_mal, if_pos rfl]
/-- an object of two fields with its bytes -/
theorem mk2 {t u c : Int} (hz : TZ m) (ht : t ≠ 0) : ∀ m2, m2 = mst (mal (mal m t 2) u c) (nx m) 0 (nx m + 1) → OLD m m2 ∧ (∀ a, tg m2 a = if a = nx m + 1 then u else if a = nx m then t else tg m a) ∧ (∀ a, ln m2 a = if a = nx m + 1 then c else if a = nx m then 2 else ln m a) ∧ (∀ j, vl m2 (nx m) j = if j = 0 then nx m + 1 else 0) ∧ (∀ a j, a ≠ nx m → a ≠ nx m + 1 → vl m2 a j = vl m a j) ∧ nx m2 = nx m + 2 ∧ sl m2 = sl m + 2 + c := by
  intro m2 e
  subst e
  refine ⟨(OLD.rfl'.mal').mal'.mst' (Int.le_refl _), fun a => ?_, fun a => ?_, fun j => ?_, fun a j h1 h2 => ?_, ?_, rfl⟩
  · show tg (mal (mal m t 2) u c) a = _
    rw [tg_mal, tg_mal]; rfl
  · show ln (mal (mal m t 2) u c) a = _
    rw [ln_mal, ln_mal]; rfl
  · rw [vl_mst]
    by_cases q : j = 0
    · rw [if_pos ⟨rfl, q⟩, if_pos q]
    · rw [if_neg (fun z => q z.2), if_neg q, vl_mal, if_neg (by show ¬ nx m = nx m + 1; omega), vl_mal, if_pos rfl]
  · rw [vl_mst, if_neg (fun z => h1 z.1), vl_mal, if_neg (by show ¬ a = nx m + 1; exact h2), vl_mal, if_neg h1]
  · show nx m + 1 + 1 = _; omega
theorem lb_mk2 {t u c : Int} (h : LB m) (hc : c ≤ 200000) : LB (mst (mal (mal m t 2) u c) (nx m) 0 (nx m + 1)) := lb_mal (t := u) (n := c) (lb_mal (t := t) (n := 2) h (by decide)) (by omega)
/-- a row -/
theorem sw_row {c : Int} (hb : BX m) (hc : 16 ≤ c ∧ c ≤ 200000) : ∃ m2, cl d 129 [pR (nx m), pI c] (mal m 8 2) = some (.inl none, m2) ∧ OLD m m2 ∧ BX m2 ∧ RW m2 (nx m) [] c ∧ vl m2 (nx m) 0 = nx m + 1 ∧ nx m2 = nx m + 2 ∧ sl m2 = sl m + 2 + c := by
  have hz := hb.tz
  have z1 : TZ (mal m 8 2) := (UT.mal (ts := []) (m := m) (t := 8) (n := 2)).1.1 hz
  have e := q129 (d := d) (a0 := nx m) (a1 := c) z1
  have lb := lb_mk2 (t := 8) (u := 130103) hb.1.2.2.2.1 hc.2
  rw [gd_of (by rw [tg_mal, if_pos rfl]), gd_of ⟨by omega, by omega⟩] at e
  obtain ⟨o, ht, hl, v0, vo, hx, hs⟩ := mk2 (t := 8) (u := 130103) (c := c) hz (by decide) _ rfl
  have e' : cl d 129 [pR (nx m), pI c] (mal m 8 2) = some (.inl none, mst (mal (mal m 8 2) 130103 c) (nx m) 0 (nx m + 1)) := e _ rfl
  clear e
  revert e' o ht hl v0 vo hx hs lb
  generalize mst (mal (mal m 8 2) 130103 c) (nx m) 0 (nx m + 1) = m2
  intro lb o ht hl v0 vo hx hs e'
  have w0 : vl m2 (nx m) 0 = nx m + 1 := (v0 0).trans (if_pos rfl)
  have c8 : ∀ r, tg m2 r = 8 → r = nx m ∨ (tg m r = 8 ∧ vl m2 r 0 = vl m r 0 ∧ vl m r 0 < nx m) := fun r hr => by
    rw [ht] at hr
    by_cases q1 : r = nx m + 1
    · rw [if_pos q1] at hr; omega
    · rw [if_neg q1] at hr
      by_cases q2 : r = nx m
      · exact Or.inl q2
      · rw [if_neg q2] at hr
        exact Or.inr ⟨hr, vo r 0 q2 q1, hb.1.2.1.1 r hr⟩
  have c2 : ∀ r, tg m2 r = 2 → tg m r = 2 ∧ vl m2 r 0 = vl m r 0 := fun r hr => by
    rw [ht] at hr
    by_cases q1 : r = nx m + 1
    · rw [if_pos q1] at hr; omega
    · rw [if_neg q1] at hr
      by_cases q2 : r = nx m
      · rw [if_pos q2] at hr; omega
      · rw [if_neg q2] at hr; exact ⟨hr, vo r 0 q2 q1⟩
  refine ⟨m2, e', o, ⟨⟨o.ok hb.1.1, ⟨fun r hr => ?_, fun r r' hr hr' hne h0 => ?_⟩, fun s s' hs' hs2 hne h0 => ?_, lb, hb.1.2.2.2.2.ut (o.ut (ts := strT)) hz (by simp) (by simp)⟩, fun s hs' => ?_⟩, ⟨by rw [ht, if_neg (by omega), if_pos rfl], by rw [w0, ht, if_pos rfl]; exact Or.inl rfl, by rw [w0, hl, if_pos rfl], (v0 1).trans (if_neg (by decide)), by show ((0 : Nat) : Int) ≤ c; omega, hc, fun i i0 i1 => absurd i1 (by show ¬ i < ((0 : Nat) : Int); omega)⟩, w0, hx, hs⟩
  · rcases c8 r hr with q | ⟨q1, q2, q3⟩
    · rw [q, w0, hx]; omega
    · rw [q2, hx]; omega
  · rcases c8 r hr with q | ⟨q1, q2, q3⟩
    · rcases c8 r' hr' with q' | ⟨p1, p2, p3⟩
      · exact absurd (q.trans q'.symm) hne
      · rw [q, w0, p2]; omega
    · rcases c8 r' hr' with q' | ⟨p1, p2, p3⟩
      · rw [q', w0, q2]; omega
      · rw [q2] at h0
        rw [q2, p2]; exact hb.1.2.1.2 r r' q1 p1 hne h0
  · obtain ⟨a1, a2⟩ := c2 s hs'
    obtain ⟨b1, b2⟩ := c2 s' hs2
    rw [a2] at h0
    rw [a2, b2]; exact hb.1.2.2.1 s s' a1 b1 hne h0
  · obtain ⟨a1, a2⟩ := c2 s hs'
    have := hb.2 s a1
    rw [a2, hx]; omega
/-- a sink -/
theorem sw_snk {c : Int} (hb : BX m) (hc : 16 ≤ c ∧ c ≤ 40000) : ∃ m2, cl d 51 [pR (nx m), pI c] (mal m 2 2) = some (.inl none, m2) ∧ OLD m m2 ∧ BX m2 ∧ SK m2 (nx m) [] c ∧ nx m2 = nx m + 2 ∧ sl m2 = sl m + 2 + c := by
  have hz := hb.tz
  have z1 : TZ (mal m 2 2) := (UT.mal (ts := []) (m := m) (t := 2) (n := 2)).1.1 hz
  have e := q51 (d := d) (a0 := nx m) (a1 := c) z1
  have lb := lb_mk2 (t := 2) (u := 52103) (c := c) hb.1.2.2.2.1 (by omega)
  rw [gd_of (by rw [tg_mal, if_pos rfl]), gd_of ⟨by omega, by omega⟩] at e
  obtain ⟨o, ht, hl, v0, vo, hx, hs⟩ := mk2 (t := 2) (u := 52103) (c := c) hz (by decide) _ rfl
  have e' : cl d 51 [pR (nx m), pI c] (mal m 2 2) = some (.inl none, mst (mal (mal m 2 2) 52103 c) (nx m) 0 (nx m + 1)) := e _ rfl
  clear e
  revert e' o ht hl v0 vo hx hs lb
  generalize mst (mal (mal m 2 2) 52103 c) (nx m) 0 (nx m + 1) = m2
  intro lb o ht hl v0 vo hx hs e'
  have w0 : vl m2 (nx m) 0 = nx m + 1 := (v0 0).trans (if_pos rfl)
  have c2 : ∀ r, tg m2 r = 2 → r = nx m ∨ (tg m r = 2 ∧ vl m2 r 0 = vl m r 0 ∧ vl m r 0 < nx m) := fun r hr => by
    rw [ht] at hr
    by_cases q1 : r = nx m + 1
    · rw [if_pos q1] at hr; omega
    · rw [if_neg q1] at hr
      by_cases q2 : r = nx m
      · exact Or.inl q2
      · rw [if_neg q2] at hr
        exact Or.inr ⟨hr, vo r 0 q2 q1, hb.2 r hr⟩
  have c8 : ∀ r, tg m2 r = 8 → tg m r = 8 ∧ vl m2 r 0 = vl m r 0 := fun r hr => by
    rw [ht] at hr
    by_cases q1 : r = nx m + 1
    · rw [if_pos q1] at hr; omega
    · rw [if_neg q1] at hr
      by_cases q2 : r = nx m
      · rw [if_pos q2] at hr; omega
      · rw [if_neg q2] at hr; exact ⟨hr, vo r 0 q2 q1⟩
  refine ⟨m2, e', o, ⟨⟨o.ok hb.1.1, ⟨fun r hr => ?_, fun r r' hr hr' hne h0 => ?_⟩, fun s s' hs' hs2 hne h0 => ?_, lb, hb.1.2.2.2.2.ut (o.ut (ts := strT)) hz (by simp) (by simp)⟩, fun s hs' => ?_⟩, ⟨by rw [ht, if_neg (by omega), if_pos rfl], by rw [w0, ht, if_pos rfl], by rw [w0, hl, if_pos rfl], (v0 1).trans (if_neg (by decide)), by show ((0 : Nat) : Int) ≤ c; omega, hc.2, fun i i0 i1 => absurd i1 (by show ¬ i < ((0 : Nat) : Int); omega)⟩, hx, hs⟩
  · obtain ⟨a1, a2⟩ := c8 r hr
    have := hb.1.2.1.1 r a1
    rw [a2, hx]; omega
  · obtain ⟨a1, a2⟩ := c8 r hr
    obtain ⟨b1, b2⟩ := c8 r' hr'
    rw [a2] at h0
    rw [a2, b2]; exact hb.1.2.1.2 r r' a1 b1 hne h0
  · rcases c2 s hs' with q | ⟨q1, q2, q3⟩
    · rcases c2 s' hs2 with q' | ⟨p1, p2, p3⟩
      · exact absurd (q.trans q'.symm) hne
      · rw [q, w0, p2]; omega
    · rcases c2 s' hs2 with q' | ⟨p1, p2, p3⟩
      · rw [q', w0, q2]; omega
      · rw [q2] at h0
        rw [q2, p2]; exact hb.1.2.2.1 s s' q1 p1 hne h0
  · rcases c2 s hs' with q | ⟨q1, q2, q3⟩
    · rw [q, w0, hx]; omega
    · rw [q2, hx]; omega
theorem RW.mw {r c f v : Int} {xs : List Int} (h : RW m r xs c) (hz : TZ m) (hw : wOK (tg m W)) (h3 : tg m W ≠ 130103 ∧ tg m W ≠ 132103) : RW (mst m W f v) r xs c := h.ut (ts := [8, 130103, 132103]) (UT.mst (by simp; omega)) hz (by simp) (by simp) (by simp)
theorem SK.mw {r c f v : Int} {xs : List Int} (h : SK m r xs c) (hz : TZ m) (hw : wOK (tg m W)) (h3 : tg m W ≠ 52103) : SK (mst m W f v) r xs c := h.ut (ts := [2, 52103]) (UT.mst (by simp; omega)) hz (by simp) (by simp)
/-- W gets a row, a sink -/
theorem sx_row {f c : Int} (hb : BX m) (hW : tg m W = w) (hw : wOK w ∧ w < 100) (hc : 16 ≤ c ∧ c ≤ 200000) : ∃ m2, cl d 129 [pR (nx m), pI c] (mal m 8 2) = some (.inl none, m2) ∧ STW W w f (nx m) m (mst m2 W f (nx m)) ∧ (RW (mst m2 W f (nx m)) (nx m) [] c ∧ vl (mst m2 W f (nx m)) (nx m) 0 = nx m + 1) ∧ nx (mst m2 W f (nx m)) = nx m + 2 ∧ sl (mst m2 W f (nx m)) = sl m + (2 + c) := by
  obtain ⟨m2, e, o, b, r, v, x, s⟩ := sw_row (d := d) hb hc
  have t := o.t hb.tz hW hw.1.1
  have lt := tz_lt hb.tz (by rw [hW]; exact hw.1.1)
  exact ⟨m2, e, STW.of o b hW hw.1 hb.tz, ⟨r.mw b.tz (by rw [t]; exact hw.1) (by rw [t]; omega), by rw [vl_mst, if_neg (by omega)]; exact v⟩, x, s.trans (Int.add_assoc _ _ _)⟩
theorem sx_snk {f c : Int} (hb : BX m) (hW : tg m W = w) (hw : wOK w ∧ w < 100) (hc : 16 ≤ c ∧ c ≤ 40000) : ∃ m2, cl d 51 [pR (nx m), pI c] (mal m 2 2) = some (.inl none, m2) ∧ STW W w f (nx m) m (mst m2 W f (nx m)) ∧ SK (mst m2 W f (nx m)) (nx m) [] c ∧ nx (mst m2 W f (nx m)) = nx m + 2 ∧ sl (mst m2 W f (nx m)) = sl m + (2 + c) := by
  obtain ⟨m2, e, o, b, r, x, s⟩ := sw_snk (d := d) hb hc
  have t := o.t hb.tz hW hw.1.1
  exact ⟨m2, e, STW.of o b hW hw.1 hb.tz, r.mw b.tz (by rw [t]; exact hw.1) (by rw [t]; omega), x, s.trans (Int.add_assoc _ _ _)⟩
/-- a constant -/
theorem sx_set {f v : Int} (hb : BX m) (hW : tg m W = w) (hw : wOK w) : STW W w f v m (mst m W f v) ∧ nx (mst m W f v) = nx m ∧ sl (mst m W f v) = sl m := ⟨STW.of OLD.rfl' hb hW hw hb.tz, rfl, rfl⟩
theorem SFr.utw {ts : List Int} (h : SFr (fun a _ => a = W) m m1) (hW : tg m W = w) (hw : w ∉ ts) : UT ts m m1 := ⟨h.1, fun a ha ht j _ => h.2 a j ha fun z => hw (by rw [← hW, ← z]; exact ht)⟩
theorem SFr.tr1 {u v' x : Mem} (h : SFr (fun a _ => a = W) u v') (h' : SFr (fun a _ => a = W) v' x) : SFr (fun a _ => a = W) u x := ⟨(h.trans h').1, fun a j ha hj => (h.trans h').2 a j ha fun z => z.elim hj hj⟩
/-- a byte is put where there is room -/
theorem c130x {r c b : Int} {xs : List Int} (hd : 1 ≤ d) (ok : OK m) (hI : RI m) (hR : RW m r xs c) (h1 : (xs.length : Int) + 1 ≤ c) (h2 : c ≤ 20000) : ∃ m', cl d 130 [pR r, pI b] m = some (.inl none, m') ∧ RW m' r (xs ++ [w8 b]) c ∧ RO r m m' ∧ NC (fun a => a = r ∨ a = vl m r 0) m m' ∧ vl m' r 0 = vl m r 0 := by
  have hcc := hR.2.2.2.2.2.1
  have hne := hR.ne
  obtain ⟨m2, c', e2, g1, g2, g3, g4⟩ := c130 (b := b) hd ok hI hR (by omega)
  obtain ⟨ht, hb, hc, hs, hl, -, hv⟩ := hR
  have e1 : cl (d - 1) 131 [pR r, pI 1] m = some (.inl none, m) := by
    refine q131 ok.1 _ ?_
    rw [gd_of ht, nm_eq, nm_eq, gd_of hb, hc, hs, (w32_of (by omega) (by omega) : w32 ((xs.length : Int) + 1) = xs.length + 1), if_neg (by omega)]
  have e : cl d 130 [pR r, pI b] m = some (.inl none, mst (mst m r 1 ((xs.length : Int) + 1)) (vl m r 0) xs.length (w8 b)) := by
    refine q130 (by omega) ok.1 _ ?_
    simp (disch := first | assumption | omega) only [nm, gd_of, e1, bV_ok, hs, w32_of, w8_w8]
  have em : m2 = mst (mst m r 1 ((xs.length : Int) + 1)) (vl m r 0) xs.length (w8 b) := by
    have := e2.symm.trans e
    injection this with q
    injection q
  have nc : NC (fun a => a = r ∨ a = vl m r 0) m m2 := by
    rw [em]
    exact (NC.set (Or.inl rfl)).trans (NC.set (Or.inr rfl))
  have v0 : vl m2 r 0 = vl m r 0 := by
    rw [em, vl_mst, if_neg (fun z => hne z.1.symm), vl_mst, if_neg (fun z => absurd z.2 (by decide))]
  have ec : c' = c := by
    have := g1.2.2.1
    rw [v0, (nc.2.2.1 _).2, hc] at this
    omega
  rw [ec] at g1
  exact ⟨m2, e2, g1, g2, nc, v0⟩
/-- a word of the patcher's -/
theorem c112_29 {P a r c : Int} {cs : List Int} (hd : 5 ≤ d) : ∀ (N : Nat) (m : Mem) (j v : Int) (xs : List Int), ((cs.length : Int) - j).toNat = N → 0 ≤ j → j ≤ cs.length → BX m → tg m P = 7 → vl m P 0 = r → r ≠ P → SC m a cs → RW m r (xs ++ cs.take j.toNat) c → (xs.length : Int) + cs.length ≤ c ∧ c ≤ 20000 → ∃ m', rn d 112 29 [pR P, pR a, pI v, pI j] [] m = some (.inl (some (pI v)), m') ∧ RW m' r (xs ++ cs) c ∧ RO r m m' ∧ NC (fun a => a = r ∨ a = vl m r 0) m m' ∧ vl m' r 0 = vl m r 0 := by
  intro N
  induction N with
  | zero =>
    intro m j v xs hN j0 j1 hb hP h0 hrP hs hR hl
    have : j.toNat = cs.length := by omega
    rw [this, List.take_length] at hR
    refine ⟨m, q112_29 (by omega) hb.tz _ ?_, hR, RO.refl hb.1.2.1, NC.refl, rfl⟩
    rw [gd_of hs.1, bI_eq (c349 (by omega) hb.tz hs), if_neg (by omega)]
  | succ N ih =>
    intro m j v xs hN j0 j1 hb hP h0 hrP hs hR hl
    have hz := hb.tz
    have hjl : j < cs.length := by omega
    have tr := hR.1
    have hne := hR.ne
    have ltl : ((xs ++ cs.take j.toNat).length : Int) + 1 ≤ c := by simp; omega
    obtain ⟨m1, e, r1, o1, n1, v1⟩ := c130x (d := d - 1) (b := gi cs j) (by omega) hb.1.1 hb.1.2.1 hR ltl hl.2
    have g := hs.2.2.2.2.2.2 j j0 hjl
    have hc6 := hs.2.2.2.2.2.1
    have t7 : tg m1 P = 7 := by rw [(n1.2.2.1 P).1]; exact hP
    have tb : tg m (vl m r 0) = 130103 ∨ tg m (vl m r 0) = 132103 := hR.2.1
    have nP : vl m1 P 0 = vl m P 0 := n1.2.2.2 P 0 fun z => by
      rcases z with z | z
      · exact hrP z.symm
      · rw [z] at hP; omega
    have b1 : BX m1 := ⟨⟨n1.ok hb.1.1, o1.1, fun s s' hs1 hs2 hn h00 => by
      rw [(n1.2.2.1 _).1] at hs1 hs2
      have f : ∀ s, tg m s = 2 → vl m1 s 0 = vl m s 0 := fun s hs => n1.2.2.2 s 0 fun z => by
        rcases z with z | z
        · rw [z] at hs; omega
        · rw [z] at hs; omega
      rw [f s hs1] at h00
      rw [f s hs1, f s' hs2]; exact hb.1.2.2.1 s s' hs1 hs2 hn h00, cl_LB e hb.1.2.2.2.1, hb.1.2.2.2.2.ut (UT.nc (ts := strT) n1 fun x hx => by rcases hx with rfl | rfl <;> simp <;> omega) hz (by simp) (by simp)⟩, fun s hs1 => by
      rw [(n1.2.2.1 _).1] at hs1
      rw [n1.2.2.2 s 0 fun z => by
        rcases z with z | z
        · rw [z] at hs1; omega
        · rw [z] at hs1; omega, n1.1]
      exact hb.2 s hs1⟩
    have hs1 : SC m1 a cs := hs.ut (UT.nc (ts := strT) n1 fun x hx => by rcases hx with rfl | rfl <;> simp <;> omega) hz (by simp) (by simp)
    have et : xs ++ cs.take j.toNat ++ [w8 (gi cs j)] = xs ++ cs.take (j + 1).toNat := by
      have hw : w8 (gi cs j) = gi cs j := by unfold w8; omega
      have hlt : j.toNat < cs.length := by omega
      have e1 : (j + 1).toNat = j.toNat + 1 := by omega
      rw [hw, e1, List.take_succ_eq_append_getElem hlt, List.append_assoc]
      unfold gi
      rw [List.getD_eq_getElem?_getD, List.getElem?_eq_getElem hlt]; rfl
    rw [et] at r1
    obtain ⟨m', f1, f2, f3, f4, f5⟩ := ih m1 (j + 1) v xs (by omega) (by omega) (by omega) b1 t7 (by rw [nP]; exact h0) hrP hs1 r1 hl
    rw [v1] at f4 f5
    refine ⟨m', q112_29 (by omega) hz _ ?_, f2, o1.trans f3, n1.trans f4, f5⟩
    rw [gd_of hs.1, bI_eq (c349 (by omega) hz hs), if_pos hjl, gd_of hP, nm_eq, bI_eq (c351 (by omega) hz hs j0 hjl), h0, gd_of tr, bV_eq e, (w32_of (by omega) (by omega) : w32 (j + 1) = j + 1)]
    exact f1
/-- a change of a row's places alone -/
theorem BX.row {r c : Int} {xs : List Int} (h : BX m) (hR : RW m r xs c) (n1 : NC (fun a => a = r ∨ a = vl m r 0) m m1) (o1 : RO r m m1) : BX m1 := by
  have tr := hR.1
  have tb := hR.2.1
  have f : ∀ s, tg m s = 2 → vl m1 s 0 = vl m s 0 := fun s hs => n1.2.2.2 s 0 fun z => by
    rcases z with z | z
    · rw [z] at hs; omega
    · rw [z] at hs; omega
  exact ⟨⟨n1.ok h.1.1, o1.1, fun s s' hs1 hs2 hn h00 => by
    rw [(n1.2.2.1 _).1] at hs1 hs2
    rw [f s hs1] at h00
    rw [f s hs1, f s' hs2]; exact h.1.2.2.1 s s' hs1 hs2 hn h00, fun a => by rw [(n1.2.2.1 a).2]; exact h.1.2.2.2.1 a, h.1.2.2.2.2.ut (UT.nc (ts := strT) n1 fun x hx => by rcases hx with rfl | rfl <;> simp <;> omega) h.tz (by simp) (by simp)⟩, fun s hs1 => by
    rw [(n1.2.2.1 _).1] at hs1
    rw [f s hs1, n1.1]
    exact h.2 s hs1⟩
theorem c112 {P a r c : Int} {cs xs : List Int} (hd : 6 ≤ d) (hb : BX m) (hP : tg m P = 7) (h0 : vl m P 0 = r) (hs : SC m a cs) (hR : RW m r xs c) (hl : (xs.length : Int) + 2 + cs.length ≤ c ∧ c ≤ 20000) (hc : cs.length < 100) : ∃ m', cl d 112 [pR P, pR a] m = some (.inl (some (pI xs.length)), m') ∧ RW m' r (xs ++ (0 :: (cs.length : Int) :: cs)) c ∧ RO r m m' ∧ NC (fun a => a = r ∨ a = vl m r 0) m m' ∧ vl m' r 0 = vl m r 0 := by
  have hz := hb.tz
  have tr := hR.1
  have hrP : r ≠ P := fun z => by rw [z] at tr; omega
  have tb := hR.2.1
  have hs1 := hR.2.2.2.1
  obtain ⟨m1, e1, r1, o1, n1, v1⟩ := c130x (d := d - 1) (b := 0) (by omega) hb.1.1 hb.1.2.1 hR (by omega) hl.2
  have b1 := hb.row hR n1 o1
  have nS : ∀ x : Int, x = r ∨ x = vl m r 0 → tg m x ∉ strT := fun x hx => by rcases hx with rfl | rfl <;> simp <;> omega
  have sc1 : SC m1 a cs := hs.ut (UT.nc (ts := strT) n1 nS) hz (by simp) (by simp)
  have nP : vl m1 P 0 = r := by
    rw [n1.2.2.2 P 0 fun z => by
      rcases z with z | z
      · exact hrP z.symm
      · rw [z] at hP; omega]
    exact h0
  have t7 : tg m1 P = 7 := by rw [(n1.2.2.1 P).1]; exact hP
  have w0 : w8 0 = 0 := rfl
  rw [w0] at r1
  obtain ⟨m2, e2, r2, o2, n2, v2⟩ := c130x (d := d - 1) (b := (cs.length : Int)) (by omega) b1.1.1 b1.1.2.1 r1 (by simp; omega) hl.2
  have b2 := b1.row r1 n2 o2
  have tb1 := r1.2.1
  have tr1 := r1.1
  have nS1 : ∀ x : Int, x = r ∨ x = vl m1 r 0 → tg m1 x ∉ strT := fun x hx => by rcases hx with rfl | rfl <;> simp <;> omega
  have sc2 : SC m2 a cs := sc1.ut (UT.nc (ts := strT) n2 nS1) b1.tz (by simp) (by simp)
  have nP2 : vl m2 P 0 = r := by
    rw [n2.2.2.2 P 0 fun z => by
      rcases z with z | z
      · exact hrP z.symm
      · rw [z] at t7; omega]
    exact nP
  have t72 : tg m2 P = 7 := by rw [(n2.2.2.1 P).1]; exact t7
  have wl : w8 (cs.length : Int) = cs.length := by unfold w8; omega
  rw [wl, List.append_assoc] at r2
  have r2' : RW m2 r ((xs ++ [0, (cs.length : Int)]) ++ cs.take (0 : Int).toNat) c := by
    have : cs.take (0 : Int).toNat = [] := rfl
    rw [this, List.append_nil]; exact r2
  obtain ⟨m3, e3, r3, o3, n3, v3⟩ := c112_29 (d := d) (P := P) (a := a) (by omega) _ m2 0 (vl m r 1) _ rfl (by decide) (by omega) b2 t72 nP2 hrP sc2 r2' ⟨by simp; omega, hl.2⟩
  rw [v2, v1] at v3
  rw [v1] at n2
  rw [v2, v1] at n3
  have el : xs ++ [0, (cs.length : Int)] ++ cs = xs ++ (0 :: (cs.length : Int) :: cs) := by simp
  rw [el] at r3
  refine ⟨m3, q112 (by omega) hz _ ?_, r3, (o1.trans o2).trans o3, (n1.trans n2).trans n3, v3⟩
  rw [gd_of hP, nm_eq, h0, gd_of tr, bV_eq e1, nm_eq, nP, gd_of sc1.1, bI_eq (c349 (by omega) b1.tz sc1), gd_of tr1, bV_eq e2, e3, hs1]
end
