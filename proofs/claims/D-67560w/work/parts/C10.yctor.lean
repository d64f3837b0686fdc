/-! the twin is made: its parts -/
set_option maxRecDepth 100000
set_option maxHeartbeats 4000000
/-- what was there stays -/
abbrev OLD (m m' : Mem) : Prop := SFr (fun _ _ => False) m m'
section
variable {d : Nat} {m m0 m1 : Mem}
theorem OLD.rfl' : OLD m m := ⟨KP.refl, fun _ _ _ _ => rfl⟩
theorem OLD.mal' {t n : Int} (h : OLD m0 m) : OLD m0 (mal m t n) := by
  have := h.trans (SFr.mal (m := m) (t := t) (n := n))
  exact ⟨this.1, fun a j ha _ => this.2 a j ha (fun z => z.elim id id)⟩
theorem OLD.mst' {a f v : Int} (h : OLD m0 m) (ha : nx m0 ≤ a) : OLD m0 (mst m a f v) := by
  have := h.trans (SFr.mst (m := m) (M := a) (f := f) (v := v))
  exact ⟨this.1, fun b j hb _ => this.2 b j hb (fun z => z.elim id fun z => by omega)⟩
theorem OLD.ut {ts : List Int} (h : OLD m m1) : UT ts m m1 := ⟨h.1, fun a ha _ j _ => h.2 a j ha id⟩
def tpF (i : Int) : Int := if i = 10 then 11 else i
def tpT (i : Int) : Int := if i = 1 then 284102 else if i = 10 then 284104 else 284101
def tpL (i : Int) : Int := if i = 10 then 512 else 256
/-- a tree in the making: so many arrays -/
def TPn (m0 m : Mem) (N j s0 : Int) : Prop := TZ m ∧ (nx m = N + 1 + j ∧ sl m = s0 + 256 * j + (if j = 11 then 256 else 0)) ∧ tg m N = 13 ∧ (∀ i, 0 ≤ i → i < j → vl m N (tpF i) = N + 1 + i ∧ tg m (N + 1 + i) = tpT i ∧ ln m (N + 1 + i) = tpL i) ∧ (vl m N 10 = 0 ∧ vl m N 12 = 0) ∧ OLD m0 m ∧ LB m
theorem tpF_inj {i j : Int} (hi : 0 ≤ i ∧ i ≤ 10) (hj : 0 ≤ j ∧ j ≤ 10) (h : tpF i = tpF j) : i = j := by unfold tpF at h; split at h <;> split at h <;> omega
theorem TPn.step {N j s0 : Int} (h : TPn m0 m N j s0) (hN : nx m0 = N) (hj : 0 ≤ j ∧ j ≤ 10) : TPn m0 (mst (mal m (tpT j) (tpL j)) N (tpF j) (nx m)) N (j + 1) s0 := by
  obtain ⟨z, ⟨h1, h2⟩, h3, h4, ⟨h5, h6⟩, h7, h8⟩ := h
  have n1 : nx m ≠ N := by omega
  refine ⟨(UT.mal (ts := []) (m := m) (t := tpT j) (n := tpL j)).1.1 z, ⟨by show nx m + 1 = _; omega, ?_⟩, ?_, fun i i0 i1 => ?_, ⟨?_, ?_⟩, h7.mal'.mst' (by omega), lb_mal (t := tpT j) (n := tpL j) h8 (by unfold tpL; split <;> omega)⟩
  · show sl m + tpL j = _
    unfold tpL
    by_cases q : j = 10
    · rw [if_pos q, if_pos (by omega)]; rw [if_neg (by omega)] at h2; omega
    · rw [if_neg q, if_neg (by omega)]; rw [if_neg (by omega)] at h2; omega
  · show tg (mal m (tpT j) (tpL j)) N = 13
    rw [tg_mal, if_neg (fun z => n1 z.symm)]; exact h3
  · by_cases q : i = j
    · subst q
      refine ⟨by rw [vl_mst, if_pos ⟨rfl, rfl⟩]; exact h1, ?_, ?_⟩
      · show tg (mal m (tpT i) (tpL i)) (N + 1 + i) = _
        rw [tg_mal, if_pos h1.symm]
      · show ln (mal m (tpT i) (tpL i)) (N + 1 + i) = _
        rw [ln_mal, if_pos h1.symm]
    · obtain ⟨g1, g2, g3⟩ := h4 i i0 (by omega)
      refine ⟨?_, ?_, ?_⟩
      · rw [vl_mst, if_neg (fun z => q (tpF_inj ⟨i0, by omega⟩ hj z.2)), vl_mal, if_neg (fun z => n1 z.symm)]; exact g1
      · show tg (mal m (tpT j) (tpL j)) (N + 1 + i) = _
        rw [tg_mal, if_neg (by omega)]; exact g2
      · show ln (mal m (tpT j) (tpL j)) (N + 1 + i) = _
        rw [ln_mal, if_neg (by omega)]; exact g3
  · rw [vl_mst, if_neg (fun z => by have := z.2; unfold tpF at this; split at this <;> omega), vl_mal, if_neg (fun z => n1 z.symm)]; exact h5
  · rw [vl_mst, if_neg (fun z => by have := z.2; unfold tpF at this; split at this <;> omega), vl_mal, if_neg (fun z => n1 z.symm)]; exact h6
/-- a tree is made -/
theorem c283 (hb : BTm m) : ∃ m', cl d 283 [pR (nx m)] (mal m 13 13) = some (.inl none, m') ∧ OLD m m' ∧ TW m' (nx m) 0 [] 256 ∧ uC m' (nx m) = 512 ∧ nx m' = nx m + 12 ∧ sl m' = sl m + 3085 ∧ BTm m' := by
  have hz := hb.tz
  have hN : 0 < nx m := by have := hb.1.2.2; omega
  have z1 : TZ (mal m 13 13) := (UT.mal (ts := []) (m := m) (t := 13) (n := 13)).1.1 hz
  have t0 : TPn m (mal m 13 13) (nx m) 0 (sl m + 13) := ⟨z1, ⟨by show nx m + 1 = _; omega, by show sl m + 13 = _; rw [if_neg (by decide)]; omega⟩, by rw [tg_mal, if_pos rfl], fun i i0 i1 => by omega, ⟨by rw [vl_mal, if_pos rfl], by rw [vl_mal, if_pos rfl]⟩, OLD.rfl'.mal', lb_mal hb.2.2.1 (by decide)⟩
  have t11 := ((((((((((t0.step rfl (by decide)).step rfl (by decide)).step rfl (by decide)).step rfl (by decide)).step rfl (by decide)).step rfl (by decide)).step rfl (by decide)).step rfl (by decide)).step rfl (by decide)).step rfl (by decide)).step rfl (by decide)
  have e := q283 (d := d) (a0 := nx m) z1
  have tt : tg (mal m 13 13) (nx m) = 13 := by rw [tg_mal, if_pos rfl]
  rw [gd_of tt] at e
  have e' := e _ rfl
  refine ⟨_, e', ?_⟩
  obtain ⟨z, ⟨h1, h2⟩, h3, h4, ⟨h5, h6⟩, h7, h8⟩ := t11
  have f11 : ∀ f, aF f → ∃ i, (0 ≤ i ∧ i < 11) ∧ tpF i = f := fun f hf => by
    unfold aF at hf
    by_cases q : f = 11
    · exact ⟨10, by decide, by rw [q]; rfl⟩
    · exact ⟨f, by omega, by unfold tpF; rw [if_neg (by omega)]⟩
  have key : ∀ m' : Mem, TZ m' → nx m' = nx m + 12 → sl m' = sl m + 3085 → tg m' (nx m) = 13 → (∀ i, 0 ≤ i → i < 11 → vl m' (nx m) (tpF i) = nx m + 1 + i ∧ tg m' (nx m + 1 + i) = tpT i ∧ ln m' (nx m + 1 + i) = tpL i) → vl m' (nx m) 10 = 0 → vl m' (nx m) 12 = 0 → OLD m m' → LB m' → OLD m m' ∧ TW m' (nx m) 0 [] 256 ∧ uC m' (nx m) = 512 ∧ nx m' = nx m + 12 ∧ sl m' = sl m + 3085 ∧ BTm m' := by
    intro m' z h1 h2 h3 h4 h5 h6 h7 h8
    have ff : ∀ f, 0 ≤ f → f ≤ 9 → vl m' (nx m) f = nx m + 1 + f ∧ tg m' (nx m + 1 + f) = tpT f ∧ ln m' (nx m + 1 + f) = 256 := fun f f0 f1 => by
      have := h4 f f0 (by omega)
      rw [show tpF f = f from if_neg (by omega), show tpL f = 256 from if_neg (by omega)] at this
      exact this
    have g11 : vl m' (nx m) 11 = nx m + 1 + 10 ∧ tg m' (nx m + 1 + 10) = 284104 ∧ ln m' (nx m + 1 + 10) = 512 := h4 10 (by decide) (by decide)
    have tw : TW m' (nx m) 0 [] 256 := by
      refine ⟨h3, fun f f0 f1 fn => ?_, ?_, ?_, h5, h6, by decide, ?_, fun i i0 i1 => absurd i1 (by show ¬ i < ((0 : Nat) : Int); omega)⟩
      · obtain ⟨a1, a2, a3⟩ := ff f f0 f1
        rw [a1]
        refine ⟨Or.inl ?_, a3⟩
        rw [a2]
        unfold tpT
        rw [if_neg fn, if_neg (by omega)]
      · obtain ⟨a1, a2, a3⟩ := ff 1 (by decide) (by decide)
        rw [a1]
        exact ⟨Or.inl (a2.trans rfl), a3⟩
      · rw [g11.1]; exact Or.inl g11.2.1
      · rw [g11.1, g11.2.2]; exact ⟨by show ((0 : Nat) : Int) ≤ 512; decide, by decide, by decide⟩
    have cls : ∀ a, tg m' a = 13 → a = nx m ∨ (tg m a = 13 ∧ ∀ f, vl m' a f = vl m a f) := fun a ha => by
      have lt := tz_lt z (by omega : tg m' a ≠ 0)
      by_cases q : a = nx m
      · exact Or.inl q
      · by_cases q2 : a < nx m
        · exact Or.inr ⟨by rw [← (h7.1.2.2 a q2).1]; exact ha, fun f => h7.2 a f q2 id⟩
        · exfalso
          obtain ⟨-, b2, -⟩ := h4 (a - nx m - 1) (by omega) (by omega)
          rw [show nx m + 1 + (a - nx m - 1) = a by omega, ha] at b2
          unfold tpT at b2
          split at b2
          · omega
          · split at b2 <;> omega
    have vn : ∀ f, aF f → nx m < vl m' (nx m) f ∧ vl m' (nx m) f < nx m + 12 := fun f hf => by
      obtain ⟨i, i0, rfl⟩ := f11 f hf
      rw [(h4 i i0.1 i0.2).1]; omega
    have ti : TI m' := by
      refine ⟨fun a f ha hf => ?_, fun a b f g ha hb' hf hg hne h0 => ?_⟩
      · rcases cls a ha with rfl | ⟨c1, c2⟩
        · have := vn f hf; omega
        · rw [c2]; have := hb.2.1.1 a f c1 hf; omega
      · rcases cls a ha with q | ⟨c1, c2⟩
        · rcases cls b hb' with q' | ⟨d1, d2⟩
          · obtain ⟨i, i0, e1⟩ := f11 f hf
            obtain ⟨j, j0, e2⟩ := f11 g hg
            rw [q, q', ← e1, ← e2, (h4 i i0.1 i0.2).1, (h4 j j0.1 j0.2).1]
            intro hh
            have : i = j := by omega
            subst this
            rcases hne with hne | hne
            · exact hne (q.trans q'.symm)
            · exact hne (e1.symm.trans e2)
          · have h1' := vn f hf
            have h2' := hb.2.1.1 b g d1 hg
            rw [q, d2]; omega
        · rcases cls b hb' with q' | ⟨d1, d2⟩
          · have h1' := vn g hg
            have h2' := hb.2.1.1 a f c1 hf
            rw [q', c2]; omega
          · rw [c2] at h0
            rw [c2, d2]
            exact hb.2.1.2 a b f g c1 d1 hf hg hne h0
    exact ⟨h7, tw, by unfold uC; rw [g11.1]; exact g11.2.2, h1, h2, h7.ok hb.1, ti, h8, hb.2.2.2.ut (h7.ut (ts := strT)) hz (by simp) (by simp)⟩
  exact key _ z (h1.trans (by omega)) (h2.trans (by rw [if_pos (by decide)]; omega)) h3 h4 h5 h6 h7 h8
/-- a store is made -/
theorem c277 (hb : BTm m) : ∃ m', cl d 277 [pR (nx m)] (mal m 12 5) = some (.inl none, m') ∧ OLD m m' ∧ SVs m' (nx m) [] ∧ (vl m' (nx m) 0 = nx m + 1 ∧ vl m' (nx m) 1 = nx m + 2 ∧ vl m' (nx m) 2 = nx m + 3 ∧ vl m' (nx m) 4 = 0) ∧ nx m' = nx m + 104 ∧ sl m' = sl m + 48305 ∧ BTm m' := by
  have hz := hb.tz
  have hN : 0 < nx m := by have := hb.1.2.2; omega
  have z1 : TZ (mal m 12 5) := (UT.mal (ts := []) (m := m) (t := 12) (n := 5)).1.1 hz
  have e := q277 (d := d) (a0 := nx m) z1
  have tt : tg (mal m 12 5) (nx m) = 12 := by rw [tg_mal, if_pos rfl]
  rw [gd_of tt] at e
  have e' := e _ rfl
  refine ⟨_, e', ?_⟩
  have key : ∀ m' : Mem, nx m' = nx m + 104 → sl m' = sl m + 48305 → (∀ a, tg m' a = if a = nx m then 12 else if a = nx m + 1 ∨ a = nx m + 2 then 278101 else if a = nx m + 3 then 278118 else if nx m + 3 < a ∧ a ≤ nx m + 103 then 278103 else tg m a) → (∀ a, ln m' a = if a = nx m then 5 else if a = nx m + 1 ∨ a = nx m + 2 then 100 else if a = nx m + 3 then 100 else if nx m + 3 < a ∧ a ≤ nx m + 103 then 480 else ln m a) → (∀ a j, a < nx m → vl m' a j = vl m a j) → (∀ j, vl m' (nx m) j = if j = 2 then nx m + 3 else if j = 1 then nx m + 2 else if j = 0 then nx m + 1 else 0) → (∀ j, 0 ≤ j → j < 100 → vl m' (nx m + 3) j = nx m + 4 + j) → OLD m m' ∧ SVs m' (nx m) [] ∧ (vl m' (nx m) 0 = nx m + 1 ∧ vl m' (nx m) 1 = nx m + 2 ∧ vl m' (nx m) 2 = nx m + 3 ∧ vl m' (nx m) 4 = 0) ∧ nx m' = nx m + 104 ∧ sl m' = sl m + 48305 ∧ BTm m' := by
    intro m' h1 h2 ht hl hv hN' hr
    have v0 : vl m' (nx m) 0 = nx m + 1 := by rw [hN', if_neg (by decide), if_neg (by decide), if_pos rfl]
    have v1 : vl m' (nx m) 1 = nx m + 2 := by rw [hN', if_neg (by decide), if_pos rfl]
    have v2 : vl m' (nx m) 2 = nx m + 3 := by rw [hN', if_pos rfl]
    have v3 : vl m' (nx m) 3 = 0 := by rw [hN', if_neg (by decide), if_neg (by decide), if_neg (by decide)]
    have v4 : vl m' (nx m) 4 = 0 := by rw [hN', if_neg (by decide), if_neg (by decide), if_neg (by decide)]
    have old : OLD m m' := ⟨⟨fun hz a ha => by
      rw [ht, if_neg (by omega), if_neg (by omega), if_neg (by omega), if_neg (by omega)]
      exact hz a (by omega), by omega, fun a ha => ⟨by rw [ht, if_neg (by omega), if_neg (by omega), if_neg (by omega), if_neg (by omega)], by rw [hl, if_neg (by omega), if_neg (by omega), if_neg (by omega), if_neg (by omega)]⟩⟩, fun a j ha _ => hv a j ha⟩
    have e13 : ∀ a, tg m' a = 13 → tg m a = 13 ∧ a < nx m := fun a ha => by
      rw [ht] at ha
      split at ha
      · omega
      · split at ha
        · omega
        · split at ha
          · omega
          · split at ha
            · omega
            · exact ⟨ha, tz_lt hz (by omega)⟩
    refine ⟨old, ⟨⟨by rw [ht, if_pos rfl], ?_, ?_, by rw [v0, v1]; omega, ?_, fun i i0 i1 => ?_⟩, v3, (show ((0 : Nat) : Int) ≤ 100 by decide), trivial⟩, ⟨v0, v1, v2, v4⟩, h1, h2, old.ok hb.1, ?_, ?_, hb.2.2.2.ut (old.ut (ts := strT)) hz (by simp) (by simp)⟩
    · rw [v0, ht, hl, if_neg (by omega), if_pos (Or.inl rfl), if_neg (by omega), if_pos (Or.inl rfl)]; exact ⟨rfl, rfl⟩
    · rw [v1, ht, hl, if_neg (by omega), if_pos (Or.inr rfl), if_neg (by omega), if_pos (Or.inr rfl)]; exact ⟨rfl, rfl⟩
    · rw [v2, ht, hl, if_neg (by omega), if_neg (by omega), if_pos rfl, if_neg (by omega), if_neg (by omega), if_pos rfl]; exact ⟨rfl, rfl⟩
    · rw [v2, ht, hl, hr i i0 i1, if_neg (by omega), if_neg (by omega), if_neg (by omega), if_pos (by omega), if_neg (by omega), if_neg (by omega), if_neg (by omega), if_pos (by omega)]
      exact ⟨by omega, rfl, rfl⟩
    · refine ⟨fun a f ha hf => ?_, fun a b f g ha hb' hf hg hne h0 => ?_⟩
      · obtain ⟨c1, c2⟩ := e13 a ha
        rw [hv a f c2]; have := hb.2.1.1 a f c1 hf; omega
      · obtain ⟨c1, c2⟩ := e13 a ha
        obtain ⟨d1, d2⟩ := e13 b hb'
        rw [hv a f c2] at h0
        rw [hv a f c2, hv b g d2]
        exact hb.2.1.2 a b f g c1 d1 hf hg hne h0
    · intro a
      rw [hl]
      split
      · omega
      · split
        · omega
        · split
          · omega
          · split
            · omega
            · exact hb.2.2.1 a
  refine key _ ?_ ?_ (fun a => ?_) (fun a => ?_) (fun a j ha => ?_) (fun j => ?_) (fun j j0 j1 => ?_)
  · show nx m + 1 + 1 + 1 + 1 + 100 = _; omega
  · show sl m + 5 + 100 + 100 + 100 + 100 * 480 = _; omega
  · show (if a = nx m + 1 + 1 + 1 then (278118 : Int) else if nx m + 1 + 1 + 1 < a ∧ a ≤ nx m + 1 + 1 + 1 + 100 then 278103 else if a = nx m + 1 + 1 then 278101 else if a = nx m + 1 then 278101 else if a = nx m then 12 else tg m a) = _
    repeat' split
    all_goals first | rfl | omega
  · show (if a = nx m + 1 + 1 + 1 then (100 : Int) else if nx m + 1 + 1 + 1 < a ∧ a ≤ nx m + 1 + 1 + 1 + 100 then 480 else if a = nx m + 1 + 1 then 100 else if a = nx m + 1 then 100 else if a = nx m then 5 else ln m a) = _
    repeat' split
    all_goals first | rfl | omega
  · show (if a = nx m ∧ j = 2 then nx m + 1 + 1 + 1 else if a = nx m + 1 + 1 + 1 then (if 0 ≤ j ∧ j < 100 then nx m + 1 + 1 + 1 + 1 + j else 0) else if nx m + 1 + 1 + 1 < a ∧ a ≤ nx m + 1 + 1 + 1 + 100 then 0 else if a = nx m ∧ j = 1 then nx m + 1 + 1 else if a = nx m + 1 + 1 then 0 else if a = nx m ∧ j = 0 then nx m + 1 else if a = nx m + 1 then 0 else if a = nx m then 0 else vl m a j) = _
    repeat' split
    all_goals first | rfl | omega
  · show (if nx m = nx m ∧ j = 2 then nx m + 1 + 1 + 1 else if nx m = nx m + 1 + 1 + 1 then (if 0 ≤ j ∧ j < 100 then nx m + 1 + 1 + 1 + 1 + j else 0) else if nx m + 1 + 1 + 1 < nx m ∧ nx m ≤ nx m + 1 + 1 + 1 + 100 then 0 else if nx m = nx m ∧ j = 1 then nx m + 1 + 1 else if nx m = nx m + 1 + 1 then 0 else if nx m = nx m ∧ j = 0 then nx m + 1 else if nx m = nx m + 1 then 0 else if nx m = nx m then 0 else vl m (nx m) j) = _
    repeat' split
    all_goals first | rfl | omega
  · show (if nx m + 3 = nx m ∧ j = 2 then nx m + 1 + 1 + 1 else if nx m + 3 = nx m + 1 + 1 + 1 then (if 0 ≤ j ∧ j < 100 then nx m + 1 + 1 + 1 + 1 + j else 0) else if nx m + 1 + 1 + 1 < nx m + 3 ∧ nx m + 3 ≤ nx m + 1 + 1 + 1 + 100 then 0 else if nx m + 3 = nx m ∧ j = 1 then nx m + 1 + 1 else if nx m + 3 = nx m + 1 + 1 then 0 else if nx m + 3 = nx m ∧ j = 0 then nx m + 1 else if nx m + 3 = nx m + 1 then 0 else if nx m + 3 = nx m then 0 else vl m (nx m + 3) j) = _
    repeat' split
    all_goals first | rfl | omega
end
