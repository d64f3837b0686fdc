/-! sinks -/
set_option maxRecDepth 100000
set_option maxHeartbeats 4000000
/-- a sink at s has ys, with room for cap in all -/
def SK (m : Mem) (s : Int) (ys : List Int) (cap : Int) : Prop := tg m s = 2 ∧ tg m (vl m s 0) = 52103 ∧ ln m (vl m s 0) = cap ∧ vl m s 1 = (ys.length : Int) ∧ (ys.length : Int) ≤ cap ∧ cap ≤ 40000 ∧ ∀ i : Int, 0 ≤ i → i < ys.length → vl m (vl m s 0) i = gi ys i
def SI (m : Mem) : Prop := ∀ s s', tg m s = 2 → tg m s' = 2 → s ≠ s' → vl m s 0 ≠ 0 → vl m s 0 ≠ vl m s' 0
def SO (s : Int) (m m' : Mem) : Prop := SI m' ∧ ∀ s', s' ≠ s → ∀ ys cap, SK m s' ys cap → SK m' s' ys cap
def SKS (s : Int) (m m' : Mem) (ws : List Int) (cap k : Int) : Prop := SK m' s ws cap ∧ SO s m m' ∧ FRM (eM 52) m m' ∧ nx m' = nx m + k ∧ sl m' = sl m + 6 * k
/-- X prints zs -/
def PRC (X : RM) (s : Int) (m : Mem) (ys : List Int) (cap : Int) (zs : List Int) : Prop :=
  ((ys.length : Int) + zs.length ≤ cap → ∃ m', X = some (.inl none, m') ∧ SKS s m m' (ys ++ zs) cap 0) ∧ (cap < (ys.length : Int) + zs.length → ∃ m' ws, X = some (.inr 201, m') ∧ SKS s m m' ws cap 1)
theorem SO.refl {s : Int} {m : Mem} (h : SI m) : SO s m m := ⟨h, fun _ _ _ _ h => h⟩
theorem SO.trans {s : Int} {m m1 m2 : Mem} (h : SO s m m1) (h' : SO s m1 m2) : SO s m m2 := ⟨h'.1, fun r' hr ys c hw => h'.2 r' hr ys c (h.2 r' hr ys c hw)⟩
theorem SKS.trans {s cap k : Int} {m m1 m2 : Mem} {ys ws : List Int} (h : SKS s m m1 ys cap 0) (h' : SKS s m1 m2 ws cap k) : SKS s m m2 ws cap k := by
  obtain ⟨a1, a2, a3, a4, a5⟩ := h
  obtain ⟨b1, b2, b3, b4, b5⟩ := h'
  exact ⟨b1, a2.trans b2, a3.trans b3, by omega, by omega⟩
theorem PRC.bind {c : RM} {f : Mem → RM} {s cap : Int} {m : Mem} {ys z1 z2 : List Int} (h : PRC c s m ys cap z1) (h' : ∀ m1, SKS s m m1 (ys ++ z1) cap 0 → PRC (f m1) s m1 (ys ++ z1) cap z2) : PRC (bV c f) s m ys cap (z1 ++ z2) := by
  refine ⟨fun hl => ?_, fun hl => ?_⟩
  · rw [List.length_append] at hl
    obtain ⟨m1, e1, g1⟩ := h.1 (by omega)
    obtain ⟨m2, e2, g2⟩ := (h' m1 g1).1 (by rw [List.length_append]; omega)
    refine ⟨m2, by rw [bV_eq e1]; exact e2, ?_⟩
    rw [← List.append_assoc]; exact g1.trans g2
  · rw [List.length_append] at hl
    by_cases hf : cap < (ys.length : Int) + z1.length
    · obtain ⟨m1, ws, e1, g1⟩ := h.2 hf
      exact ⟨m1, ws, bV_xq e1, g1⟩
    · obtain ⟨m1, e1, g1⟩ := h.1 (by omega)
      obtain ⟨m2, ws, e2, g2⟩ := (h' m1 g1).2 (by rw [List.length_append]; omega)
      exact ⟨m2, ws, by rw [bV_eq e1]; exact e2, g1.trans g2⟩
theorem PRC.done {s cap : Int} {m : Mem} {ys : List Int} (h : SK m s ys cap) (hI : SI m) : PRC (some (.inl none, m)) s m ys cap [] := by
  refine ⟨fun _ => ⟨m, rfl, ?_⟩, fun hl => absurd hl (by have := h.2.2.2.2.1; simp; omega)⟩
  rw [List.append_nil]
  exact ⟨h, SO.refl hI, FRM.refl, by omega, by omega⟩
theorem PRC.imp {X Y : RM} {s cap : Int} {m : Mem} {ys zs : List Int} (h : PRC X s m ys cap zs) (hXY : ∀ q, X = some q → Y = some q) : PRC Y s m ys cap zs := by
  refine ⟨fun hl => ?_, fun hl => ?_⟩
  · obtain ⟨m1, e1, g1⟩ := h.1 hl
    exact ⟨m1, hXY _ e1, g1⟩
  · obtain ⟨m1, ws, e1, g1⟩ := h.2 hl
    exact ⟨m1, ws, hXY _ e1, g1⟩
/-- the last call, and then the end -/
theorem PRC.last {c : RM} {s cap : Int} {m : Mem} {ys zs : List Int} (h : PRC c s m ys cap zs) : PRC (bV c fun m1 => some (.inl none, m1)) s m ys cap zs := by
  have := h.bind (f := fun m1 => some (.inl none, m1)) (z2 := []) (fun m1 g1 => PRC.done g1.1 g1.2.1.1)
  rwa [List.append_nil] at this
theorem PRC.cast {X : RM} {s cap : Int} {m : Mem} {ys zs zs' : List Int} (h : PRC X s m ys cap zs) (e : zs = zs') : PRC X s m ys cap zs' := e ▸ h
section
variable {d : Nat} {m : Mem} {s cap : Int} {ys : List Int}
theorem c54 {b : Int} (ok : OK m) (hI : SI m) (h : SK m s ys cap) : PRC (cl d 54 [pR s, pI b] m) s m ys cap [w8 b] := by
  obtain ⟨h1, h2, h3, h4, h5, h6, h7⟩ := h
  have h : SK m s ys cap := ⟨h1, h2, h3, h4, h5, h6, h7⟩
  have hne : vl m s 0 ≠ s := by intro q; rw [q] at h2; omega
  have hb0 : vl m s 0 ≠ 0 := by intro q; rw [q, ok.2.1] at h2; omega
  have hsn : s < nx m := tz_lt ok.1 (by omega)
  refine ⟨fun hl => ?_, fun hl => ?_⟩
  · simp at hl
    have hv : ∀ a, tg m a = 2 → vl (mst (mst m s 1 ((ys.length : Int) + 1)) (vl m s 0) ys.length (w8 b)) a 0 = vl m a 0 := by
      intro a ha
      have : a ≠ vl m s 0 := by intro q; rw [q] at ha; omega
      rw [vl_mst, if_neg (by omega), vl_mst, if_neg (by omega)]
    have e : cl d 54 [pR s, pI b] m = some (.inl none, mst (mst m s 1 ((ys.length : Int) + 1)) (vl m s 0) ys.length (w8 b)) := by
      refine q54 ok.1 _ ?_
      rw [gd_of h1, nm_eq, nm_eq, h4, h3, gd_of h2, if_neg (by omega), gd_of ⟨by omega, by omega⟩, w32_of (by omega) (by omega), w8_w8]
    refine ⟨_, e, ⟨h1, ?_, ?_, ?_, by simp; omega, h6, ?_⟩, ⟨?_, ?_⟩, (cl_FRM e).sub (by rfl), by show nx m = _; omega, by show sl m = _; omega⟩
    · rw [hv s h1]; exact h2
    · rw [hv s h1]; exact h3
    · rw [vl_mst, if_neg (by omega), vl_mst, if_pos ⟨rfl, rfl⟩]; simp
    · intro i i0 i1
      simp at i1
      rw [hv s h1, vl_mst]
      by_cases hi : i = ys.length
      · rw [if_pos ⟨rfl, hi⟩, gi_app_r (by omega), hi, Int.sub_self]; rfl
      · rw [if_neg (by omega), vl_mst, if_neg (by omega), gi_app_l i0 (by omega)]; exact h7 i i0 (by omega)
    · intro a a' ha ha' hne' h0
      rw [hv a ha] at h0 ⊢
      rw [hv a' ha']; exact hI a a' ha ha' hne' h0
    · intro a ha zs c2 hw
      obtain ⟨b1, b2, b3, b4, b5, b6, b7⟩ := hw
      have hab : a ≠ vl m s 0 := by intro q; rw [q] at b1; omega
      have hbb : vl m a 0 ≠ vl m s 0 := (hI s a h1 b1 (fun q => ha q.symm) hb0).symm
      have hbs : vl m a 0 ≠ s := by intro q; rw [q] at b2; omega
      refine ⟨b1, by rw [hv a b1]; exact b2, by rw [hv a b1]; exact b3, by rw [vl_mst, if_neg (by omega), vl_mst, if_neg (by omega)]; exact b4, b5, b6, fun i i0 i1 => ?_⟩
      rw [hv a b1, vl_mst, if_neg (by omega), vl_mst, if_neg (by omega)]; exact b7 i i0 i1
  · simp at hl
    have e : cl d 54 [pR s, pI b] m = some (.inr 201, mal m 201 6) := by
      refine q54 ok.1 _ ?_
      rw [gd_of h1, nm_eq, nm_eq, h4, h3, gd_of h2, if_pos (by omega)]
    have hm : ∀ a zs c2, SK m a zs c2 → SK (mal m 201 6) a zs c2 := by
      intro a zs c2 hw
      obtain ⟨b1, b2, b3, b4, b5, b6, b7⟩ := hw
      have n1 : a < nx m := tz_lt ok.1 (by omega)
      have n2 : vl m a 0 < nx m := tz_lt ok.1 (by omega)
      have e0 : vl (mal m 201 6) a 0 = vl m a 0 := by rw [vl_mal, if_neg (by omega)]
      refine ⟨by rw [tg_mal, if_neg (by omega)]; exact b1, by rw [e0, tg_mal, if_neg (by omega)]; exact b2, by rw [e0, ln_mal, if_neg (by omega)]; exact b3, by rw [vl_mal, if_neg (by omega)]; exact b4, b5, b6, fun i i0 i1 => ?_⟩
      rw [e0, vl_mal, if_neg (by omega)]; exact b7 i i0 i1
    refine ⟨_, ys, e, hm _ _ _ h, ⟨?_, fun a _ zs c2 hw => hm _ _ _ hw⟩, (cl_FRM e).sub (by rfl), rfl, rfl⟩
    intro a a' ha ha' hne' h0
    rw [tg_mal] at ha ha'
    split at ha
    · omega
    · split at ha'
      · omega
      · rename_i q1 q2
        rw [vl_mal, if_neg q1] at h0 ⊢
        rw [vl_mal, if_neg q2]; exact hI a a' ha ha' hne' h0
/-- what else must be there to print -/
def PRE (m : Mem) : Prop := OK m ∧ SC m 16 cNul ∧ SC m 18 cFls ∧ SC m 20 cTru
theorem PRE.fr {m' : Mem} (h : PRE m) (hf : FRM (eM 52) m m') : PRE m' := ⟨h.1.fr hf, h.2.1.fr hf h.1.1 (by rfl), h.2.2.1.fr hf h.1.1 (by rfl), h.2.2.2.fr hf h.1.1 (by rfl)⟩
def rwN (e : Nat) : Bool := !(Nat.testBit e (bix 8 0)) && !(Nat.testBit e (bix 8 1)) && !(Nat.testBit e (bix 130103 0)) && !(Nat.testBit e (bix 132103 0))
theorem RW.fr {k : Nat} {m' : Mem} {r c : Int} {xs : List Int} (h : RW m r xs c) (hf : FRM (eM k) m m') (hz : TZ m) (hn : rwN (eM k) = true) : RW m' r xs c := by
  obtain ⟨h1, h2, h3, h4, h5, h6, h7⟩ := h
  unfold rwN at hn
  simp only [Bool.and_eq_true, Bool.not_eq_true'] at hn
  obtain ⟨⟨⟨n1, n2⟩, n3⟩, n4⟩ := hn
  have e0 : vl m' r 0 = vl m r 0 := vl_of hf hz h1 (by decide) n1
  have g : ∀ j, vl m' (vl m r 0) j = vl m (vl m r 0) j := by
    intro j
    rcases h2 with h | h
    · exact vl_of hf hz h (by decide) (by rw [bix_arr (by decide)]; exact n3)
    · exact vl_of hf hz h (by decide) (by rw [bix_arr (by decide)]; exact n4)
  refine ⟨?_, ?_, ?_, ?_, h5, h6, fun i i0 i1 => ?_⟩
  · rw [tg_of hf hz (by omega)]; exact h1
  · rw [e0, tg_of hf hz (by omega)]; exact h2
  · rw [e0, ln_of hf hz (by omega)]; exact h3
  · rw [vl_of hf hz h1 (by decide) n2]; exact h4
  · rw [e0, g]; exact h7 i i0 i1
theorem c53_l {a : Int} {cs : List Int} (hd : 4 ≤ d) : ∀ (rest pre : List Int) (m : Mem) (ys : List Int), cs = pre ++ rest → PRE m → SI m → SK m s ys cap → SC m a cs → PRC (rn d 53 2 [pR s, pR a, pI pre.length] [] m) s m ys cap rest := by
  intro rest
  induction rest with
  | nil =>
    intro pre m ys hcs hP hI h hS
    have h349 := c349 (d := d - 1) (by omega) hP.1.1 hS
    rw [List.append_nil] at hcs
    rw [hcs] at h349
    refine (PRC.done h hI).imp (fun q hq => q53_2 (by omega) hP.1.1 _ ?_)
    rw [gd_of hS.1, bI_eq h349, if_neg (by omega)]; exact hq
  | cons x rest ih =>
    intro pre m ys hcs hP hI h hS
    have h349 := c349 (d := d - 1) (by omega) hP.1.1 hS
    have hl : (cs.length : Int) = pre.length + 1 + rest.length := by rw [hcs]; simp; omega
    have hS6 := hS.2.2.2.2.2.1
    have h351 := c351 (d := d - 1) (j := pre.length) (by omega) hP.1.1 hS (by omega) (by omega)
    have hx : gi cs pre.length = x := by rw [hcs, gi_app_r (by omega), Int.sub_self]; rfl
    have hx2 := hS.2.2.2.2.2.2 pre.length (by omega) (by omega)
    rw [hx] at h351 hx2
    have hp := c54 (d := d - 1) (b := x) hP.1 hI h
    rw [w8_of (by omega) (by omega)] at hp
    have := hp.bind (f := fun m3 => rn d 53 2 [pR s, pR a, pI ((pre ++ [x]).length : Int)] [] m3) (z2 := rest) (fun m1 g1 => ih (pre ++ [x]) m1 _ (by simp [hcs]) (hP.fr g1.2.2.1) g1.2.1.1 g1.1 (hS.fr g1.2.2.1 hP.1.1 (by rfl)))
    refine this.imp (fun q hq => q53_2 (by omega) hP.1.1 _ ?_)
    have e2 : ((pre ++ [x]).length : Int) = pre.length + 1 := by simp
    rw [gd_of hS.1, bI_eq h349, if_pos (by omega), bI_eq h351, gd_of h.1, w32_of (by omega) (by omega), ← e2]; exact hq
theorem c53 {a : Int} {cs : List Int} (hd : 4 ≤ d) (hP : PRE m) (hI : SI m) (h : SK m s ys cap) (hS : SC m a cs) : PRC (cl d 53 [pR s, pR a] m) s m ys cap cs :=
  (c53_l hd cs [] m ys rfl hP hI h hS).imp (fun q hq => q53 hP.1.1 _ hq)
end
