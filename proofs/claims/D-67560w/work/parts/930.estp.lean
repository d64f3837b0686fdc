/-! evaluation by the component: steps of the loops over tests, selectors, nodes -/
set_option maxRecDepth 100000
set_option maxHeartbeats 4000000
section
variable {P : Int → Prop} {d : Nat} {m : Mem} {R rw c rt w cap o t at' i : Int} {xs stk : List Int}
/-- a list of tests at its item i -/
def LT (m : Mem) (o i t : Int) (an : Bool) : Prop := tg m o = 28 ∧ vl m o 0 = b2i an ∧ (tg m (vl m o 1) = 338112 ∨ tg m (vl m o 1) = 339112) ∧ (0 ≤ i ∧ i < vl m o 2 ∧ vl m o 2 ≤ ln m (vl m o 1) ∧ vl m o 2 ≤ 2000000) ∧ vl m (vl m o 1) i = t ∧ 0 < tg m t
theorem c339_s {an : Bool} {T G : EV Bool} (hd : 1 ≤ d) (hz : TZ m) (hL : LT m o i t an) (hh : EVb P m R rw xs c rt stk cap (ci (d - 1) 302 (tg m t) [pR t, pR R, pI at'] m) (T w)) (hr : ∀ (m1 : Mem) (w1 cap1 : Int), w1 ≤ 10000 → EC m1 R rw xs c rt stk w1 cap1 → EK P m m1 → EVb P m1 R rw xs c rt stk cap1 (rn d 339 2 [pR o, pR R, pI at', pI (i + 1)] [] m1) (G w1)) : EVb P m R rw xs c rt stk cap (rn d 339 2 [pR o, pR R, pI at', pI i] [] m) (eB T (fun b => if b = an then eR an else G) w) := by
  obtain ⟨l1, l2, l3, l4, l5, l6⟩ := hL
  have st : ∀ Z, (bI (ci (d - 1) 302 (tg m t) [pR t, pR R, pI at'] m) fun v1 m1 => nm (vl m1 o 0) fun v4 => if v1 = v4 then (gd (v4 = 0 ∨ v4 = 1) <| some (.inl (some (pI v4)), m1)) else rn d 339 2 [pR o, pR R, pI at', pI (w32 (i + 1))] [] m1) = some Z → rn d 339 2 [pR o, pR R, pI at', pI i] [] m = some Z := by
    intro Z hZ
    refine q339_2 (by omega) hz _ ?_
    rw [gd_of l1, if_pos l4.2.1, nm_eq, gd_of l3, gd_of ⟨l4.1, by omega⟩, nm_eq, l5, gd_of l6]
    exact hZ
  cases hE : T w with
  | none =>
    rw [eB_none hE]
    obtain ⟨m', e1, z⟩ := hh.2 hE
    exact ⟨fun ys w' z => (by cases z), fun _ => ⟨m', st _ (by rw [bI_xq e1]), z⟩⟩
  | some bb =>
    obtain ⟨b, w2⟩ := bb
    rw [eB_some hE]
    obtain ⟨g0, m2, cap2, r2, zs2, g1, g2, g3, g4, rfl, rfl⟩ := hh.1 b w2 hE
    have v0 : vl m2 o 0 = b2i an := by rw [g3.2 o 0 (by omega) (by omega) (by omega) (by omega) (fun z => by omega)]; exact l2
    by_cases hb : b = an
    · rw [if_pos hb]
      refine ⟨fun ys w' z => ?_, fun z => (by cases z)⟩
      cases z
      refine ⟨g0, m2, cap2, some (pI (b2i an)), [], st _ ?_, g2, g3, g4, rfl, rfl⟩
      rw [bI_eq g1, nm_eq, v0, if_pos (by rw [hb]), gd_of (by cases an <;> decide)]
    · rw [if_neg hb]
      rw [List.append_nil] at g2
      have key := hr m2 w2 cap2 g0 g2 g3
      have nb : ¬ b2i b = b2i an := by cases b <;> cases an <;> first | exact absurd rfl hb | decide
      refine ⟨fun ys w' z => ?_, fun z => ?_⟩
      · obtain ⟨k0, m3, cap3, r3, zs3, k1, k2, k3, k4, k5⟩ := key.1 ys w' z
        refine ⟨k0, m3, cap3, r3, zs3, st _ ?_, k2, g3.trans k3, g4.trans k4, k5⟩
        rw [bI_eq g1, nm_eq, v0, if_neg nb, (w32_of (by omega) (by omega) : w32 (i + 1) = i + 1)]
        exact k1
      · obtain ⟨m3, k1, k2⟩ := key.2 z
        refine ⟨m3, st _ ?_, k2.pre g3 g4⟩
        rw [bI_eq g1, nm_eq, v0, if_neg nb, (w32_of (by omega) (by omega) : w32 (i + 1) = i + 1)]
        exact k1
theorem c339_e {an : Bool} (hd : 1 ≤ d) (h : EC m R rw xs c rt stk w cap) (hw : w ≤ 10000) (l1 : tg m o = 28) (l2 : vl m o 0 = b2i an) (l3 : vl m o 2 = i) : EVb P m R rw xs c rt stk cap (rn d 339 2 [pR o, pR R, pI at', pI i] [] m) (eR (!an) w) := by
  refine ⟨fun ys w' z => ?_, fun z => (by cases z)⟩
  cases z
  refine ⟨hw, m, cap, some (pI (b2i (!an))), [], q339_2 (by omega) h.tz _ ?_, by rw [List.append_nil]; exact h, EK.refl, GR.refl, rfl, rfl⟩
  rw [gd_of l1, if_neg (by omega), l2]
  cases an
  · rw [if_pos (by rfl)]; rfl
  · rw [if_neg (by decide)]; rfl
/-- a list of selectors at its item i -/
def LX (m : Mem) (o i t : Int) : Prop := tg m o = 16 ∧ (tg m (vl m o 1) = 305111 ∨ tg m (vl m o 1) = 306111) ∧ (0 ≤ i ∧ i < vl m o 2 ∧ vl m o 2 ≤ ln m (vl m o 1) ∧ vl m o 2 ≤ 2000000) ∧ vl m (vl m o 1) i = t ∧ 0 < tg m t
theorem c109_s {T G : EV (List Nd)} (hd : 1 ≤ d) (hz : TZ m) (hL : LX m o i t) (hh : EVs P m R rw xs c rt stk cap (ci (d - 1) 301 (tg m t) [pR t, pR R, pI at'] m) (T w)) (hr : ∀ (m1 : Mem) (ys : List Nd) (w1 cap1 : Int), w1 ≤ 10000 → EC m1 R rw xs c rt (stk ++ ys.map ofN) w1 cap1 → EK P m m1 → EVs P m1 R rw xs c rt (stk ++ ys.map ofN) cap1 (rn d 109 2 [pR R, pR o, pI at', pI (i + 1)] [] m1) (G w1)) : EVs P m R rw xs c rt stk cap (rn d 109 2 [pR R, pR o, pI at', pI i] [] m) (eB T (fun a => eB G fun b => eR (a ++ b)) w) := by
  obtain ⟨l1, l3, l4, l5, l6⟩ := hL
  refine EVs.seq hh (fun m' e1 Z hZ => q109_2 (by omega) hz _ ?_) (fun m' e1 => q109_2 (by omega) hz _ ?_) hr
  · rw [gd_of l1, if_pos l4.2.1, nm_eq, gd_of l3, gd_of ⟨l4.1, by omega⟩, nm_eq, l5, gd_of l6, bV_eq e1, (w32_of (by omega) (by omega) : w32 (i + 1) = i + 1)]
    exact hZ
  · rw [gd_of l1, if_pos l4.2.1, nm_eq, gd_of l3, gd_of ⟨l4.1, by omega⟩, nm_eq, l5, gd_of l6, bV_xq e1]
theorem c109_e (hd : 1 ≤ d) (h : EC m R rw xs c rt stk w cap) (hw : w ≤ 10000) (l1 : tg m o = 16) (l3 : vl m o 2 = i) : EVs P m R rw xs c rt stk cap (rn d 109 2 [pR R, pR o, pI at', pI i] [] m) (eR [] w) := by
  refine EVs.nil h hw (q109_2 (by omega) h.tz _ ?_)
  rw [gd_of l1, if_neg (by omega)]
end
