/-! evaluation by the component: a query -/
set_option maxRecDepth 100000
set_option maxHeartbeats 4000000
/-- nodes stand in the row -/
def NVs (xs : List Int) (ys : List Nd) : Prop := ∀ n ∈ ys, ∃ q t, n = q :: t ∧ NV xs q ∧ dpF q.2.2.2.1 ≤ 40
section
variable {P : Int → Prop} {m m0 : Mem} {R rw c rt q s t at' w cap : Int} {xs stk zz : List Int} {nodes : List Nd} {g : Nd → EV (List Nd)} {G : List Nd → EV (List Nd)} {d : Nat}
theorem c105_e {z5 z6 : PV} (h5 : cat z5 = 1) (h6 : cat z6 = 1) (hq : tg m q = 15) (hs : s = vl m q 3) (h : EC m R rw xs c rt (stk ++ (zz ++ nodes.map ofN)) w cap) (hw : w ≤ 10000) (hv : NVs xs nodes) : EVq P m R rw xs c rt stk cap (rn d 105 27 [pR R, pR q, pI at', pI ((stk.length : Int) + zz.length), pI s, z5, z6] [] m) (eR nodes w) := by
  refine ⟨fun ys w' z => ?_, fun z => (by cases z)⟩
  cases z
  have hc := h.2.2.2.2.2.2.2.1
  have v3 := h.2.2.2.2.2.2.1
  have el : ((stk ++ (zz ++ nodes.map ofN)).length : Int) = stk.length + zz.length + nodes.length := by simp only [List.length_append, List.length_map]; push_cast; omega
  rw [el] at hc v3
  refine ⟨hw, m, cap, some (pI nodes.length), zz ++ nodes.map ofN, q105_27 h.tz h5 h6 _ ?_, h, EK.refl, GR.refl, rfl, ⟨zz, rfl⟩, hv⟩
  rw [gd_of hq, if_neg (by omega), gd_of h.hR, v3, (w32_of (by omega) (by omega) : w32 ((stk.length : Int) + zz.length + nodes.length - (stk.length + zz.length)) = stk.length + zz.length + nodes.length - (stk.length + zz.length)), show (stk.length : Int) + zz.length + nodes.length - (stk.length + zz.length) = nodes.length by omega]
theorem c105_s {z5 z6 : PV} (h5 : cat z5 = 1) (h6 : cat z6 = 1) (hd : 2 ≤ d) (hL : LG m q s t) (H : ∀ (m1 : Mem) (stk1 : List Int) (w1 cap1 : Int) (z : Nk) (y : Nd), NV xs z → dpF z.2.2.2.1 ≤ 40 → w1 ≤ 10000 → EC m1 R rw xs c rt stk1 w1 cap1 → EK P m m1 → EVs P m1 R rw xs c rt stk1 cap1 (if vl m t 0 = 0 then cl (d - 1) 109 [pR R, pR t, pI z.1] m1 else cl (d - 1) 108 [pR R, pR t, pI z.1] m1) (g (z :: y) w1)) (h : EC m R rw xs c rt (stk ++ (zz ++ nodes.map ofN)) w cap) (hw : w ≤ 10000) (hv : NVs xs nodes)
    (hr : ∀ (m1 : Mem) (ys : List Nd) (w1 cap1 : Int), eL g nodes w = some (ys, w1) → w1 ≤ 10000 → EC m1 R rw xs c rt (stk ++ ((zz ++ nodes.map ofN) ++ ys.map ofN)) w1 cap1 → EK P m m1 → EVq P m1 R rw xs c rt stk cap1 (rn d 105 27 [pR R, pR q, pI at', pI ((stk.length : Int) + (zz ++ nodes.map ofN).length), pI (s + 1), pI ((stk.length : Int) + (zz ++ nodes.map ofN).length), pI ((stk.length : Int) + (zz ++ nodes.map ofN).length)] [] m1) (G ys w1)) : EVq P m R rw xs c rt stk cap (rn d 105 27 [pR R, pR q, pI at', pI ((stk.length : Int) + zz.length), pI s, z5, z6] [] m) (eB (eL g nodes) G w) := by
  have hc := h.2.2.2.2.2.2.2.1
  have v3 := h.2.2.2.2.2.2.1
  have el : ((stk ++ (zz ++ nodes.map ofN)).length : Int) = (stk.length : Int) + (zz ++ nodes.map ofN).length := by rw [List.length_append]; push_cast; rfl
  have ez : ((zz ++ nodes.map ofN).length : Int) = zz.length + nodes.length := by rw [List.length_append, List.length_map]; push_cast; rfl
  rw [el] at v3 hc
  have hA : At (stk ++ (zz ++ nodes.map ofN)) ((stk.length : Int) + zz.length) (nodes.map ofN) := by
    refine ⟨by omega, by rw [el, ez, List.length_map]; omega, fun j j0 j1 => ?_⟩
    rw [gi_app_r (by omega), show (stk.length : Int) + zz.length + j - stk.length = zz.length + j by omega, gi_app_r (by omega), show (zz.length : Int) + j - zz.length = j by omega]
  obtain ⟨key1, key2⟩ := c105_45 (d := d) (fr := (stk.length : Int) + zz.length) (at' := at') hd hL H nodes ((stk.length : Int) + zz.length) ((stk.length : Int) + (zz ++ nodes.map ofN).length) m _ w cap hv hA (by omega) h EK.refl hw
  have st : ∀ Z, rn d 105 45 [pR R, pR q, pI at', pI ((stk.length : Int) + zz.length), pI s, pI ((stk.length : Int) + (zz ++ nodes.map ofN).length), pI ((stk.length : Int) + zz.length)] [] m = some Z → rn d 105 27 [pR R, pR q, pI at', pI ((stk.length : Int) + zz.length), pI s, z5, z6] [] m = some Z := by
    intro Z hZ
    refine q105_27 h.tz h5 h6 _ ?_
    rw [gd_of hL.1, if_pos hL.2.2.1.2.1, gd_of h.hR, v3]
    exact hZ
  cases hE : eL g nodes w with
  | none =>
    rw [eB_none hE]
    obtain ⟨m', e1, z⟩ := key2 hE
    exact ⟨fun ys w' z => (by cases z), fun _ => ⟨m', st _ e1, z⟩⟩
  | some bb =>
    obtain ⟨ys, w2⟩ := bb
    rw [eB_some hE]
    obtain ⟨g0, m2, cap2, g2, g3, g4, g5⟩ := key1 ys w2 hE
    rw [List.append_assoc] at g2
    have nx := hr m2 ys w2 cap2 hE g0 g2 g3
    refine ⟨fun b w' z => ?_, fun z => ?_⟩
    · obtain ⟨k0, m3, cap3, r3, zs3, k1, k2, k3, k4, k5⟩ := nx.1 b w' z
      exact ⟨k0, m3, cap3, r3, zs3, st _ (g5 _ k1), k2, g3.trans k3, g4.trans k4, k5⟩
    · obtain ⟨m3, k1, k2⟩ := nx.2 z
      exact ⟨m3, st _ (g5 _ k1), k2.pre g3 g4⟩
/-- a query from its start on -/
theorem c105 {x : Nd} {dd : ND} (hd : 2 ≤ d) (hq : tg m q = 15) (hq0 : vl m q 0 = dd.2.1) (hx : ofN x = (if dd.2.1 = 0 then at' else rt)) (hv : NVs xs [x]) (h : EC m R rw xs c rt stk w cap) (hw : w ≤ 10000) (hr : ∀ (m1 : Mem) (w1 cap1 : Int), w1 ≤ 10000 → EC m1 R rw xs c rt (stk ++ ([] ++ [x].map ofN)) w1 cap1 → EK P m m1 → EVq P m1 R rw xs c rt stk cap1 (rn d 105 27 [pR R, pR q, pI at', pI ((stk.length : Int) + ([] : List Int).length), pI 0, pU, pU] [] m1) (G [x] w1)) : EVq P m R rw xs c rt stk cap (cl d 105 [pR R, pR q, pI at'] m) (eB (eA x) G w) := by
  have v3 := h.2.2.2.2.2.2.1
  have v1 := h.2.2.2.1
  have key := c106 (P := P) (d := d - 1) (x := x) (by omega) h hw hx
  have st : ∀ r m', cl (d - 1) 106 [pR R, pI (if dd.2.1 = 0 then at' else rt)] m = some (r, m') → (r = .inl none → ∀ Z, rn d 105 27 [pR R, pR q, pI at', pI (stk.length : Int), pI 0, pU, pU] [] m' = some Z → cl d 105 [pR R, pR q, pI at'] m = some Z) ∧ (r = .inr 201 → cl d 105 [pR R, pR q, pI at'] m = some (.inr 201, m')) := by
    intro r m' e1
    refine ⟨fun hr Z hZ => q105 (by omega) h.tz _ ?_, fun hr => q105 (by omega) h.tz _ ?_⟩ <;> subst hr <;> rw [gd_of h.hR, nm_eq, gd_of hq, hq0, v3, v1]
    · by_cases z : dd.2.1 = 0
      · rw [if_pos z] at e1 ⊢; rw [bV_eq e1]; exact hZ
      · rw [if_neg z] at e1 ⊢; rw [bV_eq e1]; exact hZ
    · by_cases z : dd.2.1 = 0
      · rw [if_pos z] at e1 ⊢; rw [bV_xq e1]
      · rw [if_neg z] at e1 ⊢; rw [bV_xq e1]
  cases hE : eA x w with
  | none =>
    rw [eB_none hE]
    obtain ⟨m', e1, z⟩ := key.2 hE
    exact ⟨fun ys w' z => (by cases z), fun _ => ⟨m', (st _ _ e1).2 rfl, z⟩⟩
  | some bb =>
    obtain ⟨ys, w2⟩ := bb
    have hys : ys = [x] := by
      unfold eA at hE
      by_cases z : 10000 < w + 1
      · rw [eB_none (eT_0 z)] at hE; cases hE
      · rw [eB_some (eT_1 z)] at hE; cases hE; rfl
    rw [eB_some hE]
    obtain ⟨g0, m2, cap2, e1, g2, g3, g4⟩ := key.1 ys w2 hE
    subst hys
    have nx := hr m2 w2 cap2 g0 g2 g3
    have e0 : (stk.length : Int) + ([] : List Int).length = stk.length := by simp
    rw [e0] at nx
    refine ⟨fun b w' z => ?_, fun z => ?_⟩
    · obtain ⟨k0, m3, cap3, r3, zs3, k1, k2, k3, k4, k5⟩ := nx.1 b w' z
      exact ⟨k0, m3, cap3, r3, zs3, (st _ _ e1).1 rfl _ k1, k2, g3.trans k3, g4.trans k4, k5⟩
    · obtain ⟨m3, k1, k2⟩ := nx.2 z
      exact ⟨m3, (st _ _ e1).1 rfl _ k1, k2.pre g3 g4⟩
end
