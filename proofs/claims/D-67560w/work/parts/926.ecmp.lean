/-! evaluation by the component: comparables and comparisons -/
set_option maxRecDepth 100000
set_option maxHeartbeats 4000000
section
variable {P : Int → Prop} {d : Nat} {m m1 : Mem} {R rw c rt w cap cap1 a : Int} {xs stk : List Int} {α β : Type}
theorem EC.er (h : EC m R rw xs c rt stk w cap) (e : ER a m m1) (ha : tg m a = 27) : EC m1 R rw xs c rt stk w cap := by
  obtain ⟨a1, a2, a3, a4, a5, ⟨a6, a7⟩, a8, a9, b1, b2⟩ := h
  have nR : R ≠ a := by intro z; rw [z] at a2; omega
  have nA : vl m R 2 ≠ a := by intro z; rw [z] at a6; omega
  have g : ∀ f, vl m1 R f = vl m R f := fun f => e.2.2 R f nR
  have k : EK (fun _ => True) m m1 := ⟨fun b _ => e.2.1 b, fun b j h0 h1 h2 h3 h4 => e.2.2 b j (fun z => h4 (by rw [z]; exact ha) trivial)⟩
  exact ⟨e.1 a1, by rw [(e.2.1 R).1]; exact a2, by rw [g]; exact a3, by rw [g]; exact a4, k.row a5, by rw [g, (e.2.1 _).1, (e.2.1 _).2]; exact ⟨a6, a7⟩, by rw [g]; exact a8, a9, by rw [g]; exact b1, fun j j0 j1 => by rw [g, e.2.2 _ j nA]; exact b2 j j0 j1⟩
theorem EK.q {m' : Mem} (k : EK P m m') : QKq P m m' := ⟨k.1, fun a _ j hj => k.2 a j (by intro q; rw [q] at hj; omega) (by intro q; rw [q] at hj; omega) (by intro q; rw [q] at hj; omega) (by intro q; rw [q] at hj; omega) (fun q => by rw [q] at hj; omega)⟩
theorem vLen_dp {v : VR} : vDp (vLen v) ≤ 40 := by
  cases v with
  | none => exact Nat.zero_le _
  | some x =>
    obtain ⟨dd, l⟩ := x
    unfold vLen
    dsimp only
    split
    · exact Nat.zero_le _
    · split <;> exact Nat.zero_le _
/-- a value that stands in the query -/
theorem c321 {a0 at' N cN : Int} {ns : List Int} {dd : ND} (hd : 1 ≤ d) (h : EC m R rw xs c rt stk w cap) (hw : w ≤ 10000) (h0 : tg m a0 = 24 ∧ vl m a0 0 = N ∧ At ns (vl m a0 1) (enV (litN dd) foN) ∧ wfF (foC (litN dd) foN foN)) (hNR : RW m N ns cN) (hns : ns.length < 60000) (ha : tg m a = 27) (hp : P a) : EVo a P m R rw xs c rt stk cap (cl d 321 [pR a0, pR R, pI at', pR a] m) (eR (some (litN dd, foN)) w) := by
  obtain ⟨g0, g1, g2, g3⟩ := h0
  obtain ⟨m', e1, r1, k1, er, n1⟩ := c327 (P := P) (d := d - 1) h.tz ha hp hNR g2 g3 hns
  refine ⟨fun b w' z => ?_, fun z => (by cases z)⟩
  cases z
  refine ⟨hw, m', cap, none, [], q321 (by omega) h.tz _ ?_, by rw [List.append_nil]; exact h.er er ha, k1, ⟨Int.le_refl _, by omega, by omega⟩, rfl, rfl, r1, Nat.zero_le _⟩
  rw [gd_of g0, gd_of ha, g1, bV_eq e1]
/-- how long a comparable is -/
theorem c323 {a0 at' : Int} {x : EV VR} (hd : 5 ≤ d) (hz : TZ m) (h0 : tg m a0 = 25) (hp0 : 0 < tg m (vl m a0 0)) (hp : P a) (ht : EVo a P m R rw xs c rt stk cap (ci (d - 1) 303 (tg m (vl m a0 0)) [pR (vl m a0 0), pR R, pI at', pR a] m) (x w)) : EVo a P m R rw xs c rt stk cap (cl d 323 [pR a0, pR R, pI at', pR a] m) (eB x (fun v => eR (vLen v)) w) := by
  refine EVa.map ht (fun m' e1 => q323 (by omega) hz _ ?_) (fun v m' w' cap' r zs hw' h' k' hf e1 => ?_)
  · rw [gd_of h0, nm_eq, gd_of hp0, bV_xq e1]
  · obtain ⟨rfl, rfl, hr, hdp⟩ := hf
    obtain ⟨m2, e2, r2, k2, er, n2⟩ := c330 (P := P) (d := d - 1) (by omega) h'.tz hr hp
    refine ⟨m2, none, [], q323 (by omega) hz _ ?_, h'.er er hr.1, k2, n2, rfl, rfl, r2, vLen_dp⟩
    rw [gd_of h0, nm_eq, gd_of hp0, bV_eq e1, gd_of hr.1, bV_eq e2]
/-- the only node of a query, or how many there are -/
theorem c319 {a0 at' : Int} {x : EV (List Nd)} {dd : ND} (hd : 2 ≤ d) (hx : xs.length < 60000) (h : EC m R rw xs c rt stk w cap) (hk : dd.1 = 45 ∨ dd.1 = 47 ∨ dd.1 = 48) (h0 : tg m a0 = 23 ∧ vl m a0 1 = (if dd.1 = 47 then 1 else 0)) (ha : tg m a = 27) (hp : P a) (ht : EVq P m R rw xs c rt stk cap (cl (d - 1) 105 [pR R, pR (vl m a0 0), pI at'] m) (x w)) : EVo a P m R rw xs c rt stk cap (cl d 319 [pR a0, pR R, pI at', pR a] m) (eB x (fun ys => eR (if dd.1 = 47 then vNum ys.length else vOne ys)) w) := by
  have v3 : vl m R 3 = stk.length := h.2.2.2.2.2.2.1
  obtain ⟨t0, v1⟩ := h0
  refine EVa.map ht (fun m' e1 => q319 (by omega) h.tz _ ?_) (fun ys m' w' cap' r zs hw' h' k' hf e1 => ?_)
  · rw [gd_of h.hR, nm_eq, gd_of t0, bI_xq e1]
  · obtain ⟨rfl, ⟨z, rfl⟩, hn⟩ := hf
    have ta : tg m' a = 27 := by rw [(k'.1 a (by omega)).1]; exact ha
    have v1' : vl m' a0 1 = (if dd.1 = 47 then 1 else 0) := by rw [k'.2 a0 1 (by omega) (by omega) (by omega) (by omega) (fun q => by omega)]; exact v1
    have fin : ∀ (m2 : Mem) (v : VR), ER a m' m2 → EK P m' m2 → RS m2 a v → (nx m2 = nx m' ∧ sl m2 = sl m') → EC (mst m2 R 3 stk.length) R rw xs c rt stk w' cap' ∧ EK P m' (mst m2 R 3 stk.length) ∧ RS (mst m2 R 3 stk.length) a v := by
      intro m2 v er k2 hr n2
      obtain ⟨c1, c2⟩ := (h'.er er ta).cut (P := P)
      have c2' : EK (fun _ => False) m2 (mst m2 R 3 stk.length) := ((h'.er er ta).cut (P := fun _ => False)).2
      exact ⟨c1, k2.trans c2, hr.keep c2' (fun q => q)⟩
    have st : ∀ Z, (if (vl m' a0 1) = 0 then (if (ys.length : Int) = 1 then (nm (vl m' R 2) fun v6 => nm (w32 ((vl m' R 3) - 1)) fun v7 => gd (tg m' v6 = 104101 ∨ tg m' v6 = 107101) <| gd ((0 : Int) ≤ v7 ∧ v7 < ln m' v6) <| gd (tg m' a = 27) <| bV (cl (d - 1) 327 [pR a, pR (vl m' R 0), pI (vl m' v6 v7)] m') fun m3 => some (.inl none, (mst m3 R 3 stk.length))) else gd (tg m' a = 27) <| bV (cl (d - 1) 329 [pR a] m') fun m2 => some (.inl none, (mst m2 R 3 stk.length))) else gd (tg m' a = 27) <| bV (cl (d - 1) 328 [pR a, pL ys.length] m') fun m4 => some (.inl none, (mst m4 R 3 stk.length))) = some Z → cl d 319 [pR a0, pR R, pI at', pR a] m = some Z := by
      intro Z hZ
      refine q319 (by omega) h.tz _ ?_
      rw [gd_of h.hR, nm_eq, gd_of t0, bI_eq e1, v3]
      exact hZ
    by_cases k47 : dd.1 = 47
    · rw [if_pos k47] at v1' ⊢
      obtain ⟨m2, e2, r2, k2, er, n2⟩ := c328 (P := P) (d := d - 1) (n := (ys.length : Int)) h'.tz ta hp
      obtain ⟨f1, f2, f3⟩ := fin m2 _ er k2 r2 n2
      refine ⟨_, none, [], st _ ?_, by rw [List.append_nil]; exact f1, f2, n2, rfl, rfl, f3, Nat.zero_le _⟩
      rw [if_neg (by omega), gd_of ta, bV_eq e2]
    · rw [if_neg k47] at v1' ⊢
      by_cases k1 : (ys.length : Int) = 1
      · obtain ⟨y, rfl⟩ : ∃ y, ys = [y] := by
          cases ys with
          | nil => simp at k1
          | cons y ys => cases ys with
            | nil => exact ⟨y, rfl⟩
            | cons y2 ys => simp only [List.length_cons] at k1; omega
        obtain ⟨q, t, rfl, hq, hdq⟩ := hn y (List.mem_singleton_self y)
        have hv3 := h'.2.2.2.2.2.2.1
        have har := h'.2.2.2.2.2.1
        have hcap := h'.2.2.2.2.2.2.2.1
        have hel := h'.2.2.2.2.2.2.2.2.2
        have el : (stk ++ (z ++ [q.1])).length = stk.length + z.length + 1 := by simp [List.length_append]; omega
        rw [show List.map ofN [q :: t] = [q.1] from rfl] at *
        have ge : gi (stk ++ (z ++ [q.1])) ((stk.length : Int) + z.length) = q.1 := by
          rw [gi_app_r (by omega), show (stk.length : Int) + z.length - stk.length = z.length by omega, gi_app_r (by omega), Int.sub_self, gi_zero]
        have hel' := hel ((stk.length : Int) + z.length) (by omega) (by rw [el]; push_cast; omega)
        rw [ge] at hel'
        obtain ⟨m2, e2, r2, k2, er, n2⟩ := c327 (P := P) (d := d - 1) h'.tz ta hp h'.row hq.1 hq.2 hx
        obtain ⟨f1, f2, f3⟩ := fin m2 _ er k2 r2 n2
        refine ⟨_, none, [], st _ ?_, by rw [List.append_nil]; exact f1, f2, n2, rfl, rfl, f3, hdq⟩
        have hl0 : ((stk ++ (z ++ [q.1])).length : Int) = stk.length + z.length + 1 := by rw [el]; push_cast; rfl
        rw [hl0] at hv3 hcap
        rw [if_pos v1', if_pos k1, nm_eq, nm_eq, hv3, (w32_of (by omega) (by omega) : w32 ((stk.length : Int) + z.length + 1 - 1) = (stk.length : Int) + z.length + 1 - 1), gd_of har.1, gd_of ⟨by omega, by rw [har.2]; omega⟩, gd_of ta, h'.v0, show (stk.length : Int) + z.length + 1 - 1 = stk.length + z.length by omega, hel', bV_eq e2]
      · have ev : vOne ys = none := by
          cases ys with
          | nil => rfl
          | cons y ys => cases ys with
            | nil => simp at k1
            | cons y2 ys => cases y <;> rfl
        obtain ⟨m2, e2, r2, k2, er, n2⟩ := c329 (P := P) (d := d - 1) h'.tz ta hp
        obtain ⟨f1, f2, f3⟩ := fin m2 _ er k2 r2 n2
        refine ⟨_, none, [], st _ ?_, by rw [List.append_nil]; exact f1, f2, n2, rfl, rfl, by rw [ev]; exact f3, by rw [ev]; exact Nat.zero_le _⟩
        rw [if_pos v1', if_neg k1, gd_of ta, bV_eq e2]
/-- a comparison, out of its two comparables -/
theorem c325 {P1 P2 : Int → Prop} {a0 at' : Int} {x g : EV VR} {dd : ND} (hd : 100 ≤ d) (hz : TZ m) (h0 : tg m a0 = 26 ∧ vl m a0 0 = dd.2.1 ∧ tg m (vl m a0 3) = 27 ∧ tg m (vl m a0 4) = 27) (hk1 : 0 < tg m (vl m a0 1)) (hk2 : 0 < tg m (vl m a0 2)) (h1 : ∀ q, P1 q → P q) (h2 : ∀ q, P2 q → P q) (h3 : ¬ P2 (vl m a0 3)) (hl : EVo (vl m a0 3) P1 m R rw xs c rt stk cap (ci (d - 1) 303 (tg m (vl m a0 1)) [pR (vl m a0 1), pR R, pI at', pR (vl m a0 3)] m) (x w))
    (hr : ∀ (m1 : Mem) (w1 cap1 : Int), w1 ≤ 10000 → EC m1 R rw xs c rt stk w1 cap1 → EK P1 m m1 → EVo (vl m a0 4) P2 m1 R rw xs c rt stk cap1 (ci (d - 1) 303 (tg m1 (vl m a0 2)) [pR (vl m a0 2), pR R, pI at', pR (vl m a0 4)] m1) (g w1)) : EVb P m R rw xs c rt stk cap (cl d 325 [pR a0, pR R, pI at'] m) (eB x (fun v => eB g fun u => eR (vCm dd.2.1 v u)) w) := by
  obtain ⟨t0, v0, t3, t4⟩ := h0
  cases hE : x w with
  | none =>
    rw [eB_none hE]
    obtain ⟨m', b1, s, w', c', z1, z2, z3⟩ := hl.2 hE
    refine ⟨fun ys w' z => (by cases z), fun _ => ⟨m', q325 (by omega) hz _ ?_, s, w', c', z1, z2.imp h1, z3⟩⟩
    rw [gd_of t0, nm_eq, gd_of hk1, bV_xq b1]
  | some yy =>
    obtain ⟨v, w1⟩ := yy
    rw [eB_some hE]
    obtain ⟨b0, m1, c1, r1, zs1, b1, b2, b3, b4, rfl, rfl, b5, b6⟩ := hl.1 v w1 hE
    rw [List.append_nil] at b2
    have o1 : ∀ j, vl m1 a0 j = vl m a0 j := fun j => b3.2 a0 j (by omega) (by omega) (by omega) (by omega) (fun q => by omega)
    have tk2 : tg m1 (vl m a0 2) = tg m (vl m a0 2) := (b3.1 _ (by omega)).1
    have key := hr m1 w1 c1 b0 b2 b3
    cases hE2 : g w1 with
    | none =>
      rw [eB_none hE2]
      obtain ⟨m', d1, s, w', c', z1, z2, z3⟩ := key.2 hE2
      refine ⟨fun ys w' z => (by cases z), fun _ => ⟨m', q325 (by omega) hz _ ?_, EZ.pre ⟨s, w', c', z1, z2.imp h2, z3⟩ (b3.imp h1) b4⟩⟩
      rw [gd_of t0, nm_eq, gd_of hk1, bV_eq b1, nm_eq, o1 2, gd_of (by rw [tk2]; exact hk2), o1 4, bV_xq d1]
    | some zz =>
      obtain ⟨u, w2⟩ := zz
      rw [eB_some hE2]
      obtain ⟨d0, m2, c2, r2, zs2, d1, d2, d3, d4, rfl, rfl, d5, d6⟩ := key.1 u w2 hE2
      rw [List.append_nil] at d2
      have t0' : tg m1 a0 = 26 := by rw [(b3.1 a0 (by omega)).1]; exact t0
      have o2 : ∀ j, vl m2 a0 j = vl m a0 j := fun j => by rw [d3.2 a0 j (by omega) (by omega) (by omega) (by omega) (fun q => by omega)]; exact o1 j
      have ra : RS m2 (vl m a0 3) v := b5.keep d3 h3
      have e332 := c332 (d := d - 1) (by omega) d2.tz ra d5
      have e335 := c335 (d := d - 1) (by omega) d2.tz ra d5
      have e335' := c335 (d := d - 1) (by omega) d2.tz d5 ra
      have gb : ∀ b : Bool, b2i b = 0 ∨ b2i b = 1 := fun b => by cases b <;> decide
      have n0 : ∀ b : Bool, b = true → ¬ b2i b = 0 := fun b hb => by rw [hb]; decide
      have n1 : ∀ b : Bool, ¬ b = true → b2i b = 0 := fun b hb => by cases b; rfl; exact absurd rfl hb
      have fin : cl d 325 [pR a0, pR R, pI at'] m = some (.inl (some (pI (b2i (vCm dd.2.1 v u)))), m2) := by
        refine q325 (by omega) hz _ ?_
        rw [gd_of t0, nm_eq, gd_of hk1, bV_eq b1, nm_eq, o1 2, gd_of (by rw [tk2]; exact hk2), o1 4, bV_eq d1, nm_eq]
        unfold vCm
        simp only [o2]
        rw [v0]
        by_cases k0 : dd.2.1 = 0
        · rw [if_pos k0, if_pos k0, nm_eq, gd_of ra.1, bI_eq e332, gd_of (gb _)]
        rw [if_neg k0, if_neg k0]
        by_cases k1 : dd.2.1 = 1
        · rw [if_pos k1, if_pos k1, nm_eq, gd_of ra.1, bI_eq e332]
          by_cases q : vSm v u = true
          · rw [if_neg (n0 _ q), q]; rfl
          · rw [if_pos (n1 _ q)]
            have : vSm v u = false := by simpa using q
            rw [this]; rfl
        rw [if_neg k1, if_neg k1]
        by_cases k2 : dd.2.1 = 2
        · rw [if_pos k2, if_pos k2, nm_eq, gd_of ra.1, bI_eq e335, gd_of (gb _)]
        rw [if_neg k2, if_neg k2]
        by_cases k3 : dd.2.1 = 3
        · rw [if_pos k3, if_pos k3, nm_eq, gd_of ra.1, bI_eq e335]
          by_cases q : vLt v u = true
          · rw [if_neg (n0 _ q), q, Bool.true_or]; rfl
          · have q' : vLt v u = false := by simpa using q
            rw [if_pos (n1 _ q), nm_eq, o2, gd_of ra.1, o2, bI_eq e332, q', Bool.false_or]
            by_cases p : vSm v u = true
            · rw [if_neg (n0 _ p), p]; rfl
            · have p' : vSm v u = false := by simpa using p
              rw [if_pos (n1 _ p), p']; rfl
        rw [if_neg k3, if_neg k3]
        by_cases k4 : dd.2.1 = 4
        · rw [if_pos k4, if_pos k4, nm_eq, gd_of d5.1, bI_eq e335', gd_of (gb _)]
        rw [if_neg k4, if_neg k4, nm_eq, gd_of d5.1, bI_eq e335']
        by_cases q : vLt u v = true
        · rw [if_neg (n0 _ q), q, Bool.true_or]; rfl
        · have q' : vLt u v = false := by simpa using q
          rw [if_pos (n1 _ q), nm_eq, o2, gd_of ra.1, o2, bI_eq e332, q', Bool.false_or]
          by_cases p : vSm v u = true
          · rw [if_neg (n0 _ p), p]; rfl
          · have p' : vSm v u = false := by simpa using p
            rw [if_pos (n1 _ p), p']; rfl
      refine ⟨fun y' w'' z => ?_, fun z => (by cases z)⟩
      cases z
      exact ⟨d0, m2, c2, some (pI (b2i (vCm dd.2.1 v u))), [], fin, by rw [List.append_nil]; exact d2, (b3.imp h1).trans (d3.imp h2), b4.trans d4, rfl, rfl⟩
end
