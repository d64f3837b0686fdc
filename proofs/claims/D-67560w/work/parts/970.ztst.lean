/-! evaluation by the twin: comparisons, tests -/
set_option maxRecDepth 100000
set_option maxHeartbeats 4000000
section
variable {E : ZE} {rN : Nd} {m m1 : Mem} {n : Nat} {uv stk : List Int} {C b : Int} {s : Option Int} {d : Nat}
theorem ZC.fld {f v : Int} {n' : Nat} {uv' : List Int} (ho : ZO E) (h : ZC E s m stk n uv C) (hw : TW (mst m E.V f v) E.V n' uv' C) (tu : TU E.V m (mst m E.V f v)) (hu : uC (mst m E.V f v) E.V = uC m E.V) (hU : wfU uv') : ZC E s (mst m E.V f v) stk n' uv' C ∧ ZQ E b m C (mst m E.V f v) C := by
  obtain ⟨hB, hL, hW⟩ := h
  have hM := hB.hM
  have hl := hB.lt
  have hV := hB.hV
  have hV1 := hV.1
  obtain ⟨⟨a1, a2⟩, ⟨a3, a4, a5⟩, ⟨a6, a7, a8, a9⟩, ⟨⟨b1, b2⟩, b3⟩, ⟨b4, b5⟩, b6⟩ := hB
  obtain ⟨c1, c2, ⟨c3, c4⟩, ⟨c5, c6⟩, c7, c8, c9⟩ := a3
  have o : ∀ a j, tg m a ≠ 13 → vl (mst m E.V f v) a j = vl m a j := fun a j ha => by rw [vl_mst, if_neg (fun z => ha (by rw [z.1]; exact hV1))]
  have g : ∀ f', vl (mst m E.V f v) E.M f' = vl m E.M f' := fun f' => o _ _ (by omega)
  have r1 : rv (mst m E.V f v) E.M = rv m E.M := by
    funext y f'
    unfold rv
    rw [g, o _ _ (by omega)]
  have r2 : ev (mst m E.V f v) E.M = ev m E.M := by
    funext y f'
    unfold ev
    rw [g, o _ _ (by omega)]
  refine ⟨⟨⟨⟨a1, tu.1⟩, ⟨⟨c1, by rw [g]; exact c2, ⟨by rw [g]; exact c3, by rw [g]; exact c4⟩, ⟨by rw [g]; exact c5, by rw [g]; exact c6⟩, c7, by rw [g, g]; exact c8, by rw [g]; exact c9⟩, by rw [r1]; exact a4, by rw [r2]; exact a5⟩, ⟨by rw [g]; exact a6, by rw [g]; exact a7, by rw [g]; exact a8, by rw [g]; exact a9⟩, ⟨⟨(tu.2.1 E.S ho.2.1 _ _ _ b1).1, (tu.2.1 E.D ho.1 _ _ _ b2).1⟩, fun f' j f0 f1 => by rw [tu.2.2 E.D f' j _ _ _ b2 f0 f1]; exact b3 f' j f0 f1⟩, ⟨hw, hU⟩, by rw [g]; exact b6⟩, ⟨by rw [g]; exact hL.1, hL.2.1, fun j j0 j1 => by rw [g, o _ _ (by omega)]; exact hL.2.2.1 j j0 j1, hL.2.2.2⟩, ?_⟩, ⟨tu.tvb b4, ?_, by omega, by rw [hu]; omega⟩⟩
  · cases s with
    | none => show vl _ _ _ = 1; rw [g]; exact hW
    | some w' => exact ⟨by rw [g]; exact hW.1, by rw [g]; exact hW.2.1, hW.2.2⟩
  · unfold GR tC
    rw [hu]
    exact ⟨Int.le_refl _, by show nx m - nx m ≤ _; omega, by show sl m - sl m ≤ _; omega⟩
/-- the values are forgotten -/
theorem ZC.rest {n' : Nat} {vs : List Int} (ho : ZO E) (h : ZC E s m stk n' (uv ++ vs) C) (hn : n ≤ n') : ZC E s (mst (mst m E.V 10 n) E.V 12 uv.length) stk n uv C ∧ ZQ E b m C (mst (mst m E.V 10 n) E.V 12 uv.length) C := by
  have hV := h.bB.hV
  have hU := h.bB.2.2.2.2.1.2
  have hc := hV.2.2.2.2.2.2.1
  have hcu := hV.2.2.2.2.2.2.2.1
  have hU' : wfU uv := fun x hx => hU x (List.mem_append_left _ hx)
  rw [List.length_append] at hcu
  push_cast at hcu
  obtain ⟨t1, t2, t3⟩ := hV.fld (f := 10) (v := (n : Int)) (n' := n) (us' := uv ++ vs) h.bB.ti h.bB.ok (Or.inl rfl) (by rw [if_pos rfl]) (Or.inl ⟨rfl, rfl⟩) (by omega)
  obtain ⟨c1, q1⟩ := h.fld (b := b) ho t1 t2 t3 hU
  have hV1 := c1.bB.hV
  have ht1 := hV.1
  have h11 : vl (mst m E.V 10 n) E.V 11 = vl m E.V 11 := by rw [vl_mst, if_neg (by omega)]
  have hu : ∀ i : Int, 0 ≤ i → i < uv.length → vl (mst m E.V 10 n) (vl (mst m E.V 10 n) E.V 11) i = gi uv i := fun i i0 i1 => by
    have := hV1.2.2.2.2.2.2.2.2 i i0 (by rw [List.length_append]; push_cast; omega)
    rw [gi_app_l i0 i1] at this
    exact this
  obtain ⟨s1, s2, s3⟩ := hV1.fld (f := 12) (v := (uv.length : Int)) (n' := n) (us' := uv) c1.bB.ti c1.bB.ok (Or.inr rfl) (by rw [if_neg (by decide)]) (Or.inr ⟨rfl, rfl, hu, by unfold uC; rw [h11]; have : ln (mst m E.V 10 n) (vl m E.V 11) = ln m (vl m E.V 11) := rfl; omega⟩) (by omega)
  · obtain ⟨c2, q2⟩ := c1.fld (b := b) ho s1 s2 s3 hU'
    exact ⟨c2, q1.trans q2 (Int.le_refl _)⟩
theorem b2i_01 (b : Bool) : b2i b = 0 ∨ b2i b = 1 := by cases b <;> decide
/-- a comparison -/
theorem c269 {X Y : EV VR} {r a2 op : Int} {hq : Nat} (ho : ZO E) (hd : 100 ≤ d) (hr : 0 ≤ r ∧ r < E.k) (h4 : E.g r 4 = op) (hop : 0 ≤ op ∧ op ≤ 5) (hn : (n : Int) + 1160 ≤ 15500 ∧ (uv.length : Int) + 2630 ≤ 40000 ∧ hq ≤ 1720) (h : ZC E s m stk n uv C) (h1 : ZVo E m stk n uv C (cl (d - 1) 270 [pR E.M, pI (E.g r 2), pI a2] m) (eZ s X) hq n) (h2 : ∀ (m1 : Mem) (n1 : Nat) (uv1 : List Int) (C1 : Int) (s1 : Option Int), ZC E s1 m1 stk n1 uv1 C1 → n ≤ n1 → n1 ≤ n + 480 + hq / 35 → (uv1.length : Int) ≤ uv.length + 1290 → ZVo E m1 stk n1 uv1 C1 (cl (d - 1) 270 [pR E.M, pI (E.g r 3), pI a2] m1) (eZ s1 Y) hq n) : ZVb E m stk n uv C (cl d 269 [pR E.M, pI r, pI a2] m) (eZ s (eB X fun v => eB Y fun u => eR (vCm op v u))) := by
  obtain ⟨m1, C1, r1, zs1, n1, uv1, e1, c1, q1, rfl, v, x1, rfl, hv, hvv, hn1, hn1', vs1, rfl, hvs1⟩ := h1
  rw [List.append_nil] at c1
  obtain ⟨m2, C2, r2, zs2, n2, uv2, e2, c2, q2, rfl, u, x2, rfl, hu, huu, hn2, hn2', vs2, rfl, hvs2⟩ := h2 m1 n1 _ C1 _ c1 hn1 hn1' (by rw [List.length_append]; push_cast; omega)
  rw [List.append_nil] at c2
  have hv2 : VN E m2 n n2 (uv ++ vs1 ++ vs2) x1 v := hv.keep q2 hn2
  have hV := h.bB.hV
  have k2 := h.bB.rd (d := d - 1) (r := r) (f := 2) hr (by decide)
  have k3 := c1.bB.rd (d := d - 1) (r := r) (f := 3) hr (by decide)
  have k4 := c2.bB.rd (d := d - 1) (r := r) (f := 4) hr (by decide)
  rw [h4] at k4
  have st : ∀ Z, rn d 269 91 [pR E.M, pI r, pI a2, pI (n : Int), pI (uv.length : Int), pI x1, pI x2, pI op, pU, pU] [pI (b2i (vSm v u))] m2 = some Z → cl d 269 [pR E.M, pI r, pI a2] m = some Z := fun Z hZ => by
    refine q269 (by omega) h.bB.tz _ ?_
    rw [gd_of h.bB.hM, nm_eq, h.bB.vV, gd_of hV.1, nm_eq, nm_eq, hV.2.2.2.2.1, hV.2.2.2.2.2.1, bI_eq k2, bI_eq e1, bI_eq k3, bI_eq e2, bI_eq k4]
    by_cases y1 : x1 < 0
    · rw [if_pos y1]
      have hv0 : v = none := by
        cases v with
        | none => rfl
        | some dl => obtain ⟨dd, l⟩ := dl; obtain ⟨i, lD, hx, -⟩ := hv; omega
      subst hv0
      have hx1 : x1 = -1 := hv
      cases u with
      | none =>
        have hx2 : x2 = -1 := hu
        rw [if_pos (by omega)]; exact hZ
      | some dl =>
        obtain ⟨dd, l⟩ := dl
        obtain ⟨i, lD, hx, -⟩ := hu
        rw [if_neg (by omega)]; exact hZ
    · rw [if_neg y1]
      by_cases y2 : x2 < 0
      · rw [if_pos y2, if_neg (by omega)]
        have hu0 : u = none := by
          cases u with
          | none => rfl
          | some dl => obtain ⟨dd, l⟩ := dl; obtain ⟨i, lD, hx, -⟩ := hu; omega
        subst hu0
        cases v with
        | none => exact absurd (show x1 < 0 by have : x1 = -1 := hv; omega) y1
        | some dl => exact hZ
      · have e235 := c235_v (d := d - 1) (by omega) c2 hv2 hu y1 y2
        rw [if_neg y2, nm_eq, c2.bB.vV, bI_eq e235]
        exact hZ
  -- the end
  obtain ⟨c3, q3⟩ := ZC.rest (n := n) (uv := uv) (vs := vs1 ++ vs2) (b := (n : Int)) ho (by rw [← List.append_assoc]; exact c2) (by omega)
  have hV2 := c2.bB.hV
  have fin : ∀ bb : Bool, bb = vCm op v u → cl d 269 [pR E.M, pI r, pI a2] m = some (.inl (some (pI (b2i bb))), mst (mst m2 E.V 10 n) E.V 12 uv.length) → ZVb E m stk n uv C (cl d 269 [pR E.M, pI r, pI a2] m) (eZ s (eB X fun v => eB Y fun u => eR (vCm op v u))) := by
    intro bb hbb he
    have hy : eZ s (eB X fun v => eB Y fun u => eR (vCm op v u)) = match eZ s X with
        | none => none
        | some (v, w') => match Y w' with
          | none => none
          | some (u, w2) => some (vCm op v u, w2) := by
      rw [eZ_B]
      cases eZ s X with
      | none => rfl
      | some z =>
        obtain ⟨a, w'⟩ := z
        dsimp only
        unfold eB
        cases Y w' with
        | none => rfl
        | some z2 => rfl
    rw [hy]
    refine ⟨_, C2, some (pI (b2i bb)), [], n, uv, he, ?_, (q1.trans q2 (by omega)).trans q3 (Int.le_refl _), rfl, rfl, rfl, bb, rfl, fun b' hb' => ?_⟩
    · rw [List.append_nil]
      cases hE : eZ s X with
      | none => rw [hE] at c3; exact c3
      | some z =>
        obtain ⟨a, w'⟩ := z
        rw [hE] at c3
        have eg : eZ ((some (a, w')).map (·.2)) Y = Y w' := rfl
        rw [eg] at c3
        dsimp only
        cases hG : Y w' with
        | none => rw [hG] at c3; exact c3
        | some z2 => obtain ⟨a2, w2⟩ := z2; rw [hG] at c3; exact c3
    · cases hE : eZ s X with
      | none => rw [hE] at hb'; cases hb'
      | some z =>
        obtain ⟨a, w'⟩ := z
        rw [hE] at hb' hvv huu
        have eg : eZ ((some (a, w')).map (·.2)) Y = Y w' := rfl
        rw [eg] at huu
        dsimp only at hb'
        cases hG : Y w' with
        | none => rw [hG] at hb'; cases hb'
        | some z2 =>
          obtain ⟨a2, w2⟩ := z2
          rw [hG] at hb' huu
          cases hb'
          rw [hbb, hvv a rfl, huu a2 rfl]
  have e272 := c272 (d := d - 1) (by omega) c2 hv2 hu
  have e272' := c272 (d := d - 1) (by omega) c2 hu hv2
  have p1 : (op = 2 ∨ op = 4 → ¬ pAnd op 1 = 1) ∧ (op = 3 ∨ op = 5 → pAnd op 1 = 1) := ⟨fun q => by rcases q with q | q <;> subst q <;> decide, fun q => by rcases q with q | q <;> subst q <;> decide⟩
  have s170 : ∀ (a8 a9 : Int) (bb : Bool), rn d 269 170 [pR E.M, pI r, pI a2, pI (n : Int), pI (uv.length : Int), pI x1, pI x2, pI op, pI a8, pI a9] [pI (b2i bb)] m2 = some (.inl (some (pI (b2i bb))), mst (mst m2 E.V 10 n) E.V 12 uv.length) := fun a8 a9 bb => by
    refine q269_170 c2.bB.tz _ ?_
    rw [gd_of c2.bB.hM, nm_eq, c2.bB.vV, gd_of hV2.1, gd_of (b2i_01 bb)]
  have s152 : ∀ (a9 : Int), op = 2 ∨ op = 4 → rn d 269 152 [pR E.M, pI r, pI a2, pI (n : Int), pI (uv.length : Int), pI x1, pI x2, pI op, pI (b2i (vSm v u)), pI a9] [] m2 = some (.inl (some (pI (b2i false))), mst (mst m2 E.V 10 n) E.V 12 uv.length) := fun a9 hq => by
    refine q269_152 c2.bB.tz _ ?_
    rw [if_neg (p1.1 hq)]
    exact s170 _ _ false
  have s152' : ∀ (a9 : Int), op = 3 ∨ op = 5 → rn d 269 152 [pR E.M, pI r, pI a2, pI (n : Int), pI (uv.length : Int), pI x1, pI x2, pI op, pI (b2i (vSm v u)), pI a9] [] m2 = some (.inl (some (pI (b2i (vSm v u)))), mst (mst m2 E.V 10 n) E.V 12 uv.length) := fun a9 hq => by
    refine q269_152 c2.bB.tz _ ?_
    rw [if_pos (p1.2 hq)]
    cases hS : vSm v u with
    | false => rw [if_pos (by rfl)]; exact s170 _ _ false
    | true => rw [if_neg (by decide)]; exact s170 _ _ true
  have s113 : ∀ (s0 : Int), 1 < op → rn d 269 113 [pR E.M, pI r, pI a2, pI (n : Int), pI (uv.length : Int), pI x1, pI x2, pI op, pI (b2i (vSm v u)), pU] [pI s0] m2 = some (.inl (some (pI (b2i (vCm op v u)))), mst (mst m2 E.V 10 n) E.V 12 uv.length) := fun s0 hgt => by
    refine q269_113 (by omega) c2.bB.tz _ ?_
    have ev : vCm op v u = if op = 2 then vLt v u else if op = 3 then vLt v u || vSm v u else if op = 4 then vLt u v else vLt u v || vSm v u := by
      unfold vCm
      rw [if_neg (show ¬ op = 0 by omega), if_neg (show ¬ op = 1 by omega)]
    rw [if_pos hgt, ev]
    by_cases o2 : op = 2
    · rw [if_pos (by omega), gd_of c2.bB.hM, bI_eq e272, if_pos o2]
      cases hL : vLt v u with
      | false => rw [if_pos (by rfl)]; exact s152 _ (Or.inl o2)
      | true => rw [if_neg (by decide)]; exact s170 _ _ true
    · rw [if_neg o2]
      by_cases o3 : op = 3
      · rw [if_pos (by omega), gd_of c2.bB.hM, bI_eq e272, if_pos o3]
        cases hL : vLt v u with
        | false => rw [if_pos (by rfl), Bool.false_or]; exact s152' _ (Or.inl o3)
        | true => rw [if_neg (by decide), Bool.true_or]; exact s170 _ _ true
      · rw [if_neg o3, if_neg (by omega), gd_of c2.bB.hM, bI_eq e272']
        by_cases o4 : op = 4
        · rw [if_pos o4]
          cases hL : vLt u v with
          | false => rw [if_pos (by rfl)]; exact s152 _ (Or.inr o4)
          | true => rw [if_neg (by decide)]; exact s170 _ _ true
        · rw [if_neg o4]
          cases hL : vLt u v with
          | false => rw [if_pos (by rfl), Bool.false_or]; exact s152' _ (Or.inr (by omega))
          | true => rw [if_neg (by decide), Bool.true_or]; exact s170 _ _ true
  have s113' : ∀ (bb : Bool), ¬ 1 < op → rn d 269 113 [pR E.M, pI r, pI a2, pI (n : Int), pI (uv.length : Int), pI x1, pI x2, pI op, pI (b2i (vSm v u)), pU] [pI (b2i bb)] m2 = some (.inl (some (pI (b2i bb))), mst (mst m2 E.V 10 n) E.V 12 uv.length) := fun bb hgt => by
    refine q269_113 (by omega) c2.bB.tz _ ?_
    rw [if_neg hgt, gd_of c2.bB.hM, nm_eq, c2.bB.vV, gd_of hV2.1, gd_of (b2i_01 bb)]
  refine fin (vCm op v u) rfl (st _ (q269_91 c2.bB.tz _ ?_))
  by_cases o0 : op = 0
  · have ev : vCm op v u = vSm v u := if_pos o0
    rw [if_pos o0, ev]
    cases hS : vSm v u with
    | false =>
      rw [if_neg (by decide)]
      have := s113' false (by omega)
      rw [hS] at this; exact this
    | true =>
      rw [if_pos (by rfl)]
      have := s113' true (by omega)
      rw [hS] at this; exact this
  · rw [if_neg o0]
    by_cases o1 : op = 1
    · have ev : vCm op v u = !vSm v u := by unfold vCm; rw [if_neg o0, if_pos o1]
      rw [ev]
      cases hS : vSm v u with
      | false =>
        rw [if_pos (by rfl)]
        have := s113' true (by omega)
        rw [hS] at this; exact this
      | true =>
        rw [if_neg (by decide)]
        have := s113' false (by omega)
        rw [hS] at this; exact this
    · split <;> exact s113 _ (by omega)
end
