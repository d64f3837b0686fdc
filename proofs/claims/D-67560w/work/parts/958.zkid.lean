/-! evaluation by the twin: loops over kids -/
set_option maxRecDepth 100000
set_option maxHeartbeats 4000000
section
variable {E : ZE} {m m1 : Mem} {n : Nat} {uv stk : List Int} {C C1 a1 a2 a3 : Int} {s : Option Int} {d : Nat}
/-- at the next selector -/
abbrev KSel (E : ZE) (d : Nat) (a1 a2 nx : Int) (m : Mem) (Z : Rs × Mem) : Prop := ∀ z4 z5 : PV, cat z4 = 1 → cat z5 = 1 → rn d 266 7 [pR E.M, pI a1, pI a2, pI nx, z4, z5] [] m = some Z
theorem ZB.nf {i : Nat} {f v : Int} (h : ZB E m n uv C) (hf : 0 ≤ f ∧ f ≤ 9 ∧ f ≠ 1) (h5 : E.gD f i = v) (hi : (i : Int) < E.nD) : (tg m (vl m E.D f) = 284101 ∨ tg m (vl m E.D f) = 287101) ∧ ((0 : Int) ≤ (i : Int) ∧ (i : Int) < ln m (vl m E.D f)) ∧ vl m (vl m E.D f) i = v := by
  have l5 := h.hD.ld (f := f) ⟨hf.1, hf.2.1⟩ hf.2.2
  have hc := h.hD.2.2.2.2.2.2.1
  exact ⟨l5.1, ⟨by omega, by rw [l5.2]; omega⟩, by rw [← h5]; exact h.gD f i hf.1 hf.2.1⟩
/-- each kid is chosen -/
theorem c266_e {x : Nd} {par : Int} {ob : Bool} (hd : 3 ≤ d) (ha3 : 0 ≤ a3 ∧ a3 < E.k) : ∀ (F : Fo) (p : Int) (kk : Nat) (m : Mem) (stk : List Int) (C : Int) (s : Option Int), TF E.gD E.ud E.nD par ob F → (∀ y ∈ kdL ob F p kk, DNk E y) → ZC E s m stk n uv C → ZVc E m stk n uv C (fun Z => rn d 266 135 [pR E.M, pI a1, pI a2, pI a3, pI 2, pI (hdI F)] [] m = some Z) (KSel E d a1 a2 (E.g a3 1)) (eZ s (eL eA ((kdL ob F p kk).map (· :: x)))) := by
  intro F
  induction F with
  | leaf =>
    intro p kk m stk C s hT hk h
    refine ZVc.nil h fun Z hZ => q266_135 (by omega) h.bB.tz _ ?_
    rw [if_pos (by show (-1 : Int) < 0; decide), gd_of h.bB.hM, bI_eq (h.bB.rd ha3 (by decide))]
    exact hZ _ _ rfl rfl
  | inner i dd u l r ihl ihr =>
    intro p kk m stk C s hT hk h
    obtain ⟨f1, f2, f3, f4, f5, f6, f7, f8, f9, f10⟩ := hT
    have hi : hdI (.inner i dd u l r) = (i : Int) := rfl
    rw [hi]
    rw [kdL_inner] at hk ⊢
    generalize hq : p + ((if ob = true then nmB dd.2.2.2 else []).length : Int) = q at *
    have ee : eL eA (((q, i, dd, l, kk) :: kdL ob r (q + (enV dd l).length) (kk + 1)).map (· :: x)) = eB (eA ((q, i, dd, l, kk) :: x)) (fun a => eB (eL eA ((kdL ob r (q + (enV dd l).length) (kk + 1)).map (· :: x))) fun b => eR (a ++ b)) := rfl
    rw [ee]
    cases s with
    | none =>
      refine ZVc.dead h (fun Z hZ => q266_135 (by omega) h.bB.tz _ ?_) rfl
      rw [if_neg (by omega), gd_of h.bB.hM, if_neg (by rw [h.dead]; decide), bI_eq (h.bB.rd ha3 (by decide))]
      exact hZ _ _ rfl rfl
    | some w =>
      have hlv := h.live.1
      refine ZVc.seq (K1 := fun m' Z => rn d 266 135 [pR E.M, pI a1, pI a2, pI a3, pI 2, pI (hdI r)] [] m' = some Z) ((c263 (d := d - 1) (a := (i : Int)) (by omega) h (hk _ List.mem_cons_self).n rfl).c fun m' zs s' C' e1 c1 Z hZ => q266_135 (by omega) h.bB.tz _ ?_) (fun m' zs s' C' c1 q1 => ihr _ _ m' _ C' s' f10 (fun y hy => hk y (List.mem_cons_of_mem _ hy)) c1)
      obtain ⟨g1, g2, g3⟩ := c1.bB.nf (f := 5) (by decide) f8 f1
      rw [if_neg (by omega), gd_of h.bB.hM, if_pos hlv, if_pos rfl, bV_eq e1, nm_eq, c1.bB.vD, gd_of c1.bB.hD.1, nm_eq, gd_of g1, gd_of g2, g3]
      exact hZ
/-- some kids are chosen -/
theorem c266_f {x : Nd} {par : Int} {ob : Bool} {f : Nd → EV Bool} {t0 : Int} (hd : 3 ≤ d) (ha3 : 0 ≤ a3 ∧ a3 < E.k) (ht0 : E.g a3 2 = t0) (H : ∀ (m1 : Mem) (stk1 : List Int) (w1 C1 : Int) (q : Nk), DNk E q → ZC E (some w1) m1 stk1 n uv C1 → ZVb E m1 stk1 n uv C1 (cl (d - 1) 268 [pR E.M, pI t0, pI q.2.1] m1) (f (q :: x) w1)) : ∀ (F : Fo) (p : Int) (kk : Nat) (m : Mem) (stk : List Int) (C : Int) (s : Option Int), TF E.gD E.ud E.nD par ob F → (∀ y ∈ kdL ob F p kk, DNk E y) → ZC E s m stk n uv C → ZVc E m stk n uv C (fun Z => rn d 266 135 [pR E.M, pI a1, pI a2, pI a3, pI 5, pI (hdI F)] [] m = some Z) (KSel E d a1 a2 (E.g a3 1)) (eZ s (eF f x (kdL ob F p kk))) := by
  intro F
  induction F with
  | leaf =>
    intro p kk m stk C s hT hk h
    refine ZVc.nil h fun Z hZ => q266_135 (by omega) h.bB.tz _ ?_
    rw [if_pos (by show (-1 : Int) < 0; decide), gd_of h.bB.hM, bI_eq (h.bB.rd ha3 (by decide))]
    exact hZ _ _ rfl rfl
  | inner i dd u l r ihl ihr =>
    intro p kk m stk C s hT hk h
    obtain ⟨f1, f2, f3, f4, f5, f6, f7, f8, f9, f10⟩ := hT
    have hi : hdI (.inner i dd u l r) = (i : Int) := rfl
    rw [hi]
    rw [kdL_inner] at hk ⊢
    generalize hq : p + ((if ob = true then nmB dd.2.2.2 else []).length : Int) = q at *
    have ee : eF f x ((q, i, dd, l, kk) :: kdL ob r (q + (enV dd l).length) (kk + 1)) = eB eT fun _ => eB (f ((q, i, dd, l, kk) :: x)) fun b => eB (if b then eA ((q, i, dd, l, kk) :: x) else eR []) fun a => eB (eF f x (kdL ob r (q + (enV dd l).length) (kk + 1))) fun e => eR (a ++ e) := rfl
    rw [ee]
    have hkr : ∀ y ∈ kdL ob r (q + (enV dd l).length) (kk + 1), DNk E y := fun y hy => hk y (List.mem_cons_of_mem _ hy)
    have hq0 := hk _ List.mem_cons_self
    cases s with
    | none =>
      refine ZVc.dead h (fun Z hZ => q266_135 (by omega) h.bB.tz _ ?_) rfl
      rw [if_neg (by omega), gd_of h.bB.hM, if_neg (by rw [h.dead]; decide), bI_eq (h.bB.rd ha3 (by decide))]
      exact hZ _ _ rfl rfl
    | some w =>
      have hlv := h.live.1
      obtain ⟨m1, e1, c1, q1, l1⟩ := c264 (d := d - 1) (b := n) h
      rw [eZ_B]
      -- on to the next kid
      have nxt : ∀ (m2 : Mem) (stk2 : List Int) (s2 : Option Int) (C2 : Int), ZC E s2 m2 stk2 n uv C2 → ∀ Z, rn d 266 135 [pR E.M, pI a1, pI a2, pI a3, pI 5, pI (hdI r)] [] m2 = some Z → (nm (vl m2 E.M 18) fun v12 => gd (tg m2 v12 = 13) <| nm (vl m2 v12 5) fun v13 => gd (tg m2 v13 = 284101 ∨ tg m2 v13 = 287101) <| gd ((0 : Int) ≤ (i : Int) ∧ (i : Int) < ln m2 v13) <| rn d 266 135 [pR E.M, pI a1, pI a2, pI a3, pI 5, pI (vl m2 v13 i)] [] m2) = some Z := fun m2 stk2 s2 C2 c2 Z hZ => by
        obtain ⟨g1, g2, g3⟩ := c2.bB.nf (f := 5) (by decide) f8 f1
        rw [nm_eq, c2.bB.vD, gd_of c2.bB.hD.1, nm_eq, gd_of g1, gd_of g2, g3]
        exact hZ
      cases hE : eZ (some w) eT with
      | none =>
        rw [hE] at e1 c1
        dsimp only
        refine (((ihr _ _ m1 stk C none f10 hkr c1).of fun Z hZ => q266_135 (by omega) h.bB.tz _ ?_).pre q1)
        rw [if_neg (by omega), gd_of h.bB.hM, if_pos hlv, if_neg (by decide), bI_eq e1]
        show (if (0 : Int) = 0 then _ else _) = some Z
        rw [if_pos rfl]
        exact nxt m1 stk _ C c1 Z hZ
      | some zz =>
        obtain ⟨a, w1⟩ := zz
        rw [hE] at e1 c1
        dsimp only
        obtain ⟨m2, C2, r2, zs2, n2, uv2, e2, c2, q2, rfl, rfl, rfl, b, rfl, hb⟩ := H m1 stk w1 C (q, i, dd, l, kk) hq0 c1
        rw [List.append_nil] at c2
        have q12 := q1.trans q2 (Int.le_refl _)
        have st : ∀ Z, (if b2i b = 0 then (nm (vl m2 E.M 18) fun v12 => gd (tg m2 v12 = 13) <| nm (vl m2 v12 5) fun v13 => gd (tg m2 v13 = 284101 ∨ tg m2 v13 = 287101) <| gd ((0 : Int) ≤ (i : Int) ∧ (i : Int) < ln m2 v13) <| rn d 266 135 [pR E.M, pI a1, pI a2, pI a3, pI 5, pI (vl m2 v13 i)] [] m2) else if (vl m2 E.M 35) = 0 then (bV (cl (d - 1) 263 [pR E.M, pI i] m2) fun m6 => nm (vl m6 E.M 18) fun v14 => gd (tg m6 v14 = 13) <| nm (vl m6 v14 5) fun v15 => gd (tg m6 v15 = 284101 ∨ tg m6 v15 = 287101) <| gd ((0 : Int) ≤ (i : Int) ∧ (i : Int) < ln m6 v15) <| rn d 266 135 [pR E.M, pI a1, pI a2, pI a3, pI 5, pI (vl m6 v15 i)] [] m6) else (nm (vl m2 E.M 18) fun v16 => gd (tg m2 v16 = 13) <| nm (vl m2 v16 5) fun v17 => gd (tg m2 v17 = 284101 ∨ tg m2 v17 = 287101) <| gd ((0 : Int) ≤ (i : Int) ∧ (i : Int) < ln m2 v17) <| rn d 266 135 [pR E.M, pI a1, pI a2, pI a3, pI 5, pI (vl m2 v17 i)] [] m2)) = some Z → rn d 266 135 [pR E.M, pI a1, pI a2, pI a3, pI 5, pI i] [] m = some Z := fun Z hZ => by
          refine q266_135 (by omega) h.bB.tz _ ?_
          rw [if_neg (by omega), gd_of h.bB.hM, if_pos hlv, if_neg (by decide), bI_eq e1]
          show (if (1 : Int) = 0 then _ else _) = some Z
          rw [if_neg (by decide), bI_eq (c1.bB.rd ha3 (by decide)), ht0, bI_eq e2]
          exact hZ
        cases hF : f ((q, i, dd, l, kk) :: x) w1 with
        | none =>
          rw [hF] at c2
          have ey : (eB (f ((q, i, dd, l, kk) :: x)) fun b => eB (if b then eA ((q, i, dd, l, kk) :: x) else eR []) fun a => eB (eF f x (kdL ob r (q + (enV dd l).length) (kk + 1))) fun e => eR (a ++ e)) w1 = none := eB_none hF
          rw [ey]
          refine (((ihr _ _ m2 stk C2 none f10 hkr c2).of fun Z hZ => st Z ?_).pre q12)
          by_cases z : b2i b = 0
          · rw [if_pos z]; exact nxt m2 stk _ C2 c2 Z hZ
          · rw [if_neg z, if_neg (by rw [ZC.dead c2]; decide)]; exact nxt m2 stk _ C2 c2 Z hZ
        | some bb =>
          obtain ⟨b1, w2⟩ := bb
          rw [hF] at c2 hb
          have hbb : b1 = b := hb b1 rfl
          subst hbb
          have ey : (eB (f ((q, i, dd, l, kk) :: x)) fun b => eB (if b then eA ((q, i, dd, l, kk) :: x) else eR []) fun a => eB (eF f x (kdL ob r (q + (enV dd l).length) (kk + 1))) fun e => eR (a ++ e)) w1 = (eB (if b1 then eA ((q, i, dd, l, kk) :: x) else eR []) fun a => eB (eF f x (kdL ob r (q + (enV dd l).length) (kk + 1))) fun e => eR (a ++ e)) w2 := eB_some hF
          rw [ey]
          have c2' : ZC E (some w2) m2 stk _ _ C2 := c2
          cases b1 with
          | false =>
            have e9 : (eB (if false = true then eA ((q, i, dd, l, kk) :: x) else eR []) fun a => eB (eF f x (kdL ob r (q + (enV dd l).length) (kk + 1))) fun e => eR (a ++ e)) w2 = eZ (some w2) (eF f x (kdL ob r (q + (enV dd l).length) (kk + 1))) := by
              show (eB (eF f x (kdL ob r (q + (enV dd l).length) (kk + 1))) fun e => eR e) w2 = _
              rw [eB_eR]; rfl
            rw [e9]
            refine (((ihr _ _ m2 stk C2 (some w2) f10 hkr c2').of fun Z hZ => st Z ?_).pre q12)
            rw [if_pos (by rfl)]; exact nxt m2 stk _ C2 c2' Z hZ
          | true =>
            refine (ZVc.of (R := fun Z => (bV (cl (d - 1) 263 [pR E.M, pI i] m2) fun m6 => nm (vl m6 E.M 18) fun v14 => gd (tg m6 v14 = 13) <| nm (vl m6 v14 5) fun v15 => gd (tg m6 v15 = 284101 ∨ tg m6 v15 = 287101) <| gd ((0 : Int) ≤ (i : Int) ∧ (i : Int) < ln m6 v15) <| rn d 266 135 [pR E.M, pI a1, pI a2, pI a3, pI 5, pI (vl m6 v15 i)] [] m6) = some Z) ?_ fun Z hZ => st Z ?_).pre q12
            · refine ZVc.seq (s := some w2) (x := eA ((q, i, dd, l, kk) :: x)) (K1 := fun m' Z => rn d 266 135 [pR E.M, pI a1, pI a2, pI a3, pI 5, pI (hdI r)] [] m' = some Z) ((c263 (d := d - 1) (a := (i : Int)) (by omega) c2' hq0.n rfl).c fun m' zs s' C' e3 c3 Z hZ => ?_) (fun m' zs s' C' c3 q3 => ihr _ _ m' _ C' s' f10 hkr c3)
              rw [bV_eq e3]
              exact nxt m' _ _ C' c3 Z hZ
            · rw [if_neg (by decide), if_pos c2'.live.1]; exact hZ
end
