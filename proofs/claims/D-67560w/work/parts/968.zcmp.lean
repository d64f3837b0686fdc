/-! evaluation by the twin: comparables -/
set_option maxRecDepth 100000
set_option maxHeartbeats 4000000
abbrev ZVo (E : ZE) (m : Mem) (stk : List Int) (n : Nat) (uv : List Int) (C : Int) (Q : RM) (y : Option (VR × Int)) (hq n0 : Nat) : Prop := ZVa E m stk n uv C Q y (fun o r zs m' n' uv' => zs = [] ∧ ∃ v x, r = some (pI x) ∧ VN E m' n0 n' uv' x v ∧ (∀ v', o = some v' → v' = v) ∧ n ≤ n' ∧ n' ≤ n + 480 + hq / 35 ∧ ∃ vs, uv' = uv ++ vs ∧ (vs.length : Int) ≤ 1290)
def TCpb (E : ZE) (rN : Nd) (F : Fo) : Prop := ∀ (w : Bool) (n n0 : Nat) (uv : List Int) (p : Nat → Int) (d : Nat) (m : Mem) (stk : List Int) (C : Int) (s : Option Int) (x : Nk) (y : Nd), gF E.g E.en E.us w (PK E) p F → okF 4 F → 1 ≤ cntF F → hQ F + 120 ≤ d → BL n uv (hQ F) → DNk E x → n0 ≤ n → ZC E s m stk n uv C → ZVo E m stk n uv C (cl d 270 [pR E.M, pI (p 0), pI x.2.1] m) (eZ s ((evX rN F).cpb (x :: y))) (hQ F) n0
def TCp2 (E : ZE) (rN : Nd) (F : Fo) : Prop := ∀ (w : Bool) (n n0 : Nat) (uv : List Int) (p : Nat → Int) (d : Nat) (m : Mem) (stk : List Int) (C : Int) (s : Option Int) (x : Nk) (y : Nd), gF E.g E.en E.us w (PK E) p F → okF 4 F → 2 ≤ cntF F → hQ F + 120 ≤ d → BL n uv (hQ F) → DNk E x → n0 ≤ n → ZC E s m stk n uv C → ZVo E m stk n uv C (cl d 270 [pR E.M, pI (p 1), pI x.2.1] m) (eZ s ((evX rN F).cp2 (x :: y))) (hQ F) n0
def TQry (E : ZE) (rN : Nd) (F : Fo) : Prop := ∀ (w : Bool) (n : Nat) (uv : List Int) (p : Nat → Int) (d : Nat) (m : Mem) (stk : List Int) (C : Int) (s : Option Int) (x : Nk) (y : Nd), gF E.g E.en E.us w (PK E) p F → okF 5 F → 1 ≤ cntF F → hQ F + 120 ≤ d → BL n uv (hQ F) → DNk E x → ZC E s m stk n uv C → ZVq E m stk n uv C (cl d 262 [pR E.M, pI (p 0), pI x.2.1] m) (eZ s ((evX rN F).qry (x :: y)))
theorem unw_o {g : RF} {w : Bool} {k : Nat} {c : Int} (h : ¬ (k = 30 ∨ k = 34)) : unw g w k c = c := by unfold unw; rw [if_neg (fun q => h q.2)]
section
variable {E : ZE} {rN : Nd}
theorem eZ_R {α : Type} {s : Option Int} {a : α} : eZ s (eR a) = s.map fun w => (a, w) := by cases s <;> rfl
theorem zo_ret {m m' : Mem} {stk uv : List Int} {n n' n0 : Nat} {C C' x : Int} {s : Option Int} {Q : RM} {v : VR} {hq : Nat} (hQ : Q = some (.inl (some (pI x)), m')) (h : ZC E s m' stk n' uv C') (q : ZQ E n m C m' C') (hv : VN E m' n0 n' uv x v) (h1 : n ≤ n') (h2 : n' ≤ n + 1) : ZVo E m stk n uv C Q (eZ s (eR v)) hq n0 := by
  rw [eZ_R]
  refine ⟨m', C', some (pI x), [], n', uv, hQ, ?_, q, rfl, v, x, rfl, hv, fun v' z => ?_, h1, by omega, [], by rw [List.append_nil], by decide⟩
  · rw [List.append_nil]
    cases s with
    | none => exact h
    | some w => exact h
  · cases s with
    | none => cases z
    | some w => cases z; rfl
theorem erF_1 {nd : ND} {l l' : Fo} (h : erF l = erF l') : erF (foC nd l foN) = erF (foC nd l' foN) := by
  show Std.DTreeMap.Internal.Impl.inner 0 nd () (erF l) (erF foN) = Std.DTreeMap.Internal.Impl.inner 0 nd () (erF l') (erF foN)
  rw [h]
theorem zLit {n n0 d : Nat} {uv stk : List Int} {m : Mem} {C r a2 : Int} {s : Option Int} {dd : ND} {l : Fo} {hq : Nat} (ho : ZO E) (hd : 120 ≤ d) (hr : 0 ≤ r ∧ r < E.k) (hk : 40 ≤ dd.1 ∧ dd.1 ≤ 44) (hb : gB E.g E.en E.us r dd l) (hv : dd.1 = 40 → -9007199254740992 < dd.2.1 ∧ dd.2.1 < 9007199254740992) (hn : (n : Int) + 600 ≤ 15500 ∧ (uv.length : Int) + 1300 ≤ 40000) (hn0 : n0 ≤ n) (h : ZC E s m stk n uv C) : ZVo E m stk n uv C (cl d 270 [pR E.M, pI r, pI a2] m) (eZ s (eR (some (litN dd, foN)))) hq n0 := by
  obtain ⟨b1, b2, b3, b4, b5, b6, b7, b8⟩ := hb
  have k0 := h.bB.rd (d := d - 1) (r := r) (f := 0) hr (by decide)
  rw [b1] at k0
  have hV := h.bB.hV
  have lf : ∀ (k : Int) (dl : ND), litN dd = dl → dl.1 ≤ 2 → kT dl.1 = k → dl.2 = (0, [], []) → (∀ Z, (bI (cl (d - 1) 285 [pR E.V, pI k] m) fun v17 m17 => some (.inl (some (pI v17)), m17)) = some Z → cl d 270 [pR E.M, pI r, pI a2] m = some Z) → ZVo E m stk n uv C (cl d 270 [pR E.M, pI r, pI a2] m) (eZ s (eR (some (litN dd, foN)))) hq n0 := by
    intro k dl e1 e2 e3 e4 st
    obtain ⟨m1, C1, g1, c1, q1, v0, v4, v5, v8, v6, v3, v2⟩ := zAdd (d := d - 1) (k := k) ho (by omega) h (by omega) (by omega)
    rw [e1]
    obtain ⟨dk, dr⟩ := dl
    have e4 : dr = (0, [], []) := e4
    subst e4
    exact zo_ret (st _ (by rw [bI_eq g1])) c1 q1 (VN.leaf (k := k) (dd := (dk, 0, [], [])) (by show dk ≤ 3; have : dk ≤ 2 := e2; omega) e3 ⟨⟨by show dk ≤ 6; have : dk ≤ 2 := e2; omega, by show (-9007199254740992 : Int) < 0; decide, by show (0 : Int) < 9007199254740992; decide, fun _ h => (by cases h), fun _ h => (by cases h)⟩, trivial, fun _ => rfl, fun q => by have q : dk = 6 := q; have : dk ≤ 2 := e2; omega, trivial, trivial⟩ rfl hn0 v0 v4 v3 v2 (fun q => by have q : dk = 3 := q; have : dk ≤ 2 := e2; omega)) (by omega) (by omega)
  by_cases k40 : dd.1 = 40
  · have e : litN dd = (3, dd.2.1, [], []) := if_pos k40
    obtain ⟨m1, m2, C2, e1, g1, g2, g3, g4, g5, c1, c2, q2, v2⟩ := zNum (n0 := n0) (d := d - 1) (z := dd.2.1) ho (by omega) h (by omega) (by omega) hn0 (hv k40)
    obtain ⟨r1, r2, r3⟩ := c1.bB.rde (r := r) (f := 0) hr (by decide)
    rw [Int.add_zero] at r2 r3
    have hkk := h.bB.2.1.1.2.2.2.2.1
    rw [e]
    refine zo_ret (q270 (by omega) h.bB.tz _ ?_) c2 q2 v2 (by omega) (by omega)
    rw [gd_of h.bB.hM, bI_eq k0, if_pos (by omega), nm_eq, h.bB.vV, gd_of hV.1, bI_eq e1, nm_eq, g1, gd_of g2, nm_eq, nm_eq, nm_eq, (w32_of (by omega) (by omega) : w32 (3 * r) = 3 * r), gd_of r1, gd_of r2, gd_of g3, gd_of g4, r3, b3 (Or.inr k40), g5]
  by_cases k41 : dd.1 = 41
  · have e : litN dd = (4, 0, dd.2.2.1, []) := by unfold litN; rw [if_neg k40, if_pos k41]
    obtain ⟨u1, u2, u3, u4⟩ := b2 (Or.inr k41)
    have hul : (dd.2.2.1.length : Int) ≤ 1290 := by have := u1.2.1; have := u1.1; have := ho.2.2; omega
    obtain ⟨m1, C1, g1, c1, q1, v0, v4, v5, v8, v6, v3, v2⟩ := zAdd (d := d - 1) (k := 4) ho (by omega) h (by omega) (by omega)
    obtain ⟨m2, C2, c2, q2, n2, e2⟩ := c270_88 (E := E) (stk := stk) (s := s) (b := (n : Int)) (a2 := a2) (d := d) ho (by omega) hr u1 u2 u3 (n + 1) dd.2.2.1 [] m1 uv C1 rfl c1 (by push_cast; omega) (by omega)
    obtain ⟨c3, q3, g3⟩ := c2.put (b := n) (f := 3) (i := n) (w := dd.2.2.1.length) ho (by decide) (by omega)
    have hV2 := c2.bB.hV
    obtain ⟨t1, t2⟩ := c2.bB.nV (i := n) (f := 3) (by decide) (by push_cast; omega)
    have o : ∀ f, 0 ≤ f → f ≤ 9 → f ≠ 3 → nv (mst m2 (vl m2 E.V 3) n dd.2.2.1.length) E.V f n = nv m1 E.V f n := fun f f0 f1 hf => by rw [g3 f n f0 f1, if_neg (fun y => hf y.1), n2 f n f0 f1]
    have fin : cl d 270 [pR E.M, pI r, pI a2] m = some (.inl (some (pI n)), mst m2 (vl m2 E.V 3) n dd.2.2.1.length) := by
      refine q270 (by omega) h.bB.tz _ ?_
      rw [gd_of h.bB.hM, bI_eq k0, if_neg (by omega), if_pos (by omega), nm_eq, h.bB.vV, gd_of hV.1, bI_eq g1]
      refine e2 _ (q270_88 (by omega) c2.bB.tz _ ?_)
      rw [gd_of c2.bB.hM, bI_eq (c2.bB.rd hr (by decide)), u2, if_neg (by omega), nm_eq, c2.bB.vV, gd_of hV2.1, nm_eq, bI_eq (c2.bB.rd hr (by decide)), gd_of t1, gd_of t2, u2]
    rw [e, eZ_R]
    refine ⟨_, C2, some (pI n), [], n + 1, uv ++ dd.2.2.1, fin, ?_, (q1.trans q2 (by push_cast; omega)).trans q3 (by omega), rfl, some ((4, 0, dd.2.2.1, []), foN), n, rfl, ⟨n, foN, rfl, hn0, ⟨by push_cast; omega, by rw [o 0 (by decide) (by decide) (by decide), v0]; rfl, fun q => absurd (show (4 : Nat) = 3 from q) (by decide), ⟨by rw [g3 3 n (by decide) (by decide), if_pos ⟨rfl, rfl⟩], by rw [o 2 (by decide) (by decide) (by decide), v2]; exact At.end⟩, by rw [o 4 (by decide) (by decide) (by decide), v4]; rfl, trivial⟩, rfl, ⟨⟨by show 4 ≤ 6; omega, by show (-9007199254740992 : Int) < 0; decide, by show (0 : Int) < 9007199254740992; decide, u3, fun _ h => (by cases h)⟩, u4, fun _ => rfl, fun q => absurd (show (4 : Nat) = 6 from q) (by decide), trivial, trivial⟩, by decide, by decide⟩, fun v' z => ?_, by omega, by omega, dd.2.2.1, rfl, hul⟩
    · rw [List.append_nil]
      cases s with
      | none => exact c3
      | some w => exact c3
    · cases s with
      | none => cases z
      | some w => cases z; rfl
  by_cases k42 : dd.1 = 42
  · refine lf 1 (2, 0, [], []) (by unfold litN; rw [if_neg k40, if_neg k41, if_pos k42]) (by decide) (by decide) rfl (fun Z hZ => q270 (by omega) h.bB.tz _ ?_)
    rw [gd_of h.bB.hM, bI_eq k0, if_neg (by omega), if_neg (by omega), if_pos (by omega), nm_eq, h.bB.vV, gd_of hV.1]
    exact hZ
  by_cases k43 : dd.1 = 43
  · refine lf 2 (1, 0, [], []) (by unfold litN; rw [if_neg k40, if_neg k41, if_neg k42, if_pos k43]) (by decide) (by decide) rfl (fun Z hZ => q270 (by omega) h.bB.tz _ ?_)
    rw [gd_of h.bB.hM, bI_eq k0, if_neg (by omega), if_neg (by omega), if_neg (by omega), if_pos (by omega), nm_eq, h.bB.vV, gd_of hV.1]
    exact hZ
  refine lf 0 (0, 0, [], []) (by unfold litN; rw [if_neg k40, if_neg k41, if_neg k42, if_neg k43]) (by decide) (by decide) rfl (fun Z hZ => q270 (by omega) h.bB.tz _ ?_)
  rw [gd_of h.bB.hM, bI_eq k0, if_neg (by omega), if_neg (by omega), if_neg (by omega), if_neg (by omega), if_pos (by omega), nm_eq, h.bB.vV, gd_of hV.1]
  exact hZ
/-- what is on the list behind a place is forgotten -/
theorem ZC.cut {s : Option Int} {m : Mem} {stk zs : List Int} {n : Nat} {uv : List Int} {C b : Int} (h : ZC E s m (stk ++ zs) n uv C) : ZC E s (mst m E.M 33 stk.length) stk n uv C ∧ ZQ E b m C (mst m E.M 33 stk.length) C := by
  obtain ⟨hB, hL, hW⟩ := h
  obtain ⟨k1, k2⟩ := hB.mM (b := b) (f := 33) (v := stk.length) (by omega)
  have hM := hB.hM
  have hl := hB.lt
  obtain ⟨l1, l2, l3, l4⟩ := hL
  rw [List.length_append] at l1 l2 l3
  push_cast at l1 l2 l3
  have g : ∀ f, f ≠ 33 → vl (mst m E.M 33 stk.length) E.M f = vl m E.M f := fun f hf => by rw [vl_mst, if_neg (fun z => hf z.2)]
  refine ⟨⟨k1, ⟨by rw [vl_mst, if_pos ⟨rfl, rfl⟩], by omega, fun j j0 j1 => ?_, fun x hx => l4 x (List.mem_append_left _ hx)⟩, ?_⟩, k2⟩
  · rw [g 32 (by omega), vl_mst, if_neg (fun z => by rw [z.1] at hl; omega), l3 j j0 (by omega), gi_app_l j0 (by omega)]
  · cases s with
    | none => show vl _ _ _ = 1; rw [g 35 (by omega)]; exact hW
    | some w =>
      have h3 := hW.2.2
      rw [List.length_append] at h3
      push_cast at h3
      exact ⟨by rw [g 35 (by omega)]; exact hW.1, by rw [g 34 (by omega)]; exact hW.2.1, by omega, h3.2⟩
theorem zQuery {n n0 d : Nat} {uv stk : List Int} {m : Mem} {C r : Int} {s : Option Int} {dd : ND} {l : Fo} {hq : Nat} {a2 : Int} {X : EV (List Nd)} (ho : ZO E) (hd : 120 ≤ d) (hr : 0 ≤ r ∧ r < E.k) (hk : dd.1 = 45 ∨ dd.1 = 47 ∨ dd.1 = 48) (hb : gB E.g E.en E.us r dd l) (hn : (n : Int) + 600 ≤ 15500 ∧ (uv.length : Int) + 1300 ≤ 40000) (hn0 : n0 ≤ n) (h : ZC E s m stk n uv C) (ha : ZVq E m stk n uv C (cl (d - 1) 262 [pR E.M, pI (E.g r 2), pI a2] m) (eZ s X)) : ZVo E m stk n uv C (cl d 270 [pR E.M, pI r, pI a2] m) (eZ s (eB X fun ys => eR (if dd.1 = 47 then vNum ys.length else vOne ys))) hq n0 := by
  obtain ⟨m3, C3, r3, zs, n3, uv3, e3, c3, q3, rfl, rfl, rfl, f3⟩ := ha
  have b1 := hb.1
  have k0 := h.bB.rd (d := d - 1) (r := r) (f := 0) hr (by decide)
  have k2 := h.bB.rd (d := d - 1) (r := r) (f := 2) hr (by decide)
  rw [b1] at k0
  obtain ⟨c4, q4⟩ := c3.cut (b := n3)
  have htop := c3.top
  have hlen := c3.len
  rw [List.length_append] at htop hlen
  push_cast at htop hlen
  generalize hm4 : mst m3 E.M 33 stk.length = m4 at *
  have q34 := q3.trans q4 (Int.le_refl _)
  have k0' := c4.bB.rd (d := d - 1) (r := r) (f := 0) hr (by decide)
  rw [b1] at k0'
  have st : ∀ Z, (if (dd.1 : Int) = 47 then (nm (vl m4 E.M 37) fun v36 => gd (tg m4 v36 = 13) <| bI (cl (d - 1) 285 [pR v36, pI 3] m4) fun v6 m6 => nm (vl m6 E.M 37) fun v37 => gd (tg m6 v37 = 13) <| nm (vl m6 v37 1) fun v38 => gd (tg m6 v38 = 284102 ∨ tg m6 v38 = 286102) <| gd ((0 : Int) ≤ v6 ∧ v6 < ln m6 v38) <| some (.inl (some (pI v6)), (mst m6 v38 v6 (zs.length : Int)))) else if (zs.length : Int) = 1 then (nm (vl m4 E.M 37) fun v39 => nm (vl m4 E.M 32) fun v40 => gd (tg m4 v40 = 186101) <| gd ((0 : Int) ≤ (stk.length : Int) ∧ (stk.length : Int) < ln m4 v40) <| gd (tg m4 v39 = 13) <| bI (cl (d - 1) 292 [pR v39, pR (vl m4 E.M 18), pI (vl m4 v40 stk.length)] m4) fun v5 m5 => some (.inl (some (pI v5)), m5)) else some (.inl (some (pI (-1))), m4)) = some Z → cl d 270 [pR E.M, pI r, pI a2] m = some Z := fun Z hZ => by
    refine q270 (by omega) h.bB.tz _ ?_
    rw [gd_of h.bB.hM, bI_eq k0, if_neg (by omega), if_neg (by omega), if_neg (by omega), if_neg (by omega), if_neg (by omega), if_neg (by omega)]
    by_cases k45 : (dd.1 : Int) = 45
    · rw [if_pos k45, bI_eq k2, bI_eq e3, nm_eq, htop, (w32_of (by omega) (by omega) : w32 ((stk.length : Int) + zs.length - stk.length) = (stk.length : Int) + zs.length - stk.length), show (stk.length : Int) + zs.length - stk.length = zs.length by omega, hm4, bI_eq k0']
      exact hZ
    · rw [if_neg k45, bI_eq k2, bI_eq e3, nm_eq, htop, (w32_of (by omega) (by omega) : w32 ((stk.length : Int) + zs.length - stk.length) = (stk.length : Int) + zs.length - stk.length), show (stk.length : Int) + zs.length - stk.length = zs.length by omega, hm4, bI_eq k0']
      exact hZ
  have hV := c4.bB.hV
  -- what is answered, out of a value that stands there
  have fin : ∀ (v : VR) (x : Int) (m' : Mem) (C' : Int) (n' : Nat) (vs : List Int), cl d 270 [pR E.M, pI r, pI a2] m = some (.inl (some (pI x)), m') → ZC E ((eZ s X).map (·.2)) m' stk n' (uv3 ++ vs) C' → ZQ E n3 m4 C3 m' C' → VN E m' n0 n' (uv3 ++ vs) x v → n3 ≤ n' → n' ≤ n3 + 480 → (vs.length : Int) ≤ 1290 → (∀ ys, (eZ s X).map (·.1) = some ys → (if dd.1 = 47 then vNum ys.length else vOne ys) = v) → ZVo E m stk n3 uv3 C (cl d 270 [pR E.M, pI r, pI a2] m) (eZ s (eB X fun ys => eR (if dd.1 = 47 then vNum ys.length else vOne ys))) hq n0 := by
    intro v x m' C' n' vs e5 c5 q5 hv h1 h2 h3 h4
    have hy : eZ s (eB X fun ys => eR (if dd.1 = 47 then vNum ys.length else vOne ys)) = (eZ s X).map fun z => (if dd.1 = 47 then vNum z.1.length else vOne z.1, z.2) := by
      rw [eZ_B]
      cases eZ s X with
      | none => rfl
      | some z => rfl
    rw [hy]
    refine ⟨m', C', some (pI x), [], n', uv3 ++ vs, e5, ?_, q34.trans q5 (Int.le_refl _), rfl, v, x, rfl, hv, fun v' z => ?_, h1, by omega, vs, rfl, h3⟩
    · rw [List.append_nil]
      cases hE : eZ s X with
      | none => rw [hE] at c5; exact c5
      | some z => rw [hE] at c5; exact c5
    · cases hE : eZ s X with
      | none => rw [hE] at z; cases z
      | some zz =>
        rw [hE] at z
        cases z
        exact h4 zz.1 (by rw [hE]; rfl)
  by_cases k47 : dd.1 = 47
  · obtain ⟨m1, m2, C2, e1, g1, g2, g3, g4, g5, c1, c2, q2, v2⟩ := zNum (n0 := n0) (d := d - 1) (z := (zs.length : Int)) ho (by omega) c4 (by omega) (by omega) hn0 (by omega)
    refine fin (vNum zs.length) n3 m2 C2 (n3 + 1) [] (st _ ?_) (by rw [List.append_nil]; exact c2) q2 (by rw [List.append_nil]; exact v2) (by omega) (by omega) (by decide) (fun ys hy => ?_)
    · rw [if_pos (by omega), nm_eq, c4.bB.vV, gd_of hV.1, bI_eq e1, nm_eq, g1, gd_of g2, nm_eq, gd_of g3, gd_of g4, g5]
    · rw [if_pos k47]
      obtain ⟨y1, -⟩ := f3 ys hy
      rw [y1, List.length_map]
  · by_cases k1 : (zs.length : Int) = 1
    · obtain ⟨z0, rfl⟩ : ∃ z0, zs = [z0] := by
        cases zs with
        | nil => simp at k1
        | cons y zs => cases zs with
          | nil => exact ⟨y, rfl⟩
          | cons y2 zs => simp only [List.length_cons] at k1; omega
      -- the node that is copied
      obtain ⟨i, nd, ll, hz0, hDN, hval⟩ : ∃ (i : Nat) (nd : ND) (ll : Fo), z0 = (i : Int) ∧ DN E i nd ll ∧ ∀ ys, (eZ s X).map (·.1) = some ys → vOne ys = some (nd, ll) := by
        cases hE : eZ s X with
        | none =>
          obtain ⟨i, nd, ll, q1, q2⟩ := c3.v z0 (by simp)
          exact ⟨i, nd, ll, q1, q2, fun ys z => (by cases z)⟩
        | some zz =>
          obtain ⟨ys, w'⟩ := zz
          obtain ⟨y1, y2⟩ := f3 ys (by rw [hE]; rfl)
          cases ys with
          | nil => cases y1
          | cons y ys =>
            obtain ⟨q, t, rfl, hq⟩ := y2 y List.mem_cons_self
            cases ys with
            | nil =>
              have : z0 = (q.2.1 : Int) := by
                have := List.cons.inj y1
                exact this.1
              exact ⟨q.2.1, q.2.2.1, q.2.2.2.1, this, hq, fun ys' z => by cases z; rfl⟩
            | cons y3 ys => simp at y1
      have hDm := c4.bB.dn hDN
      have hlt := c4.bB.lt
      obtain ⟨m5, lD, n5, us5, C5, e5, y5, r5, t5, -, -, hn5, hu5⟩ := c292 (d := d - 1) (t := E.V) (t' := E.D) (by have := hDN.2.2.2.2; omega) hV c4.bB.ti c4.bB.ok c4.bB.2.2.2.2.1.2 hDN.2.1 (Or.inl ⟨ho.1, _, _, _, c4.bB.hD, hDm⟩) (fun q => absurd q ho.1) (by have := hDN.2.2.1; omega) (by have := hDN.2.2.2.1; omega)
      have hsz := hDN.2.2.1
      have hun := hDN.2.2.2.1
      obtain ⟨vs, hvs⟩ := y5.2.2.2.2.2.2.1
      subst hvs
      rw [List.length_append] at hu5
      have c5 := c4.call ⟨ho.1, ho.2.1⟩ e5 (by decide +kernel) y5
      have q5 : ZQ E n3 m4 C3 m5 C5 := ZQ.yt y5 (by omega) (by rw [List.length_append]; push_cast; omega)
      have hel := c3.at stk.length (by omega) (by rw [List.length_append]; push_cast; omega)
      rw [gi_app_r (by omega), Int.sub_self, gi_zero] at hel
      have hel4 : vl m4 (vl m4 E.M 32) stk.length = z0 := by
        have nl := c3.bB.lt
        have hM3 := c3.bB.hM
        rw [← hm4, vl_mst (b := E.M), if_neg (by omega), vl_mst, if_neg (fun z => by rw [z.1] at nl; omega)]
        exact hel
      have hwD : wfF (foC nd lD foN) := by
        rw [← wfF_er, erF_1 r5, wfF_er]; exact hDN.2.1
      refine fin (some (nd, ll)) n3 m5 C5 n5 vs (st _ ?_) c5 q5 ⟨n3, lD, rfl, hn0, t5, r5, hwD, by rw [← szF_er lD, r5, szF_er]; omega, by rw [← hI_er lD, r5, hI_er]; have := hDN.2.2.2.2; omega⟩ (by omega) (by omega) (by omega) (fun ys hy => by rw [if_neg k47]; exact hval ys hy)
      rw [if_neg (by omega), if_pos k1, nm_eq, nm_eq, gd_of hlt.1, gd_of ⟨by omega, by rw [hlt.2]; simp at hlen; omega⟩, c4.bB.vV, gd_of hV.1, c4.bB.vD, hel4, hz0, bI_eq e5]
    · refine fin none (-1) m4 C3 n3 [] (st _ ?_) (by rw [List.append_nil]; exact c4) (ZQ.refl c4.bB.ti) (by rfl) (by omega) (by omega) (by decide) (fun ys hy => ?_)
      · rw [if_neg (by omega), if_neg k1]
      · rw [if_neg k47]
        obtain ⟨y1, -⟩ := f3 ys hy
        rw [y1, List.length_map] at k1
        cases ys with
        | nil => rfl
        | cons y ys => cases ys with
          | nil => simp at k1
          | cons y2 ys => cases y <;> rfl
theorem tCpb (ho : ZO E) {nn : Nat} {dd : ND} {u : Unit} {l r : Fo} (hl : TCpb E rN l) (hq : TQry E rN l) : TCpb E rN (.inner nn dd u l r) := by
  intro w n n0 uv p d m stk C s x y hg ho4 hcn hd hb hx hn0 h
  obtain ⟨⟨h1, h2, h3, h4⟩, h5⟩ := hg
  obtain ⟨o1, o2, o3, o4, o5, o6⟩ := ho4
  have k4 := cK_4 o1
  rw [unw_o (by omega)] at h3 h4
  have hb' := hb
  unfold BL at hb'
  have hd' : hQ l + (if dd.1 = 21 ∨ dd.1 = 46 then 70 else 5) ≤ hQ (.inner nn dd u l r) := by rw [hQ_in]; omega
  by_cases k46 : dd.1 = 46
  · rw [if_pos (Or.inr k46)] at hd'
    have e1 : cB dd.1 = 4 := by unfold cB; rw [if_neg (by omega), if_neg (by omega), if_neg (by omega), if_pos (by omega)]
    rw [e1] at o5
    have c1 : cntF l = 1 := by unfold cN at o2; rw [if_pos (by omega)] at o2; exact o2
    rw [gK_o (by omega)] at h4
    have b1 := h3.1
    have k0 := h.bB.rd (d := d - 1) (r := p 0) (f := 0) h1 (by decide)
    have k2 := h.bB.rd (d := d - 1) (r := p 0) (f := 2) h1 (by decide)
    rw [b1] at k0
    have ev : (evX rN (.inner nn dd u l r)).cpb (x :: y) = eB ((evX rN l).cpb (x :: y)) fun v => eR (vLen v) := by
      show evC dd (evX rN l) (x :: y) = _
      unfold evC; rw [if_neg (by omega), if_neg (by omega), if_pos k46]
    have key := hl (dd.1 == 31) n n0 uv _ (d - 1) m stk C s x y h4 o5 (by omega) (by omega) (hb.mono (by omega)) hx hn0 h
    obtain ⟨m3, C3, r3, zs, n3, uv3, e3, c3, q3, rfl, v, xv, rfl, hv, hvv, hn3, hn3', vs, rfl, hvs⟩ := key
    rw [List.append_nil] at c3
    obtain ⟨m4, C4, n4, x4, e4, c4, q4, v4, hn4, hn4'⟩ := c271 (d := d - 1) ho (by omega) c3 hv (by omega) (by rw [List.length_append]; push_cast; omega) (by omega)
    rw [ev]
    have hy : eZ s (eB ((evX rN l).cpb (x :: y)) fun v => eR (vLen v)) = (eZ s ((evX rN l).cpb (x :: y))).map fun z => (vLen z.1, z.2) := by
      rw [eZ_B]
      cases eZ s ((evX rN l).cpb (x :: y)) with
      | none => rfl
      | some z => rfl
    rw [hy]
    refine ⟨m4, C4, some (pI x4), [], n4, uv ++ vs, q270 (by omega) h.bB.tz _ ?_, ?_, q3.trans q4 (by omega), rfl, vLen v, x4, rfl, v4, fun v' z => ?_, by omega, by omega, vs, rfl, hvs⟩
    · have k2' : E.g (p 0) 2 = (if (0 : Nat) = 0 then E.g (p 0) 2 else E.g (p 0) 3) := by rw [if_pos rfl]
      rw [gd_of h.bB.hM, bI_eq k0, if_neg (by omega), if_neg (by omega), if_neg (by omega), if_neg (by omega), if_neg (by omega), if_pos (by omega), bI_eq k2, k2', bI_eq e3, bI_eq e4]
    · rw [List.append_nil]
      cases hE : eZ s ((evX rN l).cpb (x :: y)) with
      | none => rw [hE] at c4; exact c4
      | some z => rw [hE] at c4; exact c4
    · cases hE : eZ s ((evX rN l).cpb (x :: y)) with
      | none => rw [hE] at z; cases z
      | some zz =>
        rw [hE] at z hvv
        cases z
        exact congrArg vLen (hvv zz.1 rfl)
  · rw [if_neg (by omega)] at hd'
    by_cases k45 : dd.1 = 45 ∨ dd.1 = 47 ∨ dd.1 = 48
    · have e1 : cB dd.1 = 5 := by unfold cB; rw [if_neg (by omega), if_neg (by omega), if_neg (by omega), if_neg (by omega), if_pos (by omega)]
      rw [e1] at o5
      have c1 : cntF l = 1 := by unfold cN at o2; rw [if_pos (by omega)] at o2; exact o2
      rw [gK_o (by omega)] at h4
      have ev : (evX rN (.inner nn dd u l r)).cpb (x :: y) = eB ((evX rN l).qry (x :: y)) fun ys => eR (if dd.1 = 47 then vNum ys.length else vOne ys) := by
        show evC dd (evX rN l) (x :: y) = _
        unfold evC
        by_cases k47 : dd.1 = 47
        · rw [if_neg (by omega), if_pos k47]
          congr 1; funext ys; rw [if_pos k47]
        · rw [if_pos (by omega)]
          congr 1; funext ys; rw [if_neg k47]
      have key := hq (dd.1 == 31) n uv _ (d - 1) m stk C s x y h4 o5 (by omega) (by omega) (hb.mono (by omega)) hx h
      rw [ev]
      exact zQuery ho (by omega) h1 k45 h3 (by omega) hn0 h key
    · have ev : (evX rN (.inner nn dd u l r)).cpb (x :: y) = eR (some (litN dd, foN)) := by
        show evC dd (evX rN l) (x :: y) = _
        unfold evC; rw [if_neg (by omega), if_neg (by omega), if_neg (by omega)]
      rw [ev]
      exact zLit ho (by omega) h1 (by omega) h3 (fun q => ⟨(o3 (Or.inr (Or.inr (Or.inl q)))).1, (o3 (Or.inr (Or.inr (Or.inl q)))).2.1⟩) (by omega) hn0 h
theorem tCp2 {nn : Nat} {dd : ND} {u : Unit} {l r : Fo} (hr : TCpb E rN r) : TCp2 E rN (.inner nn dd u l r) := by
  intro w n n0 uv p d m stk C s x y hg ho4 hcn hd hb hx hn0 h
  rw [hQ_in] at hd hb
  obtain ⟨m3, C3, r3, zs, n3, uv3, e3, c3, q3, rfl, v, xv, rfl, hv, hvv, hn3, hn3', vs, rfl, hvs⟩ := hr w n n0 uv (fun j => p (j + 1)) d m stk C s x y hg.2 ho4.2.2.2.2.2 (Nat.le_of_succ_le_succ hcn) (by omega) (hb.mono (by omega)) hx hn0 h
  exact ⟨m3, C3, some (pI xv), [], n3, uv ++ vs, e3, c3, q3, rfl, v, xv, rfl, hv, hvv, hn3, by rw [hQ_in]; omega, vs, rfl, hvs⟩
end
