/-! evaluation by the component: all, a name, an index -/
set_option maxRecDepth 100000
set_option maxHeartbeats 4000000
/-- a value stands in the row -/
def NV (xs : List Int) (x : Nk) : Prop := At xs x.1 (enV x.2.2.1 x.2.2.2.1) ∧ wfF (foC x.2.2.1 x.2.2.2.1 foN)
section
variable {xs : List Int}
theorem kdL_inner {ob : Bool} {i : Nat} {dd : ND} {u : Unit} {l r : Fo} {p : Int} {k : Nat} : kdL ob (.inner i dd u l r) p k = (p + ((if ob then nmB dd.2.2.2 else []).length : Int), i, dd, l, k) :: kdL ob r (p + ((if ob then nmB dd.2.2.2 else []).length : Int) + (enV dd l).length) (k + 1) := rfl
theorem kdL_nv {ob : Bool} : ∀ (F : Fo) (p : Int) (k : Nat), At xs p (enF ob F) → wfF F → ∀ y ∈ kdL ob F p k, NV xs y := by
  intro F
  induction F with
  | leaf => intro p k _ _ y hy; cases hy
  | inner n dd u l r ihl ihr =>
    intro p k hA hw y hy
    rw [enF_inner] at hA
    obtain ⟨b1, b2⟩ := hA.app
    obtain ⟨b3, b4⟩ := b2.app
    rw [kdL_inner] at hy
    rcases List.mem_cons.mp hy with z | z
    · rw [z]; exact ⟨b3, hw.1, hw.2.1, hw.2.2.1, hw.2.2.2.1, hw.2.2.2.2.1, trivial⟩
    · exact ihr _ _ b4 hw.2.2.2.2.2 y z
theorem kdS_nv {x : Nk} (h : NV xs x) : ∀ y ∈ kdS x, NV xs y := by
  intro y hy
  by_cases h5 : x.2.2.1.1 < 5
  · have := h.2.2.2.1 h5
    unfold kdS at hy
    rw [this] at hy
    cases hy
  · obtain ⟨e, hg, hb, hl, -⟩ := enV_many h.1 h5
    exact kdL_nv _ _ _ hb h.2.2.2.2.2.1 y hy
theorem memP_kd {nm : List Int} : ∀ (F : Fo) (p : Int) (k : Nat), 0 ≤ p → At xs p (enF true F) → (kdN nm (kdL true F p k) = none → memP F nm p = -1) ∧ (∀ y, kdN nm (kdL true F p k) = some y → 0 ≤ memP F nm p ∧ y.1 = memP F nm p + (nmB nm).length ∧ At xs (memP F nm p) (nmB nm)) := by
  intro F
  induction F with
  | leaf => intro p k _ _; exact ⟨fun _ => rfl, fun y hy => (by cases hy)⟩
  | inner n dd u l r ihl ihr =>
    intro p k hp hA
    rw [enF_inner, if_pos rfl] at hA
    obtain ⟨b1, b2⟩ := hA.app
    obtain ⟨b3, b4⟩ := b2.app
    rw [kdL_inner, if_pos rfl]
    show ((if dd.2.2.2 = nm then some _ else kdN nm _) = none → (if dd.2.2.2 = nm then p else memP r nm _) = -1) ∧ ∀ y, (if dd.2.2.2 = nm then some _ else kdN nm _) = some y → 0 ≤ (if dd.2.2.2 = nm then p else memP r nm _) ∧ y.1 = (if dd.2.2.2 = nm then p else memP r nm _) + _ ∧ At xs (if dd.2.2.2 = nm then p else memP r nm _) _
    by_cases z : dd.2.2.2 = nm
    · rw [if_pos z, if_pos z]
      refine ⟨fun q => (by cases q), fun y q => ?_⟩
      cases q
      rw [z] at b1 ⊢
      exact ⟨hp, rfl, b1⟩
    · rw [if_neg z, if_neg z]
      exact ihr _ _ (by omega) b4
theorem eltP_kd : ∀ (F : Fo) (p i : Int) (k : Nat), 0 ≤ p → (i < 0 → eltP F i p = -1) ∧ (0 ≤ i → eltP F i p = match (kdL false F p k)[i.toNat]? with
    | none => -1
    | some y => y.1) := by
  intro F
  induction F with
  | leaf => intro p i k _; exact ⟨fun _ => rfl, fun _ => by cases i.toNat <;> rfl⟩
  | inner n dd u l r ihl ihr =>
    intro p i k hp
    refine ⟨fun h => ?_, fun h => ?_⟩
    · show (if i < 0 then (-1 : Int) else _) = -1
      rw [if_pos h]
    · show (if i < 0 then (-1 : Int) else if i = 0 then p else eltP r (i - 1) (p + (enV dd l).length)) = _
      rw [if_neg (by omega), kdL_inner]
      have e0 : ((if false = true then nmB dd.2.2.2 else ([] : List Int)).length : Int) = 0 := rfl
      by_cases z : i = 0
      · subst z
        rw [if_pos rfl]
        show p = p + _
        rw [e0]; omega
      · rw [if_neg z, (ihr _ (i - 1) (k + 1) (by omega)).2 (by omega)]
        have e1 : i.toNat = (i - 1).toNat + 1 := by omega
        rw [e1, List.getElem?_cons_succ, e0, show p + 0 = p by omega]
end
section
variable {P : Int → Prop} {d : Nat} {m : Mem} {R rw c rt w cap o : Int} {xs stk : List Int}
/-- each kid is chosen -/
theorem c311_32 {a0 : Int} {nd : ND} {l0 : Fo} {y : Nd} (hd : 3 ≤ d) (hx : xs.length < 60000) (hA : At xs o (enV nd l0)) (hw0 : wfF (foC nd l0 foN)) (h5 : ¬ nd.1 < 5) : ∀ (F : Fo) (p : Int) (k : Nat) (m : Mem) (stk : List Int) (w cap : Int), At xs p (enF (nd.1 == 6) F) → p + (enF (nd.1 == 6) F).length = o + (enV nd l0).length → wfF F → EC m R rw xs c rt stk w cap → w ≤ 10000 → EVs P m R rw xs c rt stk cap (rn d 311 32 [pR a0, pR R, pI o, pI (o + (enV nd l0).length), pI (nxK (nd.1 == 6) F p)] [] m) (eL eA ((kdL (nd.1 == 6) F p k).map (· :: y)) w) := by
  intro F
  induction F with
  | leaf =>
    intro p k m stk w cap hp he hw h hw1
    refine EVs.nil h hw1 (q311_32 (by omega) h.1.1 _ ?_)
    rw [enF_leaf] at he
    rw [if_neg (by show ¬ p < _; simp at he; omega)]
  | inner n dd u l r ihl ihr =>
    intro p k m stk w cap hp he hw h hw1
    rw [enF_inner] at hp he
    obtain ⟨b1, b2⟩ := hp.app
    obtain ⟨b3, b4⟩ := b2.app
    simp only [List.length_append] at he
    have hpos := enV_pos dd l
    rw [kdL_inner]
    show EVs P m R rw xs c rt stk cap (rn d 311 32 [pR a0, pR R, pI o, pI (o + (enV nd l0).length), pI (p + ((if (nd.1 == 6) = true then nmB dd.2.2.2 else []).length : Int))] [] m) (eB (eA _) (fun a => eB (eL eA ((kdL (nd.1 == 6) r _ (k + 1)).map (· :: y))) fun b => eR (a ++ b)) w)
    generalize hq : p + ((if (nd.1 == 6) = true then nmB dd.2.2.2 else []).length : Int) = q at *
    refine EVs.seq (Q2 := fun m1 => nm (vl m1 R 0) fun v3 => gd (tg m1 v3 = 8) <| bI (cl (d - 1) 151 [pR v3, pI o, pI q] m1) fun v2 m2 => rn d 311 32 [pR a0, pR R, pI o, pI (o + (enV nd l0).length), pI v2] [] m2) (c106 (d := d - 1) (a := q) (by omega) h hw1 rfl) (fun m' e1 Z hZ => q311_32 (by omega) h.1.1 _ ?_) (fun m' e1 => q311_32 (by omega) h.1.1 _ ?_) (fun m' ys w' cap' hw' h' k' => ?_)
    · rw [if_pos (by push_cast at he; omega), gd_of h.2.1, bV_eq e1]; exact hZ
    · rw [if_pos (by push_cast at he; omega), gd_of h.2.1, bV_xq e1]
    · have e151 := c151 (d := d - 1) (F := r) (by omega) h'.1.1 h'.2.2.2.2.1 hA hw0 h5 hx b3 hw.1 b4 (by push_cast at he; omega)
      refine (ihr (q + (enV dd l).length) (k + 1) m' _ w' cap' b4 (by push_cast at he; omega) hw.2.2.2.2.2 h' hw').of (fun Z hZ => ?_)
      show (nm (vl m' R 0) fun v3 => gd (tg m' v3 = 8) <| _) = some Z
      rw [nm_eq, h'.2.2.1, gd_of h'.2.2.2.2.1.1, bI_eq e151]
      exact hZ
theorem EC.row (h : EC m R rw xs c rt stk w cap) : RW m rw xs c := h.2.2.2.2.1
theorem EC.hR (h : EC m R rw xs c rt stk w cap) : tg m R = 6 := h.2.1
theorem EC.v0 (h : EC m R rw xs c rt stk w cap) : vl m R 0 = rw := h.2.2.1
theorem EC.t0 (h : EC m R rw xs c rt stk w cap) : tg m rw = 8 := h.2.2.2.2.1.1
theorem EC.tz (h : EC m R rw xs c rt stk w cap) : TZ m := h.1.1
theorem NV.lt {x : Nk} (h : NV xs x) : 0 ≤ x.1 ∧ x.1 < xs.length := by
  have := enV_pos x.2.2.1 x.2.2.2.1
  have a := h.1.1
  have b := h.1.2.1
  omega
/-- the selector of all -/
theorem c311 {a0 : Int} {x : Nk} {y : Nd} {dd : ND} (hd : 4 ≤ d) (hx : xs.length < 60000) (hN : NV xs x) (h2 : dd.1 = 2) (h : EC m R rw xs c rt stk w cap) (hw : w ≤ 10000) : EVs P m R rw xs c rt stk cap (cl d 311 [pR a0, pR R, pI x.1] m) (sel1 dd (x :: y) w) := by
  have hlt := hN.lt
  have e139 := c139 (d := d - 1) h.tz h.row hlt.1 hlt.2
  rw [gi_kind hN.1] at e139
  rw [sel1_2 h2]
  by_cases h5 : x.2.2.1.1 < 5
  · have ek : kdS x = [] := by unfold kdS; rw [hN.2.2.2.1 h5]; rfl
    rw [ek]
    refine EVs.nil h hw (q311 (by omega) h.tz _ ?_)
    rw [gd_of h.hR, nm_eq, h.v0, gd_of h.t0, bI_eq e139, if_pos (by omega)]
  · obtain ⟨e, hg, hb, hl, -⟩ := enV_many hN.1 h5
    have e137 := c137 (d := d - 1) (by omega) h.tz h.row hN.1 hN.2.1 (by have := hN.1.2.1; have := hN.1.1; omega)
    have e150 := c150 (d := d - 1) (by omega) h.tz h.row hN.1 hN.2 h5 hx
    refine (c311_32 (d := d) (y := x :: y) (a0 := a0) (by omega) hx hN.1 hN.2 h5 x.2.2.2.1 (x.1 + 3) 0 m stk w cap hb (by omega) hN.2.2.2.2.2.1 h hw).of (fun Z hZ => q311 (by omega) h.tz _ ?_)
    rw [gd_of h.hR, nm_eq, h.v0, gd_of h.t0, bI_eq e139, if_neg (by omega), nm_eq, h.v0, gd_of h.t0, bI_eq e137, nm_eq, h.v0, gd_of h.t0, bI_eq e150]
    exact hZ
/-- the selector of a name -/
theorem c307 {a0 N cN : Int} {ns : List Int} {x : Nk} {y : Nd} {dd : ND} (hd : 4 ≤ d) (hx : xs.length < 60000) (hN : NV xs x) (h2 : dd.1 = 1) (hb0 : tg m a0 = 17 ∧ vl m a0 0 = N ∧ At ns (vl m a0 1) (nmB dd.2.2.1) ∧ wfU dd.2.2.1) (hNR : RW m N ns cN) (hns : ns.length < 60000) (h : EC m R rw xs c rt stk w cap) (hw : w ≤ 10000) : EVs P m R rw xs c rt stk cap (cl d 307 [pR a0, pR R, pI x.1] m) (sel1 dd (x :: y) w) := by
  have hlt := hN.lt
  have e139 := c139 (d := d - 1) h.tz h.row hlt.1 hlt.2
  rw [gi_kind hN.1] at e139
  obtain ⟨g1, g2, g3, g4⟩ := hb0
  rw [sel1_1 h2]
  by_cases h6 : x.2.2.1.1 = 6
  · rw [if_pos h6]
    obtain ⟨e, hg, hb, hl, -⟩ := enV_many hN.1 (by omega)
    have k6 : (x.2.2.1.1 == 6) = true := by rw [h6]; rfl
    rw [k6] at hb
    have hnl := nmB_len dd.2.2.1
    have e144 := c144 (d := d - 1) (by omega) h.tz h.row hNR hN.1 hN.2 h6 hx g3 g4 (by have := g3.2.1; have := g3.1; omega)
    obtain ⟨mk0, mk1⟩ := memP_kd (nm := dd.2.2.1) x.2.2.2.1 (x.1 + 3) 0 (by omega) hb
    have ekd : kdS x = kdL true x.2.2.2.1 (x.1 + 3) 0 := by unfold kdS; rw [k6]
    rw [ekd]
    have st : ∀ Z, (if memP x.2.2.2.1 dd.2.2.1 (x.1 + 3) < 0 then (some (.inl none, m)) else nm (vl m R 0) fun v7 => gd (tg m v7 = 8) <| bI (cl (d - 1) 136 [pR v7, pI (memP x.2.2.2.1 dd.2.2.1 (x.1 + 3))] m) fun v3 m3 => bV (cl (d - 1) 106 [pR R, pI v3] m3) fun m4 => some (.inl none, m4)) = some Z → cl d 307 [pR a0, pR R, pI x.1] m = some Z := by
      intro Z hZ
      refine q307 (by omega) h.tz _ ?_
      rw [gd_of h.hR, nm_eq, h.v0, gd_of h.t0, bI_eq e139, if_pos (by omega), nm_eq, h.v0, gd_of g1, gd_of h.t0, g2, bI_eq e144]
      exact hZ
    cases hE : kdN dd.2.2.1 (kdL true x.2.2.2.1 (x.1 + 3) 0) with
    | none =>
      refine EVs.nil h hw (st _ ?_)
      rw [mk0 hE, if_pos (by decide)]
    | some z =>
      obtain ⟨q1, q2, q3⟩ := mk1 z hE
      have e136 := c136 (d := d - 1) (by omega) h.tz h.row q1 (by have := q3.2.1; omega)
      rw [tw_nm q3 (by have := q3.2.1; omega), show memP x.2.2.2.1 dd.2.2.1 (x.1 + 3) + 2 + ((uts dd.2.2.1).length : Int) = z.1 by omega] at e136
      have key := c106 (P := P) (d := d - 1) (x := z :: x :: y) (a := z.1) (by omega) h hw rfl
      refine ⟨fun ys w' hy => ?_, fun hy => ?_⟩
      · obtain ⟨b0, m', c', b1, b2⟩ := key.1 ys w' hy
        refine ⟨b0, m', c', st _ ?_, b2⟩
        rw [if_neg (by omega), nm_eq, h.v0, gd_of h.t0, bI_eq e136, bV_eq b1]
      · obtain ⟨m', b1, b2⟩ := key.2 hy
        refine ⟨m', st _ ?_, b2⟩
        rw [if_neg (by omega), nm_eq, h.v0, gd_of h.t0, bI_eq e136, bV_xq b1]
  · rw [if_neg h6]
    refine EVs.nil h hw (q307 (by omega) h.tz _ ?_)
    rw [gd_of h.hR, nm_eq, h.v0, gd_of h.t0, bI_eq e139, if_neg (by omega)]
/-- the selector of an index -/
theorem c309 {a0 : Int} {x : Nk} {y : Nd} {dd : ND} (hd : 4 ≤ d) (hx : xs.length < 60000) (hN : NV xs x) (h3 : dd.1 = 3) (hb0 : tg m a0 = 18 ∧ vl m a0 0 = dd.2.1) (hv : -9007199254740992 < dd.2.1 ∧ dd.2.1 < 9007199254740992) (h : EC m R rw xs c rt stk w cap) (hw : w ≤ 10000) : EVs P m R rw xs c rt stk cap (cl d 309 [pR a0, pR R, pI x.1] m) (sel1 dd (x :: y) w) := by
  have hlt := hN.lt
  have e139 := c139 (d := d - 1) h.tz h.row hlt.1 hlt.2
  rw [gi_kind hN.1] at e139
  rw [sel1_3 h3]
  by_cases h5 : x.2.2.1.1 = 5
  · rw [if_pos h5]
    obtain ⟨e, hg, hb, hl, -⟩ := enV_many hN.1 (by omega)
    have k6 : (x.2.2.1.1 == 6) = false := by rw [h5]; rfl
    rw [k6] at hb
    have ekd : kdS x = kdL false x.2.2.2.1 (x.1 + 3) 0 := by unfold kdS; rw [k6]
    have hcn : (cntF x.2.2.2.1 : Int) < 60000 := by
      have e145 := cnt_en false x.2.2.2.1
      have := hb.2.1; have := hb.1; omega
    generalize hi : (if dd.2.1 < 0 then dd.2.1 + (cntF x.2.2.2.1 : Int) else dd.2.1) = i
    have hir : -9223372036854775808 ≤ i ∧ i < 9223372036854775808 := by rw [← hi]; split <;> omega
    have e146 := c146 (d := d - 1) (i := i) (by omega) h.tz h.row hN.1 hN.2 h5 hx hir.1 hir.2
    have e145 := c145 (d := d - 1) (by omega) h.tz h.row hN.1 hN.2 (by omega) hx
    have st : ∀ Z, (if eltP x.2.2.2.1 i (x.1 + 3) < 0 then (some (.inl none, m)) else gd (tg m R = 6) <| bV (cl (d - 1) 106 [pR R, pI (eltP x.2.2.2.1 i (x.1 + 3))] m) fun m2 => some (.inl none, m2)) = some Z → cl d 309 [pR a0, pR R, pI x.1] m = some Z := by
      intro Z hZ
      refine q309 (by omega) h.tz _ ?_
      rw [gd_of h.hR, nm_eq, h.v0, gd_of h.t0, bI_eq e139, if_pos (by omega), nm_eq, h.v0, gd_of hb0.1, nm_eq, hb0.2]
      have k48 : rn d 309 48 [pR a0, pR R, pI x.1, pU] [pL i, pI x.1, pR rw] m = some Z := by
        refine q309_48 (by omega) h.tz _ ?_
        rw [gd_of h.t0, bI_eq e146]; exact hZ
      by_cases z : dd.2.1 < 0
      · rw [if_pos z] at hi ⊢
        rw [gd_of h.t0, bI_eq e145, (w64_of (by omega) (by omega) : w64 (dd.2.1 + (cntF x.2.2.2.1 : Int)) = dd.2.1 + cntF x.2.2.2.1), hi]; exact k48
      · rw [if_neg z] at hi ⊢
        rw [hi]; exact k48
    obtain ⟨el0, el1⟩ := eltP_kd x.2.2.2.1 (x.1 + 3) i 0 (by omega)
    unfold evI
    rw [ekd]
    by_cases hi0 : i < 0
    · rw [if_pos hi0]
      refine EVs.nil h hw (st _ ?_)
      rw [el0 hi0, if_pos (by decide)]
    · rw [if_neg hi0]
      have el := el1 (by omega)
      cases hE : (kdL false x.2.2.2.1 (x.1 + 3) 0)[i.toNat]? with
      | none =>
        rw [hE] at el
        refine EVs.nil h hw (st _ ?_)
        rw [el, if_pos (by decide)]
      | some z =>
        rw [hE] at el
        have hz : NV xs z := kdS_nv hN z (by rw [ekd]; exact List.mem_of_getElem? hE)
        have hz1 := hz.lt
        have el' : eltP x.2.2.2.1 i (x.1 + 3) = z.1 := el
        dsimp only
        have key := c106 (P := P) (d := d - 1) (x := z :: x :: y) (a := z.1) (by omega) h hw rfl
        rw [el'] at st
        refine ⟨fun ys w' hy => ?_, fun hy => ?_⟩
        · obtain ⟨b0, m', c', b1, b2⟩ := key.1 ys w' hy
          refine ⟨b0, m', c', st _ ?_, b2⟩
          rw [if_neg (by omega), gd_of h.hR, bV_eq b1]
        · obtain ⟨m', b1, b2⟩ := key.2 hy
          refine ⟨m', st _ ?_, b2⟩
          rw [if_neg (by omega), gd_of h.hR, bV_xq b1]
  · rw [if_neg h5]
    refine EVs.nil h hw (q309 (by omega) h.tz _ ?_)
    rw [gd_of h.hR, nm_eq, h.v0, gd_of h.t0, bI_eq e139, if_neg (by omega)]
end
