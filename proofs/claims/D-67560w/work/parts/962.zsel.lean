/-! evaluation by the twin: selectors -/
set_option maxRecDepth 100000
set_option maxHeartbeats 4000000
/-- kept out of the sight of omega, which splits implications into cases -/
def Hd (p : Prop) : Prop := p
theorem Hd.mk {p : Prop} (h : p) : Hd p := h
theorem Hd.o {p : Prop} (h : Hd p) : p := h
theorem fnI_kd {ob : Bool} {nm : List Int} : ∀ (F : Fo) (p : Int) (k : Nat), fnI nm F = match kdN nm (kdL ob F p k) with
    | none => -1
    | some y => (y.2.1 : Int) := by
  intro F
  induction F with
  | leaf => intro p k; rfl
  | inner j d u l r _ ih =>
    intro p k
    rw [kdL_inner]
    show (if d.2.2.2 = nm then (j : Int) else fnI nm r) = match (if d.2.2.2 = nm then some _ else kdN nm _) with
      | none => -1
      | some y => (y.2.1 : Int)
    by_cases z : d.2.2.2 = nm
    · rw [if_pos z, if_pos z]
    · rw [if_neg z, if_neg z]; exact ih _ _
theorem kT_is6 {k : Nat} : kT k = 6 ↔ k = 6 := by unfold kT; split <;> (try split) <;> omega
theorem kT_is5 {k : Nat} : kT k = 5 ↔ k = 5 := by unfold kT; split <;> (try split) <;> omega
/-- rows -/
abbrev PK (E : ZE) (a : Int) : Prop := 0 ≤ a ∧ a < E.k
/-- a list of rows -/
def CHN (E : ZE) (f : Int) (p : Nat → Int) (F : Fo) : Prop := (∀ j, j < cntF F → E.g (p j) f = p (j + 1)) ∧ p (cntF F) = -1
theorem CHN.tl {E : ZE} {f : Int} {p : Nat → Int} {n : Nat} {d : ND} {u : Unit} {l r : Fo} (h : CHN E f p (.inner n d u l r)) : CHN E f (fun j => p (j + 1)) r ∧ E.g (p 0) f = p 1 := by
  have hc : cntF (.inner n d u l r) = cntF r + 1 := rfl
  obtain ⟨h1, h2⟩ := h
  rw [hc] at h1 h2
  exact ⟨⟨fun j hj => h1 (j + 1) (by omega), h2⟩, h1 0 (by omega)⟩
theorem CHN.of {E : ZE} {f c : Int} {F : Fo} (h : chn E.g f c (cntF F) = -1) : CHN E f (chn E.g f c) F := ⟨fun _ _ => rfl, h⟩
def BL (n : Nat) (uv : List Int) (h : Nat) : Prop := (n : Int) + 8 * h + 600 ≤ 15500 ∧ (uv.length : Int) + 19 * h + 1300 ≤ 40000 ∧ h ≤ 1720
def BH (n : Nat) (uv : List Int) (h : Nat) : Prop := (n : Int) + 8 * h + 1160 ≤ 15500 ∧ (uv.length : Int) + 19 * h + 2630 ≤ 40000 ∧ h ≤ 1720
theorem BH.mono {n h h' : Nat} {uv : List Int} (b : BH n uv h) (hh : h' ≤ h) : BH n uv h' := by unfold BH at *; omega
theorem BL.mono {n h h' : Nat} {uv : List Int} (b : BL n uv h) (hh : h' ≤ h) : BL n uv h' := by unfold BL at *; omega
theorem BH.lo {n h h' : Nat} {uv : List Int} (b : BH n uv h) (hh : h' ≤ h) : BL n uv h' := by unfold BH at b; unfold BL; omega
theorem BL.hi {n h h' : Nat} {uv : List Int} (b : BL n uv h) (hh : h' + 70 ≤ h) : BH n uv h' := by unfold BL at b; unfold BH; omega
def TSel (E : ZE) (rN : Nd) (F : Fo) : Prop := ∀ (n : Nat) (uv : List Int) (p : Nat → Int) (d : Nat) (m : Mem) (stk : List Int) (C a1 : Int) (s : Option Int) (x : Nk) (y : Nd), gF E.g E.en E.us false (PK E) p F → okF 1 F → hQ F + 120 ≤ d → BH n uv (hQ F) → CHN E 1 p F → DNk E x → ZC E s m stk n uv C → ZVc E m stk n uv C (KSel E d a1 x.2.1 (p 0) m) (fun m' Z => Z = (.inl none, m')) (eZ s ((evX rN F).sel (x :: y)))
def TTst (E : ZE) (rN : Nd) (F : Fo) : Prop := ∀ (w : Bool) (n : Nat) (uv : List Int) (p : Nat → Int) (d : Nat) (m : Mem) (stk : List Int) (C : Int) (s : Option Int) (x : Nk) (y : Nd), gF E.g E.en E.us w (PK E) p F → okF 3 F → 1 ≤ cntF F → hQ F + 120 ≤ d → BH n uv (hQ F) → DNk E x → ZC E s m stk n uv C → ZVb E m stk n uv C (cl d 268 [pR E.M, pI (p 0), pI x.2.1] m) (eZ s ((evX rN F).tst (x :: y)))
section
variable {E : ZE} {rN : Nd}
theorem tSel0 : TSel E rN foN := by
  intro n uv p d m stk C a1 s x y hg ho hd hb hc hx h
  have p0 : p 0 = -1 := hc.2
  refine ZVc.nil h fun Z hZ z4 z5 h4 h5 => q266_7 (by omega) h.bB.tz h4 h5 _ ?_
  rw [if_pos (by omega), hZ]
theorem unw_f {g : RF} {k : Nat} {c : Int} : unw g false k c = c := by unfold unw; rw [if_neg (by simp)]
theorem tSel {nn : Nat} {dd : ND} {u : Unit} {l r : Fo} (hl : TTst E rN l) (hr : TSel E rN r) : TSel E rN (.inner nn dd u l r) := by
  intro n uv p d m stk C a1 s x y hg ho hd hb hc hx h
  obtain ⟨⟨h1, h2, h3, h4⟩, h5⟩ := hg
  rw [unw_f] at h3 h4
  obtain ⟨o1, o2, o3, o4, o5, o6⟩ := ho
  obtain ⟨hct, hc1⟩ := hc.tl
  have hk15 := cK_1 o1
  rw [hQ_in] at hd hb
  have hp0 : ¬ p 0 < 0 := by have := h1.1; omega
  cases s with
  | none =>
    refine ZVc.dead h (fun Z hZ z4 z5 c4 c5 => q266_7 (by omega) h.bB.tz c4 c5 _ ?_) rfl
    rw [if_neg hp0, gd_of h.bB.hM, if_neg (by rw [h.dead]; decide), hZ]
  | some w =>
    have hlv := h.live.1
    have hN := hx.1
    obtain ⟨t1, t2, t3, t4, t5, t6⟩ := hN
    obtain ⟨b1, b2, b3, b4, b5, b6, b7, b8⟩ := h3
    replace b2 := Hd.mk b2
    replace b3 := Hd.mk b3
    replace b4 := Hd.mk b4
    replace b5 := Hd.mk b5
    replace b6 := Hd.mk b6
    replace b7 := Hd.mk b7
    replace b8 := Hd.mk b8
    replace o3 := Hd.mk o3
    replace o4 := Hd.mk o4
    have e251 := fun f hf => h.bB.rd (d := d - 1) (r := p 0) (f := f) h1 hf
    have k0 := e251 0 (by decide)
    rw [b1] at k0
    obtain ⟨n1, n2, n3⟩ := h.bB.nf (f := 0) (by decide) t2 t1
    obtain ⟨m1, m2, m3⟩ := h.bB.nf (f := 4) (by decide) t5 t1
    have es : eZ (some w) ((evX rN (.inner nn dd u l r)).sel (x :: y)) = eZ (some w) (eB (evS dd (evX rN l) (x :: y)) (fun a => eB ((evX rN r).sel (x :: y)) fun b => eR (a ++ b))) := rfl
    rw [es]
    refine ZVc.seq (K1 := KSel E d a1 x.2.1 (p 1)) ?_ (fun m' zs s' C' c1 q1 => hr n uv (fun j => p (j + 1)) d m' _ C' a1 s' x y h5 o6 (by omega) (hb.mono (by omega)) hct hx c1)
    have kids := kdS_dn hx
    by_cases k5 : dd.1 = 5
    · have ev : evS dd (evX rN l) (x :: y) = eF (evX rN l).tst (x :: y) (kdS x) := by unfold evS; rw [if_pos k5]
      rw [ev]
      have e3 : cB dd.1 = 3 := by unfold cB; rw [if_pos (by omega)]
      rw [e3] at o5
      have c1 : cntF l = 1 := by unfold cN at o2; rw [if_pos (by omega)] at o2; exact o2
      rw [gK_o (by omega)] at h4
      have e31 : (dd.1 == 31) = false := by rw [k5]; rfl
      rw [e31] at h4
      have key := c266_f (E := E) (n := n) (uv := uv) (a1 := a1) (a2 := x.2.1) (a3 := p 0) (x := x :: y) (f := (evX rN l).tst) (t0 := E.g (p 0) 2) (d := d) (par := (x.2.1 : Int)) (ob := x.2.2.1.1 == 6) (by omega) h1 rfl (fun m1 stk1 w1 C1 q hq g1 => hl false n uv _ (d - 1) m1 stk1 C1 (some w1) q (x :: y) h4 o5 (by omega) (by rw [if_neg (by omega)] at hd; omega) (hb.mono (by omega)) hq g1) x.2.2.2.1 (x.1 + 3) 0 m stk C (some w) t6 kids h
      rw [hc1] at key
      refine key.of fun Z hZ z4 z5 c4 c5 => q266_7 (by omega) h.bB.tz c4 c5 _ ?_
      rw [if_neg hp0, gd_of h.bB.hM, if_pos hlv, bI_eq k0, if_neg (by omega), if_neg (by omega), if_neg (by omega), nm_eq, h.bB.vD, gd_of h.bB.hD.1, nm_eq, gd_of m1, gd_of m2, m3, k5]
      exact hZ
    · rw [evS_n k5]
      by_cases k1 : dd.1 = 1
      · rw [sel1_1 k1]
        obtain ⟨u1, u2, u3, u4⟩ := b2.o (Or.inl k1)
        by_cases k6 : x.2.2.1.1 = 6
        · rw [if_pos k6]
          have e288 := c288 (d := d - 1) (by omega) h.bB.hD h.bB.hS h.bB.ok u1 (h.bB.dn hx) k6
          have hfn := fnI_kd (ob := x.2.2.1.1 == 6) (nm := dd.2.2.1) x.2.2.2.1 (x.1 + 3) 0
          have st : ∀ (z5 : PV), cat z5 = 1 → ∀ (z4 : PV), cat z4 = 1 → ∀ Z, rn d 266 74 [pR E.M, pI a1, pI x.2.1, pI (p 0), pI 1, z5] [pI (fnI dd.2.2.1 x.2.2.2.1)] m = some Z → rn d 266 7 [pR E.M, pI a1, pI x.2.1, pI (p 0), z4, z5] [] m = some Z := fun z5 c5 z4 c4 Z hZ => by
            refine q266_7 (by omega) h.bB.tz c4 c5 _ ?_
            rw [if_neg hp0, gd_of h.bB.hM, if_pos hlv, bI_eq k0, if_pos (by omega), nm_eq, h.bB.vD, gd_of h.bB.hD.1, nm_eq, gd_of n1, gd_of n2, n3, if_pos (kT_is6.mpr k6), bI_eq (e251 2 (by decide)), bI_eq (e251 3 (by decide)), h.bB.vS, u2, bI_eq e288, k1]
            exact hZ
          cases hE : kdN dd.2.2.1 (kdS x) with
          | none =>
            have hE' : kdN dd.2.2.1 (kdL (x.2.2.1.1 == 6) x.2.2.2.1 (x.1 + 3) 0) = none := hE
            rw [hE'] at hfn
            refine ZVc.nil h fun Z hZ z4 z5 c4 c5 => st z5 c5 z4 c4 Z (q266_74 (by omega) h.bB.tz c5 _ ?_)
            rw [hfn]
            show (if (-1 : Int) < 0 then _ else _) = some Z
            rw [if_pos (by decide), gd_of h.bB.hM, bI_eq (e251 1 (by decide)), hc1]
            exact hZ _ _ rfl rfl
          | some z =>
            have hE' : kdN dd.2.2.1 (kdL (x.2.2.1.1 == 6) x.2.2.2.1 (x.1 + 3) 0) = some z := hE
            rw [hE'] at hfn
            have hfn' : fnI dd.2.2.1 x.2.2.2.1 = (z.2.1 : Int) := hfn
            have hz := kids z (kdN_mem hE)
            refine (c263 (d := d - 1) (x := z :: x :: y) (a := (z.2.1 : Int)) (by omega) h hz.n rfl).c fun m' zs s' C' g1 c1 Z hZ z4 z5 c4 c5 => st z5 c5 z4 c4 Z (q266_74 (by omega) h.bB.tz c5 _ ?_)
            rw [hfn', if_neg (by omega), gd_of h.bB.hM, bV_eq g1, bI_eq (c1.bB.rd h1 (by decide)), hc1]
            exact hZ _ _ rfl rfl
        · rw [if_neg k6]
          refine ZVc.nil h fun Z hZ z4 z5 c4 c5 => q266_7 (by omega) h.bB.tz c4 c5 _ ?_
          rw [if_neg hp0, gd_of h.bB.hM, if_pos hlv, bI_eq k0, if_pos (by omega), nm_eq, h.bB.vD, gd_of h.bB.hD.1, nm_eq, gd_of n1, gd_of n2, n3, if_neg (fun q => k6 (kT_is6.mp q))]
          refine q266_74 (by omega) h.bB.tz c5 _ ?_
          rw [if_pos (by decide), gd_of h.bB.hM, bI_eq (e251 1 (by decide)), hc1]
          exact hZ _ _ rfl rfl
      by_cases k2 : dd.1 = 2
      · rw [sel1_2 k2]
        have key := c266_e (E := E) (n := n) (uv := uv) (a1 := a1) (a2 := x.2.1) (a3 := p 0) (x := x :: y) (d := d) (par := (x.2.1 : Int)) (ob := x.2.2.1.1 == 6) (by omega) h1 x.2.2.2.1 (x.1 + 3) 0 m stk C (some w) t6 kids h
        rw [hc1] at key
        refine key.of fun Z hZ z4 z5 c4 c5 => q266_7 (by omega) h.bB.tz c4 c5 _ ?_
        rw [if_neg hp0, gd_of h.bB.hM, if_pos hlv, bI_eq k0, if_neg (by omega), if_neg (by omega), if_neg (by omega), nm_eq, h.bB.vD, gd_of h.bB.hD.1, nm_eq, gd_of m1, gd_of m2, m3, k2]
        exact hZ
      have k34 : dd.1 = 3 ∨ dd.1 = 4 := by omega
      have st : ∀ (z5 : PV), cat z5 = 1 → ∀ (z4 : PV), cat z4 = 1 → ∀ Z, rn d 266 102 [pR E.M, pI a1, pI x.2.1, pI (p 0), pI (dd.1 : Int), z5] [] m = some Z → rn d 266 7 [pR E.M, pI a1, pI x.2.1, pI (p 0), z4, z5] [] m = some Z := fun z5 c5 z4 c4 Z hZ => by
        refine q266_7 (by omega) h.bB.tz c4 c5 _ ?_
        rw [if_neg hp0, gd_of h.bB.hM, if_pos hlv, bI_eq k0, if_neg (by omega)]
        by_cases k3 : dd.1 = 3
        · rw [if_pos (by omega)]; exact hZ
        · rw [if_neg (by omega), if_pos (by omega)]; exact hZ
      by_cases x5 : x.2.2.1.1 = 5
      · have key : ZVs E m stk n uv C (cl (d - 1) 267 [pR E.M, pI (p 0), pI x.2.1] m) (eZ (some w) (sel1 dd (x :: y))) := by
          by_cases k3 : dd.1 = 3
          · exact c267_3 (d := d - 1) (by omega) hx x5 k3 h1 (by rw [b1, k3]; rfl) (b3.o (Or.inl k3)) ⟨(o3.o (Or.inl k3)).1, (o3.o (Or.inl k3)).2.1⟩ h
          · have k4 : dd.1 = 4 := by omega
            obtain ⟨hs, sv, he, ev', sb, sp, c1, c2, c3, c4, c5, c6, c7, c8, c9⟩ := b4.o k4
            exact c267_4 (d := d - 1) (by omega) hx x5 k4 h1 (by rw [b1, k4]; rfl) c1 c2 c3 c4 c5 c6 c7 c8 c9 (o4.o k4) h
        refine key.c fun m' zs s' C' g1 c1 Z hZ z4 z5 c4 c5 => st z5 c5 z4 c4 Z (q266_102 (by omega) h.bB.tz c5 _ ?_)
        rw [gd_of h.bB.hM, nm_eq, h.bB.vD, gd_of h.bB.hD.1, nm_eq, gd_of n1, gd_of n2, n3, if_pos (kT_is5.mpr x5), bV_eq g1, bI_eq (c1.bB.rd h1 (by decide)), hc1]
        exact hZ _ _ rfl c5
      · have e0 : sel1 dd (x :: y) = eR [] := by
          by_cases k3 : dd.1 = 3
          · rw [sel1_3 k3, if_neg x5]
          · rw [sel1_4 (by omega), if_neg x5]
        rw [e0]
        refine ZVc.nil h fun Z hZ z4 z5 c4 c5 => st z5 c5 z4 c4 Z (q266_102 (by omega) h.bB.tz c5 _ ?_)
        rw [gd_of h.bB.hM, nm_eq, h.bB.vD, gd_of h.bB.hD.1, nm_eq, gd_of n1, gd_of n2, n3, if_neg (fun q => x5 (kT_is5.mp q)), bI_eq (e251 1 (by decide)), hc1]
        exact hZ _ _ rfl c5
end
