/-! evaluation by the twin: its state -/
set_option maxRecDepth 100000
set_option maxHeartbeats 4000000
/-- what stays: the twin, the document's tree, the tree of what was said, the tree of values; rows, longs, the document's nodes; how many rows, room; units said, units of the document; its nodes, room, room of what was said; the root -/
abbrev ZE : Type := Int × Int × Int × Int × RF × RF × RF × Int × Int × List Int × List Int × Int × Int × Int × Int
abbrev ZE.M (E : ZE) : Int := E.1
abbrev ZE.D (E : ZE) : Int := E.2.1
abbrev ZE.S (E : ZE) : Int := E.2.2.1
abbrev ZE.V (E : ZE) : Int := E.2.2.2.1
abbrev ZE.g (E : ZE) : RF := E.2.2.2.2.1
abbrev ZE.en (E : ZE) : RF := E.2.2.2.2.2.1
abbrev ZE.gD (E : ZE) : RF := E.2.2.2.2.2.2.1
abbrev ZE.k (E : ZE) : Int := E.2.2.2.2.2.2.2.1
abbrev ZE.K (E : ZE) : Int := E.2.2.2.2.2.2.2.2.1
abbrev ZE.us (E : ZE) : List Int := E.2.2.2.2.2.2.2.2.2.1
abbrev ZE.ud (E : ZE) : List Int := E.2.2.2.2.2.2.2.2.2.2.1
abbrev ZE.nD (E : ZE) : Int := E.2.2.2.2.2.2.2.2.2.2.2.1
abbrev ZE.CD (E : ZE) : Int := E.2.2.2.2.2.2.2.2.2.2.2.2.1
abbrev ZE.CS (E : ZE) : Int := E.2.2.2.2.2.2.2.2.2.2.2.2.2.1
abbrev ZE.rx (E : ZE) : Int := E.2.2.2.2.2.2.2.2.2.2.2.2.2.2
/-- a node of the document -/
def DN (E : ZE) (i : Nat) (d : ND) (l : Fo) : Prop := TN E.gD E.ud E.nD i d l ∧ wfF (foC d l foN) ∧ szF l ≤ 479 ∧ d.2.2.1.length + unF (d.1 == 6) l ≤ 480 ∧ hI l ≤ 40
abbrev DNk (E : ZE) (q : Nk) : Prop := DN E q.2.1 q.2.2.1 q.2.2.2.1
def DNn (E : ZE) (x : Nd) : Prop := ∃ q t, x = q :: t ∧ DNk E q
def vD (E : ZE) (x : Int) : Prop := ∃ i d l, x = ((i : Nat) : Int) ∧ DN E i d l
def idN : Nd → Int
  | [] => 0
  | c :: _ => (c.2.1 : Int)
theorem DNn.v {E : ZE} {x : Nd} (h : DNn E x) : vD E (idN x) := by
  obtain ⟨q, t, rfl, h⟩ := h
  exact ⟨q.2.1, q.2.2.1, q.2.2.2.1, rfl, h⟩
theorem DNn.h {E : ZE} {q : Nk} {t : Nd} (h : DNn E (q :: t)) : DNk E q := by
  obtain ⟨q', t', e, h⟩ := h
  injection e with e1 e2
  subst e1; exact h
theorem DNk.n {E : ZE} {q : Nk} {t : Nd} (h : DNk E q) : DNn E (q :: t) := ⟨q, t, rfl, h⟩
theorem kdL_dn {E : ZE} {ob : Bool} : ∀ (F : Fo) (par p : Int) (k : Nat), TF E.gD E.ud E.nD par ob F → wfF F → szF F ≤ 480 → unF ob F ≤ 480 → hI F ≤ 41 → ∀ y ∈ kdL ob F p k, DNk E y := by
  intro F
  induction F with
  | leaf => intro par p k _ _ _ _ _ y hy; cases hy
  | inner n dd u l r ihl ihr =>
    intro par p k hT hw hs hu hh y hy
    obtain ⟨f1, f2, f3, f4, f5, f6, f7, f8, f9, f10⟩ := hT
    have e1 : szF (.inner n dd u l r) = 1 + szF l + szF r := rfl
    have e2 : unF ob (.inner n dd u l r) = dd.2.2.1.length + (if ob then dd.2.2.2.length else 0) + unF (dd.1 == 6) l + unF ob r := rfl
    have e3 : hI (.inner n dd u l r) = max (1 + hI l) (hI r) := rfl
    rw [kdL_inner] at hy
    rcases List.mem_cons.mp hy with z | z
    · rw [z]
      exact ⟨⟨f1, f2, f3, f4, f7, f9⟩, ⟨hw.1, hw.2.1, hw.2.2.1, hw.2.2.2.1, hw.2.2.2.2.1, trivial⟩, by show szF l ≤ 479; omega, by show dd.2.2.1.length + unF (dd.1 == 6) l ≤ 480; omega, by show hI l ≤ 40; omega⟩
    · exact ihr par _ _ f10 hw.2.2.2.2.2 (by omega) (by omega) (by omega) y z
theorem kdS_dn {E : ZE} {x : Nk} (h : DNk E x) : ∀ y ∈ kdS x, DNk E y := by
  obtain ⟨⟨a1, a2, a3, a4, a5, a6⟩, hw, hs, hu, hh⟩ := h
  exact kdL_dn _ _ _ _ a6 hw.2.2.2.2.1 (by omega) (by omega) (by omega)
/-- all but the list and the counts -/
def ZB (E : ZE) (m : Mem) (n : Nat) (uv : List Int) (C : Int) : Prop := (OK m ∧ TI m) ∧ (QA m E.M E.k E.K ∧ rv m E.M = E.g ∧ ev m E.M = E.en) ∧ (vl m E.M 18 = E.D ∧ vl m E.M 30 = E.S ∧ vl m E.M 37 = E.V ∧ vl m E.M 36 = E.rx) ∧ ((TW m E.S 0 E.us E.CS ∧ TW m E.D E.nD E.ud E.CD) ∧ ∀ f j, 0 ≤ f → f ≤ 9 → nv m E.D f j = E.gD f j) ∧ (TW m E.V n uv C ∧ wfU uv) ∧ ln m (vl m E.M 32) = 20100
/-- the list -/
def ZL (E : ZE) (m : Mem) (stk : List Int) : Prop := vl m E.M 33 = stk.length ∧ (stk.length : Int) ≤ 10000 ∧ (∀ j : Int, 0 ≤ j → j < stk.length → vl m (vl m E.M 32) j = gi stk j) ∧ ∀ x ∈ stk, vD E x
/-- work done (none: too much) -/
def ZW (E : ZE) (m : Mem) (s : Option Int) (stk : List Int) : Prop := match s with
  | none => vl m E.M 35 = 1
  | some w => vl m E.M 35 = 0 ∧ vl m E.M 34 = w ∧ (stk.length : Int) ≤ w ∧ w ≤ 10000
def ZC (E : ZE) (s : Option Int) (m : Mem) (stk : List Int) (n : Nat) (uv : List Int) (C : Int) : Prop := ZB E m n uv C ∧ ZL E m stk ∧ ZW E m s stk
/-- what it costs; the values' first b nodes and all other trees are as they were -/
def ZQ (E : ZE) (b : Int) (m : Mem) (C : Int) (m' : Mem) (C' : Int) : Prop := TV E.V b m m' ∧ GR m m' (tC m E.V C) (tC m' E.V C') ∧ C' ≤ max C 31000 ∧ uC m' E.V ≤ max (uC m E.V) 80000
def ZO (E : ZE) : Prop := E.D ≠ E.V ∧ E.S ≠ E.V ∧ (E.us.length : Int) ≤ 1290
section
variable {E : ZE} {m m1 m2 : Mem} {n n1 : Nat} {uv uv1 stk : List Int} {C C1 C2 b b1 : Int} {s : Option Int}
theorem ZQ.refl (h : TI m) : ZQ E b m C m C := ⟨⟨h, fun _ _ _ _ _ h => ⟨h, fun _ _ _ _ => rfl, rfl⟩, fun _ _ _ _ _ _ => rfl⟩, GR.refl, by omega, by omega⟩
theorem ZQ.trans (h : ZQ E b m C m1 C1) (h' : ZQ E b1 m1 C1 m2 C2) (hb : b ≤ b1) : ZQ E b m C m2 C2 := by
  obtain ⟨a1, a2, a3, a4⟩ := h
  obtain ⟨b1, b2, b3, b4⟩ := h'
  exact ⟨a1.trans b1 hb, a2.trans b2, by omega, by omega⟩
theorem ZQ.mono {b' : Int} (h : ZQ E b m C m1 C1) (hb : b' ≤ b) : ZQ E b' m C m1 C1 := ⟨h.1.mono hb, h.2⟩
/-- of a call that only fills the tree of values -/
theorem ZQ.yt {n' : Int} {uv' : List Int} (h : YT E.V b m n uv C m1 n' uv' C1) (h0 : 2 * n' ≤ 31000) (h1 : (uv'.length : Int) ≤ 40000) : ZQ E b m C m1 C1 := by
  obtain ⟨a1, a2, a3, a4, a5, a6, a7, a8⟩ := h
  exact ⟨a2, a3, by omega, by omega⟩
theorem TU.tvb {t n0 C0 : Int} {us0 : List Int} (h : TU t m m1) (hw : TW m t n0 us0 C0) : TV t b m m1 := ⟨h.1, fun t' ht n' us' C' h' => ⟨(h.2.1 t' ht n' us' C' h').1, fun f j f0 f1 => h.2.2 t' f j n' us' C' h' f0 f1, (h.2.1 t' ht n' us' C' h').2⟩, fun f j f0 f1 _ _ => h.2.2 t f j n0 us0 C0 hw f0 f1⟩
theorem ZB.hM (h : ZB E m n uv C) : tg m E.M = 11 := h.2.1.1.1
theorem ZB.tz (h : ZB E m n uv C) : TZ m := h.1.1.1
theorem ZB.ok (h : ZB E m n uv C) : OK m := h.1.1
theorem ZB.ti (h : ZB E m n uv C) : TI m := h.1.2
theorem ZB.hV (h : ZB E m n uv C) : TW m E.V n uv C := h.2.2.2.2.1.1
theorem ZB.hD (h : ZB E m n uv C) : TW m E.D E.nD E.ud E.CD := h.2.2.2.1.1.2
theorem ZB.hS (h : ZB E m n uv C) : TW m E.S 0 E.us E.CS := h.2.2.2.1.1.1
theorem ZB.vD (h : ZB E m n uv C) : vl m E.M 18 = E.D := h.2.2.1.1
theorem ZB.vS (h : ZB E m n uv C) : vl m E.M 30 = E.S := h.2.2.1.2.1
theorem ZB.vV (h : ZB E m n uv C) : vl m E.M 37 = E.V := h.2.2.1.2.2.1
theorem ZB.vR (h : ZB E m n uv C) : vl m E.M 36 = E.rx := h.2.2.1.2.2.2
theorem ZB.gD (h : ZB E m n uv C) : ∀ f j, 0 ≤ f → f ≤ 9 → nv m E.D f j = E.gD f j := h.2.2.2.1.2
theorem ZB.lt (h : ZB E m n uv C) : tg m (vl m E.M 32) = 186101 ∧ ln m (vl m E.M 32) = 20100 := ⟨h.2.1.1.2.2.2.2.2.2, h.2.2.2.2.2⟩
/-- a node of the document as it stands in memory -/
theorem ZB.dn {i : Nat} {d : ND} {l : Fo} (h : ZB E m n uv C) (hd : DN E i d l) : TN (nv m E.D) E.ud E.nD i d l := hd.1.keep0 (fun f j f0 f1 _ => h.gD f j f0 f1) (fun f f0 f1 => h.gD f i f0 (by omega))
/-- a count is written -/
theorem ZB.mM {f v : Int} (h : ZB E m n uv C) (hf : f = 33 ∨ f = 34 ∨ f = 35) : ZB E (mst m E.M f v) n uv C ∧ ZQ E b m C (mst m E.M f v) C := by
  have hM := h.hM
  have hT : tg m E.M ≠ 13 ∧ tg m E.M < 100 := by omega
  obtain ⟨⟨a1, a2⟩, ⟨a3, a4, a5⟩, ⟨a6, a7, a8, a9⟩, ⟨⟨b1, b2⟩, b3⟩, ⟨b4, b5⟩, b6⟩ := h
  obtain ⟨q1, q2, q3⟩ := a3.mM (v := v) (f := f) (by omega)
  have g : ∀ f', f' ≠ f → vl (mst m E.M f v) E.M f' = vl m E.M f' := fun f' hf' => by rw [vl_mst, if_neg (fun z => hf' z.2)]
  refine ⟨⟨⟨a1, a2.mT hT.1⟩, ⟨q1, by rw [q2]; exact a4, by rw [q3]; exact a5⟩, ⟨by rw [g _ (by omega)]; exact a6, by rw [g _ (by omega)]; exact a7, by rw [g _ (by omega)]; exact a8, by rw [g _ (by omega)]; exact a9⟩, ⟨⟨b1.mT hT, b2.mT hT⟩, fun f' j f0 f1 => by rw [nv_mT hT b2 (Or.inl ⟨f0, f1⟩)]; exact b3 f' j f0 f1⟩, ⟨b4.mT hT, b5⟩, by rw [g _ (by omega)]; exact b6⟩, (TU.mT hT a2).tvb b4, ?_, by omega, ?_⟩
  · have := uC_mT (v := v) (f := f) hT.1 b4
    unfold GR tC
    rw [this]
    exact ⟨Int.le_refl _, by show nx m - nx m ≤ _; omega, by show sl m - sl m ≤ _; omega⟩
  · rw [uC_mT hT.1 b4]; omega
/-- a place of the list is written -/
theorem ZB.mL {j v : Int} (h : ZB E m n uv C) : ZB E (mst m (vl m E.M 32) j v) n uv C ∧ ZQ E b m C (mst m (vl m E.M 32) j v) C ∧ ∀ f, vl (mst m (vl m E.M 32) j v) E.M f = vl m E.M f := by
  have hM := h.hM
  have hl := h.lt
  have hT : nTr (tg m (vl m E.M 32)) := by unfold nTr; omega
  obtain ⟨⟨a1, a2⟩, ⟨a3, a4, a5⟩, ⟨a6, a7, a8, a9⟩, ⟨⟨b1, b2⟩, b3⟩, ⟨b4, b5⟩, b6⟩ := h
  obtain ⟨c1, c2, ⟨c3, c4⟩, ⟨c5, c6⟩, c7, c8, c9⟩ := a3
  have g : ∀ f, vl (mst m (vl m E.M 32) j v) E.M f = vl m E.M f := fun f => by rw [vl_mst, if_neg (fun z => by rw [← z.1] at hl; omega)]
  have r1 : rv (mst m (vl m E.M 32) j v) E.M = rv m E.M := by
    funext x f
    unfold rv
    rw [g, vl_mst, if_neg (fun z => c8 z.1)]
  have r2 : ev (mst m (vl m E.M 32) j v) E.M = ev m E.M := by
    funext x f
    unfold ev
    rw [g, vl_mst, if_neg (fun z => by rw [z.1] at c5; omega)]
  refine ⟨⟨⟨a1, a2.mT hT.1⟩, ⟨⟨c1, by rw [g]; exact c2, ⟨by rw [g]; exact c3, by rw [g]; exact c4⟩, ⟨by rw [g]; exact c5, by rw [g]; exact c6⟩, c7, by rw [g, g]; exact c8, by rw [g]; exact c9⟩, by rw [r1]; exact a4, by rw [r2]; exact a5⟩, ⟨by rw [g]; exact a6, by rw [g]; exact a7, by rw [g]; exact a8, by rw [g]; exact a9⟩, ⟨⟨b1.mA hT, b2.mA hT⟩, fun f' j' f0 f1 => by rw [nv_mA b2 hT (Or.inl ⟨f0, f1⟩)]; exact b3 f' j' f0 f1⟩, ⟨b4.mA hT, b5⟩, by rw [g]; exact b6⟩, ⟨(TU.mA hT a2).tvb b4, ?_, by omega, ?_⟩, g⟩
  · have := uC_mA (v := v) (k := j) b4 hT
    unfold GR tC
    rw [this]
    exact ⟨Int.le_refl _, by show nx m - nx m ≤ _; omega, by show sl m - sl m ≤ _; omega⟩
  · rw [uC_mA b4 hT]; omega
/-- a field of a row -/
theorem ZB.rd {d : Nat} {r f : Int} (h : ZB E m n uv C) (hr : 0 ≤ r ∧ r < E.k) (hf : 0 ≤ f ∧ f < 8) : cl d 251 [pR E.M, pI r, pI f] m = some (.inl (some (pI (E.g r f))), m) := by
  have h27 := h.2.1.2.1
  obtain ⟨a1, a2, ⟨a3, a4⟩, ⟨a5, a6⟩, a7, a8, a9⟩ := h.2.1.1
  refine q251 h.tz _ ?_
  rw [gd_of a1, nm_eq, nm_eq, (w32_of (by omega) (by omega) : w32 (8 * r) = 8 * r), (w32_of (by omega) (by omega) : w32 (8 * r + f) = 8 * r + f), gd_of a3, gd_of (by rw [a4]; omega), ← h27]
  rfl
/-- calls that write nothing of the twin's -/
def zcN (e : Nat) : Bool := rqN e && (List.range 40).all (fun f => !(Nat.testBit e (bix 11 (f : Int))))
theorem zcN_f {e : Nat} (h : zcN e = true) : rqN e = true ∧ ∀ f : Int, 0 ≤ f → f < 40 → Nat.testBit e (bix 11 f) = false := by
  unfold zcN at h
  rw [Bool.and_eq_true] at h
  refine ⟨h.1, fun f f0 f1 => ?_⟩
  have := List.all_eq_true.mp h.2 f.toNat (List.mem_range.mpr (by omega))
  rw [show ((f.toNat : Nat) : Int) = f by omega] at this
  cases hb : Nat.testBit e (bix 11 f)
  · rfl
  · rw [hb] at this; cases this
theorem ZC.call {d q n' : Nat} {as : List PV} {r : Rs} {uv' : List Int} {C' : Int} (ho : E.D ≠ E.V ∧ E.S ≠ E.V) (h : ZC E s m stk n uv C) (e : cl d q as m = some (r, m1)) (hb : zcN (eM q) = true) (y : YT E.V b m n uv C m1 n' uv' C') : ZC E s m1 stk n' uv' C' := by
  obtain ⟨hB, hL, hW⟩ := h
  have hM := hB.hM
  have hl := hB.lt
  have hf := cl_FRM e
  have hz := hB.tz
  obtain ⟨z1, z2⟩ := zcN_f hb
  have g : ∀ f, 0 ≤ f → f < 40 → vl m1 E.M f = vl m E.M f := fun f f0 f1 => vl_of hf hz hM (by decide) (z2 f f0 f1)
  obtain ⟨⟨a1, a2⟩, ⟨a3, a4, a5⟩, ⟨a6, a7, a8, a9⟩, ⟨⟨b1, b2⟩, b3⟩, ⟨b4, b5⟩, b6⟩ := hB
  obtain ⟨q1, q2, q3, q4⟩ := a3.fr hf hz z1
  obtain ⟨y1, y2, y3, y4, y5, y6, y7, y8⟩ := y
  obtain ⟨d1, d2, d3⟩ := y2.2.1 E.D ho.1 _ _ _ b2
  obtain ⟨s1, s2, s3⟩ := y2.2.1 E.S ho.2 _ _ _ b1
  have l1 : ln m1 (vl m E.M 32) = ln m (vl m E.M 32) := ln_of hf hz (by omega)
  have v1 : ∀ j, vl m1 (vl m E.M 32) j = vl m (vl m E.M 32) j := fun j => vl_of hf hz hl.1 (by decide) (by
    rw [bix_arr (by decide)]
    unfold rqN at z1
    simp only [Bool.and_eq_true, Bool.not_eq_true'] at z1
    exact z1.1.1.1.2)
  refine ⟨⟨⟨a1.fr hf, y2.1⟩, ⟨q1, by rw [q2]; exact a4, by rw [q3]; exact a5⟩, ⟨by rw [g _ (by omega) (by omega)]; exact a6, by rw [g _ (by omega) (by omega)]; exact a7, by rw [g _ (by omega) (by omega)]; exact a8, by rw [g _ (by omega) (by omega)]; exact a9⟩, ⟨⟨s1, d1⟩, fun f j f0 f1 => by rw [d2 f j f0 f1]; exact b3 f j f0 f1⟩, ⟨y1, y8⟩, by rw [g _ (by omega) (by omega), l1]; exact b6⟩, ⟨by rw [g _ (by omega) (by omega)]; exact hL.1, hL.2.1, fun j j0 j1 => by rw [g _ (by omega) (by omega), v1]; exact hL.2.2.1 j j0 j1, hL.2.2.2⟩, ?_⟩
  cases s with
  | none => show vl m1 E.M 35 = 1; rw [g _ (by omega) (by omega)]; exact hW
  | some w => exact ⟨by rw [g _ (by omega) (by omega)]; exact hW.1, by rw [g _ (by omega) (by omega)]; exact hW.2.1, hW.2.2⟩
end
