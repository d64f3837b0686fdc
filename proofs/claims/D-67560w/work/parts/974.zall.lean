/-! evaluation by the twin: all together -/
set_option maxRecDepth 100000
set_option maxHeartbeats 4000000
/-- at the next segment -/
abbrev KSeg (E : ZE) (d : Nat) (a1 a2 base nx : Int) (m : Mem) (Z : Rs × Mem) : Prop := ∀ z5 z6 z7 : PV, cat z5 = 1 → cat z6 = 1 → cat z7 = 1 → rn d 262 35 [pR E.M, pI a1, pI a2, pI base, pI nx, z5, z6, z7] [] m = some Z
def TSeg (E : ZE) (rN : Nd) (F : Fo) : Prop := ∀ (n : Nat) (uv : List Int) (p : Nat → Int) (d : Nat) (m : Mem) (stk zs0 : List Int) (nodes : List Nd) (C a1 a2 : Int) (s : Option Int), gF E.g E.en E.us false (PK E) p F → okF 2 F → hQ F + 120 ≤ d → BL n uv (hQ F) → CHN E 3 p F → fNd E (s.map fun _ => nodes) zs0 → ZC E s m (stk ++ zs0) n uv C → ZVc E m stk n uv C (KSeg E d a1 a2 stk.length (p 0) m) (fun m' Z => Z = (.inl (some (pI stk.length)), m')) (eZ s ((evX rN F).seg nodes))
def TAn (E : ZE) (rN : Nd) (an : Bool) (F : Fo) : Prop := ∀ (w : Bool) (n : Nat) (uv : List Int) (p : Nat → Int) (d : Nat) (m : Mem) (stk : List Int) (C a1 : Int) (s : Option Int) (x : Nk) (y : Nd), gF E.g E.en E.us w (PK E) p F → okF 3 F → hQ F + 121 ≤ d → BH n uv (hQ F) → CHN E 1 p F → DNk E x → ZC E s m stk n uv C → ZVb E m stk n uv C (rn d 268 (if an then 59 else 93) [pR E.M, pI a1, pI x.2.1, pI (p 0), pU] [] m) (eZ s ((if an then (evX rN F).any else (evX rN F).all) (x :: y)))
theorem b2i_inj {a b : Bool} (h : b2i a = b2i b) : a = b := by cases a <;> cases b <;> first | rfl | (exact absurd h (by decide))
section
variable {E : ZE} {rN : Nd}
theorem zb_ret {m : Mem} {stk uv : List Int} {n : Nat} {C : Int} {s : Option Int} {Q : RM} {b : Bool} (h : ZC E s m stk n uv C) (hQ : Q = some (.inl (some (pI (b2i b))), m)) : ZVb E m stk n uv C Q (eZ s (eR b)) := by
  rw [eZ_R]
  refine ⟨m, C, some (pI (b2i b)), [], n, uv, hQ, ?_, ZQ.refl h.bB.ti, rfl, rfl, rfl, b, rfl, fun b' z => ?_⟩
  · rw [List.append_nil]
    cases s with
    | none => exact h
    | some w => exact h
  · cases s with
    | none => cases z
    | some w => cases z; rfl
theorem zb_dead {m : Mem} {stk uv : List Int} {n : Nat} {C : Int} {Q : RM} {b : Bool} {X : EV Bool} (h : ZC E none m stk n uv C) (hQ : Q = some (.inl (some (pI (b2i b))), m)) : ZVb E m stk n uv C Q (eZ none X) :=
  ⟨m, C, some (pI (b2i b)), [], n, uv, hQ, by rw [List.append_nil]; exact h, ZQ.refl h.bB.ti, rfl, rfl, rfl, b, rfl, fun b' z => (by cases z)⟩
theorem tAn0 {an : Bool} : TAn E rN an foN := by
  intro w n uv p d m stk C a1 s x y hg ho hd hb hc hx h
  have p0 : p 0 = -1 := hc.2
  cases an with
  | true =>
    refine zb_ret (b := false) h (q268_59 (by omega) h.bB.tz _ ?_)
    rw [if_pos (by omega)]; rfl
  | false =>
    refine zb_ret (b := true) h (q268_93 (by omega) h.bB.tz _ ?_)
    rw [if_pos (by omega)]; rfl
theorem tAn {an : Bool} {nn : Nat} {dd : ND} {u : Unit} {l r : Fo} (hl : TTst E rN (.inner nn dd u l r)) (hr : TAn E rN an r) : TAn E rN an (.inner nn dd u l r) := by
  intro w n uv p d m stk C a1 s x y hg ho hd hb hc hx h
  have h1 := hg.1.1
  obtain ⟨hct, hc1⟩ := hc.tl
  have hp0 : ¬ p 0 < 0 := by have := h1.1; omega
  obtain ⟨m3, C3, r3, zs, n3, uv3, e3, c3, q3, rfl, rfl, rfl, b, rfl, hbb⟩ := hl w n uv p (d - 1) m stk C s x y hg ho (Nat.succ_le_succ (Nat.zero_le _)) (by omega) hb hx h
  rw [List.append_nil] at c3
  have hd' := hd
  rw [hQ_in] at hd' hb
  have rcc := hr w n3 uv3 (fun j => p (j + 1)) d m3 stk C3 a1 _ x y hg.2 ho.2.2.2.2.2 (by omega) (hb.mono (by omega)) hct hx c3
  have k1 := c3.bB.rd (d := d - 1) (r := p 0) (f := 1) h1 (by decide)
  rw [hc1] at k1
  have hy : eZ s ((if an then (evX rN (.inner nn dd u l r)).any else (evX rN (.inner nn dd u l r)).all) (x :: y)) = match eZ s ((evX rN (.inner nn dd u l r)).tst (x :: y)) with
      | none => none
      | some (b', w') => (if b' = an then eR an else (if an then (evX rN r).any else (evX rN r).all) (x :: y)) w' := by
    have e1 : (if an then (evX rN (.inner nn dd u l r)).any else (evX rN (.inner nn dd u l r)).all) (x :: y) = eB ((evX rN (.inner nn dd u l r)).tst (x :: y)) fun b' => if b' = an then eR an else (if an then (evX rN r).any else (evX rN r).all) (x :: y) := by
      cases an with
      | true => rfl
      | false =>
        have e : (fun b : Bool => if b = false then (eR false : EV Bool) else (evX rN r).all (x :: y)) = fun b : Bool => if b = true then (evX rN r).all (x :: y) else eR false := funext fun b => by cases b <;> rfl
        show eB ((evX rN (.inner nn dd u l r)).tst (x :: y)) (fun b : Bool => if b = true then (evX rN r).all (x :: y) else eR false) = _
        rw [← e]; rfl
    rw [e1, eZ_B]
    cases eZ s ((evX rN (.inner nn dd u l r)).tst (x :: y)) with
    | none => rfl
    | some z => rfl
  rw [hy]
  by_cases hb2 : b = an
  · subst hb2
    have stop : rn d 268 (if b then 59 else 93) [pR E.M, pI a1, pI x.2.1, pI (p 0), pU] [] m = some (.inl (some (pI (b2i b))), m3) := by
      cases b with
      | true =>
        refine q268_59 (by omega) h.bB.tz _ ?_
        rw [if_neg hp0, gd_of h.bB.hM, bI_eq e3, if_neg (by decide)]; rfl
      | false =>
        refine q268_93 (by omega) h.bB.tz _ ?_
        rw [if_neg hp0, gd_of h.bB.hM, bI_eq e3, if_pos (by rfl)]; rfl
    cases hE : eZ s ((evX rN (.inner nn dd u l r)).tst (x :: y)) with
    | none =>
      rw [hE] at c3
      exact ⟨m3, C3, _, [], n3, uv3, stop, by rw [List.append_nil]; exact c3, q3, rfl, rfl, rfl, b, rfl, fun b' z => (by cases z)⟩
    | some z =>
      obtain ⟨b', w'⟩ := z
      rw [hE] at c3 hbb
      have hbe : b' = b := hbb b' rfl
      subst hbe
      dsimp only
      rw [if_pos (show b' = b' from rfl)]
      exact ⟨m3, C3, _, [], n3, uv3, stop, by rw [List.append_nil]; exact c3, q3, rfl, rfl, rfl, b', rfl, fun b2 z => (by cases z; rfl)⟩
  · have cont : ∀ Z, rn d 268 (if an then 59 else 93) [pR E.M, pI a1, pI x.2.1, pI (p 1), pU] [] m3 = some Z → rn d 268 (if an then 59 else 93) [pR E.M, pI a1, pI x.2.1, pI (p 0), pU] [] m = some Z := fun Z hZ => by
      cases an with
      | true =>
        have hb3 : b = false := by cases b; rfl; exact absurd rfl hb2
        subst hb3
        refine q268_59 (by omega) h.bB.tz _ ?_
        rw [if_neg hp0, gd_of h.bB.hM, bI_eq e3, if_pos (by rfl), bI_eq k1]; exact hZ
      | false =>
        have hb3 : b = true := by cases b; exact absurd rfl hb2; rfl
        subst hb3
        refine q268_93 (by omega) h.bB.tz _ ?_
        rw [if_neg hp0, gd_of h.bB.hM, bI_eq e3, if_neg (by decide), bI_eq k1]; exact hZ
    cases hE : eZ s ((evX rN (.inner nn dd u l r)).tst (x :: y)) with
    | none =>
      rw [hE] at rcc
      exact (rcc.of cont).pre q3
    | some z =>
      obtain ⟨b', w'⟩ := z
      rw [hE] at rcc hbb
      have hbe : b' = b := hbb b' rfl
      dsimp only
      rw [if_neg (show ¬ b' = an by rw [hbe]; exact hb2)]
      exact (rcc.of cont).pre q3
/-- a test at its own row -/
theorem tCore (ho : ZO E) {n : Nat} {uv : List Int} {d : Nat} {m : Mem} {stk : List Int} {C q : Int} {s : Option Int} {x : Nk} {y : Nd} {dd : ND} {l : Fo} (hl : TTst E rN l) (ha : TAn E rN true l) (hb' : TAn E rN false l) (hc1 : TCpb E rN l) (hc2 : TCp2 E rN l) (hq : TQry E rN l) (h1 : PK E q) (hk : dd.1 = 30 ∨ dd.1 = 31 ∨ dd.1 = 32 ∨ dd.1 = 33 ∨ dd.1 = 34) (hg : gB E.g E.en E.us q dd l) (h4 : gF E.g E.en E.us (dd.1 == 31) (PK E) (gK E.g q dd.1) l) (o2 : cN dd.1 (cntF l)) (o3 : dd.1 = 33 → 0 ≤ dd.2.1 ∧ dd.2.1 ≤ 5) (o5 : okF (cB dd.1) l) (hd : hQ l + 4 + 120 ≤ d) (hb : BH n uv (hQ l + 5)) (hx : DNk E x) (h : ZC E s m stk n uv C) : ZVb E m stk n uv C (cl d 268 [pR E.M, pI q, pI x.2.1] m) (eZ s (evT dd (evX rN l) (x :: y))) := by
  obtain ⟨b1, b2, b3, b4, b5, b6, b7, b8⟩ := hg
  replace b2 := Hd.mk b2
  replace b3 := Hd.mk b3
  replace b4 := Hd.mk b4
  replace b5 := Hd.mk b5
  replace b6 := Hd.mk b6
  replace b7 := Hd.mk b7
  replace b8 := Hd.mk b8
  replace o3 := Hd.mk o3
  have hbl := hb.mono (h' := hQ l) (by omega)
  cases s with
  | none =>
    refine zb_dead (b := false) h (q268 (by omega) h.bB.tz _ ?_)
    rw [gd_of h.bB.hM, if_neg (by rw [h.dead]; decide)]; rfl
  | some w =>
    have hlv := h.live.1
    have k0 := h.bB.rd (d := d - 1) (r := q) (f := 0) h1 (by decide)
    have k2 := h.bB.rd (d := d - 1) (r := q) (f := 2) h1 (by decide)
    rw [b1] at k0
    by_cases k30 : dd.1 = 30
    · have ev : evT dd (evX rN l) (x :: y) = (evX rN l).any (x :: y) := by unfold evT; rw [if_pos k30]
      have e3 : cB dd.1 = 3 := by unfold cB; rw [if_pos (by omega)]
      rw [e3] at o5
      rw [gK_c (by omega)] at h4
      rw [ev]
      have key := ha (dd.1 == 31) n uv _ d m stk C q (some w) x y h4 o5 (by omega) hbl (CHN.of (b7.o (Or.inl k30))) hx h
      refine key.of fun Z hZ => q268 (by omega) h.bB.tz _ ?_
      rw [gd_of h.bB.hM, if_pos hlv, bI_eq k0, if_pos (by omega), bI_eq k2]
      exact hZ
    by_cases k31 : dd.1 = 31
    · have ev : evT dd (evX rN l) (x :: y) = (evX rN l).all (x :: y) := by unfold evT; rw [if_neg k30, if_pos k31]
      have e3 : cB dd.1 = 3 := by unfold cB; rw [if_pos (by omega)]
      rw [e3] at o5
      rw [gK_c (by omega)] at h4
      rw [ev]
      have key := hb' (dd.1 == 31) n uv _ d m stk C q (some w) x y h4 o5 (by omega) hbl (CHN.of (b7.o (Or.inr k31))) hx h
      refine key.of fun Z hZ => q268 (by omega) h.bB.tz _ ?_
      rw [gd_of h.bB.hM, if_pos hlv, bI_eq k0, if_neg (by omega), if_pos (by omega), bI_eq k2]
      exact hZ
    rw [gK_o (by omega)] at h4
    have g2 : E.g q 2 = (if (0 : Nat) = 0 then E.g q 2 else E.g q 3) := by rw [if_pos rfl]
    by_cases k32 : dd.1 = 32
    · have ev : evT dd (evX rN l) (x :: y) = eB ((evX rN l).tst (x :: y)) fun b => eR (!b) := by unfold evT; rw [if_neg k30, if_neg k31, if_pos k32]
      have e3 : cB dd.1 = 3 := by unfold cB; rw [if_pos (by omega)]
      rw [e3] at o5
      have c1 : cntF l = 1 := by unfold cN at o2; rw [if_pos (by omega)] at o2; exact o2
      obtain ⟨m3, C3, r3, zs, n3, uv3, e3, c3, q3, rfl, rfl, rfl, b, rfl, hbb⟩ := hl (dd.1 == 31) n uv _ (d - 1) m stk C (some w) x y h4 o5 (by omega) (by omega) hbl hx h
      rw [List.append_nil] at c3
      have hy : eZ (some w) (eB ((evX rN l).tst (x :: y)) fun b => eR (!b)) = (eZ (some w) ((evX rN l).tst (x :: y))).map fun z => (!z.1, z.2) := by
        rw [eZ_B]
        cases eZ (some w) ((evX rN l).tst (x :: y)) with
        | none => rfl
        | some z => rfl
      rw [ev, hy]
      refine ⟨m3, C3, some (pI (b2i (!b))), [], n3, uv3, q268 (by omega) h.bB.tz _ ?_, ?_, q3, rfl, rfl, rfl, !b, rfl, fun b' z => ?_⟩
      · rw [gd_of h.bB.hM, if_pos hlv, bI_eq k0, if_neg (by omega), if_neg (by omega), if_pos (by omega), bI_eq k2, g2, bI_eq e3]
        cases b
        · rw [if_pos (by rfl)]; rfl
        · rw [if_neg (by decide)]; rfl
      · rw [List.append_nil]
        cases hE : eZ (some w) ((evX rN l).tst (x :: y)) with
        | none => rw [hE] at c3; exact c3
        | some z => rw [hE] at c3; exact c3
      · cases hE : eZ (some w) ((evX rN l).tst (x :: y)) with
        | none => rw [hE] at z; cases z
        | some zz => rw [hE] at z hbb; cases z; exact congrArg (fun b => !b) (hbb zz.1 rfl)
    by_cases k34 : dd.1 = 34
    · have ev : evT dd (evX rN l) (x :: y) = eB ((evX rN l).qry (x :: y)) fun xs => eR (!xs.isEmpty) := by unfold evT; rw [if_neg k30, if_neg k31, if_neg k32, if_pos k34]
      have e3 : cB dd.1 = 5 := by unfold cB; rw [if_neg (by omega), if_neg (by omega), if_neg (by omega), if_neg (by omega), if_pos (by omega)]
      rw [e3] at o5
      have c1 : cntF l = 1 := by unfold cN at o2; rw [if_pos (by omega)] at o2; exact o2
      obtain ⟨m3, C3, r3, zs, n3, uv3, e3, c3, q3, rfl, rfl, rfl, f3⟩ := hq (dd.1 == 31) n uv _ (d - 1) m stk C (some w) x y h4 o5 (by omega) (by omega) (hb.lo (by omega)) hx h
      obtain ⟨c4, q4⟩ := c3.cut (b := n3)
      have htop := c3.top
      rw [List.length_append] at htop
      push_cast at htop
      have hy : eZ (some w) (eB ((evX rN l).qry (x :: y)) fun xs => eR (!xs.isEmpty)) = (eZ (some w) ((evX rN l).qry (x :: y))).map fun z => (!z.1.isEmpty, z.2) := by
        rw [eZ_B]
        cases eZ (some w) ((evX rN l).qry (x :: y)) with
        | none => rfl
        | some z => rfl
      rw [ev, hy]
      refine ⟨_, C3, some (pI (b2i (!zs.isEmpty))), [], n3, uv3, q268 (by omega) h.bB.tz _ ?_, ?_, q3.trans q4 (Int.le_refl _), rfl, rfl, rfl, !zs.isEmpty, rfl, fun b' z => ?_⟩
      · rw [gd_of h.bB.hM, if_pos hlv, bI_eq k0, if_neg (by omega), if_neg (by omega), if_neg (by omega), if_pos (by omega), bI_eq k2, g2, bI_eq e3, htop]
        cases zs with
        | nil => rw [if_neg (by simp)]; rfl
        | cons z zs => rw [if_pos (by rw [List.length_cons]; push_cast; omega)]; rfl
      · rw [List.append_nil]
        cases hE : eZ (some w) ((evX rN l).qry (x :: y)) with
        | none => rw [hE] at c4; exact c4
        | some z => rw [hE] at c4; exact c4
      · cases hE : eZ (some w) ((evX rN l).qry (x :: y)) with
        | none => rw [hE] at z; cases z
        | some zz =>
          rw [hE] at z f3
          cases z
          obtain ⟨zl, zw⟩ := zz
          obtain ⟨y1, -⟩ := f3 zl rfl
          rw [y1]
          cases zl <;> rfl
    have k33 : dd.1 = 33 := by omega
    have ev : evT dd (evX rN l) (x :: y) = eB ((evX rN l).cpb (x :: y)) fun v => eB ((evX rN l).cp2 (x :: y)) fun u => eR (vCm dd.2.1 v u) := by unfold evT; rw [if_neg k30, if_neg k31, if_neg k32, if_neg k34]
    have e3 : cB dd.1 = 4 := by unfold cB; rw [if_neg (by omega), if_neg (by omega), if_neg (by omega), if_pos (by omega)]
    rw [e3] at o5
    have c1 : cntF l = 2 := by unfold cN at o2; rw [if_neg (by omega), if_pos (by omega)] at o2; exact o2
    rw [ev]
    have hbn := hb
    unfold BH at hbn
    have key1 := hc1 (dd.1 == 31) n n uv _ (d - 1 - 1) m stk C (some w) x y h4 o5 (by omega) (by omega) (hb.lo (by omega)) hx (Nat.le_refl _) h
    have key := c269 (E := E) (X := (evX rN l).cpb (x :: y)) (Y := (evX rN l).cp2 (x :: y)) (r := q) (a2 := (x.2.1 : Int)) (op := dd.2.1) (hq := hQ l) (d := d - 1) ho (by omega) h1 (b8.o k33) (o3.o k33) (by omega) h key1 (fun m1 n1 uv1 C1 s1 h1' hn1 hn2 hu1 => hc2 (dd.1 == 31) n1 n uv1 _ (d - 1 - 1) m1 stk C1 s1 x y h4 o5 (by omega) (by omega) (by unfold BL; omega) hx hn1 h1')
    obtain ⟨m3, C3, r3, zs, n3, uv3, e4, c3, q3, hz, hn3, hu3, b, hrb, hbb⟩ := key
    subst hrb
    refine ⟨m3, C3, _, zs, n3, uv3, q268 (by omega) h.bB.tz _ ?_, c3, q3, hz, hn3, hu3, b, rfl, hbb⟩
    rw [gd_of h.bB.hM, if_pos hlv, bI_eq k0, if_neg (by omega), if_neg (by omega), if_neg (by omega), if_neg (by omega), if_neg (by omega), if_pos (by omega), bI_eq e4, gd_of (b2i_01 b)]
theorem tTst (ho : ZO E) {nn : Nat} {dd : ND} {u : Unit} {l r : Fo} (hl : TTst E rN l) (ha : TAn E rN true l) (hb' : TAn E rN false l) (hc1 : TCpb E rN l) (hc2 : TCp2 E rN l) (hq : TQry E rN l) : TTst E rN (.inner nn dd u l r) := by
  intro w n uv p d m stk C s x y hg ho3 hcn hd hb hx h
  obtain ⟨⟨h1, h2, h3, h4⟩, h5⟩ := hg
  obtain ⟨o1, o2, o3, o4, o5, o6⟩ := ho3
  have hkk : dd.1 = 30 ∨ dd.1 = 31 ∨ dd.1 = 32 ∨ dd.1 = 33 ∨ dd.1 = 34 := by
    unfold cK at o1
    split at o1
    · omega
    · split at o1
      · omega
      · split at o1
        · omega
        · split at o1
          · omega
          · split at o1 <;> omega
  rw [hQ_in, if_neg (by omega)] at hd hb
  have o33 : dd.1 = 33 → 0 ≤ dd.2.1 ∧ dd.2.1 ≤ 5 := fun q => (o3 (Or.inr (Or.inl q))).2.2.1 q
  have eT : (evX rN (.inner nn dd u l r)).tst (x :: y) = evT dd (evX rN l) (x :: y) := rfl
  rw [eT]
  by_cases hw : w = true ∧ (dd.1 = 30 ∨ dd.1 = 34)
  · have eu : unw E.g w dd.1 (p 0) = E.g (p 0) 2 := by unfold unw; rw [if_pos hw]
    rw [eu] at h3 h4
    obtain ⟨g0, g1⟩ := h2 hw
    have key := tCore (y := y) ho hl ha hb' hc1 hc2 hq g1 hkk h3 h4 o2 o33 o5 (d := d - 1) (by omega) (hb.mono (by omega)) hx h
    have k0 := h.bB.rd (d := d - 1) (r := p 0) (f := 0) h1 (by decide)
    have k2 := h.bB.rd (d := d - 1) (r := p 0) (f := 2) h1 (by decide)
    rw [g0] at k0
    cases s with
    | none =>
      refine zb_dead (b := false) h (q268 (by omega) h.bB.tz _ ?_)
      rw [gd_of h.bB.hM, if_neg (by rw [h.dead]; decide)]; rfl
    | some w' =>
      obtain ⟨m3, C3, r3, zs, n3, uv3, e4, c3, q3, hz, hn3, hu3, b, hrb, hbb⟩ := key
      subst hrb
      refine ⟨m3, C3, _, zs, n3, uv3, q268 (by omega) h.bB.tz _ ?_, c3, q3, hz, hn3, hu3, b, rfl, hbb⟩
      rw [gd_of h.bB.hM, if_pos h.live.1, bI_eq k0, if_neg (by decide), if_neg (by decide), if_neg (by decide), if_neg (by decide), if_pos rfl, bI_eq k2, bI_eq e4, gd_of (b2i_01 b)]
  · have eu : unw E.g w dd.1 (p 0) = p 0 := by unfold unw; rw [if_neg hw]
    rw [eu] at h3 h4
    exact tCore (y := y) ho hl ha hb' hc1 hc2 hq h1 hkk h3 h4 o2 o33 o5 (by omega) (hb.mono (by omega)) hx h
theorem tSeg0 : TSeg E rN foN := by
  intro n uv p d m stk zs0 nodes C a1 a2 s hg ho hd hb hc hf h
  have p0 : p 0 = -1 := hc.2
  have ee : eZ s ((evX rN foN).seg nodes) = s.map fun w => (nodes, w) := eZ_R (a := nodes)
  rw [ee]
  refine ⟨m, C, zs0, fun Z hZ z5 z6 z7 c5 c6 c7 => q262_35 h.bB.tz c5 c6 c7 _ ?_, ?_, ZQ.refl h.bB.ti, ?_⟩
  · rw [if_pos (by omega), hZ]
  · cases s with
    | none => exact h
    | some w => exact h
  · cases s with
    | none => exact hf
    | some w => exact hf
theorem tSeg {nn : Nat} {dd : ND} {u : Unit} {l r : Fo} (hl : TSel E rN l) (hr : TSeg E rN r) : TSeg E rN (.inner nn dd u l r) := by
  intro n uv p d m stk zs0 nodes C a1 a2 s hg ho hd hb hc hf h
  obtain ⟨⟨h1, h2, h3, h4⟩, h5⟩ := hg
  rw [unw_f] at h3 h4
  obtain ⟨o1, o2, o3, o4, o5, o6⟩ := ho
  obtain ⟨hct, hc1⟩ := hc.tl
  have k21 := cK_2 o1
  have hp0 : ¬ p 0 < 0 := by have := h1.1; omega
  have hd' := hd
  have hb2 := hb
  rw [hQ_in, if_pos (Or.inl k21)] at hd hb
  cases s with
  | none =>
    refine ⟨m, C, zs0, fun Z hZ z5 z6 z7 c5 c6 c7 => q262_35 h.bB.tz c5 c6 c7 _ ?_, h, ZQ.refl h.bB.ti, fun ys z => (by cases z)⟩
    rw [if_neg hp0, gd_of h.bB.hM, if_neg (by rw [h.dead]; decide), hZ]
  | some w =>
    obtain ⟨hz, hv⟩ := hf nodes rfl
    subst hz
    have e1 : cB dd.1 = 1 := by unfold cB; rw [if_neg (by omega), if_neg (by omega), if_pos k21]
    rw [e1] at o5
    have e31 : (dd.1 == 31) = false := by rw [k21]; rfl
    rw [e31, gK_c (Or.inl k21)] at h4
    obtain ⟨b61, b62⟩ := h3.2.2.2.2.2.1 k21
    have v01 := (o3 (by omega)).2.2.2 (Or.inr k21)
    have hbh : BH n uv (hQ l) := hb.hi (by omega)
    have sel : ∀ (d' : Nat) (m1 : Mem) (stk1 : List Int) (s1 : Option Int) (C1 : Int) (q : Nk) (z : Nd), hQ l + 121 ≤ d' → DNk E q → ZC E s1 m1 stk1 n uv C1 → ZVs E m1 stk1 n uv C1 (cl d' 266 [pR E.M, pI (p 0), pI q.2.1] m1) (eZ s1 ((evX rN l).sel (q :: z))) := by
      intro d' m1 stk1 s1 C1 q z hd1 hq c1
      have key := hl n uv _ d' m1 stk1 C1 (p 0) s1 q z h4 o5 (by omega) hbh (CHN.of b62) hq c1
      refine ZVc.sS (key.of fun Z hZ => q266 (by omega) c1.bB.tz _ ?_)
      rw [gd_of c1.bB.hM, bI_eq (c1.bB.rd h1 (by decide))]
      exact hZ _ _ rfl rfl
    have htop := h.top
    have hlen := h.len
    rw [List.length_append, List.length_map] at htop hlen
    push_cast at htop hlen
    have hA : At (stk ++ nodes.map idN) stk.length (nodes.map idN) := At.end
    have key := c262_56 (E := E) (n := n) (uv := uv) (a1 := a1) (a2 := a2) (base := (stk.length : Int)) (sg := p 0) (en := (stk.length : Int) + nodes.length) (g := evG dd (evX rN l)) (d := d) (by omega) h1 (fun m1 stk1 w1 C1 q z hq c1 => by
      rw [b61]
      by_cases z0 : dd.2.1 = 0
      · have eg : evG dd (evX rN l) (q :: z) = (evX rN l).sel (q :: z) := if_pos z0
        rw [eg, if_neg (by omega)]
        exact sel (d - 1) m1 stk1 (some w1) C1 q z (by omega) hq c1
      · have eg : evG dd (evX rN l) (q :: z) = dwn (evX rN l).sel (q :: z) := if_neg z0
        rw [eg, if_pos (by omega)]
        exact c265 (D := hQ l + 121) hq (by omega) (fun d' m2 stk2 s2 C2 q2 z2 hd2 hq2 c2 => sel d' m2 stk2 s2 C2 q2 z2 hd2 hq2 c2) c1) nodes (stk.length : Int) m (stk ++ nodes.map idN) C (some w) hv hA rfl h
    have ee : eZ (some w) ((evX rN (.inner nn dd u l r)).seg nodes) = eZ (some w) (eB (eL (evG dd (evX rN l)) nodes) (evX rN r).seg) := rfl
    rw [ee, eZ_B]
    obtain ⟨m2, C2, zs, e2, c2, q2, f2⟩ := key
    have htop2 := c2.top
    have hlen2 := c2.len
    have etl : ((stk ++ nodes.map idN ++ zs).length : Int) = stk.length + nodes.length + zs.length := by simp only [List.length_append, List.length_map]; push_cast; omega
    rw [etl] at htop2 hlen2
    obtain ⟨m3, c3, q3, g3⟩ := c262_128 (E := E) (n := n) (uv := uv) (a1 := a1) (a2 := a2) (sg := p 0) (en := (stk.length : Int) + nodes.length) (stk := stk) (zs0 := nodes.map idN) (d := d) (by omega) h1 (by rw [List.length_map]) zs.length 0 m2 C2 zs [] (stk ++ nodes.map idN ++ zs) (by simp) ⟨zs, rfl⟩ rfl c2 etl (fun k k0 k1 => by rw [List.append_assoc, gi_app_l k0 k1]) (fun k k0 k1 => absurd k1 (by simp; omega)) (fun k k0 k1 => by
      have el : ((stk ++ nodes.map idN).length : Int) = stk.length + nodes.length := by rw [List.length_append, List.length_map]; push_cast; rfl
      simp at k0
      rw [gi_app_r (by omega), el]; congr 1; omega) (fun y hy => h.v y (List.mem_append_left _ hy)) (fun y hy => c2.v y (List.mem_append_right _ hy))
    have q23 := q2.trans q3 (Int.le_refl _)
    -- from the segment's start to the next one
    have st : ∀ Z, KSeg E d a1 a2 stk.length (p 1) m3 Z → KSeg E d a1 a2 stk.length (p 0) m Z := fun Z hZ z5 z6 z7 c5 c6 c7 => by
      refine q262_35 h.bB.tz c5 c6 c7 _ ?_
      rw [if_neg hp0, gd_of h.bB.hM, if_pos h.live.1, htop]
      refine e2 Z ?_ z7 c7
      show rn d 262 128 [pR E.M, pI a1, pI a2, pI (stk.length : Int), pI (p 0), pI ((stk.length : Int) + nodes.length), pI (w32 (vl m2 E.M 33 - ((stk.length : Int) + nodes.length))), pI 0] [] m2 = some Z
      rw [htop2, (w32_of (by omega) (by omega) : w32 ((stk.length : Int) + nodes.length + zs.length - (stk.length + nodes.length)) = (stk.length : Int) + nodes.length + zs.length - (stk.length + nodes.length)), show (stk.length : Int) + nodes.length + zs.length - (stk.length + nodes.length) = zs.length by omega]
      refine g3 Z ?_
      rw [hc1]
      exact hZ
    have hb3 : BL n uv (hQ r) := hb2.mono (by rw [hQ_in]; omega)
    cases hE : eZ (some w) (eL (evG dd (evX rN l)) nodes) with
    | none =>
      rw [hE] at c3
      have key2 := hr n uv (fun j => p (j + 1)) d m3 stk zs [] C2 a1 a2 none h5 o6 (by omega) hb3 hct (fun ys z => (by cases z)) c3
      exact (key2.of st).pre q23
    | some zz =>
      obtain ⟨ys, w2⟩ := zz
      rw [hE] at c3 f2
      have key2 := hr n uv (fun j => p (j + 1)) d m3 stk zs ys C2 a1 a2 (some w2) h5 o6 (by omega) hb3 hct (fun ys' z => (by cases z; exact f2 ys rfl)) c3
      exact (key2.of st).pre q23
theorem tQry (hrN : DNn E rN) (hrx : idN rN = E.rx) {nn : Nat} {dd : ND} {u : Unit} {l r : Fo} (hl : TSeg E rN l) : TQry E rN (.inner nn dd u l r) := by
  intro w n uv p d m stk C s x y hg ho hcn hd hb hx h
  obtain ⟨⟨h1, h2, h3, h4⟩, h5⟩ := hg
  obtain ⟨o1, o2, o3, o4, o5, o6⟩ := ho
  have k20 := cK_5 o1
  rw [unw_o (by omega)] at h3 h4
  rw [hQ_in, if_neg (by omega)] at hd hb
  have e31 : (dd.1 == 31) = false := by rw [k20]; rfl
  have e1 : cB dd.1 = 2 := by unfold cB; rw [if_neg (by omega), if_pos k20]
  rw [e1] at o5
  rw [e31, gK_20 k20] at h4
  obtain ⟨b51, b52, b53⟩ := h3.2.2.2.2.1 k20
  have v01 := (o3 (by omega)).2.2.2 (Or.inl k20)
  have htop := h.top
  have k1 := h.bB.rd (d := d - 1) (r := p 0) (f := 1) h1 (by decide)
  rw [b51] at k1
  have ee : (evX rN (.inner nn dd u l r)).qry (x :: y) = eB (eA (if dd.2.1 = 0 then x :: y else rN)) (evX rN l).seg := rfl
  rw [ee]
  have hX : DNn E (if dd.2.1 = 0 then x :: y else rN) := by
    split
    · exact hx.n
    · exact hrN
  have hid : idN (if dd.2.1 = 0 then x :: y else rN) = (if dd.2.1 = 0 then (x.2.1 : Int) else E.rx) := by split <;> first | rfl | exact hrx
  have key := c263 (d := d - 1) (by omega) h hX hid
  obtain ⟨m1, C1, r1, zs, n1, uv1, g1, c1, q1, rfl, rfl, rfl, f1⟩ := key
  have st : ∀ Z, KSeg E d (p 0) x.2.1 stk.length (E.g (p 0) 2) m1 Z → cl d 262 [pR E.M, pI (p 0), pI x.2.1] m = some Z := fun Z hZ => by
    refine q262 (by omega) h.bB.tz _ ?_
    have k2 := c1.bB.rd (d := d - 1) (r := p 0) (f := 2) h1 (by decide)
    rw [gd_of h.bB.hM, nm_eq, htop, bI_eq k1]
    by_cases z0 : dd.2.1 = 0
    · rw [if_pos z0] at g1
      rw [if_neg (by omega), bV_eq g1, bI_eq k2]
      exact hZ _ _ _ rfl rfl rfl
    · rw [if_neg z0] at g1
      rw [if_pos (by omega), h.bB.vR, bV_eq g1, bI_eq k2]
      exact hZ _ _ _ rfl rfl rfl
  rw [eZ_B]
  have fin : ∀ (y' : Option (List Nd × Int)), ZVc E m1 stk n1 uv1 C1 (KSeg E d (p 0) x.2.1 stk.length (E.g (p 0) 2) m1) (fun m' Z => Z = (.inl (some (pI stk.length)), m')) y' → ZVq E m stk n1 uv1 C (cl d 262 [pR E.M, pI (p 0), pI x.2.1] m) y' := by
    intro y' hh
    obtain ⟨m2, C2, zs2, e2, c2, q2, f2⟩ := hh.of st
    exact ⟨m2, C2, some (pI stk.length), zs2, n1, uv1, e2 _ rfl, c2, q1.trans q2 (Int.le_refl _), rfl, rfl, rfl, f2⟩
  cases hE : eZ s (eA (if dd.2.1 = 0 then x :: y else rN)) with
  | none =>
    rw [hE] at c1
    exact fin _ (hl n1 uv1 _ d m1 stk zs [] C1 (p 0) x.2.1 none h4 o5 (by omega) (hb.mono (by omega)) (CHN.of b53) (fun ys z => (by cases z)) c1)
  | some zz =>
    obtain ⟨ys, w2⟩ := zz
    rw [hE] at c1 f1
    exact fin _ (hl n1 uv1 _ d m1 stk zs ys C1 (p 0) x.2.1 (some w2) h4 o5 (by omega) (hb.mono (by omega)) (CHN.of b53) (fun ys' z => (by cases z; exact f1 ys rfl)) c1)
theorem tAll (ho : ZO E) (hrN : DNn E rN) (hrx : idN rN = E.rx) : ∀ F : Fo, TSel E rN F ∧ TSeg E rN F ∧ TAn E rN true F ∧ TAn E rN false F ∧ TTst E rN F ∧ TCpb E rN F ∧ TCp2 E rN F ∧ TQry E rN F := by
  intro F
  induction F with
  | leaf => exact ⟨tSel0, tSeg0, tAn0, tAn0, fun _ _ _ _ _ _ _ _ _ _ _ _ _ h => (by cases h), fun _ _ _ _ _ _ _ _ _ _ _ _ _ _ h => (by cases h), fun _ _ _ _ _ _ _ _ _ _ _ _ _ _ h => (by cases h), fun _ _ _ _ _ _ _ _ _ _ _ _ _ h => (by cases h)⟩
  | inner n d u l r ihl ihr =>
    obtain ⟨l1, l2, l3, l4, l5, l6, l7, l8⟩ := ihl
    obtain ⟨r1, r2, r3, r4, r5, r6, r7, r8⟩ := ihr
    have ht := tTst (nn := n) (dd := d) (u := u) (r := r) ho l5 l3 l4 l6 l7 l8
    exact ⟨tSel l5 r1, tSeg l1 r2, tAn ht r3, tAn ht r4, ht, tCpb ho l6 l8, tCp2 r6, tQry hrN hrx l2⟩
end
