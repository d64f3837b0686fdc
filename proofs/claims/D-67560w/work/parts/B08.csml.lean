/-! the component: small methods -/
set_option maxRecDepth 100000
set_option maxHeartbeats 4000000
theorem CPt.suc {n : Nat} {m : Mem} {X : Int} {A : Int → Int} {s : St} {g : GH} (h : CPt n m X A s g) : CPt (n + 1) m X A s g := by
  obtain ⟨b, x, t1, fl, k, r1, r2, rn, p, ⟨a1, a2, a3, ⟨a4, a5, a6⟩, a7, a8, a9⟩, tb⟩ := h
  exact ⟨b, x, t1, fl, k, r1, r2, rn, p, ⟨a1, a2, by push_cast; omega, ⟨a4, a5, a6.mono (Nat.le_succ n)⟩, a7, a8, fun k k0 k1 => ⟨(a9 k k0 k1).1, fun D hD => ⟨((a9 k k0 k1).2 D hD).1, ((a9 k k0 k1).2 D hD).2.mono (Nat.le_succ n)⟩⟩⟩, tb⟩
/-- a call answers: ex tells the exception of a code -/
def CRi (n : Nat) (m : Mem) (X : Int) (A : Int → Int) (s : St) (g : GH) (Q : RM) (ex : Int → Int) (an : Ans) (v : Option PV) : Prop := ∃ m' g', CPt (n + 1) m' X A an.2.2 g' ∧ CST m s.tp (pcG g) m' an.2.2.tp (pcG g') ∧ (an.1 = 0 → Q = some (.inl v, m')) ∧ (an.1 ≠ 0 → Q = some (.inr (ex an.1), m'))
/-- codes 1.. as exceptions: put, query, index, find, opening, closing, cut, end, count -/
def exA (c : Int) : Int := if c = 1 then 202 else if c = 2 then 203 else if c = 3 then 204 else 201
/-- get, out -/
def exB (c : Int) : Int := if c = 1 then 202 else if c = 2 then 203 else 205
/-- patch -/
def exC (c : Int) : Int := if c = 1 then 202 else if c = 2 then 203 else if c = 3 then 204 else if c = 4 then 205 else if c = 5 then 206 else 201
section
variable {d n : Nat} {m m1 : Mem} {X : Int} {A : Int → Int} {s : St} {g : GH} {v : Option PV} {ex : Int → Int}
theorem c22 {a b : Int} (hz : TZ m) : cl d 22 [pI a, pI b] m = some (.inl (some (pI (b2i (decide (0 ≤ a ∧ a < b))))), m) := by
  refine q22 hz _ ?_
  by_cases h0 : a < 0
  · rw [if_pos h0, decide_eq_false (by omega)]; rfl
  · rw [if_neg h0]
    by_cases h1 : a < b
    · rw [if_pos h1, decide_eq_true (by omega)]; rfl
    · rw [if_neg h1, decide_eq_false (by omega)]; rfl
theorem c23 {b : Bool} (hz : TZ m) : cl d 23 [pI (b2i b)] m = if b then some (.inl none, m) else some (.inr 202, mal m 202 6) := by
  cases b
  · exact q23 hz _ rfl
  · exact q23 hz _ rfl
theorem c26 {b : Bool} (hz : TZ m) : cl d 26 [pI (b2i b)] m = if b then some (.inl none, m) else some (.inr 203, mal m 203 6) := by
  cases b
  · exact q26 hz _ rfl
  · exact q26 hz _ rfl
theorem c19 {b : Bool} (hz : TZ m) : cl d 19 [pI (b2i b)] m = if b then some (.inl none, m) else some (.inr 201, mal m 201 6) := by
  cases b
  · exact q19 hz _ rfl
  · exact q19 hz _ rfl
theorem c32 {b : Bool} (hz : TZ m) : cl d 32 [pI (b2i b)] m = if b then some (.inl none, m) else some (.inr 205, mal m 205 6) := by
  cases b
  · exact q32 hz _ rfl
  · exact q32 hz _ rfl
/-- in bounds, or thrown -/
theorem nd_ok {a b : Int} {f : Mem → RM} {d1 : Nat} (hz : TZ m) (h : 0 ≤ a ∧ a < b) : (bI (cl d 22 [pI a, pI b] m) fun v1 m1 => bV (cl d1 23 [pI v1] m1) f) = f m := by
  rw [bI_eq (c22 hz), decide_eq_true h, bV_eq (by rw [c23 hz]; rfl)]
theorem nd_no {a b : Int} {f : Mem → RM} {d1 : Nat} (hz : TZ m) (h : ¬ (0 ≤ a ∧ a < b)) : (bI (cl d 22 [pI a, pI b] m) fun v1 m1 => bV (cl d1 23 [pI v1] m1) f) = some (.inr 202, mal m 202 6) := by
  rw [bI_eq (c22 hz), decide_eq_false h, bV_xq (by rw [c23 hz]; rfl)]
/-- costs of an exception, of nothing -/
theorem CST.same {tp tp' : List Int} {pc : Int} (h1 : nx m1 ≤ nx m + 1) (h2 : sl m1 ≤ sl m + 6) (hl : tp'.length ≤ tp.length) : CST m tp pc m1 tp' pc := by
  unfold CST PN PSl; omega
/-- thrown, with nothing changed but an exception -/
theorem CRi.thr {Q : RM} {t cd : Int} (h : CPt n m X A s g) (ht : 200 < t ∧ t < 207) (hQ : Q = some (.inr t, mal m t 6)) (hc : cd ≠ 0 ∧ ex cd = t) : CRi n m X A s g Q ex (cd, 0, s) v :=
  ⟨mal m t 6, g, (h.exc ht).suc, CST.same (by show nx m + 1 ≤ _; omega) (by show sl m + 6 ≤ _; omega) (Nat.le_refl _), fun q => absurd q hc.1, fun _ => by rw [hQ]; show _ = some (Sum.inr (ex cd), _); rw [hc.2]⟩
/-- thrown later -/
theorem CRi.thr' {Q : RM} {t cd : Int} {s' : St} (h : CPt n m1 X A s' g) (ht : 200 < t ∧ t < 207) (hQ : Q = some (.inr t, mal m1 t 6)) (hc : cd ≠ 0 ∧ ex cd = t) (hm : nx m1 = nx m ∧ sl m1 = sl m) (hl : s'.tp.length ≤ s.tp.length) : CRi n m X A s g Q ex (cd, 0, s') v :=
  ⟨mal m1 t 6, g, (h.exc ht).suc, CST.same (by show nx m1 + 1 ≤ _; omega) (by show sl m1 + 6 ≤ _; omega) hl, fun q => absurd q hc.1, fun _ => by rw [hQ]; show _ = some (Sum.inr (ex cd), _); rw [hc.2]⟩
/-- the tape is taken -/
theorem c25 (hd : 1 ≤ d) (h : CPt n m X A s g) : cl d 25 [pR X] m = if s.dk then some (.inr 203, mal (mst m X 1 0) 203 6) else some (.inl (some (pI s.tp.length)), mst m X 1 0) := by
  have hz := h.1.tz
  have hX := h.2.1
  have fl := h.2.2.2.1
  have t1 := h.2.2.1.1
  cases hdk : s.dk with
  | true =>
    have e := c26 (d := d - 1) (b := false) (m := mst m X 1 0) h.1.1.1
    rw [if_pos rfl]
    refine q25 (by omega) hz _ ?_
    rw [gd_of hX.1, nm_eq, t1, fl.1, hdk, if_neg (by decide)]
    exact bV_xq e
  | false =>
    have e := c26 (d := d - 1) (b := true) (m := mst m X 1 0) h.1.1.1
    rw [if_neg (by decide)]
    refine q25 (by omega) hz _ ?_
    rw [gd_of hX.1, nm_eq, t1, fl.1, hdk, if_pos (show b2i false = 0 from rfl)]
    exact bV_eq e
/-- a number's bytes onto the tape -/
theorem pUshr_w8 (a k : Int) : w8 (w8 (pUshr a k)) = w8 (pUshr a k) := w8_w8 _
theorem c20 {a : Int} (h : CPt n m X A s g) (hl : (s.tp.length : Int) + 4 ≤ 1280) : ∃ m', cl d 20 [pR X, pI a] m = some (.inl none, m') ∧ CPt n m' X A (s.wtp (s.tp ++ fourB a)) g ∧ nx m' = nx m ∧ sl m' = sl m := by
  have key : ∀ (N : Nat) (m : Mem) (s : St) (k : Int) (ys : List Int), CPt n m X A s g → (s.tp.length : Int) + N ≤ 1280 → ys.length = N → (∀ j : Nat, j < N → ys[j]? = some (w8 (pUshr a (k - 8 * j)))) → k = 8 * ((N : Int) - 1) → N ≤ 4 → ∃ m', rn d 20 3 [pR X, pI a, pI k] [] m = some (.inl none, m') ∧ CPt n m' X A (s.wtp (s.tp ++ ys)) g ∧ nx m' = nx m ∧ sl m' = sl m := by
    intro N
    induction N with
    | zero =>
      intro m s k ys h hl hy hv hk h4
      have : ys = [] := List.length_eq_zero_iff.mp hy
      subst this
      refine ⟨m, q20_3 h.1.tz _ ?_, by rw [List.append_nil]; exact h, rfl, rfl⟩
      rw [if_pos (by simp at hk; omega)]
    | succ N ih =>
      intro m s k ys h hl hy hv hk h4
      have hz := h.1.tz
      have hX := h.2.1
      obtain ⟨t1, t2, t3⟩ := h.2.2.1
      obtain ⟨y, zs, rfl⟩ : ∃ y zs, ys = y :: zs := by
        cases ys with
        | nil => cases hy
        | cons y zs => exact ⟨y, zs, rfl⟩
      have hy0 : y = w8 (pUshr a k) := by
        have := hv 0 (by omega)
        simpa using this
      push_cast at hl hk
      have ne : A 0 ≠ X := fun z => by have := hX.a0.1; rw [z, hX.1] at this; omega
      -- the tape longer by one
      have e1 : CPt n (mst (mst m X 1 ((s.tp.length : Int) + 1)) (A 0) s.tp.length y) X A (s.wtp (s.tp ++ [y])) g := by
        have fl := h.2.2.2.1
        have h1 : CPt n (mst m (A 0) s.tp.length y) X A s g := by
          obtain ⟨b, x, tt, ff, kk, r1, r2, rn, p, dk, tb⟩ := h
          have u : UT ((noS ++ [2, 52103]).filter (· != 17103)) m (mst m (A 0) s.tp.length y) := UT.mst (by rw [hX.a0.1]; decide)
          have bb : BSm (mst m (A 0) s.tp.length y) := b.mst (by have := hX.a0.1; omega)
          obtain ⟨p1, p2⟩ := p.ut u bb.2.1 (by decide) (by decide) fun ys q => ⟨ys, q.ut u hz (by decide) (by decide)⟩
          refine ⟨bb, x.ut u hz (by decide), ⟨by rw [vl_mst, if_neg (fun z => ne z.1.symm)]; exact tt.1, tt.2.1, fun j j0 j1 => ?_⟩, ff.ut x u hz (by decide), kk.ut x u hz (by decide) (by decide) (by decide), ⟨r1.1.ut u hz (by decide) (by decide) (by decide), r1.2⟩, ⟨r2.1.ut u hz (by decide) (by decide) (by decide), r2.2⟩, rn.ut u hz (by decide), p1, dk.ut x u hz (by decide) (by decide) (by decide) (by decide), tb.keep x u hz (by decide) (QKp.ut u hz (by decide)) p2⟩
          rw [vl_mst, if_neg (by omega)]; exact tt.2.2 j j0 j1
        have sw : mst (mst m X 1 ((s.tp.length : Int) + 1)) (A 0) s.tp.length y = mst (mst m (A 0) s.tp.length y) X 1 ((s.tp.length : Int) + 1) := by
          unfold mst
          congr 4
          funext b j
          show (if b = A 0 ∧ j = s.tp.length then y else if b = X ∧ j = 1 then _ else _) = (if b = X ∧ j = 1 then _ else if b = A 0 ∧ j = s.tp.length then y else _)
          by_cases z : b = A 0 ∧ j = s.tp.length
          · rw [if_pos z, if_neg (fun w => ne (z.1.symm.trans w.1)), if_pos z]
          · rw [if_neg z]
            by_cases w : b = X ∧ j = 1
            · rw [if_pos w, if_pos w]
            · rw [if_neg w, if_neg w, if_neg z]
        rw [sw]
        have ll : (((s.wtp (s.tp ++ [y])).tp.length : Nat) : Int) = s.tp.length + 1 := by show ((s.tp ++ [y]).length : Int) = _; simp
        refine h1.mX (s' := s.wtp (s.tp ++ [y])) (Or.inl rfl) ⟨by rw [vl_mst, if_pos ⟨rfl, rfl⟩, ll], by rw [ll]; omega, fun j j0 j1 => ?_⟩ ⟨by rw [vl_mst, if_neg (by omega), vl_mst, if_neg (fun z => ne z.1.symm)]; exact fl.1, by rw [vl_mst, if_neg (by omega), vl_mst, if_neg (fun z => ne z.1.symm)]; exact fl.2.1, by rw [vl_mst, if_neg (by omega), vl_mst, if_neg (fun z => ne z.1.symm)]; exact fl.2.2⟩ ⟨rfl, rfl, rfl, rfl⟩
        rw [ll] at j1
        show _ = gi (s.tp ++ [y]) j
        rw [vl_mst, if_neg (fun z => ne z.1), vl_mst]
        by_cases z : j = s.tp.length
        · rw [if_pos ⟨rfl, z⟩, z, gi_app_r (by omega), Int.sub_self, gi_zero]
        · rw [if_neg (fun w => z w.2), gi_app_l j0 (by omega)]; exact t3 j j0 (by omega)
      obtain ⟨m', f1, f2, f3, f4⟩ := ih _ (s.wtp (s.tp ++ [y])) (k - 8) zs e1 (by show ((s.tp ++ [y]).length : Int) + N ≤ 1280; simp; omega) (by simpa using hy) (fun j hj => by
        have := hv (j + 1) (by omega)
        rw [List.getElem?_cons_succ] at this
        rw [this]; congr 2; push_cast; congr 1; omega) (by omega) (by omega)
      refine ⟨m', q20_3 hz _ ?_, by
        have : (s.wtp (s.tp ++ [y])).wtp ((s.wtp (s.tp ++ [y])).tp ++ zs) = s.wtp (s.tp ++ y :: zs) := by show _ = (s.tp ++ y :: zs, _); rw [show s.tp ++ y :: zs = (s.tp ++ [y]) ++ zs by simp]; rfl
        rw [← this]; exact f2, f3, f4⟩
      rw [if_neg (by omega), gd_of hX.1, nm_eq, nm_eq, hX.f (Or.inl rfl), t1, gd_of hX.a0.1, gd_of ⟨by omega, by rw [hX.a0.2]; omega⟩, (w32_of (by omega) (by omega) : w32 (k + -8) = k + -8), (w32_of (by omega) (by omega) : w32 ((s.tp.length : Int) + 1) = (s.tp.length : Int) + 1), w8_w8, ← hy0, show k + -8 = k - 8 by omega]
      exact f1
  obtain ⟨m', e1, e2, e3, e4⟩ := key 4 m s 24 (fourB a) h (by exact hl) rfl (fun j hj => by
    have : j = 0 ∨ j = 1 ∨ j = 2 ∨ j = 3 := by omega
    rcases this with rfl | rfl | rfl | rfl <;> rfl) (by decide) (by decide)
  exact ⟨m', q20 h.1.tz _ e1, e2, e3, e4⟩
/-- bytes are put on the tape -/
theorem c18 {a1 a2 a3 a4 a5 : Int} (hd : 2 ≤ d) (h : CPt n m X A s g) (hl : (s.tp.length : Int) + 20 ≤ 1280) : CRi n m X A s g (cl d 18 [pR X, pI a1, pI a2, pI a3, pI a4, pI a5] m) exA (oFeed s a1 a2 a3 a4 a5) (some (pI (oFeed s a1 a2 a3 a4 a5).2.1)) := by
  have hz := h.1.tz
  have hX := h.2.1
  have t1 := h.2.2.1.1
  have e19 := c19 (d := d - 1) (b := true) hz
  have l4 : ∀ a, (fourB a).length = 4 := fun _ => rfl
  obtain ⟨m1, f1, g1, n1, k1⟩ := c20 (d := d - 1) (a := a1) h (by omega)
  obtain ⟨m2, f2, g2, n2, k2⟩ := c20 (d := d - 1) (a := a2) g1 (by show ((s.tp ++ fourB a1).length : Int) + 4 ≤ _; rw [List.length_append, l4]; push_cast; omega)
  obtain ⟨m3, f3, g3, n3, k3⟩ := c20 (d := d - 1) (a := a3) g2 (by show (((s.tp ++ fourB a1) ++ fourB a2).length : Int) + 4 ≤ _; simp only [List.length_append, l4]; push_cast; omega)
  obtain ⟨m4, f4, g4, n4, k4⟩ := c20 (d := d - 1) (a := a4) g3 (by show ((((s.tp ++ fourB a1) ++ fourB a2) ++ fourB a3).length : Int) + 4 ≤ _; simp only [List.length_append, l4]; push_cast; omega)
  obtain ⟨m5, f5, g5, n5, k5⟩ := c20 (d := d - 1) (a := a5) g4 (by show (((((s.tp ++ fourB a1) ++ fourB a2) ++ fourB a3) ++ fourB a4).length : Int) + 4 ≤ _; simp only [List.length_append, l4]; push_cast; omega)
  have es : ((((s.wtp (s.tp ++ fourB a1)).wtp ((s.tp ++ fourB a1) ++ fourB a2)).wtp (((s.tp ++ fourB a1) ++ fourB a2) ++ fourB a3)).wtp ((((s.tp ++ fourB a1) ++ fourB a2) ++ fourB a3) ++ fourB a4)).wtp (((((s.tp ++ fourB a1) ++ fourB a2) ++ fourB a3) ++ fourB a4) ++ fourB a5) = s.wtp (s.tp ++ (fourB a1 ++ (fourB a2 ++ (fourB a3 ++ (fourB a4 ++ fourB a5))))) := by
    show ((((((s.tp ++ fourB a1) ++ fourB a2) ++ fourB a3) ++ fourB a4) ++ fourB a5), s.res, s.pl, s.dk, s.ct, s.now, s.rd, s.ix) = _
    simp only [List.append_assoc]; rfl
  have g5' : CPt n m5 X A (oFeed s a1 a2 a3 a4 a5).2.2 g := by
    have : CPt n m5 X A (s.wtp (s.tp ++ (fourB a1 ++ (fourB a2 ++ (fourB a3 ++ (fourB a4 ++ fourB a5)))))) g := by
      rw [← es]; exact g5
    exact this
  have hlen : (oFeed s a1 a2 a3 a4 a5).2.2.tp.length = s.tp.length + 20 := by show (s.tp ++ _).length = _; simp only [List.length_append, l4]
  refine ⟨m5, g, g5'.suc, ?_, fun _ => ?_, fun q => absurd rfl q⟩
  · unfold CST PN PSl; rw [hlen]; push_cast; omega
  · refine q18 hz _ ?_
    rw [gd_of hX.1, t1, (w32_of (by omega) (by omega) : w32 ((s.tp.length : Int) + 20) = (s.tp.length : Int) + 20), if_neg (by omega)]
    refine q18_18 (by omega) hz _ ?_
    have hv := g5'.2.2.1.1
    rw [hlen] at hv
    rw [bV_eq (show cl (d - 1) 19 [pI 1] m = some (.inl none, m) from e19), gd_of hX.1, bV_eq f1, bV_eq f2, bV_eq f3, bV_eq f4, bV_eq f5, hv]
    rfl
/-- the tape is cut -/
theorem c21 {a : Int} (hd : 1 ≤ d) (h : CPt n m X A s g) : CRi n m X A s g (cl d 21 [pR X, pI a] m) exA (oEnd s a) (some (pI (oEnd s a).2.1)) := by
  have hz := h.1.tz
  have hX := h.2.1
  have t1 := h.2.2.1.1
  have t2 := h.2.2.1.2.1
  have st : ∀ Z, (bI (cl (d - 1) 22 [pI a, pI ((s.tp.length : Int) + 1)] m) fun v1 m1 => bV (cl (d - 1) 23 [pI v1] m1) fun m2 => some (.inl (some (pI a)), (mst m2 X 1 a))) = some Z → cl d 21 [pR X, pI a] m = some Z := fun Z hZ => by
    refine q21 (by omega) hz _ ?_
    rw [gd_of hX.1, t1, (w32_of (by omega) (by omega) : w32 ((s.tp.length : Int) + 1) = (s.tp.length : Int) + 1)]
    exact hZ
  unfold oEnd
  by_cases q : 0 ≤ a ∧ a ≤ s.tp.length
  · rw [if_pos q]
    obtain ⟨k, rfl⟩ := Int.eq_ofNat_of_zero_le q.1
    have hk : k ≤ s.tp.length := by omega
    refine ⟨mst m X 1 (k : Int), g, (h.tape k hk).suc, CST.same (by show nx m ≤ _; omega) (by show sl m ≤ _; omega) ?_, fun _ => st _ ?_, fun z => absurd rfl z⟩
    · show (s.tp.take ((k : Int)).toNat).length ≤ _
      rw [List.length_take]; omega
    · rw [nd_ok hz (by omega)]
  · rw [if_neg q]
    exact CRi.thr h (t := 202) (by decide) (st _ (by rw [nd_no hz (by omega)])) (by decide)
/-- the next change is cut -/
theorem c47 {a : Int} (hd : 1 ≤ d) (h : CPt n m X A s g) : CRi n m X A s g (cl d 47 [pR X, pI a] m) exA (oCut s a) none := by
  have hz := h.1.tz
  have hX := h.2.1
  have fl := h.2.2.2.1
  unfold oCut
  by_cases q : 0 ≤ a ∧ a < 4
  · rw [if_neg (fun z => z q)]
    have st : ∀ Z, (if (vl m X 17) = 0 then (bV (cl (d - 1) 26 [pI 1] m) fun m4 => some (.inl none, (mst m4 X 18 a))) else bV (cl (d - 1) 26 [pI 0] m) fun m3 => some (.inl none, (mst m3 X 18 a))) = some Z → cl d 47 [pR X, pI a] m = some Z := fun Z hZ => by
      refine q47 (by omega) hz _ ?_
      rw [nd_ok hz q, gd_of hX.1]
      exact hZ
    cases hdk : s.dk with
    | true =>
      rw [if_pos rfl]
      refine CRi.thr h (t := 203) (by decide) (st _ ?_) (by decide)
      rw [fl.1, hdk, if_neg (by decide), bV_xq (by rw [show (0 : Int) = b2i false from rfl, c26 hz]; rfl)]
    | false =>
      rw [if_neg (by decide)]
      refine ⟨mst m X 18 a, g, h.cut.suc, CST.same (by show nx m ≤ _; omega) (by show sl m ≤ _; omega) (Nat.le_refl _), fun _ => st _ ?_, fun z => absurd rfl z⟩
      rw [fl.1, hdk, if_pos (show b2i false = 0 from rfl), bV_eq (by rw [show (1 : Int) = b2i true from rfl, c26 hz]; rfl)]
  · rw [if_pos q]
    exact CRi.thr h (t := 202) (by decide) (q47 (by omega) hz _ (by rw [nd_no hz q])) (by decide)
/-- eight bytes of the answer -/
theorem c48_19 (h : CPt n m X A s g) {a1 : Int} {z : PV} (ha : 0 ≤ a1 ∧ a1 ≤ 40000) : ∀ (N : Nat) (v i : Int), (a1 + 8 - i).toNat = N → a1 ≤ i → i ≤ a1 + 8 → rn d 48 19 [pR X, pI a1, pL v, pU, pI i] [] m = some (.inl (some (pL (wdA s.res i N v))), m) := by
  have hz := h.1.tz
  have hX := h.2.1
  have k := h.2.2.2.2.1.1
  obtain ⟨k1, k2, k3, k4, k5, k6, k7⟩ := k
  intro N
  induction N with
  | zero =>
    intro v i hN h0 h1
    refine q48_19 hz _ ?_
    rw [(w32_of (by omega) (by omega) : w32 (a1 + 8) = a1 + 8), if_neg (by omega)]; rfl
  | succ N ih =>
    intro v i hN h0 h1
    refine q48_19 hz _ ?_
    have nx' := ih (qOr (qShl v 8) (if i < s.res.length then gi s.res i % 256 else 0)) (i + 1) (by omega) (by omega) (by omega)
    rw [(w32_of (by omega) (by omega) : w32 (a1 + 8) = a1 + 8), if_pos (by omega), nm_eq, gd_of hX.1, nm_eq, gd_of k1, k4, (w32_of (by omega) (by omega) : w32 (i + 1) = i + 1)]
    show _ = some (Sum.inl (some (pL (wdA s.res (i + 1) N (qOr (qShl v 8) (if i < s.res.length then gi s.res i % 256 else 0))))), m)
    by_cases q : i < (s.res.length : Int)
    · rw [if_pos q] at nx' ⊢
      rw [nm_eq, gd_of k2, gd_of ⟨by omega, by omega⟩, k7 i (by omega) q, qAnd_255, if_pos q]
      exact nx'
    · rw [if_neg q] at nx' ⊢
      rw [if_neg q]
      exact nx'
theorem c48 {a : Int} (hd : 1 ≤ d) (h : CPt n m X A s g) : CRi n m X A s g (cl d 48 [pR X, pI a] m) (fun _ => 201) (oWord s a) (some (pL (oWord s a).2.1)) := by
  have hz := h.1.tz
  have hX := h.2.1
  have k := h.2.2.2.2.1.1
  have k1 := k.1
  have k4 := k.2.2.2.1
  have k5 := k.2.2.2.2.1
  unfold oWord
  by_cases q : 0 ≤ a ∧ a < s.res.length
  · rw [if_pos q]
    refine ⟨m, g, h.suc, CST.same (by omega) (by omega) (Nat.le_refl _), fun _ => q48 (by omega) hz _ ?_, fun z => absurd rfl z⟩
    rw [gd_of hX.1, nm_eq, gd_of k1, k4, bI_eq (c22 hz), decide_eq_true q, bV_eq (by rw [c19 hz]; rfl)]
    exact c48_19 (d := d) (z := pU) h (by omega) 8 0 a (by omega) (by omega) (by omega)
  · rw [if_neg q]
    refine CRi.thr h (t := 201) (by decide) (q48 (by omega) hz _ ?_) (by decide)
    rw [gd_of hX.1, nm_eq, gd_of k1, k4, bI_eq (c22 hz), decide_eq_false q, bV_xq (by rw [c19 hz]; rfl)]
end
