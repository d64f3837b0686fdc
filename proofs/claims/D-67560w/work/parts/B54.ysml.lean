/-! the twin: small methods -/
set_option maxRecDepth 100000
set_option maxHeartbeats 4000000
/-- room that is known -/
def pcT (c : Int → Int) (K : Int) : Int := c 18 + c 19 + c 25 + c 30 + c 37 + 11 * K
def CTT (m : Mem) (p : Int) (m' : Mem) (p' : Int) : Prop := p ≤ p' ∧ nx m' - nx m ≤ (p' - p) / 16 + 1 ∧ sl m' - sl m ≤ 2 * (p' - p) + 1400
theorem CTT.same {m m' : Mem} {p : Int} (h : nx m' = nx m ∧ sl m' = sl m) : CTT m p m' p := by unfold CTT; omega
/-- a call of the twin answers: f tells how -/
def TWi (m : Mem) (M : Int) (B : Int → Int) (c : Int → Int) (K : Int) (Q : RM) (an : Ans) (f : Int → Option PV) : Prop := ∃ m' c' K' v, Q = some (.inl (f v), m') ∧ vl m' M 4 = an.1 ∧ (an.1 = 0 → v = an.2.1) ∧ TWt m' M B an.2.2 c' K' ∧ CTT m (pcT c K) m' (pcT c' K')
abbrev vI (v : Int) : Option PV := some (pI v)
abbrev vL (v : Int) : Option PV := some (pL v)
abbrev vN (_ : Int) : Option PV := none
theorem w8_i32 (v : Int32) : w8 v.toInt = w8 (v.toBitVec.toNat : Int) := by
  have : v.toInt = v.toBitVec.toInt := rfl
  rw [this, BitVec.toInt_eq_toNat_cond]
  split
  · rfl
  · unfold w8
    have : ((2 ^ 32 : Nat) : Int) = 4294967296 := by decide
    rw [this]
    omega
theorem w8_us (x : Int) (k : Nat) (hk : k < 32) : w8 (pUshr x (k : Int)) = w8 (((x % 4294967296).toNat / 2 ^ k : Nat) : Int) := by
  unfold pUshr
  rw [w8_i32, pUshr_nat k hk]
theorem w8_shr {x : Int} (hx : pin x (-2147483648) 2147483648) : w8 (pShr x 24) = w8 (pUshr x 24) ∧ w8 (pShr x 16) = w8 (pUshr x 16) ∧ w8 (pShr x 8) = w8 (pUshr x 8) ∧ w8 (pShr x 0) = w8 (pUshr x 0) := by
  have h24 := w8_us x 24 (by decide)
  have h16 := w8_us x 16 (by decide)
  have h8 := w8_us x 8 (by decide)
  have h0 := w8_us x 0 (by decide)
  have g24 := pShr_div (x := x) 24 (by decide) hx
  have g16 := pShr_div (x := x) 16 (by decide) hx
  have g8 := pShr_div (x := x) 8 (by decide) hx
  have g0 := pShr_div (x := x) 0 (by decide) hx
  have e24 : ((2 ^ 24 : Nat) : Int) = 16777216 := by decide
  have e16 : ((2 ^ 16 : Nat) : Int) = 65536 := by decide
  have e8 : ((2 ^ 8 : Nat) : Int) = 256 := by decide
  have e0 : ((2 ^ 0 : Nat) : Int) = 1 := by decide
  rw [e24] at g24
  rw [e16] at g16
  rw [e8] at g8
  rw [e0] at g0
  have nn : ((x % 4294967296).toNat : Int) = x % 4294967296 := Int.toNat_of_nonneg (by omega)
  rw [Int.natCast_ediv, nn, e24] at h24
  rw [Int.natCast_ediv, nn, e16] at h16
  rw [Int.natCast_ediv, nn, e8] at h8
  rw [Int.natCast_ediv, nn, e0] at h0
  unfold pin at hx
  refine ⟨?_, ?_, ?_, ?_⟩
  · show w8 (pShr x ((24 : Nat) : Int)) = w8 (pUshr x ((24 : Nat) : Int))
    rw [g24, h24]; unfold w8; omega
  · show w8 (pShr x ((16 : Nat) : Int)) = w8 (pUshr x ((16 : Nat) : Int))
    rw [g16, h16]; unfold w8; omega
  · show w8 (pShr x ((8 : Nat) : Int)) = w8 (pUshr x ((8 : Nat) : Int))
    rw [g8, h8]; unfold w8; omega
  · show w8 (pShr x ((0 : Nat) : Int)) = w8 (pUshr x ((0 : Nat) : Int))
    rw [g0, h0]; unfold w8; omega
section
variable {d : Nat} {m m1 : Mem} {M : Int} {B : Int → Int} {s : St} {c : Int → Int} {K : Int} {f : Int → Option PV}
/-- an answer that changes nothing but the code -/
theorem TWi.no {Q : RM} {cd v : Int} {s' : St} (h : TWt m1 M B s' c K) (hQ : Q = some (.inl (f v), mst m1 M 4 cd)) (hc : cd ≠ 0) (hm : nx m1 = nx m ∧ sl m1 = sl m) : TWi m M B c K Q (cd, 0, s') f := ⟨_, c, K, v, hQ, by rw [vl_mst, if_pos ⟨rfl, rfl⟩], fun z => absurd z hc, h.cd, CTT.same hm⟩
theorem TWi.ok {Q : RM} {v : Int} {s' : St} (h : TWt m1 M B s' c K) (hQ : Q = some (.inl (f v), m1)) (h4 : vl m1 M 4 = 0) (hm : nx m1 = nx m ∧ sl m1 = sl m) : TWi m M B c K Q (0, v, s') f := ⟨_, c, K, v, hQ, h4, fun _ => rfl, h, CTT.same hm⟩
theorem c188_1 {x : Int} (hz : TZ m) (h : tg m M = 11) : cl d 188 [pR M, pI 1, pI x] m = some (.inl (some (pI 1)), mst m M 4 0) := by
  refine q188 hz _ ?_
  rw [if_neg (by decide), gd_of h, gd_of (Or.inr rfl)]
theorem c188_0 {x : Int} (hz : TZ m) (h : tg m M = 11) : cl d 188 [pR M, pI 0, pI x] m = some (.inl (some (pI 0)), mst m M 4 x) := by
  refine q188 hz _ ?_
  rw [if_pos rfl, gd_of h, gd_of (Or.inl rfl)]
theorem c194 {id : Int} (hz : TZ m) : cl d 194 [pI id] m = some (.inl (some (pI (if 0 ≤ id ∧ id < 10000 then 1 else 0))), m) := by
  refine q194 hz _ ?_
  by_cases h0 : id < 0
  · rw [if_pos h0, if_neg (show ¬ (0 ≤ id ∧ id < 10000) by omega)]
  · rw [if_neg h0]
    by_cases h1 : 9999 < id
    · rw [if_pos h1, if_neg (show ¬ (0 ≤ id ∧ id < 10000) by omega)]
    · rw [if_neg h1, if_pos (show 0 ≤ id ∧ id < 10000 by omega)]
theorem c195 (h : TWt m M B s c K) : cl d 195 [pR M] m = some (.inl (some (pI s.tp.length)), mst m M 1 0) := by
  refine q195 h.tz _ ?_
  rw [gd_of h.y.tm, h.tp.1]
theorem c186 (h : TWt m M B s c K) : cl d 186 [pR M] m = some (.inl (some (pI (vl m M 4))), m) := by
  refine q186 h.tz _ ?_
  rw [gd_of h.y.tm]
/-- the tape longer by one -/
theorem TWt.byte {y : Int} (h : TWt m M B s c K) (hl : (s.tp.length : Int) + 1 ≤ 1280) : TWt (mst (mst m (B 0) s.tp.length y) M 1 ((s.tp.length : Int) + 1)) M B (s.wtp (s.tp ++ [y])) c K := by
  have t0 := h.y
  obtain ⟨t1, t2, t3⟩ := h.tp
  have nb := t0.ba
  have rs := h.rs
  have h1 : TWt (mst m (B 0) s.tp.length y) M B s c K := h.arr (S := (· = B 0)) (NC.set rfl) (fun a z => by rw [z]; exact Or.inl t0.b0.1) ⟨by rw [vl_mst, if_neg (fun z => nb.2.1 z.1.symm)]; exact t1, t2, fun j j0 j1 => by rw [vl_mst, if_neg (by omega)]; exact t3 j j0 j1⟩ ⟨by rw [vl_mst, if_neg (fun z => nb.2.1 z.1.symm)]; exact rs.1, rs.2.1, rs.2.2.1, fun j j0 j1 => by rw [vl_mst, if_neg (fun z => nb.1.1 z.1.symm)]; exact rs.2.2.2 j j0 j1⟩ ⟨⟨rfl, rfl, rfl⟩, rfl, rfl, rfl⟩
  have fl := h1.fl
  have ll : (((s.wtp (s.tp ++ [y])).tp.length : Nat) : Int) = s.tp.length + 1 := by show ((s.tp ++ [y]).length : Int) = _; simp
  refine h1.mX (s' := s.wtp (s.tp ++ [y])) (Or.inl rfl) ⟨by rw [vl_mst, if_pos ⟨rfl, rfl⟩, ll], by rw [ll]; omega, fun j j0 j1 => ?_⟩ ⟨by rw [vl_mst, if_neg (by omega)]; exact fl.1, by rw [vl_mst, if_neg (by omega)]; exact fl.2.1, by rw [vl_mst, if_neg (by omega)]; exact fl.2.2⟩ ⟨rfl, rfl, rfl, rfl⟩
  rw [ll] at j1
  show _ = gi (s.tp ++ [y]) j
  rw [vl_mst, if_neg (fun z => nb.2.1 z.1), vl_mst]
  by_cases z : j = s.tp.length
  · rw [if_pos ⟨rfl, z⟩, z, gi_app_r (by omega), Int.sub_self, gi_zero]
  · rw [if_neg (fun w => z w.2), gi_app_l j0 (by omega)]; exact t3 j j0 (by omega)
/-- one byte of a number, then the rest -/
theorem c189_s {a k k' y : Int} (h : TWt m M B s c K) (hl : (s.tp.length : Int) + 1 ≤ 1280) (hk : 0 ≤ k ∧ k ≤ 24) (hk' : k' = k - 8) (hy : w8 (pShr a k) = y) {Z : Rs × Mem} (hn : rn d 189 3 [pR M, pI a, pI k'] [] (mst (mst m (B 0) s.tp.length y) M 1 ((s.tp.length : Int) + 1)) = some Z) : rn d 189 3 [pR M, pI a, pI k] [] m = some Z := by
  have y0 := h.y
  have t := h.tp
  refine q189_3 h.tz _ ?_
  rw [if_neg (by omega), gd_of y0.tm, nm_eq, nm_eq, y0.f (Or.inl rfl), t.1, gd_of y0.b0.1, gd_of ⟨by omega, by rw [y0.b0.2]; omega⟩, (w32_of (by omega) (by omega) : w32 (k + -8) = k + -8), (w32_of (by omega) (by omega) : w32 ((s.tp.length : Int) + 1) = (s.tp.length : Int) + 1), w8_w8, hy, show k + -8 = k' by omega]
  exact hn
theorem c189 {a : Int} (hp : pin a (-2147483648) 2147483648) (h : TWt m M B s c K) (hl : (s.tp.length : Int) + 4 ≤ 1280) : ∃ m', cl d 189 [pR M, pI a] m = some (.inl none, m') ∧ TWt m' M B (s.wtp (s.tp ++ fourB a)) c K ∧ nx m' = nx m ∧ sl m' = sl m := by
  obtain ⟨e1, e2, e3, e4⟩ := w8_shr hp
  have l1 : ∀ (s : St) (y : Int), ((s.wtp (s.tp ++ [y])).tp.length : Int) = s.tp.length + 1 := fun s y => by show ((s.tp ++ [y]).length : Int) = _; simp
  have h1 := h.byte (y := w8 (pUshr a 24)) (by omega)
  have h2 := h1.byte (y := w8 (pUshr a 16)) (by rw [l1]; omega)
  have h3 := h2.byte (y := w8 (pUshr a 8)) (by rw [l1, l1]; omega)
  have h4 := h3.byte (y := w8 (pUshr a 0)) (by rw [l1, l1, l1]; omega)
  refine ⟨_, q189 h.tz _ (c189_s (k' := 16) h (by omega) (by decide) (by decide) e1 (c189_s (k' := 8) h1 (by rw [l1]; omega) (by decide) (by decide) e2 (c189_s (k' := 0) h2 (by rw [l1, l1]; omega) (by decide) (by decide) e3 (c189_s (k' := -8) h3 (by rw [l1, l1, l1]; omega) (by decide) (by decide) e4 (q189_3 h4.tz _ (if_pos (by decide))))))), ?_, rfl, rfl⟩
  have : ((((s.wtp (s.tp ++ [w8 (pUshr a 24)])).wtp ((s.tp ++ [w8 (pUshr a 24)]) ++ [w8 (pUshr a 16)])).wtp (((s.tp ++ [w8 (pUshr a 24)]) ++ [w8 (pUshr a 16)]) ++ [w8 (pUshr a 8)])).wtp ((((s.tp ++ [w8 (pUshr a 24)]) ++ [w8 (pUshr a 16)]) ++ [w8 (pUshr a 8)]) ++ [w8 (pUshr a 0)])) = s.wtp (s.tp ++ fourB a) := by
    show (((((s.tp ++ [w8 (pUshr a 24)]) ++ [w8 (pUshr a 16)]) ++ [w8 (pUshr a 8)]) ++ [w8 (pUshr a 0)]), s.res, s.pl, s.dk, s.ct, s.now, s.rd, s.ix) = _
    simp only [List.append_assoc]; rfl
  rw [← this]
  exact h4
/-- bytes are put on the tape -/
theorem c187 {a1 a2 a3 a4 a5 : Int} (hd : 2 ≤ d) (hp : pin a1 (-2147483648) 2147483648 ∧ pin a2 (-2147483648) 2147483648 ∧ pin a3 (-2147483648) 2147483648 ∧ pin a4 (-2147483648) 2147483648 ∧ pin a5 (-2147483648) 2147483648) (h : TWt m M B s c K) (hl : (s.tp.length : Int) + 20 ≤ 1280) : TWi m M B c K (cl d 187 [pR M, pI a1, pI a2, pI a3, pI a4, pI a5] m) (oFeed s a1 a2 a3 a4 a5) vI := by
  have hz := h.tz
  have y := h.y
  have t1 := h.tp.1
  have l4 : ∀ a, (fourB a).length = 4 := fun _ => rfl
  have h0 := h.cd (v := 0)
  have e188 := c188_1 (d := d - 1) (x := 1) hz y.tm
  obtain ⟨m1, f1, g1, n1, k1⟩ := c189 (d := d - 1) hp.1 h0 (by omega)
  obtain ⟨m2, f2, g2, n2, k2⟩ := c189 (d := d - 1) hp.2.1 g1 (by show ((s.tp ++ fourB a1).length : Int) + 4 ≤ _; rw [List.length_append, l4]; push_cast; omega)
  obtain ⟨m3, f3, g3, n3, k3⟩ := c189 (d := d - 1) hp.2.2.1 g2 (by show (((s.tp ++ fourB a1) ++ fourB a2).length : Int) + 4 ≤ _; simp only [List.length_append, l4]; push_cast; omega)
  obtain ⟨m4, f4, g4, n4, k4⟩ := c189 (d := d - 1) hp.2.2.2.1 g3 (by show ((((s.tp ++ fourB a1) ++ fourB a2) ++ fourB a3).length : Int) + 4 ≤ _; simp only [List.length_append, l4]; push_cast; omega)
  obtain ⟨m5, f5, g5, n5, k5⟩ := c189 (d := d - 1) hp.2.2.2.2 g4 (by show (((((s.tp ++ fourB a1) ++ fourB a2) ++ fourB a3) ++ fourB a4).length : Int) + 4 ≤ _; simp only [List.length_append, l4]; push_cast; omega)
  have es : ((((s.wtp (s.tp ++ fourB a1)).wtp ((s.tp ++ fourB a1) ++ fourB a2)).wtp (((s.tp ++ fourB a1) ++ fourB a2) ++ fourB a3)).wtp ((((s.tp ++ fourB a1) ++ fourB a2) ++ fourB a3) ++ fourB a4)).wtp (((((s.tp ++ fourB a1) ++ fourB a2) ++ fourB a3) ++ fourB a4) ++ fourB a5) = s.wtp (s.tp ++ (fourB a1 ++ (fourB a2 ++ (fourB a3 ++ (fourB a4 ++ fourB a5))))) := by
    show ((((((s.tp ++ fourB a1) ++ fourB a2) ++ fourB a3) ++ fourB a4) ++ fourB a5), s.res, s.pl, s.dk, s.ct, s.now, s.rd, s.ix) = _
    simp only [List.append_assoc]; rfl
  have g5' : TWt m5 M B (oFeed s a1 a2 a3 a4 a5).2.2 c K := by
    have : TWt m5 M B (s.wtp (s.tp ++ (fourB a1 ++ (fourB a2 ++ (fourB a3 ++ (fourB a4 ++ fourB a5)))))) c K := by
      rw [← es]; exact g5
    exact this
  have hlen : (oFeed s a1 a2 a3 a4 a5).2.2.tp.length = s.tp.length + 20 := by show (s.tp ++ _).length = _; simp only [List.length_append, l4]
  have v4 : vl m5 M 4 = 0 := by
    have w : ∀ {a : Int} {m m' : Mem}, tg m M = 11 → TZ m → cl (d - 1) 189 [pR M, pI a] m = some (.inl none, m') → vl m' M 4 = vl m M 4 := fun ht hz e => vl_of (cl_FRM e) hz ht (by decide) (by decide +kernel)
    rw [w g4.y.tm g4.tz f5, w g3.y.tm g3.tz f4, w g2.y.tm g2.tz f3, w g1.y.tm g1.tz f2, w h0.y.tm h0.tz f1, vl_mst, if_pos ⟨rfl, rfl⟩]
  refine ⟨m5, c, K, _, ?_, v4, fun _ => rfl, g5', CTT.same ⟨by rw [n5, n4, n3, n2, n1]; rfl, by rw [k5, k4, k3, k2, k1]; rfl⟩⟩
  refine q187 hz _ ?_
  rw [gd_of y.tm, t1, (w32_of (by omega) (by omega) : w32 ((s.tp.length : Int) + 20) = (s.tp.length : Int) + 20), if_neg (by omega)]
  refine q187_19 (by omega) hz _ ?_
  have hv := g5'.tp.1
  rw [hlen] at hv
  rw [gd_of y.tm, bI_eq e188, if_neg (by decide), gd_of (show tg (mst m M 4 0) M = 11 from y.tm), bV_eq f1, bV_eq f2, bV_eq f3, bV_eq f4, bV_eq f5, hv]
  rfl
/-- the tape is cut -/
theorem c190 {a : Int} (hd : 1 ≤ d) (h : TWt m M B s c K) : TWi m M B c K (cl d 190 [pR M, pI a] m) (oEnd s a) vI := by
  have hz := h.tz
  have y := h.y
  have t1 := h.tp.1
  have h0 := h.cd (v := 0)
  unfold oEnd
  by_cases q : 0 ≤ a ∧ a ≤ s.tp.length
  · rw [if_pos q]
    obtain ⟨k, rfl⟩ := Int.eq_ofNat_of_zero_le q.1
    have hk : k ≤ s.tp.length := by omega
    have e188 := c188_1 (d := d - 1) (x := 1) hz y.tm
    refine TWi.ok (h0.tape k hk) (q190 hz _ ?_) (by rw [vl_mst, if_neg (by omega), vl_mst, if_pos ⟨rfl, rfl⟩]) ⟨rfl, rfl⟩
    rw [if_neg (by omega), gd_of y.tm, t1, if_neg (by omega)]
    refine q190_18 (by omega) hz _ ?_
    rw [gd_of y.tm, bI_eq e188, if_neg (by decide), gd_of (show tg (mst m M 4 0) M = 11 from y.tm)]
  · rw [if_neg q]
    have e188 := c188_0 (d := d - 1) (x := 1) hz y.tm
    have st : rn d 190 18 [pR M, pI a] [pI 0, pR M] m = some (.inl (some (pI 0)), mst m M 4 1) := by
      refine q190_18 (by omega) hz _ ?_
      rw [gd_of y.tm, bI_eq e188, if_pos rfl]
    refine TWi.no (v := 0) h (q190 hz _ ?_) (by decide) ⟨rfl, rfl⟩
    by_cases q0 : a < 0
    · rw [if_pos q0, st]
    · rw [if_neg q0, gd_of y.tm, t1, if_pos (by omega), st]
/-- eight bytes of the answer -/
theorem c191_32 (h : TWt m M B s c K) {a1 : Int} (ha : 0 ≤ a1 ∧ a1 ≤ 40000) : ∀ (N : Nat) (v i : Int), (a1 + 8 - i).toNat = N → a1 ≤ i → i ≤ a1 + 8 → rn d 191 32 [pR M, pI a1, pL v, pU, pI i] [] m = some (.inl (some (pL (wdA s.res i N v))), m) := by
  have hz := h.tz
  have y := h.y
  obtain ⟨r1, r2, r3, r4⟩ := h.rs
  intro N
  induction N with
  | zero =>
    intro v i hN h0 h1
    refine q191_32 hz _ ?_
    rw [(w32_of (by omega) (by omega) : w32 (a1 + 8) = a1 + 8), if_neg (by omega)]; rfl
  | succ N ih =>
    intro v i hN h0 h1
    refine q191_32 hz _ ?_
    have nx' := ih (qOr (qShl v 8) (if i < s.res.length then gi s.res i % 256 else 0)) (i + 1) (by omega) (by omega) (by omega)
    rw [(w32_of (by omega) (by omega) : w32 (a1 + 8) = a1 + 8), if_pos (by omega), nm_eq, gd_of y.tm, r1, (w32_of (by omega) (by omega) : w32 (i + 1) = i + 1)]
    show _ = some (Sum.inl (some (pL (wdA s.res (i + 1) N (qOr (qShl v 8) (if i < s.res.length then gi s.res i % 256 else 0))))), m)
    by_cases q : i < (s.res.length : Int)
    · rw [if_pos q] at nx' ⊢
      rw [nm_eq, y.f (by unfold qf; omega), gd_of y.b2.1, gd_of ⟨by omega, by rw [y.b2.2]; omega⟩, r4 i (by omega) q, qAnd_255, if_pos q]
      exact nx'
    · rw [if_neg q] at nx' ⊢
      rw [if_neg q]
      exact nx'
theorem c191 {a : Int} (hd : 1 ≤ d) (h : TWt m M B s c K) : TWi m M B c K (cl d 191 [pR M, pI a] m) (oWord s a) vL := by
  have hz := h.tz
  have y := h.y
  have r1 := h.rs.1
  have r2 := h.rs.2.1
  have h0 := h.cd (v := 0)
  unfold oWord
  by_cases q : 0 ≤ a ∧ a < s.res.length
  · rw [if_pos q]
    have e188 := c188_1 (d := d - 1) (x := 1) hz y.tm
    refine TWi.ok h0 (q191 hz _ ?_) (by rw [vl_mst, if_pos ⟨rfl, rfl⟩]) ⟨rfl, rfl⟩
    rw [if_neg (by omega), gd_of y.tm, r1, if_pos q.2]
    refine q191_18 (by omega) hz _ ?_
    rw [gd_of y.tm, bI_eq e188, if_neg (by decide)]
    exact c191_32 h0 (by omega) 8 0 a (by omega) (by omega) (by omega)
  · rw [if_neg q]
    have e188 := c188_0 (d := d - 1) (x := 1) hz y.tm
    have st : rn d 191 18 [pR M, pI a, pU, pU, pU] [pI 0, pR M] m = some (.inl (some (pL 0)), mst m M 4 1) := by
      refine q191_18 (by omega) hz _ ?_
      rw [gd_of y.tm, bI_eq e188, if_pos rfl]
    refine TWi.no (v := 0) h (q191 hz _ ?_) (by decide) ⟨rfl, rfl⟩
    by_cases q0 : a < 0
    · rw [if_pos q0, st]
    · rw [if_neg q0, gd_of y.tm, r1, if_neg (by omega), st]
/-- what is counted -/
theorem c192 {a : Int} (hd : 1 ≤ d) (h : TWt m M B s c K) : TWi m M B c K (cl d 192 [pR M, pI a] m) (oCount s a) vI := by
  have hz := h.tz
  have y := h.y
  have h0 := h.cd (v := 0)
  unfold oCount
  by_cases q : 0 ≤ a ∧ a < 4
  · rw [if_neg (fun z => z q)]
    have e188 := c188_1 (d := d - 1) (x := 1) hz y.tm
    refine TWi.ok h0 (q192 hz _ ?_) (by rw [vl_mst, if_pos ⟨rfl, rfl⟩]) ⟨rfl, rfl⟩
    rw [if_neg (by omega), if_neg (by omega)]
    refine q192_15 (by omega) hz _ ?_
    rw [gd_of y.tm, bI_eq e188, if_neg (by decide)]
    by_cases q0 : a = 0
    · rw [if_pos q0, if_pos q0, gd_of (show tg (mst m M 4 0) M = 11 from y.tm), h0.tp.1]
    · rw [if_neg q0, if_neg q0]
      by_cases q1 : a = 1
      · rw [if_pos q1, if_pos q1, gd_of (show tg (mst m M 4 0) M = 11 from y.tm), h0.rs.1]
      · rw [if_neg q1, if_neg q1]
        by_cases q2 : a = 2
        · rw [if_pos q2, if_pos q2, gd_of (show tg (mst m M 4 0) M = 11 from y.tm), h0.fl.2.2]
        · rw [if_neg q2, if_neg q2]
  · rw [if_pos q]
    have e188 := c188_0 (d := d - 1) (x := 1) hz y.tm
    have st : rn d 192 15 [pR M, pI a] [pI 0, pR M] m = some (.inl (some (pI 0)), mst m M 4 1) := by
      refine q192_15 (by omega) hz _ ?_
      rw [gd_of y.tm, bI_eq e188, if_pos rfl]
    refine TWi.no (v := 0) h (q192 hz _ ?_) (by decide) ⟨rfl, rfl⟩
    by_cases q0 : a < 0
    · rw [if_pos q0, st]
    · rw [if_neg q0, if_pos (by omega), st]
/-- the next change is cut -/
theorem c224 {a : Int} (hd : 1 ≤ d) (h : TWt m M B s c K) : TWi m M B c K (cl d 224 [pR M, pI a] m) (oCut s a) vN := by
  have hz := h.tz
  have y := h.y
  have h0 := h.cd (v := 0)
  have hm0 : tg (mst m M 4 0) M = 11 := y.tm
  have nx0 : ∀ v : Int, TWi m M B c K (rn d 224 15 [pR M, pI a] [pI 0, pR M] m) (1, 0, s) vN := fun v => by
    have e188 := c188_0 (d := d - 1) (x := 1) hz y.tm
    refine TWi.no (v := v) h (q224_15 (by omega) hz _ ?_) (by decide) ⟨rfl, rfl⟩
    rw [gd_of y.tm, bI_eq e188, if_pos rfl]
  have pre : ∀ {X Y : RM} {an : Ans}, TWi m M B c K X an vN → (∀ Z, X = some Z → Y = some Z) → TWi m M B c K Y an vN := fun hh hXY => by
    obtain ⟨m', c', K', v, e, r⟩ := hh
    exact ⟨m', c', K', v, hXY _ e, r⟩
  unfold oCut
  by_cases q : 0 ≤ a ∧ a < 4
  · rw [if_neg (fun z => z q)]
    have e188 := c188_1 (d := d - 1) (x := 1) hz y.tm
    have st : ∀ Z, (if (vl (mst m M 4 0) M 6) = 0 then (bI (cl (d - 1) 188 [pR M, pI 1, pI 2] (mst m M 4 0)) fun v3 m3 => if v3 = 0 then (some (.inl none, m3)) else some (.inl none, (mst m3 M 7 a))) else bI (cl (d - 1) 188 [pR M, pI 0, pI 2] (mst m M 4 0)) fun v2 m2 => if v2 = 0 then (some (.inl none, m2)) else some (.inl none, (mst m2 M 7 a))) = some Z → cl d 224 [pR M, pI a] m = some Z := fun Z hZ => by
      refine q224 hz _ ?_
      rw [if_neg (by omega), if_neg (by omega)]
      refine q224_15 (by omega) hz _ ?_
      rw [gd_of y.tm, bI_eq e188, if_neg (by decide), gd_of hm0]
      exact hZ
    cases hdk : s.dk with
    | true =>
      rw [if_pos rfl]
      refine TWi.no (v := 0) h0 (st _ ?_) (by decide) ⟨rfl, rfl⟩
      rw [h0.fl.1, hdk, if_neg (by decide), bI_eq (c188_0 h0.tz hm0), if_pos rfl]
    | false =>
      rw [if_neg (by decide)]
      refine TWi.ok (v := 0) ((h0.cd (v := 0)).cut (p := a)) (st _ ?_) (by rw [vl_mst, if_neg (by omega), vl_mst, if_pos ⟨rfl, rfl⟩]) ⟨rfl, rfl⟩
      rw [h0.fl.1, hdk, if_pos (show b2i false = 0 from rfl), bI_eq (c188_1 h0.tz hm0), if_neg (by decide)]
  · rw [if_pos q]
    refine pre (nx0 0) fun Z hZ => q224 hz _ ?_
    by_cases q0 : a < 0
    · rw [if_pos q0]; exact hZ
    · rw [if_neg q0, if_pos (by omega)]; exact hZ
/-- the power comes again -/
theorem c225 (h : TWt m M B s c K) : TWi m M B c K (cl d 225 [pR M] m) (oMount s) vI := by
  have hz := h.tz
  have y := h.y
  have sv := h.sv.1
  have h1 := ((h.cd (v := 0)).dark (b := false)).cut (p := -1)
  have ln' : (prtD s.now).length = s.now.length := by unfold prtD mpL; rw [List.length_map]
  refine TWi.ok h1 (q225 hz _ ?_) (by rw [vl_mst, if_neg (by omega), vl_mst, if_neg (by omega), vl_mst, if_pos ⟨rfl, rfl⟩]) ⟨rfl, rfl⟩
  rw [gd_of y.tm, nm_eq, y.f (by unfold qf; omega), gd_of sv.1.1, sv.2.1, ln']
  rfl
end
