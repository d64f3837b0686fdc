/-! the twin: versions, what is there, what goes -/
set_option maxRecDepth 100000
set_option maxHeartbeats 4000000
theorem vB_p {B : Int → Int} {k : Int} (h : 0 ≤ k) : vB B k = B (100 + k) := if_neg (by omega)
theorem vB_n {B : Int → Int} {k : Int} (h : k < 0) : vB B k = B 8 := if_pos h
theorem prtD_len (D : DC) : (prtD D).length = D.length := by unfold prtD mpL; rw [List.length_map]
section
variable {d : Nat} {m m1 : Mem} {M : Int} {B : Int → Int} {s : St} {c : Int → Int} {K : Int} {now : DC} {rd : Int → Option DC}
/-- one store has changed -/
theorem SVY.upd {j0 : Int} (h : SVY m B now rd) (y : YP m M B) (h0 : -1 ≤ j0) (h1 : j0 < 8) (k : NC (stS m (vB B j0)) m m1) (hf : ∀ f, f ≠ 3 → vl m1 (vB B j0) f = vl m (vB B j0) f) :
    (∀ i, -1 ≤ i → i < 8 → i ≠ j0 → ∀ L, SVs m (vB B i) L → SVs m1 (vB B i) L) ∧ (∀ i, -1 ≤ i → i < 8 → ∀ f, f ≠ 3 → vl m1 (vB B i) f = vl m (vB B i) f) ∧ (∀ i j, -1 ≤ i → i < 8 → -1 ≤ j → j < 8 → i ≠ j → DJ m1 (vB B i) (vB B j)) ∧ ∀ q, vl m1 (B 9) q = vl m (B 9) q := by
  obtain ⟨L0, hL0⟩ := h.sa h0 h1
  have A0 := hL0.1
  have out : ∀ i, -1 ≤ i → i < 8 → i ≠ j0 → (∀ a, stS m (vB B i) a → ¬ stS m (vB B j0) a) ∧ ¬ stS m (vB B j0) (vl m (vB B i) 2) := fun i i0 i1 hn => by
    obtain ⟨L, hL⟩ := h.sa i0 i1
    exact (h.2.2 j0 i h0 h1 i0 i1 (fun z => hn z.symm)).out A0 hL.1
  have fs : ∀ i, -1 ≤ i → i < 8 → ∀ f, f ≠ 3 → vl m1 (vB B i) f = vl m (vB B i) f := fun i i0 i1 f hn => by
    by_cases z : i = j0
    · rw [z]; exact hf f hn
    · exact k.2.2.2 _ f ((out i i0 i1 z).1 _ (Or.inl rfl))
  refine ⟨fun i i0 i1 hn L hL => hL.nc k (out i i0 i1 hn).1 (out i i0 i1 hn).2, fs, fun i j i0 i1 q0 q1 hn => ?_, fun q => k.2.2.2 _ q fun z => ?_⟩
  · have := h.2.2 i j i0 i1 q0 q1 hn
    unfold DJ at this ⊢
    rw [fs i i0 i1 0 (by decide), fs i i0 i1 1 (by decide), fs i i0 i1 2 (by decide), fs j q0 q1 0 (by decide), fs j q0 q1 1 (by decide), fs j q0 q1 2 (by decide)]
    exact this
  · have b9 := y.b9.1
    obtain ⟨a1, a2, a3, a4, a5, a6⟩ := A0
    rcases z with z | z | z | z
    · rw [z] at b9; omega
    · rw [z] at b9; omega
    · rw [z] at b9; omega
    · have := (a6 (B 9 - vl m (vB B j0) 2 - 1) (by omega) (by omega)).2.1
      rw [show vl m (vB B j0) 2 + 1 + (B 9 - vl m (vB B j0) 2 - 1) = B 9 by omega] at this
      omega
/-- the documents now are others -/
theorem SVY.nowc {D' : DC} (h : SVY m B now rd) (y : YP m M B) (k : NC (stS m (B 8)) m m1) (hf : ∀ f, f ≠ 3 → vl m1 (B 8) f = vl m (B 8) f) (hL : SVs m1 (B 8) (prtD D')) : SVY m1 B D' rd := by
  obtain ⟨u1, u2, u3, u4⟩ := h.upd (m1 := m1) (j0 := -1) y (by decide) (by decide) (by rw [vB_n (by decide)]; exact k) (by rw [vB_n (by decide)]; exact hf)
  refine ⟨hL, fun q q0 q1 => ?_, u3⟩
  obtain ⟨a1, a2, L, a3, a4⟩ := h.2.1 q q0 q1
  have e := vB_p (B := B) q0
  have v := u1 q (by omega) q1 (by omega) L (by rw [e]; exact a3)
  have w := u2 q (by omega) q1 4 (by decide)
  rw [e] at v w
  exact ⟨by rw [u4]; exact a1, by rw [w]; exact a2, L, v, a4⟩
/-- a reader is opened or closed -/
theorem SVY.opn {k v : Int} {rd' : Int → Option DC} (h : SVY m B now rd) (y : YP m M B) (hz : TZ m) (k0 : 0 ≤ k) (k1 : k < 8) (hv : v = b2i (rd' k).isSome) (hL : ∀ L, SVs m (B (100 + k)) L → (∀ D, rd k = some D → L = prtD D) → ∀ D, rd' k = some D → L = prtD D) (hr : ∀ j, 0 ≤ j → j < 8 → j ≠ k → rd' j = rd j) : SVY (mst m (B (100 + k)) 4 v) B now rd' := by
  obtain ⟨b1, b2, Lk, b3, b4⟩ := h.2.1 k k0 k1
  have t12 := b3.1.1
  have S0 : SFr (fun a j => a = B (100 + k) ∧ j = 4) m (mst m (B (100 + k)) 4 v) := SFr.mst
  have sv : ∀ t L, SVs m t L → SVs (mst m (B (100 + k)) 4 v) t L := fun t L ht => ht.sf S0 hz ⟨fun f f0 f1 z => by omega, fun a j ha z => by rw [z.1, t12] at ha; unfold stA at ha; omega⟩
  refine ⟨sv _ _ h.1, fun q q0 q1 => ?_, fun i j i0 i1 j0 j1 hn => ?_⟩
  · obtain ⟨a1, a2, L, a3, a4⟩ := h.2.1 q q0 q1
    have n9 : B 9 ≠ B (100 + k) := fun z => by have := y.b9.1; rw [z] at this; omega
    refine ⟨by rw [vl_mst, if_neg (fun z => n9 z.1)]; exact a1, ?_, L, sv _ _ a3, ?_⟩
    · by_cases z : q = k
      · subst z; rw [vl_mst, if_pos ⟨rfl, rfl⟩]; exact hv
      · have dj := h.2.2 q k (by omega) q1 (by omega) k1 z
        rw [vB_p q0, vB_p k0] at dj
        rw [vl_mst, if_neg (fun w => dj.1 w.1), hr q q0 q1 z]; exact a2
    · by_cases z : q = k
      · subst z; exact hL L a3 a4
      · rw [hr q q0 q1 z]; exact a4
  · have := h.2.2 i j i0 i1 j0 j1 hn
    unfold DJ at this ⊢
    rw [vl_mst, if_neg (by omega), vl_mst, if_neg (by omega), vl_mst, if_neg (by omega), vl_mst, if_neg (by omega), vl_mst, if_neg (by omega), vl_mst, if_neg (by omega)]
    exact this
/-- stores have changed, nothing else -/
theorem TWt.sto {S : Int → Int → Prop} {s' : St} (h : TWt m M B s c K) (k : SFr S m m1) (hn : nx m1 = nx m) (hl : ∀ a, ln m1 a = ln m a) (ht' : ∀ a, tg m1 a = tg m a) (hS : ∀ a f, S a f → tg m a = 12 ∨ stA (tg m a)) (hsv : SVY m1 B s'.now s'.rd) (hs : s'.tp = s.tp ∧ s'.res = s.res ∧ (s'.dk = s.dk ∧ s'.ct = s.ct ∧ s'.pl = s.pl) ∧ s'.ix = s.ix) : TWt m1 M B s' c K := by
  have hz := h.tz
  have y := h.y
  have hm := y.tm
  obtain ⟨e0, e1, ⟨e2, e3, e4⟩, e5⟩ := hs
  have no : ∀ a f, (tg m a ≠ 12 ∧ ¬ stA (tg m a)) → ¬ S a f := fun a f ha z => (hS a f z).elim ha.1 ha.2
  have nM : ∀ f, ¬ S M f := fun f => no M f (by unfold stA; omega)
  have e13 : ∀ a, tg m a = 13 → ∀ f, vl m1 a f = vl m a f := fun a ha f => k.v hz (by omega) (no a f (by unfold stA; omega))
  obtain ⟨q, hq⟩ := h.qa
  have b1 : BTm m1 := ⟨k.ok h.ok, ⟨fun t f ht hf => by rw [ht'] at ht; rw [e13 t ht, hn]; exact h.1.2.1.1 t f ht hf, fun t t' f f' h1 h2 hf hf' hne h0 => by
    rw [ht'] at h1 h2
    rw [e13 t h1] at h0
    rw [e13 t h1, e13 t' h2]
    exact h.1.2.1.2 t t' f f' h1 h2 hf hf' hne h0⟩, fun a => by rw [hl]; exact h.1.2.2.1 a, h.1.2.2.2.sf k hz (fun b f hb _ _ => no b f (by unfold stA; omega)) fun b f hb => no b f (by unfold stA; omega)⟩
  refine ⟨b1, y.sf k hz fun f _ => nM f, by rw [e0]; exact h.tp.sf y k hz (nM 1) fun j => no _ j (by have := y.b0.1; unfold stA; omega), by rw [e1]; exact h.rs.sf y k hz (nM 3) fun j => no _ j (by have := y.b2.1; unfold stA; omega), by rw [e2, e3, e4]; exact h.fl.sf y k hz ⟨nM 5, nM 6, nM 7⟩, h.tr.sf k hz ⟨fun a f ha _ _ => no a f (by unfold stA; omega), fun a j ha => no a j (by unfold trA at ha; unfold stA; omega)⟩, ⟨q, hq.sf k hz ⟨nM 27, nM 28, nM 29, nM 32⟩⟩, hsv, by rw [e5]; exact h.xy.sf y k hz ⟨fun j => no _ j (by have := y.b10.1; unfold stA; omega), fun a j ha => no a j (by unfold stA; omega)⟩⟩
theorem stS_tg {t : Int} (h : SA m t) : ∀ a, stS m t a → tg m a = 12 ∨ stA (tg m a) := by
  intro a z
  obtain ⟨a1, a2, a3, a4, a5, a6⟩ := h
  rcases z with z | z | z | z
  · rw [z]; exact Or.inl a1
  · rw [z]; unfold stA; omega
  · rw [z]; unfold stA; omega
  · have := (a6 (a - vl m t 2 - 1) (by omega) (by omega)).2.1
    rw [show vl m t 2 + 1 + (a - vl m t 2 - 1) = a by omega] at this
    unfold stA; omega
/-- the documents now are others -/
theorem TWt.nowc {D' : DC} {s' : St} (h : TWt m M B s c K) (k : NC (stS m (B 8)) m m1) (hf : ∀ f, f ≠ 3 → vl m1 (B 8) f = vl m (B 8) f) (hL : SVs m1 (B 8) (prtD D')) (hs : s' = (s.tp, s.res, s.pl, s.dk, s.ct, D', s.rd, s.ix)) : TWt m1 M B s' c K := by
  subst hs
  exact h.sto (SFr.nc k) k.1 (fun a => (k.2.2.1 a).2) (fun a => (k.2.2.1 a).1) (fun a f z => stS_tg h.sv.1.1 a z) (h.sv.nowc h.y k hf hL) ⟨rfl, rfl, ⟨rfl, rfl, rfl⟩, rfl⟩
theorem TWt.opn {k v : Int} {rd' : Int → Option DC} (h : TWt m M B s c K) (k0 : 0 ≤ k) (k1 : k < 8) (hv : v = b2i (rd' k).isSome) (hL : ∀ L, SVs m (B (100 + k)) L → (∀ D, s.rd k = some D → L = prtD D) → ∀ D, rd' k = some D → L = prtD D) (hr : ∀ j, 0 ≤ j → j < 8 → j ≠ k → rd' j = s.rd j) : TWt (mst m (B (100 + k)) 4 v) M B (s.wrd rd') c K :=
  h.sto SFr.mst rfl (fun _ => rfl) (fun _ => rfl) (fun a f z => by
    obtain ⟨-, -, L, b3, -⟩ := h.sv.2.1 k k0 k1
    rw [z.1]; exact Or.inl b3.1.1) (h.sv.opn h.y h.tz k0 k1 hv hL hr) ⟨rfl, rfl, ⟨rfl, rfl, rfl⟩, rfl⟩
/-- does a change come to be -/
theorem c215 (h : TWt m M B s c K) : cl d 215 [pR M] m = some (.inl (some (pI (if s.ct < 0 ∨ s.ct = 3 then 1 else 0))), m) := by
  refine q215 h.tz _ ?_
  rw [gd_of h.y.tm, nm_eq, h.fl.2.1]
  by_cases h0 : s.ct < 0
  · rw [if_pos h0, if_pos (Or.inl h0)]
  · rw [if_neg h0]
    by_cases h3 : s.ct = 3
    · rw [if_pos h3, if_pos (Or.inr h3)]
    · rw [if_neg h3, if_neg (by omega)]
/-- the power goes: all readers are closed -/
theorem c217_16 : ∀ (N : Nat) (m : Mem) (s : St) (k : Int), (8 - k).toNat = N → 0 ≤ k → k ≤ 8 → TWt m M B s c K → ∃ m', rn d 217 16 [pR M, pI k] [] m = some (.inl (some (pI 1)), m') ∧ TWt m' M B (s.wrd fun j => if k ≤ j ∧ j < 8 then none else s.rd j) c K ∧ nx m' = nx m ∧ sl m' = sl m := by
  intro N
  induction N with
  | zero =>
    intro m s k hN k0 k1 h
    refine ⟨m, q217_16 h.tz _ ?_, ?_, rfl, rfl⟩
    · rw [if_neg (by omega)]
    · have : (s.wrd fun j => if k ≤ j ∧ j < 8 then none else s.rd j) = s := by
        show (s.tp, s.res, s.pl, s.dk, s.ct, s.now, (fun j => if k ≤ j ∧ j < 8 then none else s.rd j), s.ix) = s
        rw [show (fun j => if k ≤ j ∧ j < 8 then none else s.rd j) = s.rd from funext fun j => if_neg (by omega)]
      rw [this]; exact h
  | succ N ih =>
    intro m s k hN k0 k1 h
    have y := h.y
    obtain ⟨b1, b2, L, b3, b4⟩ := h.sv.2.1 k k0 (by omega)
    have h1 := h.opn (k := k) (v := 0) (rd' := fun j => if j = k then none else s.rd j) k0 (by omega) (by (try dsimp only); rw [if_pos rfl]; rfl) (fun L _ _ D hD => by (try dsimp only at hD); rw [if_pos rfl] at hD; cases hD) (fun j _ _ hj => if_neg hj)
    obtain ⟨m', e1, e2, e3, e4⟩ := ih _ _ (k + 1) (by omega) (by omega) (by omega) h1
    refine ⟨m', q217_16 h.tz _ ?_, ?_, e3, e4⟩
    · rw [if_pos (by omega), gd_of y.tm, nm_eq, y.f (by unfold qf; omega), gd_of y.b9.1, gd_of ⟨k0, by rw [y.b9.2]; omega⟩, nm_eq, b1, gd_of b3.1.1, (w32_of (by omega) (by omega) : w32 (k + 1) = k + 1)]
      exact e1
    · have ef : (fun j => if k + 1 ≤ j ∧ j < 8 then (none : Option DC) else if j = k then none else s.rd j) = fun j => if k ≤ j ∧ j < 8 then none else s.rd j := funext fun j => by
        by_cases z : j = k
        · rw [if_neg (by omega), if_pos z, if_pos (by omega)]
        · by_cases w : k + 1 ≤ j ∧ j < 8
          · rw [if_pos w, if_pos (by omega)]
          · rw [if_neg w, if_neg z, if_neg (by omega)]
      have : (s.wrd fun j => if j = k then none else s.rd j).wrd (fun j => if k + 1 ≤ j ∧ j < 8 then none else (s.wrd fun j => if j = k then none else s.rd j).rd j) = s.wrd fun j => if k ≤ j ∧ j < 8 then none else s.rd j := by
        show (s.tp, s.res, s.pl, s.dk, s.ct, s.now, (fun j => if k + 1 ≤ j ∧ j < 8 then none else if j = k then none else s.rd j), s.ix) = (s.tp, s.res, s.pl, s.dk, s.ct, s.now, (fun j => if k ≤ j ∧ j < 8 then none else s.rd j), s.ix)
        rw [ef]
      rw [← this]; exact e2
/-- readers beyond the eighth don't matter -/
theorem TWt.rdx {rd' : Int → Option DC} (h : TWt m M B s c K) (hr : ∀ j, 0 ≤ j → j < 8 → rd' j = s.rd j) : TWt m M B (s.wrd rd') c K := by
  obtain ⟨b, y, t, r, f, tr, q, ⟨v1, v2, v3⟩, x⟩ := h
  exact ⟨b, y, t, r, f, tr, q, ⟨v1, fun k k0 k1 => by show _ ∧ _ = b2i (rd' k).isSome ∧ ∃ L, _ ∧ ∀ D, rd' k = some D → _; rw [hr k k0 k1]; exact v2 k k0 k1, v3⟩, x⟩
theorem c217_p (h : TWt m M B s c K) (hc : s.ct < 0) : cl d 217 [pR M] m = some (.inl (some (pI 0)), m) := by
  refine q217 h.tz _ ?_
  rw [gd_of h.y.tm, h.fl.2.1, if_pos hc]
theorem c217_g (h : TWt m M B s c K) (hc : ¬ s.ct < 0) : ∃ m', cl d 217 [pR M] m = some (.inl (some (pI 1)), m') ∧ TWt m' M B (s.tp, s.res, s.pl, true, s.ct, s.now, (fun _ => none), s.ix) c K ∧ nx m' = nx m ∧ sl m' = sl m := by
  have h1 := h.dark (b := true)
  obtain ⟨m', e1, e2, e3, e4⟩ := c217_16 (d := d) 8 _ _ 0 (by decide) (by decide) (by decide) h1
  refine ⟨m', q217 h.tz _ ?_, e2.rdx (rd' := fun _ => none) (fun j j0 j1 => (if_pos ⟨j0, j1⟩).symm), e3, e4⟩
  rw [gd_of h.y.tm, h.fl.2.1, if_neg hc]
  exact e1
/-- the power goes or not, the code is x if it goes -/
theorem chg {D : DC} (h : TWt m M B (s.tp, s.res, s.pl, s.dk, s.ct, (if s.ct < 0 ∨ s.ct = 3 then D else s.now), s.rd, s.ix) c K) : ∃ m', cl d 217 [pR M] m = some (.inl (some (pI (if s.ct < 0 then 0 else 1))), m') ∧ TWt (mst m' M 7 (-1)) M B (s.com D) c K ∧ nx m' = nx m ∧ sl m' = sl m := by
  by_cases hc : s.ct < 0
  · refine ⟨m, by rw [if_pos hc]; exact c217_p h hc, ?_, rfl, rfl⟩
    have h1 := h.cut (p := -1)
    have : s.com D = (s.tp, s.res, s.pl, s.dk, -1, (if s.ct < 0 ∨ s.ct = 3 then D else s.now), s.rd, s.ix) := by
      unfold St.com; rw [if_pos hc, if_pos hc]
    rw [this]; exact h1
  · obtain ⟨m', e1, e2, e3, e4⟩ := c217_g (d := d) h hc
    refine ⟨m', by rw [if_neg hc]; exact e1, ?_, e3, e4⟩
    have h1 := e2.cut (p := -1)
    have : s.com D = (s.tp, s.res, s.pl, true, -1, (if s.ct < 0 ∨ s.ct = 3 then D else s.now), (fun _ => none), s.ix) := by
      unfold St.com; rw [if_neg hc, if_neg hc]
    rw [this]; exact h1
/-- changed: the code is told -/
theorem c216 {D : DC} (hd : 1 ≤ d) (h : TWt m M B (s.tp, s.res, s.pl, s.dk, s.ct, (if s.ct < 0 ∨ s.ct = 3 then D else s.now), s.rd, s.ix) c K) : ∃ m', cl d 216 [pR M] m = some (.inl (some (pI (if s.ct < 0 then 1 else 0))), m') ∧ TWt m' M B (s.com D) c K ∧ vl m' M 4 = (if s.ct < 0 then 0 else 2) ∧ nx m' = nx m ∧ sl m' = sl m := by
  obtain ⟨m', e1, e2, e3, e4⟩ := chg (d := d - 1) h
  have hz := h.tz
  have y := h.y
  have y2 := e2.y
  by_cases hc : s.ct < 0
  · rw [if_pos hc] at e1
    refine ⟨mst (mst m' M 7 (-1)) M 4 0, q216 (by omega) hz _ ?_, e2.cd, by rw [vl_mst, if_pos ⟨rfl, rfl⟩, if_pos hc], e3, e4⟩
    rw [gd_of y.tm, bI_eq e1, if_pos rfl, bI_eq (c188_1 e2.tz y2.tm), gd_of (Or.inr rfl), if_pos hc]
  · rw [if_neg hc] at e1
    refine ⟨mst (mst m' M 7 (-1)) M 4 2, q216 (by omega) hz _ ?_, e2.cd, by rw [vl_mst, if_pos ⟨rfl, rfl⟩, if_neg hc], e3, e4⟩
    rw [gd_of y.tm, bI_eq e1, if_neg (by decide), bI_eq (c188_0 e2.tz y2.tm), gd_of (Or.inl rfl), if_neg hc]
/-- all is cleared -/
theorem TWt.com0 {D : DC} (h : TWt m M B s c K) (h8 : s.ct < 0 ∨ s.ct = 3 → TWt m1 M B (s.tp, s.res, s.pl, s.dk, s.ct, D, s.rd, s.ix) c K) (hm : ¬ (s.ct < 0 ∨ s.ct = 3) → m1 = m) : TWt m1 M B (s.tp, s.res, s.pl, s.dk, s.ct, (if s.ct < 0 ∨ s.ct = 3 then D else s.now), s.rd, s.ix) c K := by
  by_cases q : s.ct < 0 ∨ s.ct = 3
  · rw [if_pos q]; exact h8 q
  · rw [if_neg q, hm q]; exact h
theorem c221 (hd : 1 ≤ d) (h : TWt m M B s c K) : TWi m M B c K (cl d 221 [pR M] m) (oClear s) vI := by
  have hz := h.tz
  have y := h.y
  unfold oClear
  cases hdk : s.dk with
  | true =>
    rw [if_pos rfl]
    refine TWi.no (v := 0) h (q221 hz _ ?_) (by decide) ⟨rfl, rfl⟩
    rw [gd_of y.tm, h.fl.1, hdk, if_neg (by decide)]
    refine q221_13 (by omega) hz _ ?_
    rw [gd_of y.tm, bI_eq (c188_0 hz y.tm), if_pos rfl]
  | false =>
    rw [if_neg (by decide)]
    have h0 := h.cd (v := 0)
    have y0 := h0.y
    have sv := h0.sv.1
    have f8 : vl (mst m M 4 0) M 8 = B 8 := y0.f (by unfold qf; omega)
    obtain ⟨m1, hm1, h1, hn1⟩ : ∃ m1, (∀ (Z : Rs × Mem), rn d 221 45 [pR M, pI s.now.length, pU] [] m1 = some Z → cl d 221 [pR M] m = some Z) ∧ TWt m1 M B (s.tp, s.res, s.pl, s.dk, s.ct, (if s.ct < 0 ∨ s.ct = 3 then [] else s.now), s.rd, s.ix) c K ∧ nx m1 = nx m ∧ sl m1 = sl m := by
      have pre : ∀ Z, (if (if s.ct < 0 ∨ s.ct = 3 then (1 : Int) else 0) = 0 then (rn d 221 45 [pR M, pI s.now.length, pU] [] (mst m M 4 0)) else rn d 221 45 [pR M, pI s.now.length, pU] [] (mst (mst m M 4 0) (B 8) 3 0)) = some Z → cl d 221 [pR M] m = some Z := fun Z hZ => by
        refine q221 hz _ ?_
        rw [gd_of y.tm, h.fl.1, hdk, if_pos (show b2i false = 0 from rfl)]
        refine q221_13 (by omega) hz _ ?_
        rw [gd_of y.tm, bI_eq (c188_1 hz y.tm), if_neg (by decide), gd_of y0.tm, nm_eq, f8, gd_of sv.1.1, nm_eq, sv.2.1, prtD_len, bI_eq (c215 h0), nm_eq, f8, gd_of sv.1.1]
        exact hZ
      by_cases q : s.ct < 0 ∨ s.ct = 3
      · refine ⟨mst (mst m M 4 0) (B 8) 3 0, fun Z hZ => pre Z (by rw [if_pos q, if_neg (by decide)]; exact hZ), ?_, rfl, rfl⟩
        rw [if_pos q]
        obtain ⟨n1, n2, n3⟩ := sv.1.ne
        have k : NC (stS (mst m M 4 0) (B 8)) (mst m M 4 0) (mst (mst m M 4 0) (B 8) 3 0) := NC.set (Or.inl rfl)
        have gg : ∀ f, f ≠ 3 → vl (mst (mst m M 4 0) (B 8) 3 0) (B 8) f = vl (mst m M 4 0) (B 8) f := fun f hf => by rw [vl_mst, if_neg (fun z => hf z.2)]
        exact h0.nowc (D' := []) k gg ⟨sv.1.nc k ⟨gg 0 (by decide), gg 1 (by decide), gg 2 (by decide)⟩, by rw [vl_mst, if_pos ⟨rfl, rfl⟩]; rfl, (show ((0 : Nat) : Int) ≤ 100 by decide), trivial⟩ rfl
      · exact ⟨mst m M 4 0, fun Z hZ => pre Z (by rw [if_neg q, if_pos rfl]; exact hZ), by rw [if_neg q]; exact h0, rfl, rfl⟩
    obtain ⟨m2, e1, e2, e3, e4⟩ := chg (d := d - 1) (D := []) h1
    have y1 := h1.y
    have y2 := e2.y
    by_cases hc : s.ct < 0
    · rw [if_pos hc] at e1
      rw [if_pos hc]
      refine TWi.ok (e2.cd (v := 0)) (hm1 _ (q221_45 (by omega) h1.tz _ ?_)) (by rw [vl_mst, if_pos ⟨rfl, rfl⟩]) ⟨by rw [← hn1.1]; exact e3, by rw [← hn1.2]; exact e4⟩
      rw [gd_of y1.tm, bI_eq e1, if_pos rfl, bI_eq (c188_1 e2.tz y2.tm), if_neg (by decide)]
    · rw [if_neg hc] at e1
      rw [if_neg hc]
      refine TWi.no (v := 0) e2 (hm1 _ (q221_45 (by omega) h1.tz _ ?_)) (by decide) ⟨by rw [← hn1.1]; exact e3, by rw [← hn1.2]; exact e4⟩
      rw [gd_of y1.tm, bI_eq e1, if_neg (by decide), bI_eq (c188_0 e2.tz y2.tm), if_pos rfl]
end
