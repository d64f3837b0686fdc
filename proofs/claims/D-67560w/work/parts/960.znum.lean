/-! evaluation by the twin: an index, a slice -/
set_option maxRecDepth 100000
set_option maxHeartbeats 4000000
theorem ctI_cnt3 : ∀ F : Fo, ctI F = (cntF F : Int) := by
  intro F
  induction F with
  | leaf => rfl
  | inner i d u l r _ ih =>
    show ctI r + 1 = ((cntF r + 1 : Nat) : Int)
    rw [ih]; push_cast; rfl
theorem kdI_kd {ob : Bool} : ∀ (F : Fo) (p : Int) (k i : Nat), kdI F i = match (kdL ob F p k)[i]? with
    | none => -1
    | some y => (y.2.1 : Int) := by
  intro F
  induction F with
  | leaf => intro p k i; cases i <;> rfl
  | inner j d u l r _ ih =>
    intro p k i
    rw [kdL_inner]
    cases i with
    | zero => rfl
    | succ i =>
      rw [List.getElem?_cons_succ, ← ih]
      show (if ((i + 1 : Nat) : Int) = 0 then (j : Int) else kdI r (((i + 1 : Nat) : Int) - 1)) = _
      rw [if_neg (by omega)]
      congr 1
      push_cast; omega
theorem slU_nil {k s z : Int} (h : ¬ ((0 < s ∧ k < z) ∨ (s < 0 ∧ z < k))) : ∀ N, slU N k s z = [] := by
  intro N
  cases N with
  | zero => rfl
  | succ N => unfold slU; rw [if_neg h]
/-- bounds as the twin takes them -/
theorem slU_up {n v w st : Int} {N : Nat} (hst : 0 < st) (hn : 0 ≤ n) : slU N (max 0 (min n v)) st (max 0 (min n w)) = slU N (if v < 0 then 0 else v) st (if n < w then n else w) := by
  by_cases a : v ≤ n
  · have e1 : max 0 (min n v) = (if v < 0 then 0 else v) := by split <;> omega
    rw [e1]
    by_cases b : 0 ≤ w
    · have e2 : max 0 (min n w) = (if n < w then n else w) := by split <;> omega
      rw [e2]
    · rw [slU_nil (by split <;> omega), slU_nil (by split <;> split <;> omega)]
  · rw [slU_nil (by omega), slU_nil (by split <;> split <;> omega)]
theorem slU_dn {n v w st : Int} {N : Nat} (hst : st < 0) (hn : 0 ≤ n) : slU N (max (-1) (min (n - 1) v)) st (max (-1) (min (n - 1) w)) = slU N (if n - 1 < v then n - 1 else v) st (if w < -1 then -1 else w) := by
  by_cases a : -1 ≤ v
  · have e1 : max (-1) (min (n - 1) v) = (if n - 1 < v then n - 1 else v) := by split <;> omega
    rw [e1]
    by_cases b : w ≤ n - 1
    · have e2 : max (-1) (min (n - 1) w) = (if w < -1 then -1 else w) := by split <;> omega
      rw [e2]
    · rw [slU_nil (by split <;> omega), slU_nil (by split <;> split <;> omega)]
  · rw [slU_nil (by omega), slU_nil (by split <;> split <;> omega)]
section
variable {E : ZE} {m m1 : Mem} {n : Nat} {uv stk : List Int} {C a1 : Int} {s : Option Int} {d : Nat} {x : Nk} {y : Nd}
/-- a long beside a row -/
theorem ZB.rde {r f : Int} (h : ZB E m n uv C) (hr : 0 ≤ r ∧ r < E.k) (hf : 0 ≤ f ∧ f < 3) : (tg m (vl m E.M 28) = 186102 ∨ tg m (vl m E.M 28) = 246102) ∧ ((0 : Int) ≤ 3 * r + f ∧ 3 * r + f < ln m (vl m E.M 28)) ∧ vl m (vl m E.M 28) (3 * r + f) = E.en r f := by
  have h28 := h.2.1.2.2
  obtain ⟨a1, a2, ⟨a3, a4⟩, ⟨a5, a6⟩, a7, a8, a9⟩ := h.2.1.1
  exact ⟨a5, by rw [a6]; omega, by rw [← h28]; rfl⟩
/-- the kid at a place -/
theorem kid_at (hx : DNk E x) (h5 : x.2.2.1.1 = 5) {i : Int} (i0 : 0 ≤ i) (i1 : i < cntF x.2.2.2.1) : ∃ z : Nk, evI x y i = eA (z :: x :: y) ∧ kdI x.2.2.2.1 i = (z.2.1 : Int) ∧ DNk E z := by
  have el : (kdS x).length = cntF x.2.2.2.1 := kdL_len _ _ _
  obtain ⟨z, hz⟩ : ∃ z, (kdS x)[i.toNat]? = some z := ⟨_, List.getElem?_eq_getElem (by omega)⟩
  refine ⟨z, ?_, ?_, kdS_dn hx z (List.mem_of_getElem? hz)⟩
  · unfold evI; rw [if_neg (by omega), hz]
  · have := kdI_kd (ob := x.2.2.1.1 == 6) x.2.2.2.1 (x.1 + 3) 0 i.toNat
    rw [show ((i.toNat : Nat) : Int) = i by omega] at this
    rw [this]
    have hz' : (kdL (x.2.2.1.1 == 6) x.2.2.2.1 (x.1 + 3) 0)[i.toNat]? = some z := hz
    rw [hz']
theorem DNk.sz (hx : DNk E x) : (cntF x.2.2.2.1 : Int) ≤ 479 := by
  have h := hx.2.2.1
  have : ∀ F : Fo, cntF F ≤ szF F := by
    intro F
    induction F with
    | leaf => exact Nat.le_refl 0
    | inner i d u l r _ ih => show cntF r + 1 ≤ 1 + szF l + szF r; omega
  have := this x.2.2.2.1
  omega
theorem c267_262 {a3 a5 a6 a10 st z : Int} (hd : 4 ≤ d) (hx : DNk E x) (h5 : x.2.2.1.1 = 5) (hst : 0 < st ∧ st < 9007199254740992) (hz0 : z ≤ cntF x.2.2.2.1) : ∀ (N : Nat) (k : Int) (m : Mem) (stk : List Int) (C : Int) (s : Option Int), (z - k).toNat ≤ N → 0 ≤ k → k < 10007199254740992 → ZC E s m stk n uv C → ZVs E m stk n uv C (rn d 267 262 [pR E.M, pI a1, pI x.2.1, pL a3, pU, pI a5, pL a6, pU, pL st, pU, pL a10, pU, pL z, pU, pL k, pU] [] m) (eZ s (eL (evI x y) (slU N k st z))) := by
  have hsz := hx.sz
  intro N
  induction N with
  | zero =>
    intro k m stk C s hN hk hk2 h
    refine ZVs.nil h (q267_262 (by omega) h.bB.tz _ ?_)
    rw [if_neg (by omega)]
  | succ N ih =>
    intro k m stk C s hN hk hk2 h
    by_cases hlt : k < z
    · obtain ⟨w, e1, e2, e3⟩ := kid_at (y := y) hx h5 hk (by omega : k < cntF x.2.2.2.1)
      have e4 : slU (N + 1) k st z = k :: slU N (k + st) st z := by
        show (if _ then _ else _) = _
        rw [if_pos (Or.inl ⟨hst.1, hlt⟩)]
      have e5 : eL (evI x y) (k :: slU N (k + st) st z) = eB (evI x y k) (fun a => eB (eL (evI x y) (slU N (k + st) st z)) fun b => eR (a ++ b)) := rfl
      rw [e4, e5, e1]
      have e234 := c234 (d := d - 1) (i := k) h.bB.hM h.bB.vD h.bB.ok h.bB.hD (h.bB.dn hx) hk (by omega)
      refine ZVc.sS (ZVc.seq (K1 := fun m' Z => rn d 267 262 [pR E.M, pI a1, pI x.2.1, pL a3, pU, pI a5, pL a6, pU, pL st, pU, pL a10, pU, pL z, pU, pL (k + st), pU] [] m' = some Z) ((c263 (d := d - 1) (a := (w.2.1 : Int)) (by omega) h e3.n rfl).c fun m' zs s' C' g1 c1 Z hZ => q267_262 (by omega) h.bB.tz _ ?_) (fun m' zs s' C' c1 q1 => (ih (k + st) m' _ C' s' (by omega) (by omega) (by omega) c1).c fun m2 zs2 s2 C2 g2 c2 Z hZ => by rw [hZ]; exact g2))
      rw [if_pos hlt, gd_of h.bB.hM, bI_eq e234, e2, bV_eq g1, (w64_of (by omega) (by omega) : w64 (k + st) = k + st)]
      exact hZ
    · rw [slU_nil (by omega)]
      refine ZVs.nil h (q267_262 (by omega) h.bB.tz _ ?_)
      rw [if_neg (by omega)]
theorem c267_336 {a3 a5 a6 a10 st z : Int} (hd : 4 ≤ d) (hx : DNk E x) (h5 : x.2.2.1.1 = 5) (hst : st < 0 ∧ -9007199254740992 < st) (hz0 : -1 ≤ z) : ∀ (N : Nat) (k : Int) (m : Mem) (stk : List Int) (C : Int) (s : Option Int), (k - z).toNat ≤ N → k < cntF x.2.2.2.1 → -10007199254740992 < k → ZC E s m stk n uv C → ZVs E m stk n uv C (rn d 267 336 [pR E.M, pI a1, pI x.2.1, pL a3, pU, pI a5, pL a6, pU, pL st, pU, pL a10, pU, pL z, pU, pL k, pU] [] m) (eZ s (eL (evI x y) (slU N k st z))) := by
  have hsz := hx.sz
  intro N
  induction N with
  | zero =>
    intro k m stk C s hN hk hk2 h
    refine ZVs.nil h (q267_336 (by omega) h.bB.tz _ ?_)
    rw [if_neg (by omega)]
  | succ N ih =>
    intro k m stk C s hN hk hk2 h
    by_cases hlt : z < k
    · obtain ⟨w, e1, e2, e3⟩ := kid_at (y := y) hx h5 (by omega : 0 ≤ k) hk
      have e4 : slU (N + 1) k st z = k :: slU N (k + st) st z := by
        show (if _ then _ else _) = _
        rw [if_pos (Or.inr ⟨hst.1, hlt⟩)]
      have e5 : eL (evI x y) (k :: slU N (k + st) st z) = eB (evI x y k) (fun a => eB (eL (evI x y) (slU N (k + st) st z)) fun b => eR (a ++ b)) := rfl
      rw [e4, e5, e1]
      have e234 := c234 (d := d - 1) (i := k) h.bB.hM h.bB.vD h.bB.ok h.bB.hD (h.bB.dn hx) (by omega) (by omega)
      refine ZVc.sS (ZVc.seq (K1 := fun m' Z => rn d 267 336 [pR E.M, pI a1, pI x.2.1, pL a3, pU, pI a5, pL a6, pU, pL st, pU, pL a10, pU, pL z, pU, pL (k + st), pU] [] m' = some Z) ((c263 (d := d - 1) (a := (w.2.1 : Int)) (by omega) h e3.n rfl).c fun m' zs s' C' g1 c1 Z hZ => q267_336 (by omega) h.bB.tz _ ?_) (fun m' zs s' C' c1 q1 => (ih (k + st) m' _ C' s' (by omega) (by omega) (by omega) c1).c fun m2 zs2 s2 C2 g2 c2 Z hZ => by rw [hZ]; exact g2))
      rw [if_pos hlt, gd_of h.bB.hM, bI_eq e234, e2, bV_eq g1, (w64_of (by omega) (by omega) : w64 (k + st) = k + st)]
      exact hZ
    · rw [slU_nil (by omega)]
      refine ZVs.nil h (q267_336 (by omega) h.bB.tz _ ?_)
      rw [if_neg (by omega)]
theorem c267_3 {w : Int} {dd : ND} {r : Int} (hd : 5 ≤ d) (hx : DNk E x) (h5 : x.2.2.1.1 = 5) (h3 : dd.1 = 3) (hr : 0 ≤ r ∧ r < E.k) (hb0 : E.g r 0 = 3) (hb1 : E.en r 0 = dd.2.1) (hv : -9007199254740992 < dd.2.1 ∧ dd.2.1 < 9007199254740992) (h : ZC E (some w) m stk n uv C) : ZVs E m stk n uv C (cl d 267 [pR E.M, pI r, pI x.2.1] m) (eZ (some w) (sel1 dd (x :: y))) := by
  have hsz := hx.sz
  have hN := h.bB.dn hx
  have e291 := c291 (d := d - 1) h.bB.hD h.bB.ok hN (by rw [ctI_cnt3]; omega)
  rw [ctI_cnt3] at e291
  obtain ⟨g1, g2, g3⟩ := h.bB.rde (r := r) (f := 0) hr (by decide)
  rw [Int.add_zero] at g2 g3
  have hk := h.bB.2.1.1.2.2.2.2.1
  generalize hi : (if dd.2.1 < 0 then dd.2.1 + (cntF x.2.2.2.1 : Int) else dd.2.1) = i
  have st : ∀ Z, rn d 267 54 [pR E.M, pI r, pI x.2.1, pL (cntF x.2.2.2.1), pU, pI (E.g r 2), pL dd.2.1, pU, pU, pU, pU, pU, pU, pU, pU, pU] [pL i] m = some Z → cl d 267 [pR E.M, pI r, pI x.2.1] m = some Z := fun Z hZ => by
    refine q267 (by omega) h.bB.tz _ ?_
    rw [gd_of h.bB.hM, nm_eq, h.bB.vD, gd_of h.bB.hD.1, bI_eq e291, bI_eq (h.bB.rd hr (by decide)), nm_eq, nm_eq, (w32_of (by omega) (by omega) : w32 (3 * r) = 3 * r), gd_of g1, gd_of g2, nm_eq, g3, bI_eq (h.bB.rd hr (by decide)), hb0, if_pos rfl, hb1]
    by_cases z : dd.2.1 < 0
    · rw [if_pos z] at hi
      rw [if_pos z, (w64_of (by omega) (by omega) : w64 ((cntF x.2.2.2.1 : Int) + dd.2.1) = (cntF x.2.2.2.1 : Int) + dd.2.1), show (cntF x.2.2.2.1 : Int) + dd.2.1 = i by omega]
      exact hZ
    · rw [if_neg z] at hi
      rw [if_neg z, show dd.2.1 = i from hi]
      rw [hi] at hZ
      exact hZ
  rw [sel1_3 h3, if_pos h5, hi]
  by_cases i0 : i < 0
  · have e0 : evI x y i = eR [] := by unfold evI; rw [if_pos i0]
    rw [e0]
    refine ZVs.nil h (st _ (q267_54 (by omega) h.bB.tz _ ?_))
    rw [if_pos i0]
  · by_cases i1 : i < cntF x.2.2.2.1
    · obtain ⟨w', e1, e2, e3⟩ := kid_at (y := y) hx h5 (by omega : 0 ≤ i) i1
      have e234 := c234 (d := d - 1) (i := i) h.bB.hM h.bB.vD h.bB.ok h.bB.hD hN (by omega) (by omega)
      rw [e1]
      refine ZVc.sS ((c263 (d := d - 1) (a := (w'.2.1 : Int)) (by omega) h e3.n rfl).c fun m' zs s' C' k1 c1 Z hZ => st _ (q267_54 (by omega) h.bB.tz _ ?_))
      rw [if_neg i0, if_pos i1, gd_of h.bB.hM, bI_eq e234, e2, bV_eq k1, hZ]
    · have e0 : evI x y i = eR [] := by
        unfold evI
        rw [if_neg i0, List.getElem?_eq_none (by rw [show (kdS x).length = cntF x.2.2.2.1 from kdL_len _ _ _]; omega)]
      rw [e0]
      refine ZVs.nil h (st _ (q267_54 (by omega) h.bB.tz _ ?_))
      rw [if_neg i0, if_neg i1]
theorem c267_4 {w : Int} {dd : ND} {r hs sv he ev' sb sp : Int} (hd : 5 ≤ d) (hx : DNk E x) (h5 : x.2.2.1.1 = 5) (h4 : dd.1 = 4) (hr : 0 ≤ r ∧ r < E.k) (hb0 : E.g r 0 = 4) (hu : dd.2.2.1 = [hs, sv, he, ev', sp]) (b1 : hs = 0 ∨ hs = 1) (b2 : he = 0 ∨ he = 1) (b3 : sb = 0 ∨ sb = 1) (b4 : E.g r 2 = hs + 2 * he + 4 * sb) (b5 : hs = 1 → E.en r 0 = sv) (b6 : he = 1 → E.en r 1 = ev') (b7 : sb = 1 → E.en r 2 = sp) (b8 : sb = 0 → sp = 1) (hv : ∀ u ∈ dd.2.2.1, -9007199254740992 < u ∧ u < 9007199254740992) (h : ZC E (some w) m stk n uv C) : ZVs E m stk n uv C (cl d 267 [pR E.M, pI r, pI x.2.1] m) (eZ (some w) (sel1 dd (x :: y))) := by
  have hsz := hx.sz
  have hN := h.bB.dn hx
  have e291 := c291 (d := d - 1) h.bB.hD h.bB.ok hN (by rw [ctI_cnt3]; omega)
  rw [ctI_cnt3] at e291
  obtain ⟨g1, g2, g3⟩ := h.bB.rde (r := r) (f := 0) hr (by decide)
  obtain ⟨-, g4, g5⟩ := h.bB.rde (r := r) (f := 1) hr (by decide)
  obtain ⟨-, g6, g7⟩ := h.bB.rde (r := r) (f := 2) hr (by decide)
  rw [Int.add_zero] at g2 g3
  have hk := h.bB.2.1.1.2.2.2.2.1
  have p4 : pAnd (hs + 2 * he + 4 * sb) 4 = 4 * sb := by rcases b1 with z | z <;> rcases b2 with z2 | z2 <;> rcases b3 with z3 | z3 <;> subst z <;> subst z2 <;> subst z3 <;> decide
  have p1 : pAnd (hs + 2 * he + 4 * sb) 1 = hs := by rcases b1 with z | z <;> rcases b2 with z2 | z2 <;> rcases b3 with z3 | z3 <;> subst z <;> subst z2 <;> subst z3 <;> decide
  have p2 : pAnd (hs + 2 * he + 4 * sb) 2 = 2 * he := by rcases b1 with z | z <;> rcases b2 with z2 | z2 <;> rcases b3 with z3 | z3 <;> subst z <;> subst z2 <;> subst z3 <;> decide
  rw [hu] at hv
  have v1 := hv sv (by simp)
  have v2 := hv ev' (by simp)
  have v3 := hv sp (by simp)
  generalize hn0 : (cntF x.2.2.2.1 : Int) = nn at *
  generalize ha6 : E.en r 0 = a6 at *
  have n0 : 0 ≤ nn := by omega
  have st103 : ∀ Z, rn d 267 103 [pR E.M, pI r, pI x.2.1, pL nn, pU, pI (hs + 2 * he + 4 * sb), pL a6, pU, pU, pU, pU, pU, pU, pU, pU, pU] [pL sp] m = some Z → cl d 267 [pR E.M, pI r, pI x.2.1] m = some Z := fun Z hZ => by
    refine q267 (by omega) h.bB.tz _ ?_
    rw [gd_of h.bB.hM, nm_eq, h.bB.vD, gd_of h.bB.hD.1, bI_eq e291, bI_eq (h.bB.rd hr (by decide)), nm_eq, nm_eq, (w32_of (by omega) (by omega) : w32 (3 * r) = 3 * r), gd_of g1, gd_of g2, nm_eq, g3, bI_eq (h.bB.rd hr (by decide)), hb0, if_neg (by decide), b4, p4]
    rcases b3 with z | z
    · rw [if_pos (by omega), ← b8 z]; exact hZ
    · rw [if_neg (by omega), nm_eq, nm_eq, (w32_of (by omega) (by omega) : w32 (3 * r + 2) = 3 * r + 2), gd_of g1, gd_of g6, g7, b7 z]; exact hZ
  have esl : sel1 dd (x :: y) = eL (evI x y) (slI dd.2.2.1 nn) := by rw [sel1_4 h4, if_pos h5, hn0]
  rw [esl, hu]
  have us0 : gi [hs, sv, he, ev', sp] 0 = hs := rfl
  have us1 : gi [hs, sv, he, ev', sp] 1 = sv := rfl
  have us2 : gi [hs, sv, he, ev', sp] 2 = he := rfl
  have us3 : gi [hs, sv, he, ev', sp] 3 = ev' := rfl
  have us4 : gi [hs, sv, he, ev', sp] 4 = sp := rfl
  unfold slI
  dsimp only
  rw [us0, us1, us2, us3, us4]
  by_cases z0 : sp = 0
  · rw [if_pos z0]
    refine ZVs.nil h (st103 _ (q267_103 h.bB.tz _ ?_))
    rw [if_pos z0]
  rw [if_neg z0]
  -- the first number
  generalize hf : (if hs ≠ 0 then (if sv < 0 then nn + sv else sv) else (if 0 < sp then 0 else nn - 1)) = f0
  generalize ht : (if he ≠ 0 then (if ev' < 0 then nn + ev' else ev') else (if 0 < sp then nn else -1)) = t0
  have f0r : -9007199254800992 < f0 ∧ f0 < 9007199254800992 := by rw [← hf]; split <;> split <;> omega
  have t0r : -9007199254800992 < t0 ∧ t0 < 9007199254800992 := by rw [← ht]; split <;> split <;> omega
  have st153 : ∀ Z, rn d 267 153 [pR E.M, pI r, pI x.2.1, pL nn, pU, pI (hs + 2 * he + 4 * sb), pL a6, pU, pL sp, pU, pU, pU, pU, pU, pU, pU] [pL f0] m = some Z → cl d 267 [pR E.M, pI r, pI x.2.1] m = some Z := fun Z hZ => by
    refine st103 _ (q267_103 h.bB.tz _ ?_)
    rw [if_neg z0, p1]
    rcases b1 with z | z
    · rw [if_pos z]
      rw [if_neg (by omega)] at hf
      by_cases y : 0 < sp
      · rw [if_pos y] at hf ⊢; rw [hf]; exact hZ
      · rw [if_neg y] at hf ⊢; rw [(w64_of (by omega) (by omega) : w64 (nn - 1) = nn - 1), hf]; exact hZ
    · rw [if_neg (by omega)]
      rw [if_pos (by omega)] at hf
      have ea : a6 = sv := b5 z
      by_cases y : sv < 0
      · rw [if_pos y] at hf; rw [if_pos (by omega), (w64_of (by omega) (by omega) : w64 (nn + a6) = nn + a6), show nn + a6 = f0 by omega]; exact hZ
      · rw [if_neg y] at hf; rw [if_neg (by omega), show a6 = f0 by omega]; rw [show a6 = f0 by omega] at hZ; exact hZ
  have st219 : ∀ Z, rn d 267 219 [pR E.M, pI r, pI x.2.1, pL nn, pU, pI (hs + 2 * he + 4 * sb), pL a6, pU, pL sp, pU, pL f0, pU, pU, pU, pU, pU] [pL t0] m = some Z → cl d 267 [pR E.M, pI r, pI x.2.1] m = some Z := fun Z hZ => by
    refine st153 _ (q267_153 h.bB.tz _ ?_)
    rw [p2]
    rcases b2 with z | z
    · rw [if_pos (by omega)]
      rw [if_neg (by omega)] at ht
      by_cases y : 0 < sp
      · rw [if_pos y] at ht ⊢; rw [← ht] at hZ; exact hZ
      · rw [if_neg y] at ht ⊢; rw [ht]; exact hZ
    · rw [if_neg (by omega)]
      rw [if_pos (by omega)] at ht
      have ea : E.en r 1 = ev' := b6 z
      have w3 : w32 (w32 (3 * r) + 1) = 3 * r + 1 := by rw [(w32_of (by omega) (by omega) : w32 (3 * r) = 3 * r)]; exact w32_of (by omega) (by omega)
      rw [gd_of h.bB.hM, nm_eq, nm_eq, w3, gd_of g1, gd_of g4, g5, ea]
      by_cases y : ev' < 0
      · rw [if_pos y] at ht; rw [if_pos y, nm_eq, gd_of g4, g5, ea, (w64_of (by omega) (by omega) : w64 (nn + ev') = nn + ev'), ht]; exact hZ
      · rw [if_neg y] at ht; rw [if_neg y, nm_eq, gd_of g4, g5, ea, ht]; exact hZ
  by_cases hsp : 0 < sp
  · rw [if_pos hsp]
    have key := c267_262 (y := y) (a1 := r) (a3 := nn) (a5 := hs + 2 * he + 4 * sb) (a6 := a6) (a10 := (if f0 < 0 then 0 else f0)) (st := sp) (z := (if nn < t0 then nn else t0)) (d := d) (by omega) hx h5 ⟨hsp, by omega⟩ (by split <;> omega) (nn.toNat + 1) (if f0 < 0 then 0 else f0) m stk C (some w) (by split <;> split <;> omega) (by split <;> omega) (by split <;> omega) h
    have e1 : slU (nn.toNat + 1) (if hs ≠ 0 then slB sv nn 0 nn else 0) sp (if he ≠ 0 then slB ev' nn 0 nn else nn) = slU (nn.toNat + 1) (if f0 < 0 then 0 else f0) sp (if nn < t0 then nn else t0) := by
      rw [← slU_up hsp n0]
      congr 1
      · rw [← hf]
        unfold slB
        rw [if_pos hsp]
        split
        · split <;> omega
        · omega
      · rw [← ht]
        unfold slB
        rw [if_pos hsp]
        split
        · split <;> omega
        · omega
    rw [e1]
    refine key.of fun Z hZ => st219 _ (q267_219 h.bB.tz _ ?_)
    rw [if_pos hsp]
    by_cases y1 : f0 < 0
    · rw [if_pos y1] at hZ ⊢
      refine q267_241 h.bB.tz _ ?_
      by_cases y2 : nn < t0
      · rw [if_pos y2] at hZ ⊢; exact hZ
      · rw [if_neg y2] at hZ ⊢; exact hZ
    · rw [if_neg y1] at hZ ⊢
      refine q267_241 h.bB.tz _ ?_
      by_cases y2 : nn < t0
      · rw [if_pos y2] at hZ ⊢; exact hZ
      · rw [if_neg y2] at hZ ⊢; exact hZ
  · rw [if_neg hsp]
    have key := c267_336 (y := y) (a1 := r) (a3 := nn) (a5 := hs + 2 * he + 4 * sb) (a6 := a6) (a10 := (if nn - 1 < f0 then nn - 1 else f0)) (st := sp) (z := (if t0 < -1 then -1 else t0)) (d := d) (by omega) hx h5 ⟨by omega, by omega⟩ (by split <;> omega) (nn.toNat + 1) (if nn - 1 < f0 then nn - 1 else f0) m stk C (some w) (by split <;> split <;> omega) (by split <;> omega) (by split <;> omega) h
    have e1 : slU (nn.toNat + 1) (if hs ≠ 0 then slB sv nn (-1) (nn - 1) else nn - 1) sp (if he ≠ 0 then slB ev' nn (-1) (nn - 1) else -1) = slU (nn.toNat + 1) (if nn - 1 < f0 then nn - 1 else f0) sp (if t0 < -1 then -1 else t0) := by
      rw [← slU_dn (by omega) n0]
      congr 1
      · rw [← hf]
        unfold slB
        rw [if_neg hsp]
        split
        · split <;> omega
        · omega
      · rw [← ht]
        unfold slB
        rw [if_neg hsp]
        split
        · split <;> omega
        · omega
    rw [e1]
    have w1 : w64 (nn - 1) = nn - 1 := w64_of (by omega) (by omega)
    refine key.of fun Z hZ => st219 _ (q267_219 h.bB.tz _ ?_)
    rw [if_neg hsp, w1]
    by_cases y1 : nn - 1 < f0
    · rw [if_pos y1] at hZ ⊢
      refine q267_311 h.bB.tz _ ?_
      by_cases y2 : t0 < -1
      · rw [if_pos y2] at hZ ⊢; exact hZ
      · rw [if_neg y2] at hZ ⊢; exact hZ
    · rw [if_neg y1] at hZ ⊢
      refine q267_311 h.bB.tz _ ?_
      by_cases y2 : t0 < -1
      · rw [if_pos y2] at hZ ⊢; exact hZ
      · rw [if_neg y2] at hZ ⊢; exact hZ
end
