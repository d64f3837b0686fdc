/-! the twin prints: into out, up to 32768 bytes -/
set_option maxRecDepth 100000
set_option maxHeartbeats 4000000
/-- what was printed is ys (in out: its first 32768 bytes) -/
def WK (m : Mem) (M : Int) (ys : List Int) : Prop := tg m M = 11 ∧ tg m (vl m M 15) = 186103 ∧ ln m (vl m M 15) = 32776 ∧ vl m M 16 = min (ys.length : Int) 32768 ∧ vl m M 17 = (if 32768 < (ys.length : Int) then 1 else 0) ∧ ∀ i : Int, 0 ≤ i → i < ys.length → i < 32768 → vl m (vl m M 15) i = gi ys i
/-- nothing but out, written and over was changed -/
def WF (M : Int) (m m' : Mem) : Prop := nx m' = nx m ∧ sl m' = sl m ∧ (∀ a, tg m' a = tg m a ∧ ln m' a = ln m a) ∧ ∀ a k, a ≠ vl m M 15 → ¬ (a = M ∧ (k = 16 ∨ k = 17)) → vl m' a k = vl m a k
def PWC (X : RM) (M : Int) (m : Mem) (ys zs : List Int) : Prop := ∃ m', X = some (.inl none, m') ∧ WK m' M (ys ++ zs) ∧ WF M m m'
theorem WK.ne {m : Mem} {M : Int} {ys : List Int} (h : WK m M ys) : vl m M 15 ≠ M := by intro q; have h1 := h.1; have h2 := h.2.1; rw [q] at h2; omega
theorem WF.refl {M : Int} {m : Mem} : WF M m m := ⟨rfl, rfl, fun _ => ⟨rfl, rfl⟩, fun _ _ _ _ => rfl⟩
theorem WF.o {M : Int} {m m' : Mem} {ys : List Int} (h : WF M m m') (hk : WK m M ys) : vl m' M 15 = vl m M 15 := h.2.2.2 M 15 hk.ne.symm (by omega)
theorem WF.trans {M : Int} {m m1 m2 : Mem} {ys : List Int} (h : WF M m m1) (h' : WF M m1 m2) (hk : WK m M ys) : WF M m m2 := by
  refine ⟨by rw [h'.1, h.1], by rw [h'.2.1, h.2.1], fun a => ⟨by rw [(h'.2.2.1 a).1, (h.2.2.1 a).1], by rw [(h'.2.2.1 a).2, (h.2.2.1 a).2]⟩, fun a k ha hb => ?_⟩
  rw [h'.2.2.2 a k (by rw [h.o hk]; exact ha) hb, h.2.2.2 a k ha hb]
theorem PWC.bind {c : RM} {f : Mem → RM} {M : Int} {m : Mem} {ys z1 z2 : List Int} (hk : WK m M ys) (h : PWC c M m ys z1) (h' : ∀ m1, WK m1 M (ys ++ z1) → WF M m m1 → PWC (f m1) M m1 (ys ++ z1) z2) : PWC (bV c f) M m ys (z1 ++ z2) := by
  obtain ⟨m1, e1, k1, w1⟩ := h
  obtain ⟨m2, e2, k2, w2⟩ := h' m1 k1 w1
  exact ⟨m2, by rw [bV_eq e1]; exact e2, by rw [← List.append_assoc]; exact k2, w1.trans w2 hk⟩
theorem PWC.done {M : Int} {m : Mem} {ys : List Int} (hk : WK m M ys) : PWC (some (.inl none, m)) M m ys [] := ⟨m, rfl, by rw [List.append_nil]; exact hk, WF.refl⟩
theorem PWC.imp {X Y : RM} {M : Int} {m : Mem} {ys zs : List Int} (h : PWC X M m ys zs) (hXY : ∀ q, X = some q → Y = some q) : PWC Y M m ys zs := by
  obtain ⟨m1, e1, k1, w1⟩ := h
  exact ⟨m1, hXY _ e1, k1, w1⟩
theorem PWC.last {c : RM} {M : Int} {m : Mem} {ys zs : List Int} (h : PWC c M m ys zs) : PWC (bV c fun m1 => some (.inl none, m1)) M m ys zs := by
  obtain ⟨m1, e1, k1, w1⟩ := h
  exact ⟨m1, by rw [bV_eq e1], k1, w1⟩
theorem PWC.cast {X : RM} {M : Int} {m : Mem} {ys zs zs' : List Int} (h : PWC X M m ys zs) (e : zs = zs') : PWC X M m ys zs' := e ▸ h
theorem OK.wf {M : Int} {m m' : Mem} (ok : OK m) (h : WF M m m') : OK m' := ⟨fun a ha => by rw [(h.2.2.1 a).1]; exact ok.1 a (by rw [h.1] at ha; exact ha), by rw [(h.2.2.1 0).1]; exact ok.2.1, by rw [h.1]; exact ok.2.2⟩
theorem SC.wf {M a : Int} {m m' : Mem} {ys cs : List Int} (hS : SC m a cs) (hk : WK m M ys) (h : WF M m m') : SC m' a cs := by
  obtain ⟨s1, s2, s3, s4, s5, s6, s7⟩ := hS
  have a1 : a ≠ vl m M 15 := by intro q; have := hk.2.1; rw [← q] at this; omega
  have a2 : a + 1 ≠ vl m M 15 := by intro q; have := hk.2.1; rw [← q] at this; omega
  have b1 : a ≠ M := by intro q; have := hk.1; rw [← q] at this; omega
  have b2 : a + 1 ≠ M := by intro q; have := hk.1; rw [← q] at this; omega
  refine ⟨by rw [(h.2.2.1 a).1]; exact s1, by rw [(h.2.2.1 _).1]; exact s2, by rw [h.2.2.2 a 0 a1 (by omega)]; exact s3, by rw [h.2.2.2 a 1 a1 (by omega)]; exact s4, by rw [(h.2.2.1 _).2]; exact s5, s6, fun j j0 j1 => ?_⟩
  rw [h.2.2.2 _ j a2 (by omega)]; exact s7 j j0 j1
theorem TW.wf {M t n C : Int} {m m' : Mem} {ys us : List Int} (hw : TW m t n us C) (hk : WK m M ys) (h : WF M m m') : TW m' t n us C ∧ ∀ f j, 0 ≤ f → f ≤ 9 → nv m' t f j = nv m t f j := by
  have a0 := hw.1
  have a1 : t ≠ vl m M 15 := by intro q; have := hk.2.1; rw [← q] at this; omega
  have b1 : t ≠ M := by intro q; have := hk.1; rw [← q] at this; omega
  have hv : ∀ f, vl m' t f = vl m t f := fun f => h.2.2.2 t f a1 (by omega)
  have har : ∀ f, aF f → ∀ j, vl m' (vl m t f) j = vl m (vl m t f) j := by
    intro f hf j
    obtain ⟨c1, c2, -⟩ := hw.arr hf
    refine h.2.2.2 _ j ?_ ?_
    · intro q; have := hk.2.1; rw [← q] at this; omega
    · rintro ⟨q, -⟩; have := hk.1; rw [← q] at this; omega
  refine ⟨hw.keep (fun a => (h.2.2.1 a).1) (fun a => (h.2.2.1 a).2) hv (fun i _ _ => har 11 (Or.inr rfl) i), fun f j f0 f1 => ?_⟩
  unfold nv
  rw [hv, har f (Or.inl ⟨f0, f1⟩)]
section
variable {d : Nat} {m : Mem} {M : Int} {ys : List Int}
theorem c212 {b : Int} (hz : TZ m) (h : WK m M ys) : PWC (cl d 212 [pR M, pI b] m) M m ys [w8 b] := by
  have hne := h.ne
  obtain ⟨h1, h2, h3, h4, h5, h6⟩ := h
  by_cases hl : (ys.length : Int) < 32768
  · have e16 : vl m M 16 = ys.length := by omega
    refine ⟨mst (mst m (vl m M 15) ys.length (w8 b)) M 16 ((ys.length : Int) + 1), ?_, ?_, ?_⟩
    · refine q212 hz _ ?_
      have e8 : w8 (w8 b) = w8 b := by unfold w8; omega
      rw [gd_of h1, nm_eq, e16, if_pos hl, nm_eq, gd_of h2, gd_of ⟨by omega, by omega⟩, e8, w32_of (by omega) (by omega)]
    · have ev : vl (mst (mst m (vl m M 15) ys.length (w8 b)) M 16 ((ys.length : Int) + 1)) M 15 = vl m M 15 := by rw [vl_mst, if_neg (by omega), vl_mst, if_neg (by omega)]
      refine ⟨h1, by rw [ev]; exact h2, by rw [ev]; exact h3, ?_, ?_, fun i i0 i1 i2 => ?_⟩
      · rw [vl_mst, if_pos ⟨rfl, rfl⟩]; simp; omega
      · rw [vl_mst, if_neg (by omega), vl_mst, if_neg (by omega), h5, if_neg (by omega), if_neg (by simp; omega)]
      · rw [ev, vl_mst, if_neg (by omega), vl_mst]
        rw [List.length_append] at i1
        simp at i1
        by_cases hi : i = ys.length
        · rw [if_pos ⟨rfl, hi⟩, hi, gi_app_r (by omega), Int.sub_self]; rfl
        · rw [if_neg (by omega), gi_app_l i0 (by omega)]; exact h6 i i0 (by omega) i2
    · refine ⟨rfl, rfl, fun a => ⟨rfl, rfl⟩, fun a k ha hb => ?_⟩
      rw [vl_mst, if_neg (by omega), vl_mst, if_neg (by omega)]
  · have e16 : vl m M 16 = 32768 := by omega
    refine ⟨mst m M 17 1, ?_, ?_, ?_⟩
    · refine q212 hz _ ?_
      rw [gd_of h1, nm_eq, e16, if_neg (by decide)]
    · have ev : vl (mst m M 17 1) M 15 = vl m M 15 := by rw [vl_mst, if_neg (by omega)]
      refine ⟨h1, by rw [ev]; exact h2, by rw [ev]; exact h3, ?_, ?_, fun i i0 i1 i2 => ?_⟩
      · rw [vl_mst, if_neg (by omega), h4]; simp; omega
      · rw [vl_mst, if_pos ⟨rfl, rfl⟩, if_pos (by simp; omega)]
      · rw [ev, vl_mst, if_neg (by omega), gi_app_l i0 (by omega)]; exact h6 i i0 (by omega) i2
    · refine ⟨rfl, rfl, fun a => ⟨rfl, rfl⟩, fun a k ha hb => ?_⟩
      rw [vl_mst, if_neg (by omega)]
theorem c211_l {a : Int} {cs : List Int} (hd : 4 ≤ d) : ∀ (rest pre : List Int) (m : Mem) (ys : List Int), cs = pre ++ rest → OK m → WK m M ys → SC m a cs → PWC (rn d 211 2 [pR M, pR a, pI pre.length] [] m) M m ys rest := by
  intro rest
  induction rest with
  | nil =>
    intro pre m ys hcs ok h hS
    have h349 := c349 (d := d - 1) (by omega) ok.1 hS
    rw [List.append_nil] at hcs
    rw [hcs] at h349
    refine (PWC.done h).imp (fun q hq => q211_2 (by omega) ok.1 _ ?_)
    rw [gd_of hS.1, bI_eq h349, if_neg (by omega)]; exact hq
  | cons x rest ih =>
    intro pre m ys hcs ok h hS
    have h349 := c349 (d := d - 1) (by omega) ok.1 hS
    have hl : (cs.length : Int) = pre.length + 1 + rest.length := by rw [hcs]; simp; omega
    have hS6 := hS.2.2.2.2.2.1
    have h351 := c351 (d := d - 1) (j := pre.length) (by omega) ok.1 hS (by omega) (by omega)
    have hx : gi cs pre.length = x := by rw [hcs, gi_app_r (by omega), Int.sub_self]; rfl
    have hx2 := hS.2.2.2.2.2.2 pre.length (by omega) (by omega)
    rw [hx] at h351 hx2
    have hp := c212 (d := d - 1) (b := x) ok.1 h
    rw [w8_of (by omega) (by omega)] at hp
    have := hp.bind h (f := fun m3 => rn d 211 2 [pR M, pR a, pI ((pre ++ [x]).length : Int)] [] m3) (z2 := rest) (fun m1 k1 w1 => ih (pre ++ [x]) m1 _ (by simp [hcs]) (ok.wf w1) k1 (hS.wf h w1))
    refine this.imp (fun q hq => q211_2 (by omega) ok.1 _ ?_)
    have e2 : ((pre ++ [x]).length : Int) = pre.length + 1 := by simp
    rw [gd_of hS.1, bI_eq h349, if_pos (by omega), bI_eq h351, gd_of h.1, w32_of (by omega) (by omega), ← e2]; exact hq
theorem c211 {a : Int} {cs : List Int} (hd : 4 ≤ d) (ok : OK m) (h : WK m M ys) (hS : SC m a cs) : PWC (cl d 211 [pR M, pR a] m) M m ys cs :=
  (c211_l hd cs [] m ys rfl ok h hS).imp (fun q hq => q211 ok.1 _ hq)
theorem tdiv_pm {v u P : Int} (h : v = u ∨ v = -u) (hu : 0 ≤ u) : v.tdiv P = u / P ∧ v = u ∨ v.tdiv P = -(u / P) ∧ v = -u := by
  rcases h with h | h
  · left; exact ⟨by rw [h]; exact Int.tdiv_eq_ediv_of_nonneg hu, h⟩
  · right; exact ⟨by rw [h, Int.neg_tdiv, Int.tdiv_eq_ediv_of_nonneg hu], h⟩
/-- one digit -/
theorem c213_d {v u w P : Int} {f : Int → Mem → RM} {zs : List Int} (hw : w = u / P) (hvu : v = u ∨ v = -u) (hu : 0 ≤ u ∧ u ≤ 9007199254740992) (hP : 0 < P) (ok : OK m) (h : WK m M ys) (hf : ∀ m1 x, OK m1 → WK m1 M (ys ++ [48 + w % 10]) → PWC (f x m1) M m1 (ys ++ [48 + w % 10]) zs) :
    PWC (nm (w64 (v.tdiv P)) fun v3 => nm (w64 (v3 - w64 (v3.tdiv 10) * 10)) fun v4 => if v4 < 0 then (gd (tg m M = 11) <| bV (cl (d - 1) 212 [pR M, pI (w32 (48 + (w32 (w64 (-v4)))))] m) fun m2 => f v4 m2) else gd (tg m M = 11) <| bV (cl (d - 1) 212 [pR M, pI (w32 (48 + (w32 v4)))] m) fun m1 => f v4 m1) M m ys ((48 + w % 10) :: zs) := by
  have b1 : 0 ≤ w := by rw [hw]; exact Int.ediv_nonneg hu.1 (by omega)
  have b2 : w ≤ u := by rw [hw]; exact Int.ediv_le_self _ hu.1
  have hp := c212 (d := d - 1) (b := 48 + w % 10) ok.1 h
  rw [w8_of (by omega) (by omega)] at hp
  have key : ∀ x, PWC (bV (cl (d - 1) 212 [pR M, pI (48 + w % 10)] m) fun m1 => f x m1) M m ys ((48 + w % 10) :: zs) := fun x => (hp.bind h (f := fun m1 => f x m1) (z2 := zs) (fun m1 k1 w1 => hf m1 x (ok.wf w1) k1)).cast rfl
  have e10 : w.tdiv 10 = w / 10 := Int.tdiv_eq_ediv_of_nonneg b1
  rw [nm_eq]
  rcases tdiv_pm (P := P) hvu hu.1 with ⟨e1, -⟩ | ⟨e1, -⟩
  · rw [e1, ← hw, w64_of (z := w) (by omega) (by omega), e10, w64_of (z := w / 10) (by omega) (by omega), w64_of (z := w - w / 10 * 10) (by omega) (by omega), nm_eq, if_neg (by omega), gd_of h.1, (w32_of (by omega) (by omega) : w32 (w - w / 10 * 10) = w - w / 10 * 10), w32_of (by omega) (by omega), show 48 + (w - w / 10 * 10) = 48 + w % 10 by omega]
    exact key _
  · have e11 : (-w).tdiv 10 = -(w / 10) := by rw [Int.neg_tdiv, e10]
    rw [e1, ← hw, w64_of (z := -w) (by omega) (by omega), e11, w64_of (z := -(w / 10)) (by omega) (by omega), w64_of (z := -w - -(w / 10) * 10) (by omega) (by omega), nm_eq]
    by_cases hz : -w - -(w / 10) * 10 < 0
    · rw [if_pos hz, gd_of h.1, w64_of (by omega) (by omega), (w32_of (by omega) (by omega) : w32 (-(-w - -(w / 10) * 10)) = -(-w - -(w / 10) * 10)), w32_of (by omega) (by omega), show 48 + -(-w - -(w / 10) * 10) = 48 + w % 10 by omega]
      exact key _
    · rw [if_neg hz, gd_of h.1, (w32_of (by omega) (by omega) : w32 (-w - -(w / 10) * 10) = -w - -(w / 10) * 10), w32_of (by omega) (by omega), show 48 + (-w - -(w / 10) * 10) = 48 + w % 10 by omega]
      exact key _
theorem c213_46 {v u a3 : Int} (hd : 2 ≤ d) (hvu : v = u ∨ v = -u) (hu : 0 ≤ u ∧ u ≤ 9007199254740992) : ∀ (k : Nat) (m : Mem) (ys : List Int) (z : PV), k ≤ 16 → OK m → WK m M ys → PWC (rn d 213 46 [pR M, pL v, pU, pL a3, pU, pL ((10 ^ k : Nat) : Int), pU, z, pU] [] m) M m ys (dl k u) := by
  intro k
  induction k with
  | zero =>
    intro m ys z hk ok h
    have := c213_d (d := d) (v := v) (u := u) (w := u) (P := 1) (f := fun x m1 => rn d 213 46 [pR M, pL v, pU, pL a3, pU, pL 0, pU, pL x, pU] [] m1) (zs := []) (by omega) hvu hu (by decide) ok h (fun m1 x ok1 k1 => (PWC.done k1).imp (fun q hq => q213_46 (by omega) ok1.1 _ (by rw [if_neg (by decide)]; exact hq)))
    refine (this.cast (by rfl)).imp (fun q hq => q213_46 (by omega) ok.1 _ ?_)
    rw [if_pos (by decide), gd_of (by decide), show w64 (((10 ^ 0 : Nat) : Int).tdiv 10) = 0 by decide]
    exact hq
  | succ k ih =>
    intro m ys z hk ok h
    have hpp : 0 < 10 ^ k := Nat.pow_pos (by decide)
    have hpl : 10 ^ (k + 1) ≤ 10 ^ 16 := Nat.pow_le_pow_right (by decide) (by omega)
    have hps : 10 ^ (k + 1) = 10 ^ k * 10 := Nat.pow_succ ..
    have this := c213_d (d := d) (v := v) (u := u) (w := u / ((10 ^ (k + 1) : Nat) : Int)) (P := ((10 ^ (k + 1) : Nat) : Int)) (f := fun x m1 => rn d 213 46 [pR M, pL v, pU, pL a3, pU, pL ((10 ^ k : Nat) : Int), pU, pL x, pU] [] m1) (zs := dl k u) rfl hvu hu (by omega) ok h (fun m1 x ok1 k1 => ih m1 _ (pL x) (by omega) ok1 k1)
    refine (this.cast (by rfl)).imp (fun q hq => q213_46 (by omega) ok.1 _ ?_)
    have e3 : (((10 ^ (k + 1) : Nat) : Int)).tdiv 10 = ((10 ^ k : Nat) : Int) := by rw [Int.tdiv_eq_ediv_of_nonneg (by omega)]; omega
    rw [if_pos (by omega), gd_of (by omega), e3, w64_of (z := ((10 ^ k : Nat) : Int)) (by omega) (by omega)]
    exact hq
theorem c213_14 {v u : Int} (hz : TZ m) (hvu : v = u ∨ v = -u) (h0 : 0 ≤ u) (h1 : u ≤ 9007199254740992) : ∀ (n k : Nat), 17 ≤ n + k → k ≤ 16 → (k = 0 ∨ ((10 ^ k : Nat) : Int) ≤ u) → ∀ Q, (∀ a3 : Int, a3 = ((10 ^ (k + kd n (u / ((10 ^ k : Nat) : Int))) : Nat) : Int) → rn d 213 46 [pR M, pL v, pU, pL a3, pU, pL a3, pU, pU, pU] [] m = some Q) → rn d 213 14 [pR M, pL v, pU, pL ((10 ^ k : Nat) : Int), pU, pU, pU, pU, pU] [] m = some Q := by
  intro n
  induction n with
  | zero => intro k hn hk; omega
  | succ n ih =>
    intro k hn hk hku Q hQ
    have hpp : 0 < 10 ^ k := Nat.pow_pos (by decide)
    have hpl : 10 ^ k ≤ 10 ^ 16 := Nat.pow_le_pow_right (by decide) hk
    have b1 : 0 ≤ u / ((10 ^ k : Nat) : Int) := Int.ediv_nonneg h0 (by omega)
    have b2 : u / ((10 ^ k : Nat) : Int) ≤ u := Int.ediv_le_self _ h0
    have hps : 10 ^ (k + 1) = 10 ^ k * 10 := Nat.pow_succ ..
    unfold kd at hQ
    by_cases hlt : u / ((10 ^ k : Nat) : Int) < 10
    · refine q213_14 hz _ ?_
      have hQ' := hQ _ rfl
      rw [if_pos hlt, Nat.add_zero] at hQ'
      rw [gd_of (by omega)]
      rcases tdiv_pm (P := ((10 ^ k : Nat) : Int)) hvu h0 with ⟨e1, -⟩ | ⟨e1, -⟩
      · rw [e1, w64_of (by omega) (by omega), if_pos hlt, gd_of (by omega), if_pos (by omega)]; exact hQ'
      · rw [e1, w64_of (by omega) (by omega), if_pos (by omega), gd_of (by omega), if_pos (by omega)]; exact hQ'
    · have hge : ((10 ^ (k + 1) : Nat) : Int) ≤ u := by
        have := Int.ediv_mul_le u (b := ((10 ^ k : Nat) : Int)) (by omega)
        have h3 : 10 * ((10 ^ k : Nat) : Int) ≤ u / ((10 ^ k : Nat) : Int) * ((10 ^ k : Nat) : Int) := Int.mul_le_mul_of_nonneg_right (by omega) (by omega)
        rw [hps]; omega
      have hk15 : k + 1 ≤ 16 := by
        rcases Nat.lt_or_ge 16 (k + 1) with hh | hh
        · have : 10 ^ 16 < 10 ^ (k + 1) := Nat.pow_lt_pow_right (by decide) hh
          omega
        · exact hh
      have e4 : u / ((10 ^ k : Nat) : Int) / 10 = u / ((10 ^ (k + 1) : Nat) : Int) := by
        rw [hps, Int.natCast_mul, Int.ediv_ediv_of_nonneg (by omega)]; rfl
      have := ih (k + 1) (by omega) hk15 (Or.inr hge) Q (by
        intro a3 ha3
        refine hQ a3 ?_
        rw [if_neg hlt, ha3, ← e4, show k + 1 + kd n (u / ((10 ^ k : Nat) : Int) / 10) = k + (kd n (u / ((10 ^ k : Nat) : Int) / 10) + 1) by omega])
      have e5 : w64 (((10 ^ k : Nat) : Int) * 10) = ((10 ^ (k + 1) : Nat) : Int) := by rw [hps, w64_of (by omega) (by omega)]; omega
      refine q213_14 hz _ ?_
      rw [gd_of (by omega)]
      rcases tdiv_pm (P := ((10 ^ k : Nat) : Int)) hvu h0 with ⟨e1, -⟩ | ⟨e1, -⟩
      · rw [e1, w64_of (by omega) (by omega), if_neg hlt, e5]; exact this
      · rw [e1, w64_of (by omega) (by omega), if_pos (by omega), gd_of (by omega), if_neg (by omega), e5]; exact this
theorem c213 {v : Int} (hd : 3 ≤ d) (ok : OK m) (h : WK m M ys) (h0 : -9007199254740992 ≤ v) (h1 : v ≤ 9007199254740992) : PWC (cl d 213 [pR M, pL v] m) M m ys (prN v) := by
  have main : ∀ (m : Mem) (ys : List Int) (u : Int), 0 ≤ u → u ≤ 9007199254740992 → (v = u ∨ v = -u) → OK m → WK m M ys → PWC (rn d 213 14 [pR M, pL v, pU, pL 1, pU, pU, pU, pU, pU] [] m) M m ys (dl (kd 17 u) u) := by
    intro m ys u u0 u1 hvu ok h
    refine (c213_46 (d := d) (M := M) (v := v) (u := u) (a3 := ((10 ^ (kd 17 u) : Nat) : Int)) (by omega) hvu ⟨u0, u1⟩ (kd 17 u) m ys pU (kd_16 u1) ok h).imp (fun q hq => ?_)
    have := c213_14 (d := d) (M := M) (v := v) (u := u) ok.1 hvu u0 u1 17 0 (by omega) (by omega) (Or.inl rfl) q
    simp at this
    exact this (by simpa using hq)
  unfold prN
  by_cases hv : v < 0
  · rw [if_pos hv]
    have hp := c212 (d := d - 1) (b := 45) ok.1 h
    have := hp.bind h (f := fun m1 => rn d 213 14 [pR M, pL v, pU, pL 1, pU, pU, pU, pU, pU] [] m1) (z2 := dl (kd 17 (-v)) (-v)) (fun m1 k1 w1 => main m1 _ (-v) (by omega) (by omega) (Or.inr (by omega)) (ok.wf w1) k1)
    refine (this.cast (by rfl)).imp (fun q hq => q213 (by omega) ok.1 _ ?_)
    rw [if_pos hv, gd_of h.1]; exact hq
  · rw [if_neg hv]
    refine (main m ys v (by omega) h1 (Or.inl rfl) ok h).imp (fun q hq => q213 (by omega) ok.1 _ ?_)
    rw [if_neg hv]; exact hq
end
