/-! a rule an instruction: X stands below what the machine does -/
set_option maxRecDepth 100000
set_option maxHeartbeats 4000000
abbrev RM : Type := Option (Rs × Mem)
def le2 (X Y : RM) : Prop := ∀ q, X = some q → Y = some q
theorem le2_refl (X : RM) : le2 X X := fun _ h => h
theorem le2_none {Y : RM} : le2 none Y := fun _ h => by cases h
def gd (p : Prop) [Decidable p] (X : RM) : RM := if p then X else none
def nm {α : Type} (v : α) (f : α → RM) : RM := f v
def nw (a : Int) (m : Mem) (f : Int → Mem → RM) : RM := f a m
theorem le2_gd {p : Prop} [Decidable p] {X Y : RM} (h : p → le2 X Y) : le2 (gd p X) Y := by
  intro q hq; unfold gd at hq; split at hq
  · rename_i hp; exact h hp q hq
  · cases hq
theorem le2_ite {p : Prop} [Decidable p] {X Z Y : RM} (h : p → le2 X Y) (h' : ¬ p → le2 Z Y) : le2 (if p then X else Z) Y := by
  intro q hq; split at hq
  · rename_i hp; exact h hp q hq
  · rename_i hp; exact h' hp q hq
def bA (c : RM) (f : Option PV → Mem → RM) : RM := match c with
  | some (.inl v, m) => f v m
  | some (.inr e, m) => some (.inr e, m)
  | none => none
def bAh (c : RM) (f : Option PV → Mem → RM) (g : Int → Mem → RM) : RM := match c with
  | some (.inl v, m) => f v m
  | some (.inr e, m) => g e m
  | none => none
def oV (f : Mem → RM) (v : Option PV) (m : Mem) : RM := match v with
  | none => f m
  | _ => none
def oI (f : Int → Mem → RM) (v : Option PV) (m : Mem) : RM := match v with
  | some (.inl x) => f x m
  | _ => none
def oL (f : Int → Mem → RM) (v : Option PV) (m : Mem) : RM := match v with
  | some (.inr (.inl x)) => f x m
  | _ => none
def oR (f : Int → Mem → RM) (v : Option PV) (m : Mem) : RM := match v with
  | some (.inr (.inr (.inl x))) => f x m
  | _ => none
def bV (c : RM) (f : Mem → RM) : RM := bA c (oV f)
def bI (c : RM) (f : Int → Mem → RM) : RM := bA c (oI f)
def bL (c : RM) (f : Int → Mem → RM) : RM := bA c (oL f)
def bR (c : RM) (f : Int → Mem → RM) : RM := bA c (oR f)
def bVh (c : RM) (f : Mem → RM) (g : Int → Mem → RM) : RM := bAh c (oV f) g
def bIh (c : RM) (f : Int → Mem → RM) (g : Int → Mem → RM) : RM := bAh c (oI f) g
def bLh (c : RM) (f : Int → Mem → RM) (g : Int → Mem → RM) : RM := bAh c (oL f) g
def bRh (c : RM) (f : Int → Mem → RM) (g : Int → Mem → RM) : RM := bAh c (oR f) g
noncomputable def ci (d f : Nat) (t : Int) (as : List PV) (m : Mem) : RM := match lkN (rDt f) t.toNat with
  | some k1 => cl d k1 as m
  | none => none
noncomputable def hres (d k pc : Nat) (e : Int) (ls : List PV) (m : Mem) : RM := if k = 0 then none else match hdlC (rHt k) pc e with
  | some (some h) => rn d k h ls [pU] m
  | some none => some (.inr e, m)
  | none => none
theorem pinD {x lo hi : Int} (h1 : decide (lo ≤ x) = true) (h2 : decide (x < hi) = true) : pin x lo hi := ⟨of_decide_eq_true h1, of_decide_eq_true h2⟩
theorem pinE {x : Int} (h1 : decide (0 ≤ x) = true) (h2 : decide (x ≤ 2000000) = true) : 0 ≤ x ∧ x ≤ 2000000 := ⟨of_decide_eq_true h1, of_decide_eq_true h2⟩
theorem dj1 (P : Int → Prop) {x t : Int} (h : x = t) (h1 : P t) : P x := by rw [h]; exact h1
theorem dj2 (P : Int → Prop) {x t u : Int} (h : x = t ∨ x = u) (h1 : P t) (h2 : P u) : P x := by rcases h with h | h <;> rw [h] <;> assumption
theorem dj3 (P : Int → Prop) {x t u w : Int} (h : x = t ∨ x = u ∨ x = w) (h1 : P t) (h2 : P u) (h3 : P w) : P x := by rcases h with h | h | h <;> rw [h] <;> assumption
theorem tz_lt {m : Mem} {x : Int} (z : TZ m) (h : tg m x ≠ 0) : x < nx m := Int.lt_of_not_ge (fun hx => h (z x hx))
theorem z_k {m m' : Mem} (c : KP m m') (z : TZ m) : TZ m' := c.1 z
theorem k_t1 {m m' : Mem} {x t : Int} (c : KP m m') (z : TZ m) (h : tg m x = t) (ne : t ≠ 0) : tg m' x = t := (c.2.2 x (tz_lt z (by rw [h]; exact ne))).1.trans h
theorem k_t2 {m m' : Mem} {x t u : Int} (c : KP m m') (z : TZ m) (h : tg m x = t ∨ tg m x = u) (ne : t ≠ 0) (ne' : u ≠ 0) : tg m' x = t ∨ tg m' x = u := by
  rcases h with h | h
  · exact Or.inl (k_t1 c z h ne)
  · exact Or.inr (k_t1 c z h ne')
theorem k_t3 {m m' : Mem} {x t u w : Int} (c : KP m m') (z : TZ m) (h : tg m x = t ∨ tg m x = u ∨ tg m x = w) (ne : t ≠ 0) (ne' : u ≠ 0) (ne2 : w ≠ 0) : tg m' x = t ∨ tg m' x = u ∨ tg m' x = w := by
  rcases h with h | h
  · exact Or.inl (k_t1 c z h ne)
  · exact Or.inr (k_t2 c z h ne' ne2)
theorem k_tm {m m' : Mem} {x r : Int} (c : KP m m') (z : TZ m) (h : tg m x % 1000 = r) (ne : r ≠ 0) : tg m' x % 1000 = r := by
  rw [(c.2.2 x (tz_lt z (fun h0 => ne (by rw [← h, h0]; rfl)))).1]; exact h
theorem sk_f {m : Mem} {a k v b j : Int} (h : j ≠ k) : vl (mst m a k v) b j = vl m b j := if_neg (fun q => h q.2)
theorem sk_o {m : Mem} {a k v b j : Int} (h : b ≠ a) : vl (mst m a k v) b j = vl m b j := if_neg (fun q => h q.1)
theorem sk_s {m : Mem} {a k v : Int} : vl (mst m a k v) a k = v := if_pos ⟨rfl, rfl⟩
theorem sk_c {m : Mem} {s sp d dp n b j : Int} (h : b ≠ d) : vl (mcp m s sp d dp n) b j = vl m b j := if_neg (fun q => h q.1)
theorem ne_oa {m : Mem} {a b : Int} (hb : tg m b < 100) (ha : ¬ tg m a < 100) : b ≠ a := fun e => ha (e ▸ hb)
theorem neP {m : Mem} {a b : Int} (P : Int → Prop) (hb : P (tg m b)) (ha : ¬ P (tg m a)) : b ≠ a := fun e => ha (e ▸ hb)
section
variable {d k pc p t c rk ik len : Nat} {ls st r : List PV} {m : Mem} {X : RM}
theorem st_go {i : Instr} {ls' st' : List PV} {m' : Mem} (G : ft k pc = some (c, rk, ik, i, len)) (hc : chk c k i st m = true) (hs : stp c k rk ik i pc len ls st m = nG p ls' st' m') (hX : le2 X (rn d k p ls' st' m')) : le2 X (rn d k pc ls st m) :=
  fun q hq => rn_mk ⟨c, rk, ik, i, len, G, hc, Or.inl ⟨p, ls', st', m', hs, hX q hq⟩⟩
theorem st_ret {i : Instr} {v : Option PV} (G : ft k pc = some (c, rk, ik, i, len)) (hc : chk c k i st m = true) (hs : stp c k rk ik i pc len ls st m = nR v) : le2 (some (.inl v, m)) (rn d k pc ls st m) := by
  intro q hq; cases hq
  exact rn_mk ⟨c, rk, ik, i, len, G, hc, Or.inr (Or.inr (Or.inl ⟨v, hs, rfl⟩))⟩
theorem st_callh {i : Instr} {k1 ln1 : Nat} {as rest : List PV} {f : Option PV → Mem → RM} {g : Int → Mem → RM} (G : ft k pc = some (c, rk, ik, i, len)) (hc : chk c k i st m = true) (hs : stp c k rk ik i pc len ls st m = nCall k1 as rest ln1) (hd : 0 < d) (hr : catS rest ≤ 8) (hk1 : 0 < k1) (hE : subE k1 k = true)
    (hf : ∀ v m1, KP m m1 → le2 (f v m1) (rn d k (pc + ln1) ls (v.toList ++ rest) m1)) (hg : ∀ e m1, KP m m1 → le2 (g e m1) (hres d k pc e ls m1)) : le2 (bAh (cl (d - 1) k1 as m) f g) (rn d k pc ls st m) := by
  intro q hq
  have hs' : stp c k rk ik i pc len ls st m = some (.inr (.inl (k1, as, rest, ln1))) := by
    rw [hs]; unfold nCall; rw [if_pos ⟨hr, hk1⟩]; rfl
  obtain ⟨d1, rfl⟩ : ∃ d1, d = d1 + 1 := ⟨d - 1, by omega⟩
  rw [Nat.add_sub_cancel] at hq
  cases hcl : cl d1 k1 as m with
  | none => rw [hcl] at hq; cases hq
  | some w =>
    obtain ⟨rr, m1⟩ := w
    have hkp := (cl_FRM hcl).1
    rw [hcl] at hq
    unfold cl at hcl
    split at hcl
    · rename_i e1 he
      split at hcl
      · cases hcl
      · rename_i hl
        cases rr with
        | inl v => exact rn_mk ⟨c, rk, ik, i, len, G, hc, Or.inr (Or.inl ⟨k1, as, rest, ln1, d1, e1, _, m1, hs', rfl, he, by omega, hE, hcl, Or.inl ⟨v, rfl, hf v m1 hkp q hq⟩⟩)⟩
        | inr e =>
          have hq2 := hg e m1 hkp q hq
          unfold hres at hq2
          split at hq2
          · cases hq2
          · rename_i hk0
            split at hq2
            · rename_i hh hhd
              exact rn_mk ⟨c, rk, ik, i, len, G, hc, Or.inr (Or.inl ⟨k1, as, rest, ln1, d1, e1, _, m1, hs', rfl, he, by omega, hE, hcl, Or.inr ⟨e, rfl, hk0, Or.inl ⟨hh, hhd, hq2⟩⟩⟩)⟩
            · rename_i hhd
              cases hq2
              exact rn_mk ⟨c, rk, ik, i, len, G, hc, Or.inr (Or.inl ⟨k1, as, rest, ln1, d1, e1, _, m1, hs', rfl, he, by omega, hE, hcl, Or.inr ⟨e, rfl, hk0, Or.inr ⟨hhd, rfl⟩⟩⟩)⟩
            · cases hq2
    · cases hcl
theorem hres_none {e : Int} (hk : Nat.ble 1 k = true) (hh : ∀ e, hdlC (rHt k) pc e = some none) : le2 (some (.inr e, m)) (hres d k pc e ls m) := by
  intro q hq
  unfold hres
  have := Nat.le_of_ble_eq_true hk
  rw [if_neg (by omega), hh e]; exact hq
theorem hres_at {h : Nat} {e : Int} (hh : (if k = 0 then none else hdlC (rHt k) pc e) = some (some h)) (hX : le2 X (rn d k h ls [pU] m)) : le2 X (hres d k pc e ls m) := by
  intro q hq
  unfold hres
  split at hh
  · cases hh
  · rename_i hk
    rw [if_neg hk, hh]; exact hX q hq
def onlyH (l : List (Nat × Nat × Nat × Nat)) (pc t : Nat) : Bool := match l with
  | [] => true
  | (a, b, u, _) :: r => (Nat.beq u t || Nat.blt pc a || Nat.ble b pc) && onlyH r pc t
theorem onlyH_ok {e : Int} {t pc : Nat} (hn : ¬ e = (t : Int)) (hr : 200 < e ∧ e < 207) : ∀ l : List (Nat × Nat × Nat × Nat), onlyH l pc t = true → hdlC l pc e = some none
  | [], _ => by unfold hdlC; rfl
  | (a, b, u, h) :: r, ho => by
    unfold onlyH at ho
    have h1 := (Bool.and_eq_true _ _).mp ho
    have h2 := onlyH_ok hn hr r h1.2
    unfold hdlC
    rcases (Bool.or_eq_true _ _).mp h1.1 with h3 | h3
    · rcases (Bool.or_eq_true _ _).mp h3 with h4 | h4
      · rw [Nat.eq_of_beq_eq_true h4, if_neg hn, if_pos hr, h2]; split <;> rfl
      · have := Nat.le_of_ble_eq_true h4
        rw [if_neg (by omega)]; exact h2
    · have := Nat.le_of_ble_eq_true h3
      rw [if_neg (by omega)]; exact h2
theorem hres_skip {e : Int} {t : Nat} (hk : Nat.ble 1 k = true) (ho : onlyH (rHt k) pc t = true) (hn : ¬ e = (t : Int)) (hr : 200 < e ∧ e < 207) : le2 (some (.inr e, m)) (hres d k pc e ls m) := by
  intro q hq
  unfold hres
  have := Nat.le_of_ble_eq_true hk
  rw [if_neg (by omega), onlyH_ok hn hr _ ho]; exact hq
theorem bA_h (cc : RM) (f : Option PV → Mem → RM) : bA cc f = bAh cc f (fun e m => some (.inr e, m)) := by
  unfold bA bAh; rfl
theorem st_call {i : Instr} {k1 ln1 : Nat} {as rest : List PV} {f : Option PV → Mem → RM} (G : ft k pc = some (c, rk, ik, i, len)) (hc : chk c k i st m = true) (hs : stp c k rk ik i pc len ls st m = nCall k1 as rest ln1) (hd : 0 < d) (hr : catS rest ≤ 8) (hk1 : 0 < k1) (hE : subE k1 k = true) (hk : Nat.ble 1 k = true) (hh : ∀ e, hdlC (rHt k) pc e = some none)
    (hf : ∀ v m1, KP m m1 → le2 (f v m1) (rn d k (pc + ln1) ls (v.toList ++ rest) m1)) : le2 (bA (cl (d - 1) k1 as m) f) (rn d k pc ls st m) := by
  rw [bA_h]
  exact st_callh G hc hs hd hr hk1 hE hf (fun e m1 _ => hres_none hk hh)
theorem oV_le {f : Mem → RM} {v : Option PV} {m1 : Mem} {rest : List PV} (h : le2 (f m1) (rn d k p ls rest m1)) : le2 (oV f v m1) (rn d k p ls (v.toList ++ rest) m1) := by
  intro q hq
  match v, hq with
  | none, hq => exact h q hq
theorem oI_le {f : Int → Mem → RM} {v : Option PV} {m1 : Mem} {rest : List PV} (h : ∀ x, le2 (f x m1) (rn d k p ls (pI x :: rest) m1)) : le2 (oI f v m1) (rn d k p ls (v.toList ++ rest) m1) := by
  intro q hq
  match v, hq with
  | some (.inl x), hq => exact h x q hq
theorem oL_le {f : Int → Mem → RM} {v : Option PV} {m1 : Mem} {rest : List PV} (h : ∀ x, le2 (f x m1) (rn d k p ls (pL x :: rest) m1)) : le2 (oL f v m1) (rn d k p ls (v.toList ++ rest) m1) := by
  intro q hq
  match v, hq with
  | some (.inr (.inl x)), hq => exact h x q hq
theorem oR_le {f : Int → Mem → RM} {v : Option PV} {m1 : Mem} {rest : List PV} (h : ∀ x, le2 (f x m1) (rn d k p ls (pR x :: rest) m1)) : le2 (oR f v m1) (rn d k p ls (v.toList ++ rest) m1) := by
  intro q hq
  match v, hq with
  | some (.inr (.inr (.inl x))), hq => exact h x q hq
def mLoc (k : Nat) : Option Nat := (mI k).map (fun e => e.2.2.2.1)
theorem q_in {as L : List PV} {n : Nat} (hm : mLoc k = some n) (hl : Nat.ble (arL as).length n = true) (hL : ini n as = L) (hX : le2 X (rn d k 0 L [] m)) : le2 X (cl d k as m) := by
  intro q hq
  unfold mLoc at hm
  cases he : mI k with
  | none => rw [he] at hm; cases hm
  | some e =>
    rw [he] at hm
    have hn : e.2.2.2.1 = n := Option.some.inj hm
    have := Nat.le_of_ble_eq_true hl
    unfold cl
    rw [he]
    dsimp only
    rw [hn, if_neg (by omega), hL]
    exact hX q hq
theorem lkl_id {j : Nat} {v : PV} (h : ls[j]? = some v) (hv : cat v = 1) : lkl ls (j + 1) = ls := by
  unfold lkl
  dsimp only
  rw [h]
  rcases v with x | x | x | x
  · rfl
  · cases hv
  · rfl
  · rfl
theorem r_nmI {e : Int} {f : Int → RM} (h : ∀ v, v = e → le2 (f v) (rn d k pc ls (pI v :: st) m)) : le2 (nm e f) (rn d k pc ls (pI e :: st) m) := h e rfl
theorem r_nmJ {e : Int} {f : Int → RM} (h : ∀ v, v = e → le2 (f v) (rn d k pc ls (pL v :: st) m)) : le2 (nm e f) (rn d k pc ls (pL e :: st) m) := h e rfl
theorem r_nmR {e : Int} {f : Int → RM} (h : ∀ v, v = e → le2 (f v) (rn d k pc ls (pR v :: st) m)) : le2 (nm e f) (rn d k pc ls (pR e :: st) m) := h e rfl
theorem lkN_all {α : Type} {l : List (Nat × α)} {P : Nat × α → Bool} (h : l.all P = true) {i : Nat} {v : α} (hi : lkN l i = some v) : P (i, v) = true := by
  induction l with
  | nil => cases hi
  | cons q r ih =>
    rw [List.all_cons, Bool.and_eq_true] at h
    unfold lkN at hi
    split at hi
    · rename_i hq
      cases hi
      rw [← hq]; exact h.1
    · exact ih h.2 hi
theorem r_lconst0 (G : ft k pc = some (c, rk, ik, .lconst 0, len)) (hp : pc + 1 = p) (hX : le2 X (rn d k p ls (pL 0 :: st) m)) : le2 X (rn d k pc ls (st) m) := st_go G rfl (by subst hp; rfl) hX
theorem r_lconst1 (G : ft k pc = some (c, rk, ik, .lconst 1, len)) (hp : pc + 1 = p) (hX : le2 X (rn d k p ls (pL 1 :: st) m)) : le2 X (rn d k pc ls (st) m) := st_go G rfl (by subst hp; rfl) hX
theorem r_anull (G : ft k pc = some (c, rk, ik, .aconst_null, len)) (hp : pc + 1 = p) (hX : le2 X (rn d k p ls (pR 0 :: st) m)) : le2 X (rn d k pc ls (st) m) := st_go G rfl (by subst hp; rfl) hX
theorem r_iconst {n : Int} (G : ft k pc = some (c, rk, ik, .iconst n, len)) (hp : pc + 1 = p) (hn : pin n (-128) 128) (hX : le2 X (rn d k p ls (pI n :: st) m)) : le2 X (rn d k pc ls (st) m) := st_go G rfl (by subst hp; exact if_pos hn) hX
theorem r_bipush {n : Int} (G : ft k pc = some (c, rk, ik, .bipush n, len)) (hp : pc + 2 = p) (hn : pin n (-128) 128) (hX : le2 X (rn d k p ls (pI n :: st) m)) : le2 X (rn d k pc ls (st) m) := st_go G rfl (by subst hp; exact if_pos hn) hX
theorem r_sipush {n : Int} (G : ft k pc = some (c, rk, ik, .sipush n, len)) (hp : pc + 3 = p) (hn : pin n (-32768) 32768) (hX : le2 X (rn d k p ls (pI n :: st) m)) : le2 X (rn d k pc ls (st) m) := st_go G rfl (by subst hp; exact if_pos hn) hX
theorem r_ldcI {n : Nat} {v : Int} (G : ft k pc = some (c, rk, ik, .ldc n, len)) (hp : pc + 2 = p) (hl : lkN (rCt c) n = some (0, v)) (hn : pin v (-2147483648) 2147483648) (hX : le2 X (rn d k p ls (pI v :: st) m)) : le2 X (rn d k pc ls st m) := st_go G rfl (by subst hp; dsimp only [stp]; rw [hl]; exact if_pos hn) hX
theorem r_ldcR {n : Nat} {v : Int} (G : ft k pc = some (c, rk, ik, .ldc n, len)) (hp : pc + 2 = p) (hl : lkN (rCt c) n = some (1, v)) (hX : le2 X (rn d k p ls (pR v :: st) m)) : le2 X (rn d k pc ls st m) := st_go G rfl (by subst hp; dsimp only [stp]; rw [hl]; try rfl) hX
theorem r_ldc_wR {n : Nat} {v : Int} (G : ft k pc = some (c, rk, ik, .ldc_w n, len)) (hp : pc + 3 = p) (hl : lkN (rCt c) n = some (1, v)) (hX : le2 X (rn d k p ls (pR v :: st) m)) : le2 X (rn d k pc ls st m) := st_go G rfl (by subst hp; dsimp only [stp]; rw [hl]; try rfl) hX
theorem r_ldc2 {n : Nat} {v : Int} (G : ft k pc = some (c, rk, ik, .ldc2_w n, len)) (hp : pc + 3 = p) (hl : lkN (rLt c) n = some v) (hn : pin v (-9223372036854775808) 9223372036854775808) (hX : le2 X (rn d k p ls (pL v :: st) m)) : le2 X (rn d k pc ls st m) := st_go G rfl (by subst hp; dsimp only [stp]; rw [hl]; exact if_pos hn) hX
theorem r_iadd {x y : Int} (G : ft k pc = some (c, rk, ik, .iadd, len)) (hp : pc + 1 = p) (hX : le2 X (rn d k p ls (pI (w32 (x + y)) :: st) m)) : le2 X (rn d k pc ls (pI y :: pI x :: st) m) := st_go G rfl (by subst hp; rfl) hX
theorem r_isub {x y : Int} (G : ft k pc = some (c, rk, ik, .isub, len)) (hp : pc + 1 = p) (hX : le2 X (rn d k p ls (pI (w32 (x - y)) :: st) m)) : le2 X (rn d k pc ls (pI y :: pI x :: st) m) := st_go G rfl (by subst hp; rfl) hX
theorem r_imul {x y : Int} (G : ft k pc = some (c, rk, ik, .imul, len)) (hp : pc + 1 = p) (hX : le2 X (rn d k p ls (pI (w32 (x * y)) :: st) m)) : le2 X (rn d k pc ls (pI y :: pI x :: st) m) := st_go G rfl (by subst hp; rfl) hX
theorem r_iand {x y : Int} (G : ft k pc = some (c, rk, ik, .iand, len)) (hp : pc + 1 = p) (hX : le2 X (rn d k p ls (pI (pAnd x y) :: st) m)) : le2 X (rn d k pc ls (pI y :: pI x :: st) m) := st_go G rfl (by subst hp; rfl) hX
theorem r_ior {x y : Int} (G : ft k pc = some (c, rk, ik, .ior, len)) (hp : pc + 1 = p) (hX : le2 X (rn d k p ls (pI (pOr x y) :: st) m)) : le2 X (rn d k pc ls (pI y :: pI x :: st) m) := st_go G rfl (by subst hp; rfl) hX
theorem r_ishl {x y : Int} (G : ft k pc = some (c, rk, ik, .ishl, len)) (hp : pc + 1 = p) (hX : le2 X (rn d k p ls (pI (pShl x y) :: st) m)) : le2 X (rn d k pc ls (pI y :: pI x :: st) m) := st_go G rfl (by subst hp; rfl) hX
theorem r_ishr {x y : Int} (G : ft k pc = some (c, rk, ik, .ishr, len)) (hp : pc + 1 = p) (hX : le2 X (rn d k p ls (pI (pShr x y) :: st) m)) : le2 X (rn d k pc ls (pI y :: pI x :: st) m) := st_go G rfl (by subst hp; rfl) hX
theorem r_iushr {x y : Int} (G : ft k pc = some (c, rk, ik, .iushr, len)) (hp : pc + 1 = p) (hX : le2 X (rn d k p ls (pI (pUshr x y) :: st) m)) : le2 X (rn d k pc ls (pI y :: pI x :: st) m) := st_go G rfl (by subst hp; rfl) hX
theorem r_ladd {x y : Int} (G : ft k pc = some (c, rk, ik, .ladd, len)) (hp : pc + 1 = p) (hX : le2 X (rn d k p ls (pL (w64 (x + y)) :: st) m)) : le2 X (rn d k pc ls (pL y :: pL x :: st) m) := st_go G rfl (by subst hp; rfl) hX
theorem r_lsub {x y : Int} (G : ft k pc = some (c, rk, ik, .lsub, len)) (hp : pc + 1 = p) (hX : le2 X (rn d k p ls (pL (w64 (x - y)) :: st) m)) : le2 X (rn d k pc ls (pL y :: pL x :: st) m) := st_go G rfl (by subst hp; rfl) hX
theorem r_lmul {x y : Int} (G : ft k pc = some (c, rk, ik, .lmul, len)) (hp : pc + 1 = p) (hX : le2 X (rn d k p ls (pL (w64 (x * y)) :: st) m)) : le2 X (rn d k pc ls (pL y :: pL x :: st) m) := st_go G rfl (by subst hp; rfl) hX
theorem r_land {x y : Int} (G : ft k pc = some (c, rk, ik, .land, len)) (hp : pc + 1 = p) (hX : le2 X (rn d k p ls (pL (qAnd x y) :: st) m)) : le2 X (rn d k pc ls (pL y :: pL x :: st) m) := st_go G rfl (by subst hp; rfl) hX
theorem r_lor {x y : Int} (G : ft k pc = some (c, rk, ik, .lor, len)) (hp : pc + 1 = p) (hX : le2 X (rn d k p ls (pL (qOr x y) :: st) m)) : le2 X (rn d k pc ls (pL y :: pL x :: st) m) := st_go G rfl (by subst hp; rfl) hX
theorem r_lxor {x y : Int} (G : ft k pc = some (c, rk, ik, .lxor, len)) (hp : pc + 1 = p) (hX : le2 X (rn d k p ls (pL (qXor x y) :: st) m)) : le2 X (rn d k pc ls (pL y :: pL x :: st) m) := st_go G rfl (by subst hp; rfl) hX
theorem r_lshl {x y : Int} (G : ft k pc = some (c, rk, ik, .lshl, len)) (hp : pc + 1 = p) (hX : le2 X (rn d k p ls (pL (qShl x y) :: st) m)) : le2 X (rn d k pc ls (pI y :: pL x :: st) m) := st_go G rfl (by subst hp; rfl) hX
theorem r_lshr {x y : Int} (G : ft k pc = some (c, rk, ik, .lshr, len)) (hp : pc + 1 = p) (hX : le2 X (rn d k p ls (pL (qShr x y) :: st) m)) : le2 X (rn d k pc ls (pI y :: pL x :: st) m) := st_go G rfl (by subst hp; rfl) hX
theorem r_lushr {x y : Int} (G : ft k pc = some (c, rk, ik, .lushr, len)) (hp : pc + 1 = p) (hX : le2 X (rn d k p ls (pL (qUshr x y) :: st) m)) : le2 X (rn d k pc ls (pI y :: pL x :: st) m) := st_go G rfl (by subst hp; rfl) hX
theorem r_idiv {x y : Int} (G : ft k pc = some (c, rk, ik, .idiv, len)) (hp : pc + 1 = p) (h0 : y ≠ 0) (hX : le2 X (rn d k p ls (pI (w32 (x.tdiv y)) :: st) m)) : le2 X (rn d k pc ls (pI y :: pI x :: st) m) := st_go G rfl (by subst hp; exact if_pos h0) hX
theorem r_ldiv {x y : Int} (G : ft k pc = some (c, rk, ik, .ldiv, len)) (hp : pc + 1 = p) (h0 : y ≠ 0) (hX : le2 X (rn d k p ls (pL (w64 (x.tdiv y)) :: st) m)) : le2 X (rn d k pc ls (pL y :: pL x :: st) m) := st_go G rfl (by subst hp; exact if_pos h0) hX
theorem r_lrem {x y : Int} (G : ft k pc = some (c, rk, ik, .lrem, len)) (hp : pc + 1 = p) (h0 : y ≠ 0) (hX : le2 X (rn d k p ls (pL (w64 (x - w64 (x.tdiv y) * y)) :: st) m)) : le2 X (rn d k pc ls (pL y :: pL x :: st) m) := st_go G rfl (by subst hp; exact if_pos h0) hX
theorem r_lneg {x : Int} (G : ft k pc = some (c, rk, ik, .lneg, len)) (hp : pc + 1 = p) (hX : le2 X (rn d k p ls (pL (w64 (-x)) :: st) m)) : le2 X (rn d k pc ls (pL x :: st) m) := st_go G rfl (by subst hp; rfl) hX
theorem r_lcmp {x y : Int} (G : ft k pc = some (c, rk, ik, .lcmp, len)) (hp : pc + 1 = p) (hX : le2 X (rn d k p ls (pI (lcp x y) :: st) m)) : le2 X (rn d k pc ls (pL y :: pL x :: st) m) := st_go G rfl (by subst hp; rfl) hX
theorem r_i2l {x : Int} (G : ft k pc = some (c, rk, ik, .i2l, len)) (hp : pc + 1 = p) (hX : le2 X (rn d k p ls (pL x :: st) m)) : le2 X (rn d k pc ls (pI x :: st) m) := st_go G rfl (by subst hp; rfl) hX
theorem r_l2i {x : Int} (G : ft k pc = some (c, rk, ik, .l2i, len)) (hp : pc + 1 = p) (hX : le2 X (rn d k p ls (pI (w32 x) :: st) m)) : le2 X (rn d k pc ls (pL x :: st) m) := st_go G rfl (by subst hp; rfl) hX
theorem r_i2b {x : Int} (G : ft k pc = some (c, rk, ik, .i2b, len)) (hp : pc + 1 = p) (hX : le2 X (rn d k p ls (pI (w8 x) :: st) m)) : le2 X (rn d k pc ls (pI x :: st) m) := st_go G rfl (by subst hp; rfl) hX
theorem r_i2c {x : Int} (G : ft k pc = some (c, rk, ik, .i2c, len)) (hp : pc + 1 = p) (hX : le2 X (rn d k p ls (pI (x % 65536) :: st) m)) : le2 X (rn d k pc ls (pI x :: st) m) := st_go G rfl (by subst hp; rfl) hX
theorem r_iceq {x y off : Int} {XT XF : RM} (G : ft k pc = some (c, rk, ik, .if_icmp .eq off, len)) (h0 : 0 ≤ (pc : Int) + off) (ht : ((pc : Int) + off).toNat = t) (hp : pc + 3 = p) (hT : le2 XT (rn d k t ls st m)) (hF : le2 XF (rn d k p ls st m)) : le2 (if x = y then XT else XF) (rn d k pc ls (pI y :: pI x :: st) m) := by
  intro q hq
  by_cases hx : x = y
  · rw [if_pos hx] at hq
    exact st_go (p := t) G rfl (by subst ht hp; dsimp only [stp]; rw [if_pos h0, if_pos (by simp [cnd]; omega)]; try rfl) hT q hq
  · rw [if_neg hx] at hq
    exact st_go (p := p) G rfl (by subst ht hp; dsimp only [stp]; rw [if_pos h0, if_neg (by simp [cnd]; omega)]; try rfl) hF q hq
theorem r_ifeq {x off : Int} {XT XF : RM} (G : ft k pc = some (c, rk, ik, .ifCond .eq off, len)) (h0 : 0 ≤ (pc : Int) + off) (ht : ((pc : Int) + off).toNat = t) (hp : pc + 3 = p) (hT : le2 XT (rn d k t ls st m)) (hF : le2 XF (rn d k p ls st m)) : le2 (if x = 0 then XT else XF) (rn d k pc ls (pI x :: st) m) := by
  intro q hq
  by_cases hx : x = 0
  · rw [if_pos hx] at hq
    exact st_go (p := t) G rfl (by subst ht hp; dsimp only [stp]; rw [if_pos h0, if_pos (by simp [cnd]; omega)]; try rfl) hT q hq
  · rw [if_neg hx] at hq
    exact st_go (p := p) G rfl (by subst ht hp; dsimp only [stp]; rw [if_pos h0, if_neg (by simp [cnd]; omega)]; try rfl) hF q hq
theorem r_icne {x y off : Int} {XT XF : RM} (G : ft k pc = some (c, rk, ik, .if_icmp .ne off, len)) (h0 : 0 ≤ (pc : Int) + off) (ht : ((pc : Int) + off).toNat = t) (hp : pc + 3 = p) (hF : le2 XF (rn d k p ls st m)) (hT : le2 XT (rn d k t ls st m)) : le2 (if x = y then XF else XT) (rn d k pc ls (pI y :: pI x :: st) m) := by
  intro q hq
  by_cases hx : x = y
  · rw [if_pos hx] at hq
    exact st_go (p := p) G rfl (by subst ht hp; dsimp only [stp]; rw [if_pos h0, if_neg (by simp [cnd]; omega)]; try rfl) hF q hq
  · rw [if_neg hx] at hq
    exact st_go (p := t) G rfl (by subst ht hp; dsimp only [stp]; rw [if_pos h0, if_pos (by simp [cnd]; omega)]; try rfl) hT q hq
theorem r_ifne {x off : Int} {XT XF : RM} (G : ft k pc = some (c, rk, ik, .ifCond .ne off, len)) (h0 : 0 ≤ (pc : Int) + off) (ht : ((pc : Int) + off).toNat = t) (hp : pc + 3 = p) (hF : le2 XF (rn d k p ls st m)) (hT : le2 XT (rn d k t ls st m)) : le2 (if x = 0 then XF else XT) (rn d k pc ls (pI x :: st) m) := by
  intro q hq
  by_cases hx : x = 0
  · rw [if_pos hx] at hq
    exact st_go (p := p) G rfl (by subst ht hp; dsimp only [stp]; rw [if_pos h0, if_neg (by simp [cnd]; omega)]; try rfl) hF q hq
  · rw [if_neg hx] at hq
    exact st_go (p := t) G rfl (by subst ht hp; dsimp only [stp]; rw [if_pos h0, if_pos (by simp [cnd]; omega)]; try rfl) hT q hq
theorem r_iclt {x y off : Int} {XT XF : RM} (G : ft k pc = some (c, rk, ik, .if_icmp .lt off, len)) (h0 : 0 ≤ (pc : Int) + off) (ht : ((pc : Int) + off).toNat = t) (hp : pc + 3 = p) (hT : le2 XT (rn d k t ls st m)) (hF : le2 XF (rn d k p ls st m)) : le2 (if x < y then XT else XF) (rn d k pc ls (pI y :: pI x :: st) m) := by
  intro q hq
  by_cases hx : x < y
  · rw [if_pos hx] at hq
    exact st_go (p := t) G rfl (by subst ht hp; dsimp only [stp]; rw [if_pos h0, if_pos (by simp [cnd]; omega)]; try rfl) hT q hq
  · rw [if_neg hx] at hq
    exact st_go (p := p) G rfl (by subst ht hp; dsimp only [stp]; rw [if_pos h0, if_neg (by simp [cnd]; omega)]; try rfl) hF q hq
theorem r_iflt {x off : Int} {XT XF : RM} (G : ft k pc = some (c, rk, ik, .ifCond .lt off, len)) (h0 : 0 ≤ (pc : Int) + off) (ht : ((pc : Int) + off).toNat = t) (hp : pc + 3 = p) (hT : le2 XT (rn d k t ls st m)) (hF : le2 XF (rn d k p ls st m)) : le2 (if x < 0 then XT else XF) (rn d k pc ls (pI x :: st) m) := by
  intro q hq
  by_cases hx : x < 0
  · rw [if_pos hx] at hq
    exact st_go (p := t) G rfl (by subst ht hp; dsimp only [stp]; rw [if_pos h0, if_pos (by simp [cnd]; omega)]; try rfl) hT q hq
  · rw [if_neg hx] at hq
    exact st_go (p := p) G rfl (by subst ht hp; dsimp only [stp]; rw [if_pos h0, if_neg (by simp [cnd]; omega)]; try rfl) hF q hq
theorem r_icge {x y off : Int} {XT XF : RM} (G : ft k pc = some (c, rk, ik, .if_icmp .ge off, len)) (h0 : 0 ≤ (pc : Int) + off) (ht : ((pc : Int) + off).toNat = t) (hp : pc + 3 = p) (hF : le2 XF (rn d k p ls st m)) (hT : le2 XT (rn d k t ls st m)) : le2 (if x < y then XF else XT) (rn d k pc ls (pI y :: pI x :: st) m) := by
  intro q hq
  by_cases hx : x < y
  · rw [if_pos hx] at hq
    exact st_go (p := p) G rfl (by subst ht hp; dsimp only [stp]; rw [if_pos h0, if_neg (by simp [cnd]; omega)]; try rfl) hF q hq
  · rw [if_neg hx] at hq
    exact st_go (p := t) G rfl (by subst ht hp; dsimp only [stp]; rw [if_pos h0, if_pos (by simp [cnd]; omega)]; try rfl) hT q hq
theorem r_ifge {x off : Int} {XT XF : RM} (G : ft k pc = some (c, rk, ik, .ifCond .ge off, len)) (h0 : 0 ≤ (pc : Int) + off) (ht : ((pc : Int) + off).toNat = t) (hp : pc + 3 = p) (hF : le2 XF (rn d k p ls st m)) (hT : le2 XT (rn d k t ls st m)) : le2 (if x < 0 then XF else XT) (rn d k pc ls (pI x :: st) m) := by
  intro q hq
  by_cases hx : x < 0
  · rw [if_pos hx] at hq
    exact st_go (p := p) G rfl (by subst ht hp; dsimp only [stp]; rw [if_pos h0, if_neg (by simp [cnd]; omega)]; try rfl) hF q hq
  · rw [if_neg hx] at hq
    exact st_go (p := t) G rfl (by subst ht hp; dsimp only [stp]; rw [if_pos h0, if_pos (by simp [cnd]; omega)]; try rfl) hT q hq
theorem r_icgt {x y off : Int} {XT XF : RM} (G : ft k pc = some (c, rk, ik, .if_icmp .gt off, len)) (h0 : 0 ≤ (pc : Int) + off) (ht : ((pc : Int) + off).toNat = t) (hp : pc + 3 = p) (hT : le2 XT (rn d k t ls st m)) (hF : le2 XF (rn d k p ls st m)) : le2 (if y < x then XT else XF) (rn d k pc ls (pI y :: pI x :: st) m) := by
  intro q hq
  by_cases hx : y < x
  · rw [if_pos hx] at hq
    exact st_go (p := t) G rfl (by subst ht hp; dsimp only [stp]; rw [if_pos h0, if_pos (by simp [cnd]; omega)]; try rfl) hT q hq
  · rw [if_neg hx] at hq
    exact st_go (p := p) G rfl (by subst ht hp; dsimp only [stp]; rw [if_pos h0, if_neg (by simp [cnd]; omega)]; try rfl) hF q hq
theorem r_ifgt {x off : Int} {XT XF : RM} (G : ft k pc = some (c, rk, ik, .ifCond .gt off, len)) (h0 : 0 ≤ (pc : Int) + off) (ht : ((pc : Int) + off).toNat = t) (hp : pc + 3 = p) (hT : le2 XT (rn d k t ls st m)) (hF : le2 XF (rn d k p ls st m)) : le2 (if 0 < x then XT else XF) (rn d k pc ls (pI x :: st) m) := by
  intro q hq
  by_cases hx : 0 < x
  · rw [if_pos hx] at hq
    exact st_go (p := t) G rfl (by subst ht hp; dsimp only [stp]; rw [if_pos h0, if_pos (by simp [cnd]; omega)]; try rfl) hT q hq
  · rw [if_neg hx] at hq
    exact st_go (p := p) G rfl (by subst ht hp; dsimp only [stp]; rw [if_pos h0, if_neg (by simp [cnd]; omega)]; try rfl) hF q hq
theorem r_icle {x y off : Int} {XT XF : RM} (G : ft k pc = some (c, rk, ik, .if_icmp .le off, len)) (h0 : 0 ≤ (pc : Int) + off) (ht : ((pc : Int) + off).toNat = t) (hp : pc + 3 = p) (hF : le2 XF (rn d k p ls st m)) (hT : le2 XT (rn d k t ls st m)) : le2 (if y < x then XF else XT) (rn d k pc ls (pI y :: pI x :: st) m) := by
  intro q hq
  by_cases hx : y < x
  · rw [if_pos hx] at hq
    exact st_go (p := p) G rfl (by subst ht hp; dsimp only [stp]; rw [if_pos h0, if_neg (by simp [cnd]; omega)]; try rfl) hF q hq
  · rw [if_neg hx] at hq
    exact st_go (p := t) G rfl (by subst ht hp; dsimp only [stp]; rw [if_pos h0, if_pos (by simp [cnd]; omega)]; try rfl) hT q hq
theorem r_ifle {x off : Int} {XT XF : RM} (G : ft k pc = some (c, rk, ik, .ifCond .le off, len)) (h0 : 0 ≤ (pc : Int) + off) (ht : ((pc : Int) + off).toNat = t) (hp : pc + 3 = p) (hF : le2 XF (rn d k p ls st m)) (hT : le2 XT (rn d k t ls st m)) : le2 (if 0 < x then XF else XT) (rn d k pc ls (pI x :: st) m) := by
  intro q hq
  by_cases hx : 0 < x
  · rw [if_pos hx] at hq
    exact st_go (p := p) G rfl (by subst ht hp; dsimp only [stp]; rw [if_pos h0, if_neg (by simp [cnd]; omega)]; try rfl) hF q hq
  · rw [if_neg hx] at hq
    exact st_go (p := t) G rfl (by subst ht hp; dsimp only [stp]; rw [if_pos h0, if_pos (by simp [cnd]; omega)]; try rfl) hT q hq
theorem lcp_lt {x y : Int} : lcp x y < 0 ↔ x < y := by unfold lcp; split <;> (try split) <;> omega
theorem lcp_gt {x y : Int} : 0 < lcp x y ↔ y < x := by unfold lcp; split <;> (try split) <;> omega
theorem lcp_eq {x y : Int} : lcp x y = 0 ↔ x = y := by unfold lcp; split <;> (try split) <;> omega
theorem r_lceq {p1 len1 : Nat} {x y off : Int} {XT XF : RM} (G : ft k pc = some (c, rk, ik, .lcmp, len)) (hp1 : pc + 1 = p1) (G1 : ft k p1 = some (c, rk, ik, .ifCond .eq off, len1)) (h0 : 0 ≤ (p1 : Int) + off) (ht : ((p1 : Int) + off).toNat = t) (hp : p1 + 3 = p) (hT : le2 XT (rn d k t ls st m)) (hF : le2 XF (rn d k p ls st m)) : le2 (if x = y then XT else XF) (rn d k pc ls (pL y :: pL x :: st) m) := by
  refine r_lcmp G hp1 ?_
  have h := r_ifeq (x := lcp x y) G1 h0 ht hp hT hF
  intro q hq
  refine h q ?_
  simp only [lcp_eq]
  exact hq
theorem r_lcne {p1 len1 : Nat} {x y off : Int} {XT XF : RM} (G : ft k pc = some (c, rk, ik, .lcmp, len)) (hp1 : pc + 1 = p1) (G1 : ft k p1 = some (c, rk, ik, .ifCond .ne off, len1)) (h0 : 0 ≤ (p1 : Int) + off) (ht : ((p1 : Int) + off).toNat = t) (hp : p1 + 3 = p) (hF : le2 XF (rn d k p ls st m)) (hT : le2 XT (rn d k t ls st m)) : le2 (if x = y then XF else XT) (rn d k pc ls (pL y :: pL x :: st) m) := by
  refine r_lcmp G hp1 ?_
  have h := r_ifne (x := lcp x y) G1 h0 ht hp hF hT
  intro q hq
  refine h q ?_
  simp only [lcp_eq]
  exact hq
theorem r_lclt {p1 len1 : Nat} {x y off : Int} {XT XF : RM} (G : ft k pc = some (c, rk, ik, .lcmp, len)) (hp1 : pc + 1 = p1) (G1 : ft k p1 = some (c, rk, ik, .ifCond .lt off, len1)) (h0 : 0 ≤ (p1 : Int) + off) (ht : ((p1 : Int) + off).toNat = t) (hp : p1 + 3 = p) (hT : le2 XT (rn d k t ls st m)) (hF : le2 XF (rn d k p ls st m)) : le2 (if x < y then XT else XF) (rn d k pc ls (pL y :: pL x :: st) m) := by
  refine r_lcmp G hp1 ?_
  have h := r_iflt (x := lcp x y) G1 h0 ht hp hT hF
  intro q hq
  refine h q ?_
  simp only [lcp_lt]
  exact hq
theorem r_lcge {p1 len1 : Nat} {x y off : Int} {XT XF : RM} (G : ft k pc = some (c, rk, ik, .lcmp, len)) (hp1 : pc + 1 = p1) (G1 : ft k p1 = some (c, rk, ik, .ifCond .ge off, len1)) (h0 : 0 ≤ (p1 : Int) + off) (ht : ((p1 : Int) + off).toNat = t) (hp : p1 + 3 = p) (hF : le2 XF (rn d k p ls st m)) (hT : le2 XT (rn d k t ls st m)) : le2 (if x < y then XF else XT) (rn d k pc ls (pL y :: pL x :: st) m) := by
  refine r_lcmp G hp1 ?_
  have h := r_ifge (x := lcp x y) G1 h0 ht hp hF hT
  intro q hq
  refine h q ?_
  simp only [lcp_lt]
  exact hq
theorem r_lcgt {p1 len1 : Nat} {x y off : Int} {XT XF : RM} (G : ft k pc = some (c, rk, ik, .lcmp, len)) (hp1 : pc + 1 = p1) (G1 : ft k p1 = some (c, rk, ik, .ifCond .gt off, len1)) (h0 : 0 ≤ (p1 : Int) + off) (ht : ((p1 : Int) + off).toNat = t) (hp : p1 + 3 = p) (hT : le2 XT (rn d k t ls st m)) (hF : le2 XF (rn d k p ls st m)) : le2 (if y < x then XT else XF) (rn d k pc ls (pL y :: pL x :: st) m) := by
  refine r_lcmp G hp1 ?_
  have h := r_ifgt (x := lcp x y) G1 h0 ht hp hT hF
  intro q hq
  refine h q ?_
  simp only [lcp_gt]
  exact hq
theorem r_lcle {p1 len1 : Nat} {x y off : Int} {XT XF : RM} (G : ft k pc = some (c, rk, ik, .lcmp, len)) (hp1 : pc + 1 = p1) (G1 : ft k p1 = some (c, rk, ik, .ifCond .le off, len1)) (h0 : 0 ≤ (p1 : Int) + off) (ht : ((p1 : Int) + off).toNat = t) (hp : p1 + 3 = p) (hF : le2 XF (rn d k p ls st m)) (hT : le2 XT (rn d k t ls st m)) : le2 (if y < x then XF else XT) (rn d k pc ls (pL y :: pL x :: st) m) := by
  refine r_lcmp G hp1 ?_
  have h := r_ifle (x := lcp x y) G1 h0 ht hp hF hT
  intro q hq
  refine h q ?_
  simp only [lcp_gt]
  exact hq
theorem r_ifnull {x off : Int} {XT XF : RM} (G : ft k pc = some (c, rk, ik, .ifnull off, len)) (h0 : 0 ≤ (pc : Int) + off) (ht : ((pc : Int) + off).toNat = t) (hp : pc + 3 = p) (hT : le2 XT (rn d k t ls st m)) (hF : le2 XF (rn d k p ls st m)) : le2 (if x = 0 then XT else XF) (rn d k pc ls (pR x :: st) m) := by
  intro q hq
  by_cases hx : x = 0
  · rw [if_pos hx] at hq
    exact st_go (p := t) G rfl (by subst ht hp; dsimp only [stp]; rw [if_pos h0, if_pos hx]; try rfl) hT q hq
  · rw [if_neg hx] at hq
    exact st_go (p := p) G rfl (by subst ht hp; dsimp only [stp]; rw [if_pos h0, if_neg hx]; try rfl) hF q hq
theorem r_ifnonnull {x off : Int} {XT XF : RM} (G : ft k pc = some (c, rk, ik, .ifnonnull off, len)) (h0 : 0 ≤ (pc : Int) + off) (ht : ((pc : Int) + off).toNat = t) (hp : pc + 3 = p) (hF : le2 XF (rn d k p ls st m)) (hT : le2 XT (rn d k t ls st m)) : le2 (if x = 0 then XF else XT) (rn d k pc ls (pR x :: st) m) := by
  intro q hq
  by_cases hx : x = 0
  · rw [if_pos hx] at hq
    exact st_go (p := p) G rfl (by subst ht hp; dsimp only [stp]; rw [if_pos h0, if_pos hx]; try rfl) hF q hq
  · rw [if_neg hx] at hq
    exact st_go (p := t) G rfl (by subst ht hp; dsimp only [stp]; rw [if_pos h0, if_neg hx]; try rfl) hT q hq
theorem r_goto {off : Int} (G : ft k pc = some (c, rk, ik, .goto off, len)) (h0 : 0 ≤ (pc : Int) + off) (ht : ((pc : Int) + off).toNat = p) (hX : le2 X (rn d k p ls st m)) : le2 X (rn d k pc ls st m) := st_go G rfl (by subst ht; dsimp only [stp]; unfold nJ; rw [if_pos h0]; try rfl) hX
theorem r_tsO {x dd lo hi : Int} {offs : Array Int} (G : ft k pc = some (c, rk, ik, .tableswitch dd lo hi offs, len)) (hx : x < lo ∨ hi < x) (h0 : 0 ≤ (pc : Int) + dd) (ht : ((pc : Int) + dd).toNat = t) (hX : le2 X (rn d k t ls st m)) : le2 X (rn d k pc ls (pI x :: st) m) := st_go G rfl (by subst ht; dsimp only [stp]; rw [if_pos hx]; unfold nJ; rw [if_pos h0]; try rfl) hX
theorem r_tsJ {x dd lo hi off : Int} {offs : Array Int} (G : ft k pc = some (c, rk, ik, .tableswitch dd lo hi offs, len)) (hx : ¬ (x < lo ∨ hi < x)) (ho : offs[(x - lo).toNat]? = some off) (h0 : 0 ≤ (pc : Int) + off) (ht : ((pc : Int) + off).toNat = t) (hX : le2 X (rn d k t ls st m)) : le2 X (rn d k pc ls (pI x :: st) m) := st_go G rfl (by subst ht; dsimp only [stp]; rw [if_neg hx, ho]; try dsimp only; unfold nJ; rw [if_pos h0]; try rfl) hX
theorem r_tsI {x v dd lo hi off : Int} {offs : Array Int} (G : ft k pc = some (c, rk, ik, .tableswitch dd lo hi offs, len)) (hx : x = v) (hr : decide (v < lo ∨ hi < v) = false) (ho : offs[(v - lo).toNat]? = some off) (h0 : 0 ≤ (pc : Int) + off) (ht : ((pc : Int) + off).toNat = t) (hX : le2 X (rn d k t ls st m)) : le2 X (rn d k pc ls (pI x :: st) m) := by subst hx; exact r_tsJ G (of_decide_eq_false hr) ho h0 ht hX
theorem r_lsw {x dd off : Int} {ps : Array (Int × Int)} (G : ft k pc = some (c, rk, ik, .lookupswitch dd ps, len)) (hs : (ps.toList.zip (ps.toList.drop 1)).all (fun (a, next) => a.1 < next.1) = true) (ho : Op.lookupswitch.offset ps.toList dd x = off) (h0 : 0 ≤ (pc : Int) + off) (ht : ((pc : Int) + off).toNat = t) (hX : le2 X (rn d k t ls st m)) : le2 X (rn d k pc ls (pI x :: st) m) := st_go G rfl (by subst ht; dsimp only [stp]; rw [if_pos hs, ho]; unfold nJ; rw [if_pos h0]; try rfl) hX
theorem r_dup {v : PV} (G : ft k pc = some (c, rk, ik, .dup, len)) (hp : pc + 1 = p) (hv : cat v = 1) (hX : le2 X (rn d k p ls (v :: v :: st) m)) : le2 X (rn d k pc ls (v :: st) m) := st_go G rfl (by subst hp; exact if_pos hv) hX
theorem r_pop {v : PV} (G : ft k pc = some (c, rk, ik, .pop, len)) (hp : pc + 1 = p) (hv : cat v = 1) (hX : le2 X (rn d k p ls st m)) : le2 X (rn d k pc ls (v :: st) m) := st_go G rfl (by subst hp; exact if_pos hv) hX
theorem r_dup_x1 {v w : PV} (G : ft k pc = some (c, rk, ik, .dup_x1, len)) (hp : pc + 1 = p) (hv : cat v = 1) (hw : cat w = 1) (hX : le2 X (rn d k p ls (v :: w :: v :: st) m)) : le2 X (rn d k pc ls (v :: w :: st) m) := st_go G rfl (by subst hp; exact if_pos ⟨hv, hw⟩) hX
theorem r_dup2 {v w : PV} (G : ft k pc = some (c, rk, ik, .dup2, len)) (hp : pc + 1 = p) (hv : cat v = 1) (hw : cat w = 1) (hX : le2 X (rn d k p ls (v :: w :: v :: w :: st) m)) : le2 X (rn d k pc ls (v :: w :: st) m) := st_go G rfl (by subst hp; exact if_pos ⟨hv, hw⟩) hX
theorem r_gfI {n f0 t1 t2 fin : Nat} {a f x : Int} (G : ft k pc = some (c, rk, ik, .getfield n, len)) (hp : pc + 3 = p) (hl : lkN (rFt c) n = some (0, f0, t1, t2, fin)) (hf : (f0 : Int) = f) (ht : tg m a = (t1 : Int) ∨ tg m a = (t2 : Int)) (hv : vl m a f = x) (hX : le2 X (rn d k p ls (pI x :: st) m)) : le2 X (rn d k pc ls (pR a :: st) m) := st_go G rfl (by subst hp hv hf; dsimp only [stp]; rw [hl]; try dsimp only; rw [if_pos ht]; try rfl) hX
theorem r_gfIZ {n f0 t1 t2 fin : Nat} {a f x : Int} (G : ft k pc = some (c, rk, ik, .getfield n, len)) (hp : pc + 3 = p) (hl : lkN (rFt c) n = some (3, f0, t1, t2, fin)) (hf : (f0 : Int) = f) (ht : tg m a = (t1 : Int) ∨ tg m a = (t2 : Int)) (hv : vl m a f = x) (hX : le2 X (rn d k p ls (pI x :: st) m)) : le2 X (rn d k pc ls (pR a :: st) m) := st_go G rfl (by subst hp hv hf; dsimp only [stp]; rw [hl]; try dsimp only; rw [if_pos ht]; try rfl) hX
theorem r_gfJ {n f0 t1 t2 fin : Nat} {a f x : Int} (G : ft k pc = some (c, rk, ik, .getfield n, len)) (hp : pc + 3 = p) (hl : lkN (rFt c) n = some (1, f0, t1, t2, fin)) (hf : (f0 : Int) = f) (ht : tg m a = (t1 : Int) ∨ tg m a = (t2 : Int)) (hv : vl m a f = x) (hX : le2 X (rn d k p ls (pL x :: st) m)) : le2 X (rn d k pc ls (pR a :: st) m) := st_go G rfl (by subst hp hv hf; dsimp only [stp]; rw [hl]; try dsimp only; rw [if_pos ht]; try rfl) hX
theorem r_gfR {n f0 t1 t2 fin : Nat} {a f x : Int} (G : ft k pc = some (c, rk, ik, .getfield n, len)) (hp : pc + 3 = p) (hl : lkN (rFt c) n = some (2, f0, t1, t2, fin)) (hf : (f0 : Int) = f) (ht : tg m a = (t1 : Int) ∨ tg m a = (t2 : Int)) (hv : vl m a f = x) (hX : le2 X (rn d k p ls (pR x :: st) m)) : le2 X (rn d k pc ls (pR a :: st) m) := st_go G rfl (by subst hp hv hf; dsimp only [stp]; rw [hl]; try dsimp only; rw [if_pos ht]; try rfl) hX
theorem r_pfI {n f0 t1 fin : Nat} {a f x : Int} (G : ft k pc = some (c, rk, ik, .putfield n, len)) (hp : pc + 3 = p) (hl : lkN (rFt c) n = some (0, f0, t1, t1, fin)) (hf : (f0 : Int) = f) (h31 : c ≠ 31) (hfin : fin = 0 ∨ (ik = 1 ∧ t1 = c)) (ht : tg m a = (t1 : Int) ∨ tg m a = (t1 : Int)) (he : Nat.testBit (eM k) (bix (t1 : Int) f) = true) (hX : le2 X (rn d k p ls st (mst m a f x))) : le2 X (rn d k pc ls (pI x :: pR a :: st) m) := by
  subst hf
  have h1 : tg m a = (t1 : Int) := by rcases ht with h | h <;> exact h
  exact st_go G (by dsimp only [chk]; rw [hl]; try dsimp only; rw [h1]; exact he) (by subst hp; dsimp only [stp]; rw [hl]; try dsimp only; rw [if_pos ⟨ht, h31, hfin⟩]; skip; try rfl) hX
theorem r_pfI2 {n f0 t1 t2 fin : Nat} {a f x : Int} (G : ft k pc = some (c, rk, ik, .putfield n, len)) (hp : pc + 3 = p) (hl : lkN (rFt c) n = some (0, f0, t1, t2, fin)) (hf : (f0 : Int) = f) (h31 : c ≠ 31) (hfin : fin = 0 ∨ (ik = 1 ∧ t1 = c)) (ht : tg m a = (t1 : Int) ∨ tg m a = (t2 : Int)) (he : Nat.testBit (eM k) (bix (t1 : Int) f) = true) (he2 : Nat.testBit (eM k) (bix (t2 : Int) f) = true) (hX : le2 X (rn d k p ls st (mst m a f x))) : le2 X (rn d k pc ls (pI x :: pR a :: st) m) := by
  subst hf
  exact st_go G (by dsimp only [chk]; rw [hl]; try dsimp only; rcases ht with h1 | h1 <;> rw [h1] <;> assumption; try rfl) (by subst hp; dsimp only [stp]; rw [hl]; try dsimp only; rw [if_pos ⟨ht, h31, hfin⟩]; skip; try rfl) hX
theorem r_pfZ {n f0 t1 fin : Nat} {a f x : Int} (G : ft k pc = some (c, rk, ik, .putfield n, len)) (hp : pc + 3 = p) (hl : lkN (rFt c) n = some (3, f0, t1, t1, fin)) (hf : (f0 : Int) = f) (h31 : c ≠ 31) (hfin : fin = 0 ∨ (ik = 1 ∧ t1 = c)) (ht : tg m a = (t1 : Int) ∨ tg m a = (t1 : Int)) (he : Nat.testBit (eM k) (bix (t1 : Int) f) = true) (hx : x = 0 ∨ x = 1) (hX : le2 X (rn d k p ls st (mst m a f x))) : le2 X (rn d k pc ls (pI x :: pR a :: st) m) := by
  subst hf
  have h1 : tg m a = (t1 : Int) := by rcases ht with h | h <;> exact h
  exact st_go G (by dsimp only [chk]; rw [hl]; try dsimp only; rw [h1]; exact he) (by subst hp; dsimp only [stp]; rw [hl]; try dsimp only; rw [if_pos ⟨ht, h31, hfin⟩]; show (if x = 0 ∨ x = 1 then _ else _) = _; rw [if_pos hx]; try rfl) hX
theorem r_pfZ2 {n f0 t1 t2 fin : Nat} {a f x : Int} (G : ft k pc = some (c, rk, ik, .putfield n, len)) (hp : pc + 3 = p) (hl : lkN (rFt c) n = some (3, f0, t1, t2, fin)) (hf : (f0 : Int) = f) (h31 : c ≠ 31) (hfin : fin = 0 ∨ (ik = 1 ∧ t1 = c)) (ht : tg m a = (t1 : Int) ∨ tg m a = (t2 : Int)) (he : Nat.testBit (eM k) (bix (t1 : Int) f) = true) (he2 : Nat.testBit (eM k) (bix (t2 : Int) f) = true) (hx : x = 0 ∨ x = 1) (hX : le2 X (rn d k p ls st (mst m a f x))) : le2 X (rn d k pc ls (pI x :: pR a :: st) m) := by
  subst hf
  exact st_go G (by dsimp only [chk]; rw [hl]; try dsimp only; rcases ht with h1 | h1 <;> rw [h1] <;> assumption; try rfl) (by subst hp; dsimp only [stp]; rw [hl]; try dsimp only; rw [if_pos ⟨ht, h31, hfin⟩]; show (if x = 0 ∨ x = 1 then _ else _) = _; rw [if_pos hx]; try rfl) hX
theorem r_pfJ {n f0 t1 fin : Nat} {a f x : Int} (G : ft k pc = some (c, rk, ik, .putfield n, len)) (hp : pc + 3 = p) (hl : lkN (rFt c) n = some (1, f0, t1, t1, fin)) (hf : (f0 : Int) = f) (h31 : c ≠ 31) (hfin : fin = 0 ∨ (ik = 1 ∧ t1 = c)) (ht : tg m a = (t1 : Int) ∨ tg m a = (t1 : Int)) (he : Nat.testBit (eM k) (bix (t1 : Int) f) = true) (hX : le2 X (rn d k p ls st (mst m a f x))) : le2 X (rn d k pc ls (pL x :: pR a :: st) m) := by
  subst hf
  have h1 : tg m a = (t1 : Int) := by rcases ht with h | h <;> exact h
  exact st_go G (by dsimp only [chk]; rw [hl]; try dsimp only; rw [h1]; exact he) (by subst hp; dsimp only [stp]; rw [hl]; try dsimp only; rw [if_pos ⟨ht, h31, hfin⟩]; skip; try rfl) hX
theorem r_pfJ2 {n f0 t1 t2 fin : Nat} {a f x : Int} (G : ft k pc = some (c, rk, ik, .putfield n, len)) (hp : pc + 3 = p) (hl : lkN (rFt c) n = some (1, f0, t1, t2, fin)) (hf : (f0 : Int) = f) (h31 : c ≠ 31) (hfin : fin = 0 ∨ (ik = 1 ∧ t1 = c)) (ht : tg m a = (t1 : Int) ∨ tg m a = (t2 : Int)) (he : Nat.testBit (eM k) (bix (t1 : Int) f) = true) (he2 : Nat.testBit (eM k) (bix (t2 : Int) f) = true) (hX : le2 X (rn d k p ls st (mst m a f x))) : le2 X (rn d k pc ls (pL x :: pR a :: st) m) := by
  subst hf
  exact st_go G (by dsimp only [chk]; rw [hl]; try dsimp only; rcases ht with h1 | h1 <;> rw [h1] <;> assumption; try rfl) (by subst hp; dsimp only [stp]; rw [hl]; try dsimp only; rw [if_pos ⟨ht, h31, hfin⟩]; skip; try rfl) hX
theorem r_pfR {n f0 t1 fin : Nat} {a f x : Int} (G : ft k pc = some (c, rk, ik, .putfield n, len)) (hp : pc + 3 = p) (hl : lkN (rFt c) n = some (2, f0, t1, t1, fin)) (hf : (f0 : Int) = f) (h31 : c ≠ 31) (hfin : fin = 0 ∨ (ik = 1 ∧ t1 = c)) (ht : tg m a = (t1 : Int) ∨ tg m a = (t1 : Int)) (he : Nat.testBit (eM k) (bix (t1 : Int) f) = true) (hX : le2 X (rn d k p ls st (mst m a f x))) : le2 X (rn d k pc ls (pR x :: pR a :: st) m) := by
  subst hf
  have h1 : tg m a = (t1 : Int) := by rcases ht with h | h <;> exact h
  exact st_go G (by dsimp only [chk]; rw [hl]; try dsimp only; rw [h1]; exact he) (by subst hp; dsimp only [stp]; rw [hl]; try dsimp only; rw [if_pos ⟨ht, h31, hfin⟩]; skip; try rfl) hX
theorem r_pfR2 {n f0 t1 t2 fin : Nat} {a f x : Int} (G : ft k pc = some (c, rk, ik, .putfield n, len)) (hp : pc + 3 = p) (hl : lkN (rFt c) n = some (2, f0, t1, t2, fin)) (hf : (f0 : Int) = f) (h31 : c ≠ 31) (hfin : fin = 0 ∨ (ik = 1 ∧ t1 = c)) (ht : tg m a = (t1 : Int) ∨ tg m a = (t2 : Int)) (he : Nat.testBit (eM k) (bix (t1 : Int) f) = true) (he2 : Nat.testBit (eM k) (bix (t2 : Int) f) = true) (hX : le2 X (rn d k p ls st (mst m a f x))) : le2 X (rn d k pc ls (pR x :: pR a :: st) m) := by
  subst hf
  exact st_go G (by dsimp only [chk]; rw [hl]; try dsimp only; rcases ht with h1 | h1 <;> rw [h1] <;> assumption; try rfl) (by subst hp; dsimp only [stp]; rw [hl]; try dsimp only; rw [if_pos ⟨ht, h31, hfin⟩]; skip; try rfl) hX
theorem r_gs38 (G : ft k pc = some (31, rk, ik, .getstatic 38, len)) (hp : pc + 3 = p) (hX : le2 X (rn d k p ls (pI 1 :: st) m)) : le2 X (rn d k pc ls st m) := st_go G rfl (by subst hp; rfl) hX
theorem r_gs1053 (G : ft k pc = some (31, rk, ik, .getstatic 1053, len)) (hp : pc + 3 = p) (hX : le2 X (rn d k p ls (pU :: st) m)) : le2 X (rn d k pc ls st m) := st_go G rfl (by subst hp; rfl) hX
theorem r_throw {n e f0 : Nat} (G : ft k pc = some (c, rk, ik, .new n, len)) (hl : lkN (rNt c) n = some (1, e, f0)) (hx : (pc, e) ∈ rXt k) (hs : catS st ≤ 8) (he : Nat.testBit (eM k) 1 = true) (hk : (if k = 0 then none else hdl (rHt k) (pc + 7) (e : Int)) = some none) : le2 (some (.inr (e : Int), mal m (e : Int) (f0 : Int))) (rn d k pc ls st m) := by
  intro q hq; cases hq
  split at hk
  · cases hk
  · rename_i hk0
    exact rn_mk ⟨c, rk, ik, .new n, len, G, he, Or.inr (Or.inr (Or.inr ⟨e, _, (by dsimp only [stp]; rw [hl]; exact if_pos ⟨hx, hs⟩), hk0, hk, rfl⟩))⟩
theorem KP_mal {t1 n1 : Int} : KP m (mal m t1 n1) := (fr_mal (e := 2) rfl).1
theorem tg_malS {t1 n1 : Int} : tg (mal m t1 n1) (nx m) = t1 := if_pos rfl
theorem r_new {n t0 f0 : Nat} {t1 f1 : Int} {f : Int → Mem → RM} (G : ft k pc = some (c, rk, ik, .new n, len)) (hp : pc + 3 = p) (hl : lkN (rNt c) n = some (0, t0, f0)) (he : Nat.testBit (eM k) 1 = true) (h1 : (t0 : Int) = t1) (h2 : (f0 : Int) = f1) (hX : ∀ o m1, tg m1 o = t1 → KP m m1 → le2 (f o m1) (rn d k p ls (pR o :: st) m1)) : le2 (nw (nx m) (mal m t1 f1) f) (rn d k pc ls st m) := by
  subst h1 h2
  exact st_go G he (by subst hp; dsimp only [stp]; rw [hl]; try rfl) (hX _ _ tg_malS KP_mal)
theorem r_newa {a : ArrayType} {q t1 n : Int} {f : Int → Mem → RM} (G : ft k pc = some (c, rk, ik, .newarray a, len)) (hp : pc + 2 = p) (hq : aTy a = some q) (hn : 0 ≤ n ∧ n ≤ 2000000) (he : Nat.testBit (eM k) 1 = true) (h1 : q + 1000 * ((k : Int) + 1) = t1) (hX : ∀ o m1, tg m1 o = t1 → KP m m1 → le2 (f o m1) (rn d k p ls (pR o :: st) m1)) : le2 (nw (nx m) (mal m t1 n) f) (rn d k pc ls (pI n :: st) m) := by
  subst h1
  exact st_go G he (by subst hp; dsimp only [stp]; rw [hq]; try dsimp only; rw [if_pos hn]; try rfl) (hX _ _ tg_malS KP_mal)
theorem r_anewa {a q0 : Nat} {t1 n : Int} {f : Int → Mem → RM} (G : ft k pc = some (c, rk, ik, .anewarray a, len)) (hp : pc + 3 = p) (hq : lkN (rAt c) a = some q0) (hn : 0 ≤ n ∧ n ≤ 2000000) (he : Nat.testBit (eM k) 1 = true) (h1 : (q0 : Int) + 1000 * ((k : Int) + 1) = t1) (hX : ∀ o m1, tg m1 o = t1 → KP m m1 → le2 (f o m1) (rn d k p ls (pR o :: st) m1)) : le2 (nw (nx m) (mal m t1 n) f) (rn d k pc ls (pI n :: st) m) := by
  subst h1
  exact st_go G he (by subst hp; dsimp only [stp]; rw [hq]; try dsimp only; rw [if_pos hn]; try rfl) (hX _ _ tg_malS KP_mal)
theorem r_mna {t1 u1 : Int} {f : Int → Mem → RM} (G : ft k pc = some (12, rk, ik, .multianewarray 18 2, len)) (hp : pc + 4 = p) (he : Nat.testBit (eM k) 1 = true) (h1 : 118 + 1000 * ((k : Int) + 1) = t1) (h2 : 103 + 1000 * ((k : Int) + 1) = u1) (hX : ∀ o m1, tg m1 o = t1 → KP m m1 → le2 (f o m1) (rn d k p ls (pR o :: st) m1)) : le2 (nw (nx m) (mgr m t1 u1 100 480) f) (rn d k pc ls (pI 480 :: pI 100 :: st) m) := by
  subst h1 h2
  exact st_go G he (by subst hp; rfl) (hX _ _ (if_pos rfl) (fr_mgr (e := 2) (by decide) rfl).1)
theorem r_alen {a : Int} (G : ft k pc = some (c, rk, ik, .arraylength, len)) (hp : pc + 1 = p) (ht : 100 < tg m a % 1000 ∧ tg m a % 1000 < 119) (hX : le2 X (rn d k p ls (pI (ln m a) :: st) m)) : le2 X (rn d k pc ls (pR a :: st) m) := st_go G rfl (by subst hp; exact if_pos ht) hX
theorem r_iaload {a j x : Int} (G : ft k pc = some (c, rk, ik, .iaload, len)) (hp : pc + 1 = p) (ht : tg m a % 1000 = 101) (hb : 0 ≤ j ∧ j < ln m a) (hv : vl m a j = x) (hX : le2 X (rn d k p ls (pI x :: st) m)) : le2 X (rn d k pc ls (pI j :: pR a :: st) m) := st_go G rfl (by subst hp hv; exact if_pos ⟨ht, hb⟩) hX
theorem r_laload {a j x : Int} (G : ft k pc = some (c, rk, ik, .laload, len)) (hp : pc + 1 = p) (ht : tg m a % 1000 = 102) (hb : 0 ≤ j ∧ j < ln m a) (hv : vl m a j = x) (hX : le2 X (rn d k p ls (pL x :: st) m)) : le2 X (rn d k pc ls (pI j :: pR a :: st) m) := st_go G rfl (by subst hp hv; exact if_pos ⟨ht, hb⟩) hX
theorem r_caload {a j x : Int} (G : ft k pc = some (c, rk, ik, .caload, len)) (hp : pc + 1 = p) (ht : tg m a % 1000 = 104) (hb : 0 ≤ j ∧ j < ln m a) (hv : vl m a j = x) (hX : le2 X (rn d k p ls (pI x :: st) m)) : le2 X (rn d k pc ls (pI j :: pR a :: st) m) := st_go G rfl (by subst hp hv; exact if_pos ⟨ht, hb⟩) hX
theorem r_baload {a j x : Int} (G : ft k pc = some (c, rk, ik, .baload, len)) (hp : pc + 1 = p) (ht : tg m a % 1000 = 103 ∨ tg m a % 1000 = 105) (hb : 0 ≤ j ∧ j < ln m a) (hv : vl m a j = x) (hX : le2 X (rn d k p ls (pI x :: st) m)) : le2 X (rn d k pc ls (pI j :: pR a :: st) m) := st_go G rfl (by subst hp hv; exact if_pos ⟨ht, hb⟩) hX
theorem r_aaload {a j x : Int} (G : ft k pc = some (c, rk, ik, .aaload, len)) (hp : pc + 1 = p) (ht : 110 < tg m a % 1000 ∧ tg m a % 1000 < 119) (hb : 0 ≤ j ∧ j < ln m a) (hv : vl m a j = x) (hX : le2 X (rn d k p ls (pR x :: st) m)) : le2 X (rn d k pc ls (pI j :: pR a :: st) m) := st_go G rfl (by subst hp hv; exact if_pos ⟨ht, hb⟩) hX
theorem r_iastore {a j x : Int} (G : ft k pc = some (c, rk, ik, .iastore, len)) (hp : pc + 1 = p) (ht : 1000 ≤ tg m a ∧ tg m a % 1000 = 101 ∧ Nat.testBit (eM k) (bix (tg m a) 0) = true) (hb : 0 ≤ j ∧ j < ln m a) (hX : le2 X (rn d k p ls st (mst m a j x))) : le2 X (rn d k pc ls (pI x :: pI j :: pR a :: st) m) := st_go G ht.2.2 (by subst hp; exact if_pos ⟨ht.1, ht.2.1, hb⟩) hX
theorem r_lastore {a j x : Int} (G : ft k pc = some (c, rk, ik, .lastore, len)) (hp : pc + 1 = p) (ht : 1000 ≤ tg m a ∧ tg m a % 1000 = 102 ∧ Nat.testBit (eM k) (bix (tg m a) 0) = true) (hb : 0 ≤ j ∧ j < ln m a) (hX : le2 X (rn d k p ls st (mst m a j x))) : le2 X (rn d k pc ls (pL x :: pI j :: pR a :: st) m) := st_go G ht.2.2 (by subst hp; exact if_pos ⟨ht.1, ht.2.1, hb⟩) hX
theorem r_castore {a j x : Int} (G : ft k pc = some (c, rk, ik, .castore, len)) (hp : pc + 1 = p) (ht : 1000 ≤ tg m a ∧ tg m a % 1000 = 104 ∧ Nat.testBit (eM k) (bix (tg m a) 0) = true) (hb : 0 ≤ j ∧ j < ln m a) (hX : le2 X (rn d k p ls st (mst m a j (x % 65536)))) : le2 X (rn d k pc ls (pI x :: pI j :: pR a :: st) m) := st_go G ht.2.2 (by subst hp; exact if_pos ⟨ht.1, ht.2.1, hb⟩) hX
theorem r_bastore {a j x : Int} (G : ft k pc = some (c, rk, ik, .bastore, len)) (hp : pc + 1 = p) (ht : 1000 ≤ tg m a ∧ tg m a % 1000 = 103 ∧ Nat.testBit (eM k) (bix (tg m a) 0) = true) (hb : 0 ≤ j ∧ j < ln m a) (hX : le2 X (rn d k p ls st (mst m a j (w8 x)))) : le2 X (rn d k pc ls (pI x :: pI j :: pR a :: st) m) := st_go G ht.2.2 (by subst hp; dsimp only [stp]; rw [if_pos ⟨ht.1, hb⟩, if_pos ht.2.1]; try rfl) hX
theorem r_bastoreZ {a j x : Int} (G : ft k pc = some (c, rk, ik, .bastore, len)) (hp : pc + 1 = p) (ht : 1000 ≤ tg m a ∧ tg m a % 1000 = 105 ∧ Nat.testBit (eM k) (bix (tg m a) 0) = true) (hb : 0 ≤ j ∧ j < ln m a) (hx : x = 0 ∨ x = 1) (hX : le2 X (rn d k p ls st (mst m a j x))) : le2 X (rn d k pc ls (pI x :: pI j :: pR a :: st) m) := st_go G ht.2.2 (by subst hp; dsimp only [stp]; rw [if_pos ⟨ht.1, hb⟩, if_neg (by omega), if_pos ⟨ht.2.1, hx⟩]; try rfl) hX
theorem r_aastore {a j x : Int} (G : ft k pc = some (c, rk, ik, .aastore, len)) (hp : pc + 1 = p) (ht : 1000 ≤ tg m a ∧ (110 < tg m a % 1000 ∧ tg m a % 1000 < 119) ∧ Nat.testBit (eM k) (bix (tg m a) 0) = true) (hb : 0 ≤ j ∧ j < ln m a) (ho : aOk (tg m a % 1000) (tg m x) = true) (hX : le2 X (rn d k p ls st (mst m a j x))) : le2 X (rn d k pc ls (pR x :: pI j :: pR a :: st) m) := st_go G ht.2.2 (by subst hp; exact if_pos ⟨ht.1, hb.1, hb.2, ht.2.1, ho⟩) hX
theorem r_inst {n t0 : Nat} {a t1 : Int} (G : ft k pc = some (c, rk, ik, .instanceof n, len)) (hp : pc + 3 = p) (hl : lkN (rOt c) n = some t0) (h1 : (t0 : Int) = t1) (ht : aOk 111 (tg m a) = true) (hX : le2 X (rn d k p ls (pI (if tg m a = t1 then (1 : Int) else 0) :: st) m)) : le2 X (rn d k pc ls (pR a :: st) m) := by
  subst h1
  exact st_go G rfl (by subst hp; dsimp only [stp]; rw [hl]; try dsimp only; rw [if_pos ht]; try rfl) hX
theorem r_ret (G : ft k pc = some (c, 0, ik, .return_, len)) : le2 (some (.inl none, m)) (rn d k pc ls [] m) := st_ret G rfl rfl
theorem r_iret1 {x : Int} (G : ft k pc = some (c, 1, ik, .ireturn, len)) : le2 (some (.inl (some (pI x)), m)) (rn d k pc ls [pI x] m) := st_ret G rfl rfl
theorem r_iret4 {x : Int} (G : ft k pc = some (c, 4, ik, .ireturn, len)) (hx : x = 0 ∨ x = 1) : le2 (some (.inl (some (pI x)), m)) (rn d k pc ls [pI x] m) := st_ret G rfl (if_pos (Or.inr (Or.inl ⟨rfl, hx⟩)))
theorem r_iret5 {x : Int} (G : ft k pc = some (c, 5, ik, .ireturn, len)) (hx : pin x 0 65536) : le2 (some (.inl (some (pI x)), m)) (rn d k pc ls [pI x] m) := st_ret G rfl (if_pos (Or.inr (Or.inr (Or.inl ⟨rfl, hx⟩))))
theorem r_iret6 {x : Int} (G : ft k pc = some (c, 6, ik, .ireturn, len)) (hx : pin x (-128) 128) : le2 (some (.inl (some (pI x)), m)) (rn d k pc ls [pI x] m) := st_ret G rfl (if_pos (Or.inr (Or.inr (Or.inr ⟨rfl, hx⟩))))
theorem r_lret {x : Int} (G : ft k pc = some (c, 2, ik, .lreturn, len)) : le2 (some (.inl (some (pL x)), m)) (rn d k pc ls [pL x] m) := st_ret G rfl rfl
theorem r_aret {x : Int} (G : ft k pc = some (c, 3, ik, .areturn, len)) : le2 (some (.inl (some (pR x)), m)) (rn d k pc ls [pR x] m) := st_ret G rfl rfl
theorem r_objinit {n : Nat} {a : Int} {w1 w2 w3 w4 : Nat} (G : ft k pc = some (c, rk, ik, .invokespecial n, len)) (hp : pc + 3 = p) (hl : lkN (rIt c) n = some (2, w1, w2, w3, w4)) (ht : 0 < tg m a ∧ tg m a < 100) (hs : catS st ≤ 8) (hX : le2 X (rn d k p ls st m)) : le2 X (rn d k pc ls (pR a :: st) m) := st_go G rfl (by subst hp; dsimp only [stp]; rw [hl]; exact if_pos ⟨ht.1, ht.2, hs⟩) hX
theorem r_math6 {n : Nat} {x y : Int} {w1 w2 w3 w4 : Nat} (G : ft k pc = some (c, rk, ik, .invokestatic n, len)) (hp : pc + 3 = p) (hl : lkN (rIt c) n = some (6, w1, w2, w3, w4)) (hs : catS st ≤ 8) (hX : le2 X (rn d k p ls (pI (max x y) :: st) m)) : le2 X (rn d k pc ls (pI y :: pI x :: st) m) := st_go G (by dsimp only [chk]; rw [hl]; try rfl) (by subst hp; dsimp only [stp]; rw [hl]; exact if_pos hs) hX
theorem r_math7 {n : Nat} {x y : Int} {w1 w2 w3 w4 : Nat} (G : ft k pc = some (c, rk, ik, .invokestatic n, len)) (hp : pc + 3 = p) (hl : lkN (rIt c) n = some (7, w1, w2, w3, w4)) (hs : catS st ≤ 8) (hX : le2 X (rn d k p ls (pI (min x y) :: st) m)) : le2 X (rn d k pc ls (pI y :: pI x :: st) m) := st_go G (by dsimp only [chk]; rw [hl]; try rfl) (by subst hp; dsimp only [stp]; rw [hl]; exact if_pos hs) hX
theorem r_math8 {n : Nat} {x y : Int} {w1 w2 w3 w4 : Nat} (G : ft k pc = some (c, rk, ik, .invokestatic n, len)) (hp : pc + 3 = p) (hl : lkN (rIt c) n = some (8, w1, w2, w3, w4)) (hs : catS st ≤ 8) (hX : le2 X (rn d k p ls (pL (max x y) :: st) m)) : le2 X (rn d k pc ls (pL y :: pL x :: st) m) := st_go G (by dsimp only [chk]; rw [hl]; try rfl) (by subst hp; dsimp only [stp]; rw [hl]; exact if_pos hs) hX
theorem r_math9 {n : Nat} {x y : Int} {w1 w2 w3 w4 : Nat} (G : ft k pc = some (c, rk, ik, .invokestatic n, len)) (hp : pc + 3 = p) (hl : lkN (rIt c) n = some (9, w1, w2, w3, w4)) (hs : catS st ≤ 8) (hX : le2 X (rn d k p ls (pL (min x y) :: st) m)) : le2 X (rn d k pc ls (pL y :: pL x :: st) m) := st_go G (by dsimp only [chk]; rw [hl]; try rfl) (by subst hp; dsimp only [stp]; rw [hl]; exact if_pos hs) hX
theorem r_acopy {n0 : Nat} {s sp e dp n el : Int} {w1 w2 w3 w4 : Nat} (G : ft k pc = some (c, rk, ik, .invokestatic n0, len)) (hp : pc + 3 = p) (hl : lkN (rIt c) n0 = some (4, w1, w2, w3, w4)) (hb : 0 ≤ n ∧ 0 ≤ sp ∧ 0 ≤ dp ∧ sp + n ≤ ln m s ∧ dp + n ≤ ln m e) (h1 : 1000 ≤ tg m s ∧ tg m s % 1000 = el) (h2 : 1000 ≤ tg m e ∧ tg m e % 1000 = el ∧ Nat.testBit (eM k) (bix (tg m e) 0) = true) (hel : el = 101 ∨ el = 103) (hs : catS st ≤ 8) (hX : le2 X (rn d k p ls st (mcp m s sp e dp n))) : le2 X (rn d k pc ls (pI n :: pI dp :: pR e :: pI sp :: pR s :: st) m) := st_go G (by dsimp only [chk]; rw [hl]; exact h2.2.2) (by subst hp; dsimp only [stp]; rw [hl]; exact if_pos ⟨hb.1, hb.2.1, hb.2.2.1, hb.2.2.2.1, hb.2.2.2.2, hs, h2.1, h1.1, h1.2.trans h2.2.1.symm, by rw [h2.2.1]; exact hel⟩) hX
theorem r_invV {n k1 na t1 t2 : Nat} {a : Int} {as : List PV} {f : Mem → RM} (G : ft k pc = some (c, rk, ik, .invokevirtual n, len)) (hp : pc + 3 = p) (hl : lkN (rIt c) n = some (0, k1, na, t1, t2)) (htk : takeN na st = some (as, pR a :: r)) (ht : tg m a = (t1 : Int) ∨ tg m a = (t2 : Int)) (hd : 0 < d) (hs : catS r ≤ 8) (hk1 : Nat.ble 1 k1 = true) (hE : subE k1 k = true) (hk : Nat.ble 1 k = true) (hh : ∀ e, hdlC (rHt k) pc e = some none) (hf : ∀ m1, KP m m1 → le2 (f m1) (rn d k p ls r m1)) : le2 (bV (cl (d - 1) k1 (pR a :: as) m) f) (rn d k pc ls st m) := st_call (ln1 := 3) (rest := r) (k1 := k1) G rfl (by dsimp only [stp]; simp only [hl, htk]; exact if_pos ht) hd hs (Nat.le_of_ble_eq_true hk1) hE hk hh (fun v m1 hk => by rw [hp]; exact oV_le (hf m1 hk))
theorem r_ispV {n k1 na t1 t2 : Nat} {a : Int} {as : List PV} {f : Mem → RM} (G : ft k pc = some (c, rk, ik, .invokespecial n, len)) (hp : pc + 3 = p) (hl : lkN (rIt c) n = some (5, k1, na, t1, t2)) (htk : takeN na st = some (as, pR a :: r)) (ht : tg m a = (t1 : Int) ∨ tg m a = (t2 : Int)) (hd : 0 < d) (hs : catS r ≤ 8) (hk1 : Nat.ble 1 k1 = true) (hE : subE k1 k = true) (hk : Nat.ble 1 k = true) (hh : ∀ e, hdlC (rHt k) pc e = some none) (hf : ∀ m1, KP m m1 → le2 (f m1) (rn d k p ls r m1)) : le2 (bV (cl (d - 1) k1 (pR a :: as) m) f) (rn d k pc ls st m) := st_call (ln1 := 3) (rest := r) (k1 := k1) G rfl (by dsimp only [stp]; simp only [hl, htk]; exact if_pos ht) hd hs (Nat.le_of_ble_eq_true hk1) hE hk hh (fun v m1 hk => by rw [hp]; exact oV_le (hf m1 hk))
theorem r_istV {n k1 na : Nat} {w1 w2 : Nat} {as : List PV} {f : Mem → RM} (G : ft k pc = some (c, rk, ik, .invokestatic n, len)) (hp : pc + 3 = p) (hl : lkN (rIt c) n = some (1, k1, na, w1, w2)) (htk : takeN na st = some (as, r)) (hd : 0 < d) (hs : catS r ≤ 8) (hk1 : Nat.ble 1 k1 = true) (hE : subE k1 k = true) (hk : Nat.ble 1 k = true) (hh : ∀ e, hdlC (rHt k) pc e = some none) (hf : ∀ m1, KP m m1 → le2 (f m1) (rn d k p ls r m1)) : le2 (bV (cl (d - 1) k1 as m) f) (rn d k pc ls st m) := st_call (ln1 := 3) (rest := r) (k1 := k1) G (by dsimp only [chk]; rw [hl]; try rfl) (by dsimp only [stp]; simp only [hl, htk]) hd hs (Nat.le_of_ble_eq_true hk1) hE hk hh (fun v m1 hk => by rw [hp]; exact oV_le (hf m1 hk))
theorem r_invVh {n k1 na t1 t2 : Nat} {a : Int} {as : List PV} {f : Mem → RM} {g : Int → Mem → RM} (G : ft k pc = some (c, rk, ik, .invokevirtual n, len)) (hp : pc + 3 = p) (hl : lkN (rIt c) n = some (0, k1, na, t1, t2)) (htk : takeN na st = some (as, pR a :: r)) (ht : tg m a = (t1 : Int) ∨ tg m a = (t2 : Int)) (hd : 0 < d) (hs : catS r ≤ 8) (hk1 : Nat.ble 1 k1 = true) (hE : subE k1 k = true) (hf : ∀ m1, KP m m1 → le2 (f m1) (rn d k p ls r m1)) (hg : ∀ e m1, KP m m1 → le2 (g e m1) (hres d k pc e ls m1)) : le2 (bVh (cl (d - 1) k1 (pR a :: as) m) f g) (rn d k pc ls st m) := st_callh (ln1 := 3) (rest := r) (k1 := k1) G rfl (by dsimp only [stp]; simp only [hl, htk]; exact if_pos ht) hd hs (Nat.le_of_ble_eq_true hk1) hE (fun v m1 hk => by rw [hp]; exact oV_le (hf m1 hk)) hg
theorem r_ispVh {n k1 na t1 t2 : Nat} {a : Int} {as : List PV} {f : Mem → RM} {g : Int → Mem → RM} (G : ft k pc = some (c, rk, ik, .invokespecial n, len)) (hp : pc + 3 = p) (hl : lkN (rIt c) n = some (5, k1, na, t1, t2)) (htk : takeN na st = some (as, pR a :: r)) (ht : tg m a = (t1 : Int) ∨ tg m a = (t2 : Int)) (hd : 0 < d) (hs : catS r ≤ 8) (hk1 : Nat.ble 1 k1 = true) (hE : subE k1 k = true) (hf : ∀ m1, KP m m1 → le2 (f m1) (rn d k p ls r m1)) (hg : ∀ e m1, KP m m1 → le2 (g e m1) (hres d k pc e ls m1)) : le2 (bVh (cl (d - 1) k1 (pR a :: as) m) f g) (rn d k pc ls st m) := st_callh (ln1 := 3) (rest := r) (k1 := k1) G rfl (by dsimp only [stp]; simp only [hl, htk]; exact if_pos ht) hd hs (Nat.le_of_ble_eq_true hk1) hE (fun v m1 hk => by rw [hp]; exact oV_le (hf m1 hk)) hg
theorem r_istVh {n k1 na : Nat} {w1 w2 : Nat} {as : List PV} {f : Mem → RM} {g : Int → Mem → RM} (G : ft k pc = some (c, rk, ik, .invokestatic n, len)) (hp : pc + 3 = p) (hl : lkN (rIt c) n = some (1, k1, na, w1, w2)) (htk : takeN na st = some (as, r)) (hd : 0 < d) (hs : catS r ≤ 8) (hk1 : Nat.ble 1 k1 = true) (hE : subE k1 k = true) (hf : ∀ m1, KP m m1 → le2 (f m1) (rn d k p ls r m1)) (hg : ∀ e m1, KP m m1 → le2 (g e m1) (hres d k pc e ls m1)) : le2 (bVh (cl (d - 1) k1 as m) f g) (rn d k pc ls st m) := st_callh (ln1 := 3) (rest := r) (k1 := k1) G (by dsimp only [chk]; rw [hl]; try rfl) (by dsimp only [stp]; simp only [hl, htk]) hd hs (Nat.le_of_ble_eq_true hk1) hE (fun v m1 hk => by rw [hp]; exact oV_le (hf m1 hk)) hg
theorem r_infV {n f0 na : Nat} {w1 w2 : Nat} {b : Nat} {a : Int} {as : List PV} {f : Mem → RM} (G : ft k pc = some (c, rk, ik, .invokeinterface n b, len)) (hp : pc + 5 = p) (hl : lkN (rIt c) n = some (3, f0, na, w1, w2)) (htk : takeN na st = some (as, pR a :: r)) (ht : 0 < tg m a) (hd : 0 < d) (hs : catS r ≤ 8) (hE : (rDt f0).all (fun q => subE q.2 k && Nat.ble 1 q.2) = true) (hk : Nat.ble 1 k = true) (hh : ∀ e, hdlC (rHt k) pc e = some none) (hf : ∀ m1, KP m m1 → le2 (f m1) (rn d k p ls r m1)) : le2 (bV (ci (d - 1) f0 (tg m a) (pR a :: as) m) f) (rn d k pc ls st m) := by
  intro q hq
  unfold ci at hq
  split at hq
  · rename_i k1 hk1
    have hq1 := lkN_all hE hk1
    rw [Bool.and_eq_true] at hq1
    exact (st_call (i := .invokeinterface n b) (ln1 := 5) (rest := r) G rfl (by dsimp only [stp]; simp only [hl, htk, hk1]; exact if_pos ht) hd hs (Nat.le_of_ble_eq_true hq1.2) hq1.1 hk hh (fun v m1 hk => by rw [hp]; exact oV_le (hf m1 hk))) q hq
  · cases hq
theorem r_invI {n k1 na t1 t2 : Nat} {a : Int} {as : List PV} {f : Int → Mem → RM} (G : ft k pc = some (c, rk, ik, .invokevirtual n, len)) (hp : pc + 3 = p) (hl : lkN (rIt c) n = some (0, k1, na, t1, t2)) (htk : takeN na st = some (as, pR a :: r)) (ht : tg m a = (t1 : Int) ∨ tg m a = (t2 : Int)) (hd : 0 < d) (hs : catS r ≤ 8) (hk1 : Nat.ble 1 k1 = true) (hE : subE k1 k = true) (hk : Nat.ble 1 k = true) (hh : ∀ e, hdlC (rHt k) pc e = some none) (hf : ∀ x m1, KP m m1 → le2 (f x m1) (rn d k p ls (pI x :: r) m1)) : le2 (bI (cl (d - 1) k1 (pR a :: as) m) f) (rn d k pc ls st m) := st_call (ln1 := 3) (rest := r) (k1 := k1) G rfl (by dsimp only [stp]; simp only [hl, htk]; exact if_pos ht) hd hs (Nat.le_of_ble_eq_true hk1) hE hk hh (fun v m1 hk => by rw [hp]; exact oI_le (fun x => hf x m1 hk))
theorem r_ispI {n k1 na t1 t2 : Nat} {a : Int} {as : List PV} {f : Int → Mem → RM} (G : ft k pc = some (c, rk, ik, .invokespecial n, len)) (hp : pc + 3 = p) (hl : lkN (rIt c) n = some (5, k1, na, t1, t2)) (htk : takeN na st = some (as, pR a :: r)) (ht : tg m a = (t1 : Int) ∨ tg m a = (t2 : Int)) (hd : 0 < d) (hs : catS r ≤ 8) (hk1 : Nat.ble 1 k1 = true) (hE : subE k1 k = true) (hk : Nat.ble 1 k = true) (hh : ∀ e, hdlC (rHt k) pc e = some none) (hf : ∀ x m1, KP m m1 → le2 (f x m1) (rn d k p ls (pI x :: r) m1)) : le2 (bI (cl (d - 1) k1 (pR a :: as) m) f) (rn d k pc ls st m) := st_call (ln1 := 3) (rest := r) (k1 := k1) G rfl (by dsimp only [stp]; simp only [hl, htk]; exact if_pos ht) hd hs (Nat.le_of_ble_eq_true hk1) hE hk hh (fun v m1 hk => by rw [hp]; exact oI_le (fun x => hf x m1 hk))
theorem r_istI {n k1 na : Nat} {w1 w2 : Nat} {as : List PV} {f : Int → Mem → RM} (G : ft k pc = some (c, rk, ik, .invokestatic n, len)) (hp : pc + 3 = p) (hl : lkN (rIt c) n = some (1, k1, na, w1, w2)) (htk : takeN na st = some (as, r)) (hd : 0 < d) (hs : catS r ≤ 8) (hk1 : Nat.ble 1 k1 = true) (hE : subE k1 k = true) (hk : Nat.ble 1 k = true) (hh : ∀ e, hdlC (rHt k) pc e = some none) (hf : ∀ x m1, KP m m1 → le2 (f x m1) (rn d k p ls (pI x :: r) m1)) : le2 (bI (cl (d - 1) k1 as m) f) (rn d k pc ls st m) := st_call (ln1 := 3) (rest := r) (k1 := k1) G (by dsimp only [chk]; rw [hl]; try rfl) (by dsimp only [stp]; simp only [hl, htk]) hd hs (Nat.le_of_ble_eq_true hk1) hE hk hh (fun v m1 hk => by rw [hp]; exact oI_le (fun x => hf x m1 hk))
theorem r_invIh {n k1 na t1 t2 : Nat} {a : Int} {as : List PV} {f : Int → Mem → RM} {g : Int → Mem → RM} (G : ft k pc = some (c, rk, ik, .invokevirtual n, len)) (hp : pc + 3 = p) (hl : lkN (rIt c) n = some (0, k1, na, t1, t2)) (htk : takeN na st = some (as, pR a :: r)) (ht : tg m a = (t1 : Int) ∨ tg m a = (t2 : Int)) (hd : 0 < d) (hs : catS r ≤ 8) (hk1 : Nat.ble 1 k1 = true) (hE : subE k1 k = true) (hf : ∀ x m1, KP m m1 → le2 (f x m1) (rn d k p ls (pI x :: r) m1)) (hg : ∀ e m1, KP m m1 → le2 (g e m1) (hres d k pc e ls m1)) : le2 (bIh (cl (d - 1) k1 (pR a :: as) m) f g) (rn d k pc ls st m) := st_callh (ln1 := 3) (rest := r) (k1 := k1) G rfl (by dsimp only [stp]; simp only [hl, htk]; exact if_pos ht) hd hs (Nat.le_of_ble_eq_true hk1) hE (fun v m1 hk => by rw [hp]; exact oI_le (fun x => hf x m1 hk)) hg
theorem r_ispIh {n k1 na t1 t2 : Nat} {a : Int} {as : List PV} {f : Int → Mem → RM} {g : Int → Mem → RM} (G : ft k pc = some (c, rk, ik, .invokespecial n, len)) (hp : pc + 3 = p) (hl : lkN (rIt c) n = some (5, k1, na, t1, t2)) (htk : takeN na st = some (as, pR a :: r)) (ht : tg m a = (t1 : Int) ∨ tg m a = (t2 : Int)) (hd : 0 < d) (hs : catS r ≤ 8) (hk1 : Nat.ble 1 k1 = true) (hE : subE k1 k = true) (hf : ∀ x m1, KP m m1 → le2 (f x m1) (rn d k p ls (pI x :: r) m1)) (hg : ∀ e m1, KP m m1 → le2 (g e m1) (hres d k pc e ls m1)) : le2 (bIh (cl (d - 1) k1 (pR a :: as) m) f g) (rn d k pc ls st m) := st_callh (ln1 := 3) (rest := r) (k1 := k1) G rfl (by dsimp only [stp]; simp only [hl, htk]; exact if_pos ht) hd hs (Nat.le_of_ble_eq_true hk1) hE (fun v m1 hk => by rw [hp]; exact oI_le (fun x => hf x m1 hk)) hg
theorem r_istIh {n k1 na : Nat} {w1 w2 : Nat} {as : List PV} {f : Int → Mem → RM} {g : Int → Mem → RM} (G : ft k pc = some (c, rk, ik, .invokestatic n, len)) (hp : pc + 3 = p) (hl : lkN (rIt c) n = some (1, k1, na, w1, w2)) (htk : takeN na st = some (as, r)) (hd : 0 < d) (hs : catS r ≤ 8) (hk1 : Nat.ble 1 k1 = true) (hE : subE k1 k = true) (hf : ∀ x m1, KP m m1 → le2 (f x m1) (rn d k p ls (pI x :: r) m1)) (hg : ∀ e m1, KP m m1 → le2 (g e m1) (hres d k pc e ls m1)) : le2 (bIh (cl (d - 1) k1 as m) f g) (rn d k pc ls st m) := st_callh (ln1 := 3) (rest := r) (k1 := k1) G (by dsimp only [chk]; rw [hl]; try rfl) (by dsimp only [stp]; simp only [hl, htk]) hd hs (Nat.le_of_ble_eq_true hk1) hE (fun v m1 hk => by rw [hp]; exact oI_le (fun x => hf x m1 hk)) hg
theorem r_infI {n f0 na : Nat} {w1 w2 : Nat} {b : Nat} {a : Int} {as : List PV} {f : Int → Mem → RM} (G : ft k pc = some (c, rk, ik, .invokeinterface n b, len)) (hp : pc + 5 = p) (hl : lkN (rIt c) n = some (3, f0, na, w1, w2)) (htk : takeN na st = some (as, pR a :: r)) (ht : 0 < tg m a) (hd : 0 < d) (hs : catS r ≤ 8) (hE : (rDt f0).all (fun q => subE q.2 k && Nat.ble 1 q.2) = true) (hk : Nat.ble 1 k = true) (hh : ∀ e, hdlC (rHt k) pc e = some none) (hf : ∀ x m1, KP m m1 → le2 (f x m1) (rn d k p ls (pI x :: r) m1)) : le2 (bI (ci (d - 1) f0 (tg m a) (pR a :: as) m) f) (rn d k pc ls st m) := by
  intro q hq
  unfold ci at hq
  split at hq
  · rename_i k1 hk1
    have hq1 := lkN_all hE hk1
    rw [Bool.and_eq_true] at hq1
    exact (st_call (i := .invokeinterface n b) (ln1 := 5) (rest := r) G rfl (by dsimp only [stp]; simp only [hl, htk, hk1]; exact if_pos ht) hd hs (Nat.le_of_ble_eq_true hq1.2) hq1.1 hk hh (fun v m1 hk => by rw [hp]; exact oI_le (fun x => hf x m1 hk))) q hq
  · cases hq
theorem r_invL {n k1 na t1 t2 : Nat} {a : Int} {as : List PV} {f : Int → Mem → RM} (G : ft k pc = some (c, rk, ik, .invokevirtual n, len)) (hp : pc + 3 = p) (hl : lkN (rIt c) n = some (0, k1, na, t1, t2)) (htk : takeN na st = some (as, pR a :: r)) (ht : tg m a = (t1 : Int) ∨ tg m a = (t2 : Int)) (hd : 0 < d) (hs : catS r ≤ 8) (hk1 : Nat.ble 1 k1 = true) (hE : subE k1 k = true) (hk : Nat.ble 1 k = true) (hh : ∀ e, hdlC (rHt k) pc e = some none) (hf : ∀ x m1, KP m m1 → le2 (f x m1) (rn d k p ls (pL x :: r) m1)) : le2 (bL (cl (d - 1) k1 (pR a :: as) m) f) (rn d k pc ls st m) := st_call (ln1 := 3) (rest := r) (k1 := k1) G rfl (by dsimp only [stp]; simp only [hl, htk]; exact if_pos ht) hd hs (Nat.le_of_ble_eq_true hk1) hE hk hh (fun v m1 hk => by rw [hp]; exact oL_le (fun x => hf x m1 hk))
theorem r_ispL {n k1 na t1 t2 : Nat} {a : Int} {as : List PV} {f : Int → Mem → RM} (G : ft k pc = some (c, rk, ik, .invokespecial n, len)) (hp : pc + 3 = p) (hl : lkN (rIt c) n = some (5, k1, na, t1, t2)) (htk : takeN na st = some (as, pR a :: r)) (ht : tg m a = (t1 : Int) ∨ tg m a = (t2 : Int)) (hd : 0 < d) (hs : catS r ≤ 8) (hk1 : Nat.ble 1 k1 = true) (hE : subE k1 k = true) (hk : Nat.ble 1 k = true) (hh : ∀ e, hdlC (rHt k) pc e = some none) (hf : ∀ x m1, KP m m1 → le2 (f x m1) (rn d k p ls (pL x :: r) m1)) : le2 (bL (cl (d - 1) k1 (pR a :: as) m) f) (rn d k pc ls st m) := st_call (ln1 := 3) (rest := r) (k1 := k1) G rfl (by dsimp only [stp]; simp only [hl, htk]; exact if_pos ht) hd hs (Nat.le_of_ble_eq_true hk1) hE hk hh (fun v m1 hk => by rw [hp]; exact oL_le (fun x => hf x m1 hk))
theorem r_istL {n k1 na : Nat} {w1 w2 : Nat} {as : List PV} {f : Int → Mem → RM} (G : ft k pc = some (c, rk, ik, .invokestatic n, len)) (hp : pc + 3 = p) (hl : lkN (rIt c) n = some (1, k1, na, w1, w2)) (htk : takeN na st = some (as, r)) (hd : 0 < d) (hs : catS r ≤ 8) (hk1 : Nat.ble 1 k1 = true) (hE : subE k1 k = true) (hk : Nat.ble 1 k = true) (hh : ∀ e, hdlC (rHt k) pc e = some none) (hf : ∀ x m1, KP m m1 → le2 (f x m1) (rn d k p ls (pL x :: r) m1)) : le2 (bL (cl (d - 1) k1 as m) f) (rn d k pc ls st m) := st_call (ln1 := 3) (rest := r) (k1 := k1) G (by dsimp only [chk]; rw [hl]; try rfl) (by dsimp only [stp]; simp only [hl, htk]) hd hs (Nat.le_of_ble_eq_true hk1) hE hk hh (fun v m1 hk => by rw [hp]; exact oL_le (fun x => hf x m1 hk))
theorem r_invLh {n k1 na t1 t2 : Nat} {a : Int} {as : List PV} {f : Int → Mem → RM} {g : Int → Mem → RM} (G : ft k pc = some (c, rk, ik, .invokevirtual n, len)) (hp : pc + 3 = p) (hl : lkN (rIt c) n = some (0, k1, na, t1, t2)) (htk : takeN na st = some (as, pR a :: r)) (ht : tg m a = (t1 : Int) ∨ tg m a = (t2 : Int)) (hd : 0 < d) (hs : catS r ≤ 8) (hk1 : Nat.ble 1 k1 = true) (hE : subE k1 k = true) (hf : ∀ x m1, KP m m1 → le2 (f x m1) (rn d k p ls (pL x :: r) m1)) (hg : ∀ e m1, KP m m1 → le2 (g e m1) (hres d k pc e ls m1)) : le2 (bLh (cl (d - 1) k1 (pR a :: as) m) f g) (rn d k pc ls st m) := st_callh (ln1 := 3) (rest := r) (k1 := k1) G rfl (by dsimp only [stp]; simp only [hl, htk]; exact if_pos ht) hd hs (Nat.le_of_ble_eq_true hk1) hE (fun v m1 hk => by rw [hp]; exact oL_le (fun x => hf x m1 hk)) hg
theorem r_ispLh {n k1 na t1 t2 : Nat} {a : Int} {as : List PV} {f : Int → Mem → RM} {g : Int → Mem → RM} (G : ft k pc = some (c, rk, ik, .invokespecial n, len)) (hp : pc + 3 = p) (hl : lkN (rIt c) n = some (5, k1, na, t1, t2)) (htk : takeN na st = some (as, pR a :: r)) (ht : tg m a = (t1 : Int) ∨ tg m a = (t2 : Int)) (hd : 0 < d) (hs : catS r ≤ 8) (hk1 : Nat.ble 1 k1 = true) (hE : subE k1 k = true) (hf : ∀ x m1, KP m m1 → le2 (f x m1) (rn d k p ls (pL x :: r) m1)) (hg : ∀ e m1, KP m m1 → le2 (g e m1) (hres d k pc e ls m1)) : le2 (bLh (cl (d - 1) k1 (pR a :: as) m) f g) (rn d k pc ls st m) := st_callh (ln1 := 3) (rest := r) (k1 := k1) G rfl (by dsimp only [stp]; simp only [hl, htk]; exact if_pos ht) hd hs (Nat.le_of_ble_eq_true hk1) hE (fun v m1 hk => by rw [hp]; exact oL_le (fun x => hf x m1 hk)) hg
theorem r_istLh {n k1 na : Nat} {w1 w2 : Nat} {as : List PV} {f : Int → Mem → RM} {g : Int → Mem → RM} (G : ft k pc = some (c, rk, ik, .invokestatic n, len)) (hp : pc + 3 = p) (hl : lkN (rIt c) n = some (1, k1, na, w1, w2)) (htk : takeN na st = some (as, r)) (hd : 0 < d) (hs : catS r ≤ 8) (hk1 : Nat.ble 1 k1 = true) (hE : subE k1 k = true) (hf : ∀ x m1, KP m m1 → le2 (f x m1) (rn d k p ls (pL x :: r) m1)) (hg : ∀ e m1, KP m m1 → le2 (g e m1) (hres d k pc e ls m1)) : le2 (bLh (cl (d - 1) k1 as m) f g) (rn d k pc ls st m) := st_callh (ln1 := 3) (rest := r) (k1 := k1) G (by dsimp only [chk]; rw [hl]; try rfl) (by dsimp only [stp]; simp only [hl, htk]) hd hs (Nat.le_of_ble_eq_true hk1) hE (fun v m1 hk => by rw [hp]; exact oL_le (fun x => hf x m1 hk)) hg
theorem r_infL {n f0 na : Nat} {w1 w2 : Nat} {b : Nat} {a : Int} {as : List PV} {f : Int → Mem → RM} (G : ft k pc = some (c, rk, ik, .invokeinterface n b, len)) (hp : pc + 5 = p) (hl : lkN (rIt c) n = some (3, f0, na, w1, w2)) (htk : takeN na st = some (as, pR a :: r)) (ht : 0 < tg m a) (hd : 0 < d) (hs : catS r ≤ 8) (hE : (rDt f0).all (fun q => subE q.2 k && Nat.ble 1 q.2) = true) (hk : Nat.ble 1 k = true) (hh : ∀ e, hdlC (rHt k) pc e = some none) (hf : ∀ x m1, KP m m1 → le2 (f x m1) (rn d k p ls (pL x :: r) m1)) : le2 (bL (ci (d - 1) f0 (tg m a) (pR a :: as) m) f) (rn d k pc ls st m) := by
  intro q hq
  unfold ci at hq
  split at hq
  · rename_i k1 hk1
    have hq1 := lkN_all hE hk1
    rw [Bool.and_eq_true] at hq1
    exact (st_call (i := .invokeinterface n b) (ln1 := 5) (rest := r) G rfl (by dsimp only [stp]; simp only [hl, htk, hk1]; exact if_pos ht) hd hs (Nat.le_of_ble_eq_true hq1.2) hq1.1 hk hh (fun v m1 hk => by rw [hp]; exact oL_le (fun x => hf x m1 hk))) q hq
  · cases hq
theorem r_invR {n k1 na t1 t2 : Nat} {a : Int} {as : List PV} {f : Int → Mem → RM} (G : ft k pc = some (c, rk, ik, .invokevirtual n, len)) (hp : pc + 3 = p) (hl : lkN (rIt c) n = some (0, k1, na, t1, t2)) (htk : takeN na st = some (as, pR a :: r)) (ht : tg m a = (t1 : Int) ∨ tg m a = (t2 : Int)) (hd : 0 < d) (hs : catS r ≤ 8) (hk1 : Nat.ble 1 k1 = true) (hE : subE k1 k = true) (hk : Nat.ble 1 k = true) (hh : ∀ e, hdlC (rHt k) pc e = some none) (hf : ∀ x m1, KP m m1 → le2 (f x m1) (rn d k p ls (pR x :: r) m1)) : le2 (bR (cl (d - 1) k1 (pR a :: as) m) f) (rn d k pc ls st m) := st_call (ln1 := 3) (rest := r) (k1 := k1) G rfl (by dsimp only [stp]; simp only [hl, htk]; exact if_pos ht) hd hs (Nat.le_of_ble_eq_true hk1) hE hk hh (fun v m1 hk => by rw [hp]; exact oR_le (fun x => hf x m1 hk))
theorem r_ispR {n k1 na t1 t2 : Nat} {a : Int} {as : List PV} {f : Int → Mem → RM} (G : ft k pc = some (c, rk, ik, .invokespecial n, len)) (hp : pc + 3 = p) (hl : lkN (rIt c) n = some (5, k1, na, t1, t2)) (htk : takeN na st = some (as, pR a :: r)) (ht : tg m a = (t1 : Int) ∨ tg m a = (t2 : Int)) (hd : 0 < d) (hs : catS r ≤ 8) (hk1 : Nat.ble 1 k1 = true) (hE : subE k1 k = true) (hk : Nat.ble 1 k = true) (hh : ∀ e, hdlC (rHt k) pc e = some none) (hf : ∀ x m1, KP m m1 → le2 (f x m1) (rn d k p ls (pR x :: r) m1)) : le2 (bR (cl (d - 1) k1 (pR a :: as) m) f) (rn d k pc ls st m) := st_call (ln1 := 3) (rest := r) (k1 := k1) G rfl (by dsimp only [stp]; simp only [hl, htk]; exact if_pos ht) hd hs (Nat.le_of_ble_eq_true hk1) hE hk hh (fun v m1 hk => by rw [hp]; exact oR_le (fun x => hf x m1 hk))
theorem r_istR {n k1 na : Nat} {w1 w2 : Nat} {as : List PV} {f : Int → Mem → RM} (G : ft k pc = some (c, rk, ik, .invokestatic n, len)) (hp : pc + 3 = p) (hl : lkN (rIt c) n = some (1, k1, na, w1, w2)) (htk : takeN na st = some (as, r)) (hd : 0 < d) (hs : catS r ≤ 8) (hk1 : Nat.ble 1 k1 = true) (hE : subE k1 k = true) (hk : Nat.ble 1 k = true) (hh : ∀ e, hdlC (rHt k) pc e = some none) (hf : ∀ x m1, KP m m1 → le2 (f x m1) (rn d k p ls (pR x :: r) m1)) : le2 (bR (cl (d - 1) k1 as m) f) (rn d k pc ls st m) := st_call (ln1 := 3) (rest := r) (k1 := k1) G (by dsimp only [chk]; rw [hl]; try rfl) (by dsimp only [stp]; simp only [hl, htk]) hd hs (Nat.le_of_ble_eq_true hk1) hE hk hh (fun v m1 hk => by rw [hp]; exact oR_le (fun x => hf x m1 hk))
theorem r_invRh {n k1 na t1 t2 : Nat} {a : Int} {as : List PV} {f : Int → Mem → RM} {g : Int → Mem → RM} (G : ft k pc = some (c, rk, ik, .invokevirtual n, len)) (hp : pc + 3 = p) (hl : lkN (rIt c) n = some (0, k1, na, t1, t2)) (htk : takeN na st = some (as, pR a :: r)) (ht : tg m a = (t1 : Int) ∨ tg m a = (t2 : Int)) (hd : 0 < d) (hs : catS r ≤ 8) (hk1 : Nat.ble 1 k1 = true) (hE : subE k1 k = true) (hf : ∀ x m1, KP m m1 → le2 (f x m1) (rn d k p ls (pR x :: r) m1)) (hg : ∀ e m1, KP m m1 → le2 (g e m1) (hres d k pc e ls m1)) : le2 (bRh (cl (d - 1) k1 (pR a :: as) m) f g) (rn d k pc ls st m) := st_callh (ln1 := 3) (rest := r) (k1 := k1) G rfl (by dsimp only [stp]; simp only [hl, htk]; exact if_pos ht) hd hs (Nat.le_of_ble_eq_true hk1) hE (fun v m1 hk => by rw [hp]; exact oR_le (fun x => hf x m1 hk)) hg
theorem r_ispRh {n k1 na t1 t2 : Nat} {a : Int} {as : List PV} {f : Int → Mem → RM} {g : Int → Mem → RM} (G : ft k pc = some (c, rk, ik, .invokespecial n, len)) (hp : pc + 3 = p) (hl : lkN (rIt c) n = some (5, k1, na, t1, t2)) (htk : takeN na st = some (as, pR a :: r)) (ht : tg m a = (t1 : Int) ∨ tg m a = (t2 : Int)) (hd : 0 < d) (hs : catS r ≤ 8) (hk1 : Nat.ble 1 k1 = true) (hE : subE k1 k = true) (hf : ∀ x m1, KP m m1 → le2 (f x m1) (rn d k p ls (pR x :: r) m1)) (hg : ∀ e m1, KP m m1 → le2 (g e m1) (hres d k pc e ls m1)) : le2 (bRh (cl (d - 1) k1 (pR a :: as) m) f g) (rn d k pc ls st m) := st_callh (ln1 := 3) (rest := r) (k1 := k1) G rfl (by dsimp only [stp]; simp only [hl, htk]; exact if_pos ht) hd hs (Nat.le_of_ble_eq_true hk1) hE (fun v m1 hk => by rw [hp]; exact oR_le (fun x => hf x m1 hk)) hg
theorem r_istRh {n k1 na : Nat} {w1 w2 : Nat} {as : List PV} {f : Int → Mem → RM} {g : Int → Mem → RM} (G : ft k pc = some (c, rk, ik, .invokestatic n, len)) (hp : pc + 3 = p) (hl : lkN (rIt c) n = some (1, k1, na, w1, w2)) (htk : takeN na st = some (as, r)) (hd : 0 < d) (hs : catS r ≤ 8) (hk1 : Nat.ble 1 k1 = true) (hE : subE k1 k = true) (hf : ∀ x m1, KP m m1 → le2 (f x m1) (rn d k p ls (pR x :: r) m1)) (hg : ∀ e m1, KP m m1 → le2 (g e m1) (hres d k pc e ls m1)) : le2 (bRh (cl (d - 1) k1 as m) f g) (rn d k pc ls st m) := st_callh (ln1 := 3) (rest := r) (k1 := k1) G (by dsimp only [chk]; rw [hl]; try rfl) (by dsimp only [stp]; simp only [hl, htk]) hd hs (Nat.le_of_ble_eq_true hk1) hE (fun v m1 hk => by rw [hp]; exact oR_le (fun x => hf x m1 hk)) hg
theorem r_infR {n f0 na : Nat} {w1 w2 : Nat} {b : Nat} {a : Int} {as : List PV} {f : Int → Mem → RM} (G : ft k pc = some (c, rk, ik, .invokeinterface n b, len)) (hp : pc + 5 = p) (hl : lkN (rIt c) n = some (3, f0, na, w1, w2)) (htk : takeN na st = some (as, pR a :: r)) (ht : 0 < tg m a) (hd : 0 < d) (hs : catS r ≤ 8) (hE : (rDt f0).all (fun q => subE q.2 k && Nat.ble 1 q.2) = true) (hk : Nat.ble 1 k = true) (hh : ∀ e, hdlC (rHt k) pc e = some none) (hf : ∀ x m1, KP m m1 → le2 (f x m1) (rn d k p ls (pR x :: r) m1)) : le2 (bR (ci (d - 1) f0 (tg m a) (pR a :: as) m) f) (rn d k pc ls st m) := by
  intro q hq
  unfold ci at hq
  split at hq
  · rename_i k1 hk1
    have hq1 := lkN_all hE hk1
    rw [Bool.and_eq_true] at hq1
    exact (st_call (i := .invokeinterface n b) (ln1 := 5) (rest := r) G rfl (by dsimp only [stp]; simp only [hl, htk, hk1]; exact if_pos ht) hd hs (Nat.le_of_ble_eq_true hq1.2) hq1.1 hk hh (fun v m1 hk => by rw [hp]; exact oR_le (fun x => hf x m1 hk))) q hq
  · cases hq
theorem r_aln0 {x : Int} (G : ft k pc = some (c, rk, ik, .aload_n 0, len)) (hp : pc + 1 = p) (hX : le2 X (rn d k p (pR x :: r) (pR x :: st) m)) : le2 X (rn d k pc (pR x :: r) st m) := st_go G rfl (by subst hp; rfl) hX
theorem r_aln1 {x : Int} {b0 : PV} (G : ft k pc = some (c, rk, ik, .aload_n 1, len)) (hp : pc + 1 = p) (hX : le2 X (rn d k p (b0 :: pR x :: r) (pR x :: st) m)) : le2 X (rn d k pc (b0 :: pR x :: r) st m) := st_go G rfl (by subst hp; rfl) hX
theorem r_aln2 {x : Int} {b0 b1 : PV} (G : ft k pc = some (c, rk, ik, .aload_n 2, len)) (hp : pc + 1 = p) (hX : le2 X (rn d k p (b0 :: b1 :: pR x :: r) (pR x :: st) m)) : le2 X (rn d k pc (b0 :: b1 :: pR x :: r) st m) := st_go G rfl (by subst hp; rfl) hX
theorem r_aln3 {x : Int} {b0 b1 b2 : PV} (G : ft k pc = some (c, rk, ik, .aload_n 3, len)) (hp : pc + 1 = p) (hX : le2 X (rn d k p (b0 :: b1 :: b2 :: pR x :: r) (pR x :: st) m)) : le2 X (rn d k pc (b0 :: b1 :: b2 :: pR x :: r) st m) := st_go G rfl (by subst hp; rfl) hX
theorem r_alw4 {x : Int} {b0 b1 b2 b3 : PV} (G : ft k pc = some (c, rk, ik, .aload 4, 2)) (hp : pc + 2 = p) (hX : le2 X (rn d k p (b0 :: b1 :: b2 :: b3 :: pR x :: r) (pR x :: st) m)) : le2 X (rn d k pc (b0 :: b1 :: b2 :: b3 :: pR x :: r) st m) := st_go G rfl (by subst hp; rfl) hX
theorem r_alw5 {x : Int} {b0 b1 b2 b3 b4 : PV} (G : ft k pc = some (c, rk, ik, .aload 5, 2)) (hp : pc + 2 = p) (hX : le2 X (rn d k p (b0 :: b1 :: b2 :: b3 :: b4 :: pR x :: r) (pR x :: st) m)) : le2 X (rn d k pc (b0 :: b1 :: b2 :: b3 :: b4 :: pR x :: r) st m) := st_go G rfl (by subst hp; rfl) hX
theorem r_alw6 {x : Int} {b0 b1 b2 b3 b4 b5 : PV} (G : ft k pc = some (c, rk, ik, .aload 6, 2)) (hp : pc + 2 = p) (hX : le2 X (rn d k p (b0 :: b1 :: b2 :: b3 :: b4 :: b5 :: pR x :: r) (pR x :: st) m)) : le2 X (rn d k pc (b0 :: b1 :: b2 :: b3 :: b4 :: b5 :: pR x :: r) st m) := st_go G rfl (by subst hp; rfl) hX
theorem r_alw7 {x : Int} {b0 b1 b2 b3 b4 b5 b6 : PV} (G : ft k pc = some (c, rk, ik, .aload 7, 2)) (hp : pc + 2 = p) (hX : le2 X (rn d k p (b0 :: b1 :: b2 :: b3 :: b4 :: b5 :: b6 :: pR x :: r) (pR x :: st) m)) : le2 X (rn d k pc (b0 :: b1 :: b2 :: b3 :: b4 :: b5 :: b6 :: pR x :: r) st m) := st_go G rfl (by subst hp; rfl) hX
theorem r_alw8 {x : Int} {b0 b1 b2 b3 b4 b5 b6 b7 : PV} (G : ft k pc = some (c, rk, ik, .aload 8, 2)) (hp : pc + 2 = p) (hX : le2 X (rn d k p (b0 :: b1 :: b2 :: b3 :: b4 :: b5 :: b6 :: b7 :: pR x :: r) (pR x :: st) m)) : le2 X (rn d k pc (b0 :: b1 :: b2 :: b3 :: b4 :: b5 :: b6 :: b7 :: pR x :: r) st m) := st_go G rfl (by subst hp; rfl) hX
theorem r_alw9 {x : Int} {b0 b1 b2 b3 b4 b5 b6 b7 b8 : PV} (G : ft k pc = some (c, rk, ik, .aload 9, 2)) (hp : pc + 2 = p) (hX : le2 X (rn d k p (b0 :: b1 :: b2 :: b3 :: b4 :: b5 :: b6 :: b7 :: b8 :: pR x :: r) (pR x :: st) m)) : le2 X (rn d k pc (b0 :: b1 :: b2 :: b3 :: b4 :: b5 :: b6 :: b7 :: b8 :: pR x :: r) st m) := st_go G rfl (by subst hp; rfl) hX
theorem r_asn1 {x : Int ⊕ Unit} {b0 : PV} {w : PV} (G : ft k pc = some (c, rk, ik, .astore_n 1, len)) (hp : pc + 1 = p) (hk : cat b0 = 1) (hX : le2 X (rn d k p (b0 :: Sum.inr (Sum.inr x) :: r) st m)) : le2 X (rn d k pc (b0 :: w :: r) (Sum.inr (Sum.inr x) :: st) m) := st_go G rfl (by have e : ls1 (b0 :: w :: r) 1 (Sum.inr (Sum.inr x)) = b0 :: Sum.inr (Sum.inr x) :: r := (by unfold ls1; rw [lkl_id (j := 0) (v := b0) rfl hk]; rfl); subst hp; show (if 1 < List.length (b0 :: w :: r) then nG (pc + 1) (ls1 (b0 :: w :: r) 1 (Sum.inr (Sum.inr x))) st m else none) = _; rw [if_pos (by simp only [List.length_cons]; omega), e]) hX
theorem r_asn2 {x : Int ⊕ Unit} {b0 b1 : PV} {w : PV} (G : ft k pc = some (c, rk, ik, .astore_n 2, len)) (hp : pc + 1 = p) (hk : cat b1 = 1) (hX : le2 X (rn d k p (b0 :: b1 :: Sum.inr (Sum.inr x) :: r) st m)) : le2 X (rn d k pc (b0 :: b1 :: w :: r) (Sum.inr (Sum.inr x) :: st) m) := st_go G rfl (by have e : ls1 (b0 :: b1 :: w :: r) 2 (Sum.inr (Sum.inr x)) = b0 :: b1 :: Sum.inr (Sum.inr x) :: r := (by unfold ls1; rw [lkl_id (j := 1) (v := b1) rfl hk]; rfl); subst hp; show (if 2 < List.length (b0 :: b1 :: w :: r) then nG (pc + 1) (ls1 (b0 :: b1 :: w :: r) 2 (Sum.inr (Sum.inr x))) st m else none) = _; rw [if_pos (by simp only [List.length_cons]; omega), e]) hX
theorem r_asn3 {x : Int ⊕ Unit} {b0 b1 b2 : PV} {w : PV} (G : ft k pc = some (c, rk, ik, .astore_n 3, len)) (hp : pc + 1 = p) (hk : cat b2 = 1) (hX : le2 X (rn d k p (b0 :: b1 :: b2 :: Sum.inr (Sum.inr x) :: r) st m)) : le2 X (rn d k pc (b0 :: b1 :: b2 :: w :: r) (Sum.inr (Sum.inr x) :: st) m) := st_go G rfl (by have e : ls1 (b0 :: b1 :: b2 :: w :: r) 3 (Sum.inr (Sum.inr x)) = b0 :: b1 :: b2 :: Sum.inr (Sum.inr x) :: r := (by unfold ls1; rw [lkl_id (j := 2) (v := b2) rfl hk]; rfl); subst hp; show (if 3 < List.length (b0 :: b1 :: b2 :: w :: r) then nG (pc + 1) (ls1 (b0 :: b1 :: b2 :: w :: r) 3 (Sum.inr (Sum.inr x))) st m else none) = _; rw [if_pos (by simp only [List.length_cons]; omega), e]) hX
theorem r_asw4 {x : Int ⊕ Unit} {b0 b1 b2 b3 : PV} {w : PV} (G : ft k pc = some (c, rk, ik, .astore 4, 2)) (hp : pc + 2 = p) (hk : cat b3 = 1) (hX : le2 X (rn d k p (b0 :: b1 :: b2 :: b3 :: Sum.inr (Sum.inr x) :: r) st m)) : le2 X (rn d k pc (b0 :: b1 :: b2 :: b3 :: w :: r) (Sum.inr (Sum.inr x) :: st) m) := st_go G rfl (by have e : ls1 (b0 :: b1 :: b2 :: b3 :: w :: r) 4 (Sum.inr (Sum.inr x)) = b0 :: b1 :: b2 :: b3 :: Sum.inr (Sum.inr x) :: r := (by unfold ls1; rw [lkl_id (j := 3) (v := b3) rfl hk]; rfl); subst hp; show (if 4 < List.length (b0 :: b1 :: b2 :: b3 :: w :: r) then nG (pc + 2) (ls1 (b0 :: b1 :: b2 :: b3 :: w :: r) 4 (Sum.inr (Sum.inr x))) st m else none) = _; rw [if_pos (by simp only [List.length_cons]; omega), e]) hX
theorem r_asw5 {x : Int ⊕ Unit} {b0 b1 b2 b3 b4 : PV} {w : PV} (G : ft k pc = some (c, rk, ik, .astore 5, 2)) (hp : pc + 2 = p) (hk : cat b4 = 1) (hX : le2 X (rn d k p (b0 :: b1 :: b2 :: b3 :: b4 :: Sum.inr (Sum.inr x) :: r) st m)) : le2 X (rn d k pc (b0 :: b1 :: b2 :: b3 :: b4 :: w :: r) (Sum.inr (Sum.inr x) :: st) m) := st_go G rfl (by have e : ls1 (b0 :: b1 :: b2 :: b3 :: b4 :: w :: r) 5 (Sum.inr (Sum.inr x)) = b0 :: b1 :: b2 :: b3 :: b4 :: Sum.inr (Sum.inr x) :: r := (by unfold ls1; rw [lkl_id (j := 4) (v := b4) rfl hk]; rfl); subst hp; show (if 5 < List.length (b0 :: b1 :: b2 :: b3 :: b4 :: w :: r) then nG (pc + 2) (ls1 (b0 :: b1 :: b2 :: b3 :: b4 :: w :: r) 5 (Sum.inr (Sum.inr x))) st m else none) = _; rw [if_pos (by simp only [List.length_cons]; omega), e]) hX
theorem r_asw6 {x : Int ⊕ Unit} {b0 b1 b2 b3 b4 b5 : PV} {w : PV} (G : ft k pc = some (c, rk, ik, .astore 6, 2)) (hp : pc + 2 = p) (hk : cat b5 = 1) (hX : le2 X (rn d k p (b0 :: b1 :: b2 :: b3 :: b4 :: b5 :: Sum.inr (Sum.inr x) :: r) st m)) : le2 X (rn d k pc (b0 :: b1 :: b2 :: b3 :: b4 :: b5 :: w :: r) (Sum.inr (Sum.inr x) :: st) m) := st_go G rfl (by have e : ls1 (b0 :: b1 :: b2 :: b3 :: b4 :: b5 :: w :: r) 6 (Sum.inr (Sum.inr x)) = b0 :: b1 :: b2 :: b3 :: b4 :: b5 :: Sum.inr (Sum.inr x) :: r := (by unfold ls1; rw [lkl_id (j := 5) (v := b5) rfl hk]; rfl); subst hp; show (if 6 < List.length (b0 :: b1 :: b2 :: b3 :: b4 :: b5 :: w :: r) then nG (pc + 2) (ls1 (b0 :: b1 :: b2 :: b3 :: b4 :: b5 :: w :: r) 6 (Sum.inr (Sum.inr x))) st m else none) = _; rw [if_pos (by simp only [List.length_cons]; omega), e]) hX
theorem r_asw7 {x : Int ⊕ Unit} {b0 b1 b2 b3 b4 b5 b6 : PV} {w : PV} (G : ft k pc = some (c, rk, ik, .astore 7, 2)) (hp : pc + 2 = p) (hk : cat b6 = 1) (hX : le2 X (rn d k p (b0 :: b1 :: b2 :: b3 :: b4 :: b5 :: b6 :: Sum.inr (Sum.inr x) :: r) st m)) : le2 X (rn d k pc (b0 :: b1 :: b2 :: b3 :: b4 :: b5 :: b6 :: w :: r) (Sum.inr (Sum.inr x) :: st) m) := st_go G rfl (by have e : ls1 (b0 :: b1 :: b2 :: b3 :: b4 :: b5 :: b6 :: w :: r) 7 (Sum.inr (Sum.inr x)) = b0 :: b1 :: b2 :: b3 :: b4 :: b5 :: b6 :: Sum.inr (Sum.inr x) :: r := (by unfold ls1; rw [lkl_id (j := 6) (v := b6) rfl hk]; rfl); subst hp; show (if 7 < List.length (b0 :: b1 :: b2 :: b3 :: b4 :: b5 :: b6 :: w :: r) then nG (pc + 2) (ls1 (b0 :: b1 :: b2 :: b3 :: b4 :: b5 :: b6 :: w :: r) 7 (Sum.inr (Sum.inr x))) st m else none) = _; rw [if_pos (by simp only [List.length_cons]; omega), e]) hX
theorem r_asw8 {x : Int ⊕ Unit} {b0 b1 b2 b3 b4 b5 b6 b7 : PV} {w : PV} (G : ft k pc = some (c, rk, ik, .astore 8, 2)) (hp : pc + 2 = p) (hk : cat b7 = 1) (hX : le2 X (rn d k p (b0 :: b1 :: b2 :: b3 :: b4 :: b5 :: b6 :: b7 :: Sum.inr (Sum.inr x) :: r) st m)) : le2 X (rn d k pc (b0 :: b1 :: b2 :: b3 :: b4 :: b5 :: b6 :: b7 :: w :: r) (Sum.inr (Sum.inr x) :: st) m) := st_go G rfl (by have e : ls1 (b0 :: b1 :: b2 :: b3 :: b4 :: b5 :: b6 :: b7 :: w :: r) 8 (Sum.inr (Sum.inr x)) = b0 :: b1 :: b2 :: b3 :: b4 :: b5 :: b6 :: b7 :: Sum.inr (Sum.inr x) :: r := (by unfold ls1; rw [lkl_id (j := 7) (v := b7) rfl hk]; rfl); subst hp; show (if 8 < List.length (b0 :: b1 :: b2 :: b3 :: b4 :: b5 :: b6 :: b7 :: w :: r) then nG (pc + 2) (ls1 (b0 :: b1 :: b2 :: b3 :: b4 :: b5 :: b6 :: b7 :: w :: r) 8 (Sum.inr (Sum.inr x))) st m else none) = _; rw [if_pos (by simp only [List.length_cons]; omega), e]) hX
theorem r_asw9 {x : Int ⊕ Unit} {b0 b1 b2 b3 b4 b5 b6 b7 b8 : PV} {w : PV} (G : ft k pc = some (c, rk, ik, .astore 9, 2)) (hp : pc + 2 = p) (hk : cat b8 = 1) (hX : le2 X (rn d k p (b0 :: b1 :: b2 :: b3 :: b4 :: b5 :: b6 :: b7 :: b8 :: Sum.inr (Sum.inr x) :: r) st m)) : le2 X (rn d k pc (b0 :: b1 :: b2 :: b3 :: b4 :: b5 :: b6 :: b7 :: b8 :: w :: r) (Sum.inr (Sum.inr x) :: st) m) := st_go G rfl (by have e : ls1 (b0 :: b1 :: b2 :: b3 :: b4 :: b5 :: b6 :: b7 :: b8 :: w :: r) 9 (Sum.inr (Sum.inr x)) = b0 :: b1 :: b2 :: b3 :: b4 :: b5 :: b6 :: b7 :: b8 :: Sum.inr (Sum.inr x) :: r := (by unfold ls1; rw [lkl_id (j := 8) (v := b8) rfl hk]; rfl); subst hp; show (if 9 < List.length (b0 :: b1 :: b2 :: b3 :: b4 :: b5 :: b6 :: b7 :: b8 :: w :: r) then nG (pc + 2) (ls1 (b0 :: b1 :: b2 :: b3 :: b4 :: b5 :: b6 :: b7 :: b8 :: w :: r) 9 (Sum.inr (Sum.inr x))) st m else none) = _; rw [if_pos (by simp only [List.length_cons]; omega), e]) hX
theorem r_iinc1 {x dd : Int} {b0 : PV} (G : ft k pc = some (c, rk, ik, .iinc 1 dd, 3)) (hp : pc + 3 = p) (hk : cat b0 = 1) (hX : le2 X (rn d k p (b0 :: pI (w32 (x + dd)) :: r) st m)) : le2 X (rn d k pc (b0 :: pI x :: r) st m) := st_go G rfl (by have e : ls1 (b0 :: pI x :: r) 1 (pI (w32 (x + dd))) = b0 :: pI (w32 (x + dd)) :: r := (by unfold ls1; rw [lkl_id (j := 0) (v := b0) rfl hk]; rfl); subst hp; show (if 1 < List.length (b0 :: pI x :: r) then nG (pc + 3) (ls1 (b0 :: pI x :: r) 1 (pI (w32 (x + dd)))) st m else none) = _; rw [if_pos (by simp only [List.length_cons]; omega), e]) hX
theorem r_iinc10 {x dd : Int} {b0 b1 b2 b3 b4 b5 b6 b7 b8 b9 : PV} (G : ft k pc = some (c, rk, ik, .iinc 10 dd, 3)) (hp : pc + 3 = p) (hk : cat b9 = 1) (hX : le2 X (rn d k p (b0 :: b1 :: b2 :: b3 :: b4 :: b5 :: b6 :: b7 :: b8 :: b9 :: pI (w32 (x + dd)) :: r) st m)) : le2 X (rn d k pc (b0 :: b1 :: b2 :: b3 :: b4 :: b5 :: b6 :: b7 :: b8 :: b9 :: pI x :: r) st m) := st_go G rfl (by have e : ls1 (b0 :: b1 :: b2 :: b3 :: b4 :: b5 :: b6 :: b7 :: b8 :: b9 :: pI x :: r) 10 (pI (w32 (x + dd))) = b0 :: b1 :: b2 :: b3 :: b4 :: b5 :: b6 :: b7 :: b8 :: b9 :: pI (w32 (x + dd)) :: r := (by unfold ls1; rw [lkl_id (j := 9) (v := b9) rfl hk]; rfl); subst hp; show (if 10 < List.length (b0 :: b1 :: b2 :: b3 :: b4 :: b5 :: b6 :: b7 :: b8 :: b9 :: pI x :: r) then nG (pc + 3) (ls1 (b0 :: b1 :: b2 :: b3 :: b4 :: b5 :: b6 :: b7 :: b8 :: b9 :: pI x :: r) 10 (pI (w32 (x + dd)))) st m else none) = _; rw [if_pos (by simp only [List.length_cons]; omega), e]) hX
theorem r_iinc2 {x dd : Int} {b0 b1 : PV} (G : ft k pc = some (c, rk, ik, .iinc 2 dd, 3)) (hp : pc + 3 = p) (hk : cat b1 = 1) (hX : le2 X (rn d k p (b0 :: b1 :: pI (w32 (x + dd)) :: r) st m)) : le2 X (rn d k pc (b0 :: b1 :: pI x :: r) st m) := st_go G rfl (by have e : ls1 (b0 :: b1 :: pI x :: r) 2 (pI (w32 (x + dd))) = b0 :: b1 :: pI (w32 (x + dd)) :: r := (by unfold ls1; rw [lkl_id (j := 1) (v := b1) rfl hk]; rfl); subst hp; show (if 2 < List.length (b0 :: b1 :: pI x :: r) then nG (pc + 3) (ls1 (b0 :: b1 :: pI x :: r) 2 (pI (w32 (x + dd)))) st m else none) = _; rw [if_pos (by simp only [List.length_cons]; omega), e]) hX
theorem r_iinc3 {x dd : Int} {b0 b1 b2 : PV} (G : ft k pc = some (c, rk, ik, .iinc 3 dd, 3)) (hp : pc + 3 = p) (hk : cat b2 = 1) (hX : le2 X (rn d k p (b0 :: b1 :: b2 :: pI (w32 (x + dd)) :: r) st m)) : le2 X (rn d k pc (b0 :: b1 :: b2 :: pI x :: r) st m) := st_go G rfl (by have e : ls1 (b0 :: b1 :: b2 :: pI x :: r) 3 (pI (w32 (x + dd))) = b0 :: b1 :: b2 :: pI (w32 (x + dd)) :: r := (by unfold ls1; rw [lkl_id (j := 2) (v := b2) rfl hk]; rfl); subst hp; show (if 3 < List.length (b0 :: b1 :: b2 :: pI x :: r) then nG (pc + 3) (ls1 (b0 :: b1 :: b2 :: pI x :: r) 3 (pI (w32 (x + dd)))) st m else none) = _; rw [if_pos (by simp only [List.length_cons]; omega), e]) hX
theorem r_iinc4 {x dd : Int} {b0 b1 b2 b3 : PV} (G : ft k pc = some (c, rk, ik, .iinc 4 dd, 3)) (hp : pc + 3 = p) (hk : cat b3 = 1) (hX : le2 X (rn d k p (b0 :: b1 :: b2 :: b3 :: pI (w32 (x + dd)) :: r) st m)) : le2 X (rn d k pc (b0 :: b1 :: b2 :: b3 :: pI x :: r) st m) := st_go G rfl (by have e : ls1 (b0 :: b1 :: b2 :: b3 :: pI x :: r) 4 (pI (w32 (x + dd))) = b0 :: b1 :: b2 :: b3 :: pI (w32 (x + dd)) :: r := (by unfold ls1; rw [lkl_id (j := 3) (v := b3) rfl hk]; rfl); subst hp; show (if 4 < List.length (b0 :: b1 :: b2 :: b3 :: pI x :: r) then nG (pc + 3) (ls1 (b0 :: b1 :: b2 :: b3 :: pI x :: r) 4 (pI (w32 (x + dd)))) st m else none) = _; rw [if_pos (by simp only [List.length_cons]; omega), e]) hX
theorem r_iinc5 {x dd : Int} {b0 b1 b2 b3 b4 : PV} (G : ft k pc = some (c, rk, ik, .iinc 5 dd, 3)) (hp : pc + 3 = p) (hk : cat b4 = 1) (hX : le2 X (rn d k p (b0 :: b1 :: b2 :: b3 :: b4 :: pI (w32 (x + dd)) :: r) st m)) : le2 X (rn d k pc (b0 :: b1 :: b2 :: b3 :: b4 :: pI x :: r) st m) := st_go G rfl (by have e : ls1 (b0 :: b1 :: b2 :: b3 :: b4 :: pI x :: r) 5 (pI (w32 (x + dd))) = b0 :: b1 :: b2 :: b3 :: b4 :: pI (w32 (x + dd)) :: r := (by unfold ls1; rw [lkl_id (j := 4) (v := b4) rfl hk]; rfl); subst hp; show (if 5 < List.length (b0 :: b1 :: b2 :: b3 :: b4 :: pI x :: r) then nG (pc + 3) (ls1 (b0 :: b1 :: b2 :: b3 :: b4 :: pI x :: r) 5 (pI (w32 (x + dd)))) st m else none) = _; rw [if_pos (by simp only [List.length_cons]; omega), e]) hX
theorem r_iinc6 {x dd : Int} {b0 b1 b2 b3 b4 b5 : PV} (G : ft k pc = some (c, rk, ik, .iinc 6 dd, 3)) (hp : pc + 3 = p) (hk : cat b5 = 1) (hX : le2 X (rn d k p (b0 :: b1 :: b2 :: b3 :: b4 :: b5 :: pI (w32 (x + dd)) :: r) st m)) : le2 X (rn d k pc (b0 :: b1 :: b2 :: b3 :: b4 :: b5 :: pI x :: r) st m) := st_go G rfl (by have e : ls1 (b0 :: b1 :: b2 :: b3 :: b4 :: b5 :: pI x :: r) 6 (pI (w32 (x + dd))) = b0 :: b1 :: b2 :: b3 :: b4 :: b5 :: pI (w32 (x + dd)) :: r := (by unfold ls1; rw [lkl_id (j := 5) (v := b5) rfl hk]; rfl); subst hp; show (if 6 < List.length (b0 :: b1 :: b2 :: b3 :: b4 :: b5 :: pI x :: r) then nG (pc + 3) (ls1 (b0 :: b1 :: b2 :: b3 :: b4 :: b5 :: pI x :: r) 6 (pI (w32 (x + dd)))) st m else none) = _; rw [if_pos (by simp only [List.length_cons]; omega), e]) hX
theorem r_iinc7 {x dd : Int} {b0 b1 b2 b3 b4 b5 b6 : PV} (G : ft k pc = some (c, rk, ik, .iinc 7 dd, 3)) (hp : pc + 3 = p) (hk : cat b6 = 1) (hX : le2 X (rn d k p (b0 :: b1 :: b2 :: b3 :: b4 :: b5 :: b6 :: pI (w32 (x + dd)) :: r) st m)) : le2 X (rn d k pc (b0 :: b1 :: b2 :: b3 :: b4 :: b5 :: b6 :: pI x :: r) st m) := st_go G rfl (by have e : ls1 (b0 :: b1 :: b2 :: b3 :: b4 :: b5 :: b6 :: pI x :: r) 7 (pI (w32 (x + dd))) = b0 :: b1 :: b2 :: b3 :: b4 :: b5 :: b6 :: pI (w32 (x + dd)) :: r := (by unfold ls1; rw [lkl_id (j := 6) (v := b6) rfl hk]; rfl); subst hp; show (if 7 < List.length (b0 :: b1 :: b2 :: b3 :: b4 :: b5 :: b6 :: pI x :: r) then nG (pc + 3) (ls1 (b0 :: b1 :: b2 :: b3 :: b4 :: b5 :: b6 :: pI x :: r) 7 (pI (w32 (x + dd)))) st m else none) = _; rw [if_pos (by simp only [List.length_cons]; omega), e]) hX
theorem r_iinc8 {x dd : Int} {b0 b1 b2 b3 b4 b5 b6 b7 : PV} (G : ft k pc = some (c, rk, ik, .iinc 8 dd, 3)) (hp : pc + 3 = p) (hk : cat b7 = 1) (hX : le2 X (rn d k p (b0 :: b1 :: b2 :: b3 :: b4 :: b5 :: b6 :: b7 :: pI (w32 (x + dd)) :: r) st m)) : le2 X (rn d k pc (b0 :: b1 :: b2 :: b3 :: b4 :: b5 :: b6 :: b7 :: pI x :: r) st m) := st_go G rfl (by have e : ls1 (b0 :: b1 :: b2 :: b3 :: b4 :: b5 :: b6 :: b7 :: pI x :: r) 8 (pI (w32 (x + dd))) = b0 :: b1 :: b2 :: b3 :: b4 :: b5 :: b6 :: b7 :: pI (w32 (x + dd)) :: r := (by unfold ls1; rw [lkl_id (j := 7) (v := b7) rfl hk]; rfl); subst hp; show (if 8 < List.length (b0 :: b1 :: b2 :: b3 :: b4 :: b5 :: b6 :: b7 :: pI x :: r) then nG (pc + 3) (ls1 (b0 :: b1 :: b2 :: b3 :: b4 :: b5 :: b6 :: b7 :: pI x :: r) 8 (pI (w32 (x + dd)))) st m else none) = _; rw [if_pos (by simp only [List.length_cons]; omega), e]) hX
theorem r_iinc9 {x dd : Int} {b0 b1 b2 b3 b4 b5 b6 b7 b8 : PV} (G : ft k pc = some (c, rk, ik, .iinc 9 dd, 3)) (hp : pc + 3 = p) (hk : cat b8 = 1) (hX : le2 X (rn d k p (b0 :: b1 :: b2 :: b3 :: b4 :: b5 :: b6 :: b7 :: b8 :: pI (w32 (x + dd)) :: r) st m)) : le2 X (rn d k pc (b0 :: b1 :: b2 :: b3 :: b4 :: b5 :: b6 :: b7 :: b8 :: pI x :: r) st m) := st_go G rfl (by have e : ls1 (b0 :: b1 :: b2 :: b3 :: b4 :: b5 :: b6 :: b7 :: b8 :: pI x :: r) 9 (pI (w32 (x + dd))) = b0 :: b1 :: b2 :: b3 :: b4 :: b5 :: b6 :: b7 :: b8 :: pI (w32 (x + dd)) :: r := (by unfold ls1; rw [lkl_id (j := 8) (v := b8) rfl hk]; rfl); subst hp; show (if 9 < List.length (b0 :: b1 :: b2 :: b3 :: b4 :: b5 :: b6 :: b7 :: b8 :: pI x :: r) then nG (pc + 3) (ls1 (b0 :: b1 :: b2 :: b3 :: b4 :: b5 :: b6 :: b7 :: b8 :: pI x :: r) 9 (pI (w32 (x + dd)))) st m else none) = _; rw [if_pos (by simp only [List.length_cons]; omega), e]) hX
theorem r_iln0 {x : Int} (G : ft k pc = some (c, rk, ik, .iload_n 0, len)) (hp : pc + 1 = p) (hX : le2 X (rn d k p (pI x :: r) (pI x :: st) m)) : le2 X (rn d k pc (pI x :: r) st m) := st_go G rfl (by subst hp; rfl) hX
theorem r_iln1 {x : Int} {b0 : PV} (G : ft k pc = some (c, rk, ik, .iload_n 1, len)) (hp : pc + 1 = p) (hX : le2 X (rn d k p (b0 :: pI x :: r) (pI x :: st) m)) : le2 X (rn d k pc (b0 :: pI x :: r) st m) := st_go G rfl (by subst hp; rfl) hX
theorem r_iln2 {x : Int} {b0 b1 : PV} (G : ft k pc = some (c, rk, ik, .iload_n 2, len)) (hp : pc + 1 = p) (hX : le2 X (rn d k p (b0 :: b1 :: pI x :: r) (pI x :: st) m)) : le2 X (rn d k pc (b0 :: b1 :: pI x :: r) st m) := st_go G rfl (by subst hp; rfl) hX
theorem r_iln3 {x : Int} {b0 b1 b2 : PV} (G : ft k pc = some (c, rk, ik, .iload_n 3, len)) (hp : pc + 1 = p) (hX : le2 X (rn d k p (b0 :: b1 :: b2 :: pI x :: r) (pI x :: st) m)) : le2 X (rn d k pc (b0 :: b1 :: b2 :: pI x :: r) st m) := st_go G rfl (by subst hp; rfl) hX
theorem r_ilw10 {x : Int} {b0 b1 b2 b3 b4 b5 b6 b7 b8 b9 : PV} (G : ft k pc = some (c, rk, ik, .iload 10, 2)) (hp : pc + 2 = p) (hX : le2 X (rn d k p (b0 :: b1 :: b2 :: b3 :: b4 :: b5 :: b6 :: b7 :: b8 :: b9 :: pI x :: r) (pI x :: st) m)) : le2 X (rn d k pc (b0 :: b1 :: b2 :: b3 :: b4 :: b5 :: b6 :: b7 :: b8 :: b9 :: pI x :: r) st m) := st_go G rfl (by subst hp; rfl) hX
theorem r_ilw4 {x : Int} {b0 b1 b2 b3 : PV} (G : ft k pc = some (c, rk, ik, .iload 4, 2)) (hp : pc + 2 = p) (hX : le2 X (rn d k p (b0 :: b1 :: b2 :: b3 :: pI x :: r) (pI x :: st) m)) : le2 X (rn d k pc (b0 :: b1 :: b2 :: b3 :: pI x :: r) st m) := st_go G rfl (by subst hp; rfl) hX
theorem r_ilw5 {x : Int} {b0 b1 b2 b3 b4 : PV} (G : ft k pc = some (c, rk, ik, .iload 5, 2)) (hp : pc + 2 = p) (hX : le2 X (rn d k p (b0 :: b1 :: b2 :: b3 :: b4 :: pI x :: r) (pI x :: st) m)) : le2 X (rn d k pc (b0 :: b1 :: b2 :: b3 :: b4 :: pI x :: r) st m) := st_go G rfl (by subst hp; rfl) hX
theorem r_ilw6 {x : Int} {b0 b1 b2 b3 b4 b5 : PV} (G : ft k pc = some (c, rk, ik, .iload 6, 2)) (hp : pc + 2 = p) (hX : le2 X (rn d k p (b0 :: b1 :: b2 :: b3 :: b4 :: b5 :: pI x :: r) (pI x :: st) m)) : le2 X (rn d k pc (b0 :: b1 :: b2 :: b3 :: b4 :: b5 :: pI x :: r) st m) := st_go G rfl (by subst hp; rfl) hX
theorem r_ilw7 {x : Int} {b0 b1 b2 b3 b4 b5 b6 : PV} (G : ft k pc = some (c, rk, ik, .iload 7, 2)) (hp : pc + 2 = p) (hX : le2 X (rn d k p (b0 :: b1 :: b2 :: b3 :: b4 :: b5 :: b6 :: pI x :: r) (pI x :: st) m)) : le2 X (rn d k pc (b0 :: b1 :: b2 :: b3 :: b4 :: b5 :: b6 :: pI x :: r) st m) := st_go G rfl (by subst hp; rfl) hX
theorem r_ilw8 {x : Int} {b0 b1 b2 b3 b4 b5 b6 b7 : PV} (G : ft k pc = some (c, rk, ik, .iload 8, 2)) (hp : pc + 2 = p) (hX : le2 X (rn d k p (b0 :: b1 :: b2 :: b3 :: b4 :: b5 :: b6 :: b7 :: pI x :: r) (pI x :: st) m)) : le2 X (rn d k pc (b0 :: b1 :: b2 :: b3 :: b4 :: b5 :: b6 :: b7 :: pI x :: r) st m) := st_go G rfl (by subst hp; rfl) hX
theorem r_ilw9 {x : Int} {b0 b1 b2 b3 b4 b5 b6 b7 b8 : PV} (G : ft k pc = some (c, rk, ik, .iload 9, 2)) (hp : pc + 2 = p) (hX : le2 X (rn d k p (b0 :: b1 :: b2 :: b3 :: b4 :: b5 :: b6 :: b7 :: b8 :: pI x :: r) (pI x :: st) m)) : le2 X (rn d k pc (b0 :: b1 :: b2 :: b3 :: b4 :: b5 :: b6 :: b7 :: b8 :: pI x :: r) st m) := st_go G rfl (by subst hp; rfl) hX
theorem r_isn1 {x : Int} {b0 : PV} {w : PV} (G : ft k pc = some (c, rk, ik, .istore_n 1, len)) (hp : pc + 1 = p) (hk : cat b0 = 1) (hX : le2 X (rn d k p (b0 :: pI x :: r) st m)) : le2 X (rn d k pc (b0 :: w :: r) (pI x :: st) m) := st_go G rfl (by have e : ls1 (b0 :: w :: r) 1 (pI x) = b0 :: pI x :: r := (by unfold ls1; rw [lkl_id (j := 0) (v := b0) rfl hk]; rfl); subst hp; show (if 1 < List.length (b0 :: w :: r) then nG (pc + 1) (ls1 (b0 :: w :: r) 1 (pI x)) st m else none) = _; rw [if_pos (by simp only [List.length_cons]; omega), e]) hX
theorem r_isn2 {x : Int} {b0 b1 : PV} {w : PV} (G : ft k pc = some (c, rk, ik, .istore_n 2, len)) (hp : pc + 1 = p) (hk : cat b1 = 1) (hX : le2 X (rn d k p (b0 :: b1 :: pI x :: r) st m)) : le2 X (rn d k pc (b0 :: b1 :: w :: r) (pI x :: st) m) := st_go G rfl (by have e : ls1 (b0 :: b1 :: w :: r) 2 (pI x) = b0 :: b1 :: pI x :: r := (by unfold ls1; rw [lkl_id (j := 1) (v := b1) rfl hk]; rfl); subst hp; show (if 2 < List.length (b0 :: b1 :: w :: r) then nG (pc + 1) (ls1 (b0 :: b1 :: w :: r) 2 (pI x)) st m else none) = _; rw [if_pos (by simp only [List.length_cons]; omega), e]) hX
theorem r_isn3 {x : Int} {b0 b1 b2 : PV} {w : PV} (G : ft k pc = some (c, rk, ik, .istore_n 3, len)) (hp : pc + 1 = p) (hk : cat b2 = 1) (hX : le2 X (rn d k p (b0 :: b1 :: b2 :: pI x :: r) st m)) : le2 X (rn d k pc (b0 :: b1 :: b2 :: w :: r) (pI x :: st) m) := st_go G rfl (by have e : ls1 (b0 :: b1 :: b2 :: w :: r) 3 (pI x) = b0 :: b1 :: b2 :: pI x :: r := (by unfold ls1; rw [lkl_id (j := 2) (v := b2) rfl hk]; rfl); subst hp; show (if 3 < List.length (b0 :: b1 :: b2 :: w :: r) then nG (pc + 1) (ls1 (b0 :: b1 :: b2 :: w :: r) 3 (pI x)) st m else none) = _; rw [if_pos (by simp only [List.length_cons]; omega), e]) hX
theorem r_isw10 {x : Int} {b0 b1 b2 b3 b4 b5 b6 b7 b8 b9 : PV} {w : PV} (G : ft k pc = some (c, rk, ik, .istore 10, 2)) (hp : pc + 2 = p) (hk : cat b9 = 1) (hX : le2 X (rn d k p (b0 :: b1 :: b2 :: b3 :: b4 :: b5 :: b6 :: b7 :: b8 :: b9 :: pI x :: r) st m)) : le2 X (rn d k pc (b0 :: b1 :: b2 :: b3 :: b4 :: b5 :: b6 :: b7 :: b8 :: b9 :: w :: r) (pI x :: st) m) := st_go G rfl (by have e : ls1 (b0 :: b1 :: b2 :: b3 :: b4 :: b5 :: b6 :: b7 :: b8 :: b9 :: w :: r) 10 (pI x) = b0 :: b1 :: b2 :: b3 :: b4 :: b5 :: b6 :: b7 :: b8 :: b9 :: pI x :: r := (by unfold ls1; rw [lkl_id (j := 9) (v := b9) rfl hk]; rfl); subst hp; show (if 10 < List.length (b0 :: b1 :: b2 :: b3 :: b4 :: b5 :: b6 :: b7 :: b8 :: b9 :: w :: r) then nG (pc + 2) (ls1 (b0 :: b1 :: b2 :: b3 :: b4 :: b5 :: b6 :: b7 :: b8 :: b9 :: w :: r) 10 (pI x)) st m else none) = _; rw [if_pos (by simp only [List.length_cons]; omega), e]) hX
theorem r_isw4 {x : Int} {b0 b1 b2 b3 : PV} {w : PV} (G : ft k pc = some (c, rk, ik, .istore 4, 2)) (hp : pc + 2 = p) (hk : cat b3 = 1) (hX : le2 X (rn d k p (b0 :: b1 :: b2 :: b3 :: pI x :: r) st m)) : le2 X (rn d k pc (b0 :: b1 :: b2 :: b3 :: w :: r) (pI x :: st) m) := st_go G rfl (by have e : ls1 (b0 :: b1 :: b2 :: b3 :: w :: r) 4 (pI x) = b0 :: b1 :: b2 :: b3 :: pI x :: r := (by unfold ls1; rw [lkl_id (j := 3) (v := b3) rfl hk]; rfl); subst hp; show (if 4 < List.length (b0 :: b1 :: b2 :: b3 :: w :: r) then nG (pc + 2) (ls1 (b0 :: b1 :: b2 :: b3 :: w :: r) 4 (pI x)) st m else none) = _; rw [if_pos (by simp only [List.length_cons]; omega), e]) hX
theorem r_isw5 {x : Int} {b0 b1 b2 b3 b4 : PV} {w : PV} (G : ft k pc = some (c, rk, ik, .istore 5, 2)) (hp : pc + 2 = p) (hk : cat b4 = 1) (hX : le2 X (rn d k p (b0 :: b1 :: b2 :: b3 :: b4 :: pI x :: r) st m)) : le2 X (rn d k pc (b0 :: b1 :: b2 :: b3 :: b4 :: w :: r) (pI x :: st) m) := st_go G rfl (by have e : ls1 (b0 :: b1 :: b2 :: b3 :: b4 :: w :: r) 5 (pI x) = b0 :: b1 :: b2 :: b3 :: b4 :: pI x :: r := (by unfold ls1; rw [lkl_id (j := 4) (v := b4) rfl hk]; rfl); subst hp; show (if 5 < List.length (b0 :: b1 :: b2 :: b3 :: b4 :: w :: r) then nG (pc + 2) (ls1 (b0 :: b1 :: b2 :: b3 :: b4 :: w :: r) 5 (pI x)) st m else none) = _; rw [if_pos (by simp only [List.length_cons]; omega), e]) hX
theorem r_isw6 {x : Int} {b0 b1 b2 b3 b4 b5 : PV} {w : PV} (G : ft k pc = some (c, rk, ik, .istore 6, 2)) (hp : pc + 2 = p) (hk : cat b5 = 1) (hX : le2 X (rn d k p (b0 :: b1 :: b2 :: b3 :: b4 :: b5 :: pI x :: r) st m)) : le2 X (rn d k pc (b0 :: b1 :: b2 :: b3 :: b4 :: b5 :: w :: r) (pI x :: st) m) := st_go G rfl (by have e : ls1 (b0 :: b1 :: b2 :: b3 :: b4 :: b5 :: w :: r) 6 (pI x) = b0 :: b1 :: b2 :: b3 :: b4 :: b5 :: pI x :: r := (by unfold ls1; rw [lkl_id (j := 5) (v := b5) rfl hk]; rfl); subst hp; show (if 6 < List.length (b0 :: b1 :: b2 :: b3 :: b4 :: b5 :: w :: r) then nG (pc + 2) (ls1 (b0 :: b1 :: b2 :: b3 :: b4 :: b5 :: w :: r) 6 (pI x)) st m else none) = _; rw [if_pos (by simp only [List.length_cons]; omega), e]) hX
theorem r_isw7 {x : Int} {b0 b1 b2 b3 b4 b5 b6 : PV} {w : PV} (G : ft k pc = some (c, rk, ik, .istore 7, 2)) (hp : pc + 2 = p) (hk : cat b6 = 1) (hX : le2 X (rn d k p (b0 :: b1 :: b2 :: b3 :: b4 :: b5 :: b6 :: pI x :: r) st m)) : le2 X (rn d k pc (b0 :: b1 :: b2 :: b3 :: b4 :: b5 :: b6 :: w :: r) (pI x :: st) m) := st_go G rfl (by have e : ls1 (b0 :: b1 :: b2 :: b3 :: b4 :: b5 :: b6 :: w :: r) 7 (pI x) = b0 :: b1 :: b2 :: b3 :: b4 :: b5 :: b6 :: pI x :: r := (by unfold ls1; rw [lkl_id (j := 6) (v := b6) rfl hk]; rfl); subst hp; show (if 7 < List.length (b0 :: b1 :: b2 :: b3 :: b4 :: b5 :: b6 :: w :: r) then nG (pc + 2) (ls1 (b0 :: b1 :: b2 :: b3 :: b4 :: b5 :: b6 :: w :: r) 7 (pI x)) st m else none) = _; rw [if_pos (by simp only [List.length_cons]; omega), e]) hX
theorem r_isw8 {x : Int} {b0 b1 b2 b3 b4 b5 b6 b7 : PV} {w : PV} (G : ft k pc = some (c, rk, ik, .istore 8, 2)) (hp : pc + 2 = p) (hk : cat b7 = 1) (hX : le2 X (rn d k p (b0 :: b1 :: b2 :: b3 :: b4 :: b5 :: b6 :: b7 :: pI x :: r) st m)) : le2 X (rn d k pc (b0 :: b1 :: b2 :: b3 :: b4 :: b5 :: b6 :: b7 :: w :: r) (pI x :: st) m) := st_go G rfl (by have e : ls1 (b0 :: b1 :: b2 :: b3 :: b4 :: b5 :: b6 :: b7 :: w :: r) 8 (pI x) = b0 :: b1 :: b2 :: b3 :: b4 :: b5 :: b6 :: b7 :: pI x :: r := (by unfold ls1; rw [lkl_id (j := 7) (v := b7) rfl hk]; rfl); subst hp; show (if 8 < List.length (b0 :: b1 :: b2 :: b3 :: b4 :: b5 :: b6 :: b7 :: w :: r) then nG (pc + 2) (ls1 (b0 :: b1 :: b2 :: b3 :: b4 :: b5 :: b6 :: b7 :: w :: r) 8 (pI x)) st m else none) = _; rw [if_pos (by simp only [List.length_cons]; omega), e]) hX
theorem r_isw9 {x : Int} {b0 b1 b2 b3 b4 b5 b6 b7 b8 : PV} {w : PV} (G : ft k pc = some (c, rk, ik, .istore 9, 2)) (hp : pc + 2 = p) (hk : cat b8 = 1) (hX : le2 X (rn d k p (b0 :: b1 :: b2 :: b3 :: b4 :: b5 :: b6 :: b7 :: b8 :: pI x :: r) st m)) : le2 X (rn d k pc (b0 :: b1 :: b2 :: b3 :: b4 :: b5 :: b6 :: b7 :: b8 :: w :: r) (pI x :: st) m) := st_go G rfl (by have e : ls1 (b0 :: b1 :: b2 :: b3 :: b4 :: b5 :: b6 :: b7 :: b8 :: w :: r) 9 (pI x) = b0 :: b1 :: b2 :: b3 :: b4 :: b5 :: b6 :: b7 :: b8 :: pI x :: r := (by unfold ls1; rw [lkl_id (j := 8) (v := b8) rfl hk]; rfl); subst hp; show (if 9 < List.length (b0 :: b1 :: b2 :: b3 :: b4 :: b5 :: b6 :: b7 :: b8 :: w :: r) then nG (pc + 2) (ls1 (b0 :: b1 :: b2 :: b3 :: b4 :: b5 :: b6 :: b7 :: b8 :: w :: r) 9 (pI x)) st m else none) = _; rw [if_pos (by simp only [List.length_cons]; omega), e]) hX
theorem r_lln0 {x : Int} (G : ft k pc = some (c, rk, ik, .lload_n 0, len)) (hp : pc + 1 = p) (hX : le2 X (rn d k p (pL x :: r) (pL x :: st) m)) : le2 X (rn d k pc (pL x :: r) st m) := st_go G rfl (by subst hp; rfl) hX
theorem r_lln1 {x : Int} {b0 : PV} (G : ft k pc = some (c, rk, ik, .lload_n 1, len)) (hp : pc + 1 = p) (hX : le2 X (rn d k p (b0 :: pL x :: r) (pL x :: st) m)) : le2 X (rn d k pc (b0 :: pL x :: r) st m) := st_go G rfl (by subst hp; rfl) hX
theorem r_lln2 {x : Int} {b0 b1 : PV} (G : ft k pc = some (c, rk, ik, .lload_n 2, len)) (hp : pc + 1 = p) (hX : le2 X (rn d k p (b0 :: b1 :: pL x :: r) (pL x :: st) m)) : le2 X (rn d k pc (b0 :: b1 :: pL x :: r) st m) := st_go G rfl (by subst hp; rfl) hX
theorem r_lln3 {x : Int} {b0 b1 b2 : PV} (G : ft k pc = some (c, rk, ik, .lload_n 3, len)) (hp : pc + 1 = p) (hX : le2 X (rn d k p (b0 :: b1 :: b2 :: pL x :: r) (pL x :: st) m)) : le2 X (rn d k pc (b0 :: b1 :: b2 :: pL x :: r) st m) := st_go G rfl (by subst hp; rfl) hX
theorem r_llw10 {x : Int} {b0 b1 b2 b3 b4 b5 b6 b7 b8 b9 : PV} (G : ft k pc = some (c, rk, ik, .lload 10, 2)) (hp : pc + 2 = p) (hX : le2 X (rn d k p (b0 :: b1 :: b2 :: b3 :: b4 :: b5 :: b6 :: b7 :: b8 :: b9 :: pL x :: r) (pL x :: st) m)) : le2 X (rn d k pc (b0 :: b1 :: b2 :: b3 :: b4 :: b5 :: b6 :: b7 :: b8 :: b9 :: pL x :: r) st m) := st_go G rfl (by subst hp; rfl) hX
theorem r_llw12 {x : Int} {b0 b1 b2 b3 b4 b5 b6 b7 b8 b9 b10 b11 : PV} (G : ft k pc = some (c, rk, ik, .lload 12, 2)) (hp : pc + 2 = p) (hX : le2 X (rn d k p (b0 :: b1 :: b2 :: b3 :: b4 :: b5 :: b6 :: b7 :: b8 :: b9 :: b10 :: b11 :: pL x :: r) (pL x :: st) m)) : le2 X (rn d k pc (b0 :: b1 :: b2 :: b3 :: b4 :: b5 :: b6 :: b7 :: b8 :: b9 :: b10 :: b11 :: pL x :: r) st m) := st_go G rfl (by subst hp; rfl) hX
theorem r_llw14 {x : Int} {b0 b1 b2 b3 b4 b5 b6 b7 b8 b9 b10 b11 b12 b13 : PV} (G : ft k pc = some (c, rk, ik, .lload 14, 2)) (hp : pc + 2 = p) (hX : le2 X (rn d k p (b0 :: b1 :: b2 :: b3 :: b4 :: b5 :: b6 :: b7 :: b8 :: b9 :: b10 :: b11 :: b12 :: b13 :: pL x :: r) (pL x :: st) m)) : le2 X (rn d k pc (b0 :: b1 :: b2 :: b3 :: b4 :: b5 :: b6 :: b7 :: b8 :: b9 :: b10 :: b11 :: b12 :: b13 :: pL x :: r) st m) := st_go G rfl (by subst hp; rfl) hX
theorem r_llw4 {x : Int} {b0 b1 b2 b3 : PV} (G : ft k pc = some (c, rk, ik, .lload 4, 2)) (hp : pc + 2 = p) (hX : le2 X (rn d k p (b0 :: b1 :: b2 :: b3 :: pL x :: r) (pL x :: st) m)) : le2 X (rn d k pc (b0 :: b1 :: b2 :: b3 :: pL x :: r) st m) := st_go G rfl (by subst hp; rfl) hX
theorem r_llw5 {x : Int} {b0 b1 b2 b3 b4 : PV} (G : ft k pc = some (c, rk, ik, .lload 5, 2)) (hp : pc + 2 = p) (hX : le2 X (rn d k p (b0 :: b1 :: b2 :: b3 :: b4 :: pL x :: r) (pL x :: st) m)) : le2 X (rn d k pc (b0 :: b1 :: b2 :: b3 :: b4 :: pL x :: r) st m) := st_go G rfl (by subst hp; rfl) hX
theorem r_llw6 {x : Int} {b0 b1 b2 b3 b4 b5 : PV} (G : ft k pc = some (c, rk, ik, .lload 6, 2)) (hp : pc + 2 = p) (hX : le2 X (rn d k p (b0 :: b1 :: b2 :: b3 :: b4 :: b5 :: pL x :: r) (pL x :: st) m)) : le2 X (rn d k pc (b0 :: b1 :: b2 :: b3 :: b4 :: b5 :: pL x :: r) st m) := st_go G rfl (by subst hp; rfl) hX
theorem r_llw7 {x : Int} {b0 b1 b2 b3 b4 b5 b6 : PV} (G : ft k pc = some (c, rk, ik, .lload 7, 2)) (hp : pc + 2 = p) (hX : le2 X (rn d k p (b0 :: b1 :: b2 :: b3 :: b4 :: b5 :: b6 :: pL x :: r) (pL x :: st) m)) : le2 X (rn d k pc (b0 :: b1 :: b2 :: b3 :: b4 :: b5 :: b6 :: pL x :: r) st m) := st_go G rfl (by subst hp; rfl) hX
theorem r_llw8 {x : Int} {b0 b1 b2 b3 b4 b5 b6 b7 : PV} (G : ft k pc = some (c, rk, ik, .lload 8, 2)) (hp : pc + 2 = p) (hX : le2 X (rn d k p (b0 :: b1 :: b2 :: b3 :: b4 :: b5 :: b6 :: b7 :: pL x :: r) (pL x :: st) m)) : le2 X (rn d k pc (b0 :: b1 :: b2 :: b3 :: b4 :: b5 :: b6 :: b7 :: pL x :: r) st m) := st_go G rfl (by subst hp; rfl) hX
theorem r_lsn1 {x : Int} {b0 : PV} {w w2 : PV} (G : ft k pc = some (c, rk, ik, .lstore_n 1, len)) (hp : pc + 1 = p) (hk : cat b0 = 1) (hX : le2 X (rn d k p (b0 :: pL x :: pU :: r) st m)) : le2 X (rn d k pc (b0 :: w :: w2 :: r) (pL x :: st) m) := st_go G rfl (by have e : ls2 (b0 :: w :: w2 :: r) 1 (pL x) = b0 :: pL x :: pU :: r := (by unfold ls2; rw [lkl_id (j := 0) (v := b0) rfl hk]; rfl); subst hp; show (if 1 + 1 < List.length (b0 :: w :: w2 :: r) then nG (pc + 1) (ls2 (b0 :: w :: w2 :: r) 1 (pL x)) st m else none) = _; rw [if_pos (by simp only [List.length_cons]; omega), e]) hX
theorem r_lsn2 {x : Int} {b0 b1 : PV} {w w2 : PV} (G : ft k pc = some (c, rk, ik, .lstore_n 2, len)) (hp : pc + 1 = p) (hk : cat b1 = 1) (hX : le2 X (rn d k p (b0 :: b1 :: pL x :: pU :: r) st m)) : le2 X (rn d k pc (b0 :: b1 :: w :: w2 :: r) (pL x :: st) m) := st_go G rfl (by have e : ls2 (b0 :: b1 :: w :: w2 :: r) 2 (pL x) = b0 :: b1 :: pL x :: pU :: r := (by unfold ls2; rw [lkl_id (j := 1) (v := b1) rfl hk]; rfl); subst hp; show (if 2 + 1 < List.length (b0 :: b1 :: w :: w2 :: r) then nG (pc + 1) (ls2 (b0 :: b1 :: w :: w2 :: r) 2 (pL x)) st m else none) = _; rw [if_pos (by simp only [List.length_cons]; omega), e]) hX
theorem r_lsn3 {x : Int} {b0 b1 b2 : PV} {w w2 : PV} (G : ft k pc = some (c, rk, ik, .lstore_n 3, len)) (hp : pc + 1 = p) (hk : cat b2 = 1) (hX : le2 X (rn d k p (b0 :: b1 :: b2 :: pL x :: pU :: r) st m)) : le2 X (rn d k pc (b0 :: b1 :: b2 :: w :: w2 :: r) (pL x :: st) m) := st_go G rfl (by have e : ls2 (b0 :: b1 :: b2 :: w :: w2 :: r) 3 (pL x) = b0 :: b1 :: b2 :: pL x :: pU :: r := (by unfold ls2; rw [lkl_id (j := 2) (v := b2) rfl hk]; rfl); subst hp; show (if 3 + 1 < List.length (b0 :: b1 :: b2 :: w :: w2 :: r) then nG (pc + 1) (ls2 (b0 :: b1 :: b2 :: w :: w2 :: r) 3 (pL x)) st m else none) = _; rw [if_pos (by simp only [List.length_cons]; omega), e]) hX
theorem r_lsw10 {x : Int} {b0 b1 b2 b3 b4 b5 b6 b7 b8 b9 : PV} {w w2 : PV} (G : ft k pc = some (c, rk, ik, .lstore 10, 2)) (hp : pc + 2 = p) (hk : cat b9 = 1) (hX : le2 X (rn d k p (b0 :: b1 :: b2 :: b3 :: b4 :: b5 :: b6 :: b7 :: b8 :: b9 :: pL x :: pU :: r) st m)) : le2 X (rn d k pc (b0 :: b1 :: b2 :: b3 :: b4 :: b5 :: b6 :: b7 :: b8 :: b9 :: w :: w2 :: r) (pL x :: st) m) := st_go G rfl (by have e : ls2 (b0 :: b1 :: b2 :: b3 :: b4 :: b5 :: b6 :: b7 :: b8 :: b9 :: w :: w2 :: r) 10 (pL x) = b0 :: b1 :: b2 :: b3 :: b4 :: b5 :: b6 :: b7 :: b8 :: b9 :: pL x :: pU :: r := (by unfold ls2; rw [lkl_id (j := 9) (v := b9) rfl hk]; rfl); subst hp; show (if 10 + 1 < List.length (b0 :: b1 :: b2 :: b3 :: b4 :: b5 :: b6 :: b7 :: b8 :: b9 :: w :: w2 :: r) then nG (pc + 2) (ls2 (b0 :: b1 :: b2 :: b3 :: b4 :: b5 :: b6 :: b7 :: b8 :: b9 :: w :: w2 :: r) 10 (pL x)) st m else none) = _; rw [if_pos (by simp only [List.length_cons]; omega), e]) hX
theorem r_lsw12 {x : Int} {b0 b1 b2 b3 b4 b5 b6 b7 b8 b9 b10 b11 : PV} {w w2 : PV} (G : ft k pc = some (c, rk, ik, .lstore 12, 2)) (hp : pc + 2 = p) (hk : cat b11 = 1) (hX : le2 X (rn d k p (b0 :: b1 :: b2 :: b3 :: b4 :: b5 :: b6 :: b7 :: b8 :: b9 :: b10 :: b11 :: pL x :: pU :: r) st m)) : le2 X (rn d k pc (b0 :: b1 :: b2 :: b3 :: b4 :: b5 :: b6 :: b7 :: b8 :: b9 :: b10 :: b11 :: w :: w2 :: r) (pL x :: st) m) := st_go G rfl (by have e : ls2 (b0 :: b1 :: b2 :: b3 :: b4 :: b5 :: b6 :: b7 :: b8 :: b9 :: b10 :: b11 :: w :: w2 :: r) 12 (pL x) = b0 :: b1 :: b2 :: b3 :: b4 :: b5 :: b6 :: b7 :: b8 :: b9 :: b10 :: b11 :: pL x :: pU :: r := (by unfold ls2; rw [lkl_id (j := 11) (v := b11) rfl hk]; rfl); subst hp; show (if 12 + 1 < List.length (b0 :: b1 :: b2 :: b3 :: b4 :: b5 :: b6 :: b7 :: b8 :: b9 :: b10 :: b11 :: w :: w2 :: r) then nG (pc + 2) (ls2 (b0 :: b1 :: b2 :: b3 :: b4 :: b5 :: b6 :: b7 :: b8 :: b9 :: b10 :: b11 :: w :: w2 :: r) 12 (pL x)) st m else none) = _; rw [if_pos (by simp only [List.length_cons]; omega), e]) hX
theorem r_lsw14 {x : Int} {b0 b1 b2 b3 b4 b5 b6 b7 b8 b9 b10 b11 b12 b13 : PV} {w w2 : PV} (G : ft k pc = some (c, rk, ik, .lstore 14, 2)) (hp : pc + 2 = p) (hk : cat b13 = 1) (hX : le2 X (rn d k p (b0 :: b1 :: b2 :: b3 :: b4 :: b5 :: b6 :: b7 :: b8 :: b9 :: b10 :: b11 :: b12 :: b13 :: pL x :: pU :: r) st m)) : le2 X (rn d k pc (b0 :: b1 :: b2 :: b3 :: b4 :: b5 :: b6 :: b7 :: b8 :: b9 :: b10 :: b11 :: b12 :: b13 :: w :: w2 :: r) (pL x :: st) m) := st_go G rfl (by have e : ls2 (b0 :: b1 :: b2 :: b3 :: b4 :: b5 :: b6 :: b7 :: b8 :: b9 :: b10 :: b11 :: b12 :: b13 :: w :: w2 :: r) 14 (pL x) = b0 :: b1 :: b2 :: b3 :: b4 :: b5 :: b6 :: b7 :: b8 :: b9 :: b10 :: b11 :: b12 :: b13 :: pL x :: pU :: r := (by unfold ls2; rw [lkl_id (j := 13) (v := b13) rfl hk]; rfl); subst hp; show (if 14 + 1 < List.length (b0 :: b1 :: b2 :: b3 :: b4 :: b5 :: b6 :: b7 :: b8 :: b9 :: b10 :: b11 :: b12 :: b13 :: w :: w2 :: r) then nG (pc + 2) (ls2 (b0 :: b1 :: b2 :: b3 :: b4 :: b5 :: b6 :: b7 :: b8 :: b9 :: b10 :: b11 :: b12 :: b13 :: w :: w2 :: r) 14 (pL x)) st m else none) = _; rw [if_pos (by simp only [List.length_cons]; omega), e]) hX
theorem r_lsw4 {x : Int} {b0 b1 b2 b3 : PV} {w w2 : PV} (G : ft k pc = some (c, rk, ik, .lstore 4, 2)) (hp : pc + 2 = p) (hk : cat b3 = 1) (hX : le2 X (rn d k p (b0 :: b1 :: b2 :: b3 :: pL x :: pU :: r) st m)) : le2 X (rn d k pc (b0 :: b1 :: b2 :: b3 :: w :: w2 :: r) (pL x :: st) m) := st_go G rfl (by have e : ls2 (b0 :: b1 :: b2 :: b3 :: w :: w2 :: r) 4 (pL x) = b0 :: b1 :: b2 :: b3 :: pL x :: pU :: r := (by unfold ls2; rw [lkl_id (j := 3) (v := b3) rfl hk]; rfl); subst hp; show (if 4 + 1 < List.length (b0 :: b1 :: b2 :: b3 :: w :: w2 :: r) then nG (pc + 2) (ls2 (b0 :: b1 :: b2 :: b3 :: w :: w2 :: r) 4 (pL x)) st m else none) = _; rw [if_pos (by simp only [List.length_cons]; omega), e]) hX
theorem r_lsw5 {x : Int} {b0 b1 b2 b3 b4 : PV} {w w2 : PV} (G : ft k pc = some (c, rk, ik, .lstore 5, 2)) (hp : pc + 2 = p) (hk : cat b4 = 1) (hX : le2 X (rn d k p (b0 :: b1 :: b2 :: b3 :: b4 :: pL x :: pU :: r) st m)) : le2 X (rn d k pc (b0 :: b1 :: b2 :: b3 :: b4 :: w :: w2 :: r) (pL x :: st) m) := st_go G rfl (by have e : ls2 (b0 :: b1 :: b2 :: b3 :: b4 :: w :: w2 :: r) 5 (pL x) = b0 :: b1 :: b2 :: b3 :: b4 :: pL x :: pU :: r := (by unfold ls2; rw [lkl_id (j := 4) (v := b4) rfl hk]; rfl); subst hp; show (if 5 + 1 < List.length (b0 :: b1 :: b2 :: b3 :: b4 :: w :: w2 :: r) then nG (pc + 2) (ls2 (b0 :: b1 :: b2 :: b3 :: b4 :: w :: w2 :: r) 5 (pL x)) st m else none) = _; rw [if_pos (by simp only [List.length_cons]; omega), e]) hX
theorem r_lsw6 {x : Int} {b0 b1 b2 b3 b4 b5 : PV} {w w2 : PV} (G : ft k pc = some (c, rk, ik, .lstore 6, 2)) (hp : pc + 2 = p) (hk : cat b5 = 1) (hX : le2 X (rn d k p (b0 :: b1 :: b2 :: b3 :: b4 :: b5 :: pL x :: pU :: r) st m)) : le2 X (rn d k pc (b0 :: b1 :: b2 :: b3 :: b4 :: b5 :: w :: w2 :: r) (pL x :: st) m) := st_go G rfl (by have e : ls2 (b0 :: b1 :: b2 :: b3 :: b4 :: b5 :: w :: w2 :: r) 6 (pL x) = b0 :: b1 :: b2 :: b3 :: b4 :: b5 :: pL x :: pU :: r := (by unfold ls2; rw [lkl_id (j := 5) (v := b5) rfl hk]; rfl); subst hp; show (if 6 + 1 < List.length (b0 :: b1 :: b2 :: b3 :: b4 :: b5 :: w :: w2 :: r) then nG (pc + 2) (ls2 (b0 :: b1 :: b2 :: b3 :: b4 :: b5 :: w :: w2 :: r) 6 (pL x)) st m else none) = _; rw [if_pos (by simp only [List.length_cons]; omega), e]) hX
theorem r_lsw7 {x : Int} {b0 b1 b2 b3 b4 b5 b6 : PV} {w w2 : PV} (G : ft k pc = some (c, rk, ik, .lstore 7, 2)) (hp : pc + 2 = p) (hk : cat b6 = 1) (hX : le2 X (rn d k p (b0 :: b1 :: b2 :: b3 :: b4 :: b5 :: b6 :: pL x :: pU :: r) st m)) : le2 X (rn d k pc (b0 :: b1 :: b2 :: b3 :: b4 :: b5 :: b6 :: w :: w2 :: r) (pL x :: st) m) := st_go G rfl (by have e : ls2 (b0 :: b1 :: b2 :: b3 :: b4 :: b5 :: b6 :: w :: w2 :: r) 7 (pL x) = b0 :: b1 :: b2 :: b3 :: b4 :: b5 :: b6 :: pL x :: pU :: r := (by unfold ls2; rw [lkl_id (j := 6) (v := b6) rfl hk]; rfl); subst hp; show (if 7 + 1 < List.length (b0 :: b1 :: b2 :: b3 :: b4 :: b5 :: b6 :: w :: w2 :: r) then nG (pc + 2) (ls2 (b0 :: b1 :: b2 :: b3 :: b4 :: b5 :: b6 :: w :: w2 :: r) 7 (pL x)) st m else none) = _; rw [if_pos (by simp only [List.length_cons]; omega), e]) hX
theorem r_lsw8 {x : Int} {b0 b1 b2 b3 b4 b5 b6 b7 : PV} {w w2 : PV} (G : ft k pc = some (c, rk, ik, .lstore 8, 2)) (hp : pc + 2 = p) (hk : cat b7 = 1) (hX : le2 X (rn d k p (b0 :: b1 :: b2 :: b3 :: b4 :: b5 :: b6 :: b7 :: pL x :: pU :: r) st m)) : le2 X (rn d k pc (b0 :: b1 :: b2 :: b3 :: b4 :: b5 :: b6 :: b7 :: w :: w2 :: r) (pL x :: st) m) := st_go G rfl (by have e : ls2 (b0 :: b1 :: b2 :: b3 :: b4 :: b5 :: b6 :: b7 :: w :: w2 :: r) 8 (pL x) = b0 :: b1 :: b2 :: b3 :: b4 :: b5 :: b6 :: b7 :: pL x :: pU :: r := (by unfold ls2; rw [lkl_id (j := 7) (v := b7) rfl hk]; rfl); subst hp; show (if 8 + 1 < List.length (b0 :: b1 :: b2 :: b3 :: b4 :: b5 :: b6 :: b7 :: w :: w2 :: r) then nG (pc + 2) (ls2 (b0 :: b1 :: b2 :: b3 :: b4 :: b5 :: b6 :: b7 :: w :: w2 :: r) 8 (pL x)) st m else none) = _; rw [if_pos (by simp only [List.length_cons]; omega), e]) hX
theorem r_nml4 {e : Int} {b0 b1 b2 b3 : PV} {f : Int → RM} (h : ∀ v, v = e → le2 (f v) (rn d k pc (b0 :: b1 :: b2 :: b3 :: pI v :: r) st m)) : le2 (nm e f) (rn d k pc (b0 :: b1 :: b2 :: b3 :: pI e :: r) st m) := h e rfl
end
