/-! queries as objects of the component -/
set_option maxRecDepth 100000
set_option maxHeartbeats 4000000
/-- a literal's value -/
def litN (d : ND) : ND := if d.1 = 40 then (3, d.2.1, [], []) else if d.1 = 41 then (4, 0, d.2.2.1, []) else if d.1 = 42 then (2, 0, [], []) else if d.1 = 43 then (1, 0, [], []) else (0, 0, [], [])
def CB (m : Mem) (N : Int) (xs : List Int) (o : Int) (d : ND) (l : Fo) : Prop :=
  if d.1 = 1 then tg m o = 17 ∧ vl m o 0 = N ∧ At xs (vl m o 1) (nmB d.2.2.1) ∧ wfU d.2.2.1
  else if d.1 = 2 then tg m o = 19
  else if d.1 = 3 then tg m o = 18 ∧ vl m o 0 = d.2.1
  else if d.1 = 4 then tg m o = 29 ∧ d.2.2.1 = [vl m o 0, vl m o 1, vl m o 2, vl m o 3, vl m o 4]
  else if d.1 = 5 then tg m o = 20
  else if d.1 = 20 then tg m o = 15 ∧ vl m o 0 = d.2.1 ∧ vl m o 1 = b2i (sgF l) ∧ (tg m (vl m o 2) = 303113 ∨ tg m (vl m o 2) = 304113) ∧ vl m o 3 = cntF l ∧ (cntF l : Int) ≤ ln m (vl m o 2)
  else if d.1 = 21 then tg m o = 16 ∧ vl m o 0 = d.2.1 ∧ (tg m (vl m o 1) = 305111 ∨ tg m (vl m o 1) = 306111) ∧ vl m o 2 = cntF l ∧ (cntF l : Int) ≤ ln m (vl m o 1)
  else if d.1 = 30 ∨ d.1 = 31 then (cntF l = 1 ∨ (tg m o = 28 ∧ vl m o 0 = (if d.1 = 30 then 1 else 0) ∧ (tg m (vl m o 1) = 338112 ∨ tg m (vl m o 1) = 339112) ∧ vl m o 2 = cntF l ∧ (cntF l : Int) ≤ ln m (vl m o 1)))
  else if d.1 = 32 then tg m o = 21
  else if d.1 = 33 then tg m o = 26 ∧ vl m o 0 = d.2.1 ∧ tg m (vl m o 3) = 27 ∧ tg m (vl m o 4) = 27 ∧ vl m o 3 ≠ vl m o 4
  else if d.1 = 34 then tg m o = 22
  else if d.1 = 45 ∨ d.1 = 47 ∨ d.1 = 48 then tg m o = 23 ∧ vl m o 1 = (if d.1 = 47 then 1 else 0)
  else if d.1 = 46 then tg m o = 25
  else (40 ≤ d.1 ∧ d.1 ≤ 44) ∧ tg m o = 24 ∧ vl m o 0 = N ∧ At xs (vl m o 1) (enV (litN d) foN) ∧ wfF (foC (litN d) foN foN)
def CK (m : Mem) (o : Int) (d : ND) (l : Fo) : Nat → Int :=
  if d.1 = 20 then fun j => vl m (vl m o 2) j
  else if d.1 = 21 then fun j => vl m (vl m o 1) j
  else if d.1 = 30 ∨ d.1 = 31 then (if cntF l = 1 then fun _ => o else fun j => vl m (vl m o 1) j)
  else if d.1 = 33 then fun j => vl m o (if j = 0 then 1 else 2)
  else if d.1 = 5 ∨ d.1 = 32 ∨ d.1 = 34 ∨ d.1 = 45 ∨ d.1 = 46 ∨ d.1 = 47 ∨ d.1 = 48 then fun _ => vl m o 0 else fun _ => 0
section
variable {m : Mem} {o : Int} {d : ND} {l : Fo}
theorem CK_20 (h : d.1 = 20) : CK m o d l = fun j : Nat => vl m (vl m o 2) j := if_pos h
theorem CK_21 (h : d.1 = 21) : CK m o d l = fun j : Nat => vl m (vl m o 1) j := by unfold CK; rw [if_neg (by omega), if_pos h]
theorem CK_31 (h : d.1 = 30 ∨ d.1 = 31) (hc : cntF l = 1) : CK m o d l = fun _ => o := by unfold CK; rw [if_neg (by omega), if_neg (by omega), if_pos h, if_pos hc]
theorem CK_3n (h : d.1 = 30 ∨ d.1 = 31) (hc : cntF l ≠ 1) : CK m o d l = fun j : Nat => vl m (vl m o 1) j := by unfold CK; rw [if_neg (by omega), if_neg (by omega), if_pos h, if_neg hc]
theorem CK_33 (h : d.1 = 33) : CK m o d l = fun j : Nat => vl m o (if j = 0 then 1 else 2) := by unfold CK; rw [if_neg (by omega), if_neg (by omega), if_neg (by omega), if_pos h]
abbrev oneK (k : Nat) : Prop := k = 5 ∨ k = 32 ∨ k = 34 ∨ k = 45 ∨ k = 46 ∨ k = 47 ∨ k = 48
theorem CK_w (h : oneK d.1) : CK m o d l = fun _ => vl m o 0 := by unfold CK; rw [if_neg (by omega), if_neg (by omega), if_neg (by omega), if_neg (by omega), if_pos h]
theorem CK_0 (h : d.1 ≤ 4 ∨ (40 ≤ d.1 ∧ d.1 ≤ 44)) : CK m o d l = fun _ => 0 := by unfold CK; rw [if_neg (by omega), if_neg (by omega), if_neg (by omega), if_neg (by omega), if_neg (by omega)]
end
/-- whose places are looked at -/
def CA (m : Mem) (P : Int → Prop) (o : Int) (d : ND) (l : Fo) : Prop := P o ∧ (d.1 = 20 → P (vl m o 2)) ∧ (d.1 = 21 → P (vl m o 1)) ∧ (d.1 = 30 ∨ d.1 = 31 → cntF l ≠ 1 → P (vl m o 1)) ∧ (d.1 = 33 → P (vl m o 3) ∧ P (vl m o 4))
/-- what those below may use: not the two results of a comparison -/
def CP (m : Mem) (P : Int → Prop) (o : Int) (d : ND) (a : Int) : Prop := P a ∧ (d.1 = 33 → a ≠ vl m o 3 ∧ a ≠ vl m o 4)
/-- objects that stand for what was read; p says where they are, P holds for each -/
def CF (m : Mem) (N : Int) (xs : List Int) : (Int → Prop) → (Nat → Int) → Fo → Prop
  | _, _, .leaf => True
  | P, p, .inner _ d _ l r => (CB m N xs (p 0) d l ∧ CA m P (p 0) d l ∧ CF m N xs (CP m P (p 0) d) (CK m (p 0) d l) l) ∧ CF m N xs P (fun j => p (j + 1)) r
theorem CP.imp {m : Mem} {P Q : Int → Prop} {o a : Int} {d : ND} (hPQ : ∀ a, P a → Q a) (h : CP m P o d a) : CP m Q o d a := ⟨hPQ a h.1, h.2⟩
theorem CF.imp {m : Mem} {N : Int} {xs : List Int} : ∀ {F : Fo} {P Q : Int → Prop} {p : Nat → Int}, (∀ a, P a → Q a) → CF m N xs P p F → CF m N xs Q p F := by
  intro F
  induction F with
  | leaf => intro P Q p _ _; trivial
  | inner n d u l r ihl ihr =>
    intro P Q p hPQ hc
    obtain ⟨⟨h1, ⟨a1, a2, a3, a4, a5⟩, h2⟩, h3⟩ := hc
    exact ⟨⟨h1, ⟨hPQ _ a1, fun q => hPQ _ (a2 q), fun q => hPQ _ (a3 q), fun q q' => hPQ _ (a4 q q'), fun q => ⟨hPQ _ (a5 q).1, hPQ _ (a5 q).2⟩⟩, ihl (fun a ha => CP.imp hPQ ha) h2⟩, ihr hPQ h3⟩
theorem CF.app {m : Mem} {N : Int} {xs : List Int} {P : Int → Prop} : ∀ {A B : Fo} {p : Nat → Int}, CF m N xs P p A → CF m N xs P (fun j => p (j + cntF A)) B → CF m N xs P p (fapp A B) := by
  intro A
  induction A with
  | leaf => intro B p _ hB; exact hB
  | inner n d u l r ihl ihr =>
    intro B p hA hB
    obtain ⟨h1, h3⟩ := hA
    refine ⟨h1, ihr h3 ?_⟩
    have e : (fun j : Nat => (fun j : Nat => p (j + 1)) (j + cntF r)) = (fun j : Nat => p (j + cntF (.inner n d u l r))) := funext fun j => by show p (j + cntF r + 1) = p (j + (cntF r + 1)); rfl
    rw [e]; exact hB
/-- a place of an object of a query -/
abbrev qOk (t k : Int) : Prop := (t = 15 ∧ 0 ≤ k ∧ k ≤ 3) ∨ (t = 16 ∧ 0 ≤ k ∧ k ≤ 2) ∨ (t = 17 ∧ 0 ≤ k ∧ k ≤ 1) ∨ (t = 18 ∧ k = 0) ∨ (t = 20 ∧ k = 0) ∨ (t = 21 ∧ k = 0) ∨ (t = 22 ∧ k = 0) ∨ (t = 23 ∧ 0 ≤ k ∧ k ≤ 1) ∨ (t = 24 ∧ 0 ≤ k ∧ k ≤ 1) ∨ (t = 25 ∧ k = 0) ∨ (t = 26 ∧ 0 ≤ k ∧ k ≤ 4) ∨ (t = 28 ∧ 0 ≤ k ∧ k ≤ 2) ∨ (t = 29 ∧ 0 ≤ k ∧ k ≤ 4) ∨ t = 303113 ∨ t = 304113 ∨ t = 305111 ∨ t = 306111 ∨ t = 338112 ∨ t = 339112
/-- the queries that were there stay -/
def QKp (m m' : Mem) : Prop := ∀ a, tg m a ≠ 0 → tg m' a = tg m a ∧ ln m' a = ln m a ∧ ∀ k, qOk (tg m a) k → vl m' a k = vl m a k
theorem QKp.refl {m : Mem} : QKp m m := fun _ _ => ⟨rfl, rfl, fun _ _ => rfl⟩
theorem QKp.trans {m m1 m2 : Mem} (h : QKp m m1) (h' : QKp m1 m2) : QKp m m2 := fun a ha => by
  obtain ⟨a1, a2, a3⟩ := h a ha
  obtain ⟨b1, b2, b3⟩ := h' a (by rw [a1]; exact ha)
  exact ⟨by rw [b1, a1], by rw [b2, a2], fun k q => by rw [b3 k (by rw [a1]; exact q), a3 k q]⟩
/-- a field is written that is new or no query's -/
theorem QKp.set {m m1 : Mem} {s f v : Int} (h : QKp m m1) (hs : tg m s = 0 ∨ ¬ qOk (tg m s) f) : QKp m (mst m1 s f v) := fun a ha => by
  obtain ⟨a1, a2, a3⟩ := h a ha
  refine ⟨a1, a2, fun k q => ?_⟩
  have : ¬ (a = s ∧ k = f) := by
    rintro ⟨e1, e2⟩
    rw [e1] at ha q; rw [e2] at q
    rcases hs with h1 | h1
    · exact ha h1
    · exact h1 q
  rw [vl_mst, if_neg this]; exact a3 k q
theorem QKp.mal {m m1 : Mem} {t n : Int} (h : QKp m m1) (hz : TZ m1) : QKp m (mal m1 t n) := fun a ha => by
  obtain ⟨a1, a2, a3⟩ := h a ha
  have : a ≠ nx m1 := by intro e; have := hz a (by omega); rw [a1] at this; exact ha this
  exact ⟨by show (if a = nx m1 then t else tg m1 a) = _; rw [if_neg this]; exact a1, by show (if a = nx m1 then n else ln m1 a) = _; rw [if_neg this]; exact a2, fun k q => by show (if a = nx m1 then 0 else vl m1 a k) = _; rw [if_neg this]; exact a3 k q⟩
def qkL : List (Int × Int) := [(15, 0), (15, 1), (15, 2), (15, 3), (16, 0), (16, 1), (16, 2), (17, 0), (17, 1), (18, 0), (20, 0), (21, 0), (22, 0), (23, 0), (23, 1), (24, 0), (24, 1), (25, 0), (26, 0), (26, 1), (26, 2), (26, 3), (26, 4), (28, 0), (28, 1), (28, 2), (29, 0), (29, 1), (29, 2), (29, 3), (29, 4), (303113, 0), (304113, 0), (305111, 0), (306111, 0), (338112, 0), (339112, 0)]
def qkN (e : Nat) : Bool := qkL.all (fun p => !(Nat.testBit e (bix p.1 p.2)))
theorem qk_bit {e : Nat} (h : qkN e = true) {t k : Int} (hq : qOk t k) : Nat.testBit e (bix t k) = false := by
  have key : ∀ p : Int × Int, p ∈ qkL → Nat.testBit e (bix p.1 p.2) = false := fun p hp => by
    have h1 := List.all_eq_true.mp h p hp
    cases hb : Nat.testBit e (bix p.1 p.2)
    · rfl
    · rw [hb] at h1; cases h1
  by_cases h1 : 1000 ≤ t
  · rw [bix_arr h1]
    have : t = 303113 ∨ t = 304113 ∨ t = 305111 ∨ t = 306111 ∨ t = 338112 ∨ t = 339112 := by omega
    rcases this with q | q | q | q | q | q <;> subst q <;> exact key (_, 0) (by decide)
  · have : (t, k) ∈ qkL := by
      have ht : t = 15 ∨ t = 16 ∨ t = 17 ∨ t = 18 ∨ t = 20 ∨ t = 21 ∨ t = 22 ∨ t = 23 ∨ t = 24 ∨ t = 25 ∨ t = 26 ∨ t = 28 ∨ t = 29 := by omega
      have hk : k = 0 ∨ k = 1 ∨ k = 2 ∨ k = 3 ∨ k = 4 := by omega
      rcases ht with q | q | q | q | q | q | q | q | q | q | q | q | q <;> subst q <;> rcases hk with q | q | q | q | q <;> subst q <;> first | decide | (exfalso; omega)
    exact key (t, k) this
theorem QKp.fr {q : Nat} {m m' : Mem} (hf : FRM (eM q) m m') (hz : TZ m) (hn : qkN (eM q) = true) : QKp m m' := fun a ha =>
  ⟨tg_of hf hz ha, ln_of hf hz ha, fun k hq => vl_of hf hz rfl ha (qk_bit hn hq)⟩
/-- the queries of P stay -/
def QKq (P : Int → Prop) (m m' : Mem) : Prop := (∀ a, tg m a ≠ 0 → tg m' a = tg m a ∧ ln m' a = ln m a) ∧ ∀ a, P a → ∀ k, qOk (tg m a) k → vl m' a k = vl m a k
theorem QKp.q {P : Int → Prop} {m m' : Mem} (h : QKp m m') : QKq P m m' := ⟨fun a ha => ⟨(h a ha).1, (h a ha).2.1⟩, fun a _ k hk => (h a (by intro q; rw [q] at hk; omega)).2.2 k hk⟩
theorem QKq.imp {P Q : Int → Prop} {m m' : Mem} (h : QKq Q m m') (hp : ∀ a, P a → Q a) : QKq P m m' := ⟨h.1, fun a pa => h.2 a (hp a pa)⟩
