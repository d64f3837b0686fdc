/-! evaluation by the component: all together -/
set_option maxRecDepth 100000
set_option maxHeartbeats 4000000
abbrev aT : Int → Prop := fun _ => True
/-- what stays while a query runs -/
def EG (m0 : Mem) (N kN rt : Int) (ns xs : List Int) (rN : Nd) : Prop := LB m0 ∧ RW m0 N ns kN ∧ ns.length < 60000 ∧ xs.length < 60000 ∧ NVn xs rN ∧ ofN rN = rt
theorem EK.ob {m0 m : Mem} (k : EK aT m0 m) {o : Int} (h : (14 < tg m0 o ∧ tg m0 o < 27) ∨ (27 < tg m0 o ∧ tg m0 o < 30) ∨ 300000 < tg m0 o) : tg m o = tg m0 o ∧ ln m o = ln m0 o ∧ ∀ j, vl m o j = vl m0 o j :=
  ⟨(k.1 o (by omega)).1, (k.1 o (by omega)).2, fun j => k.2 o j (by omega) (by omega) (by omega) (by omega) (fun z => by omega)⟩
theorem NVn.h {xs : List Int} {x : Nk} {y : Nd} (h : NVn xs (x :: y)) : NV xs x ∧ dpF x.2.2.2.1 ≤ 40 := by
  obtain ⟨q, t, e, h1, h2⟩ := h
  injection e with e1 e2
  subst e1
  exact ⟨h1, h2⟩
theorem evS_n {d : ND} {K : EvT} {x : Nd} (h : d.1 ≠ 5) : evS d K x = sel1 d x := if_neg h
theorem any_one {rN : Nd} : ∀ {l : Fo}, cntF l = 1 → (evX rN l).any = (evX rN l).tst ∧ (evX rN l).all = (evX rN l).tst := by
  intro l h
  cases l with
  | leaf => cases h
  | inner n d u l r =>
    have : r = foN := by
      cases r with
      | leaf => rfl
      | inner n1 d1 u1 l1 r1 =>
        have h : cntF r1 + 1 + 1 = 1 := h
        omega
    subst this
    have key : ∀ T : Nd → EV Bool, (fun x => eB (T x) fun b => if b = true then eR true else eR false) = T := fun T => by
      funext x w
      cases hE : T x w with
      | none => rw [eB_none hE]
      | some z =>
        obtain ⟨b, w'⟩ := z
        rw [eB_some hE]
        cases b <;> rfl
    exact ⟨key _, key _⟩
section
variable {m0 : Mem} {N kN R rw c rt : Int} {ns xs : List Int} {rN : Nd} {P : Int → Prop} {p : Nat → Int} {F : Fo}
theorem tstP : ∀ {F : Fo} {P : Int → Prop} {p : Nat → Int}, CF m0 N ns P p F → okF 3 F → 1 ≤ cntF F → tg m0 (p 0) = 21 ∨ tg m0 (p 0) = 22 ∨ tg m0 (p 0) = 26 ∨ tg m0 (p 0) = 28 := by
  intro F
  induction F with
  | leaf => intro P p _ _ h; cases h
  | inner n d u l r ihl ihr =>
    intro P p hc ho hn
    obtain ⟨⟨h1, h2, h3⟩, h4⟩ := hc
    obtain ⟨o1, o2, o3, o4, o5, o6⟩ := ho
    have hk : d.1 = 30 ∨ d.1 = 31 ∨ d.1 = 32 ∨ d.1 = 33 ∨ d.1 = 34 := by
      unfold cK at o1
      split at o1
      · omega
      · split at o1
        · omega
        · split at o1
          · omega
          · split at o1
            · omega
            · split at o1 <;> omega
    by_cases k3 : d.1 = 30 ∨ d.1 = 31
    · rw [CB_30 k3] at h1
      by_cases k1 : cntF l = 1
      · rw [CK_31 k3 k1] at h3
        have e3 : cB d.1 = 3 := by unfold cB; rw [if_pos (by omega)]
        rw [e3] at o5
        exact ihl (p := fun _ => p 0) h3 o5 (by omega)
      · rcases h1 with z | z
        · exact absurd z k1
        · exact Or.inr (Or.inr (Or.inr z.1))
    · by_cases k32 : d.1 = 32
      · rw [CB_32 k32] at h1; exact Or.inl h1
      · by_cases k33 : d.1 = 33
        · rw [CB_33 k33] at h1; exact Or.inr (Or.inr (Or.inl h1.1))
        · rw [CB_34 (by omega)] at h1; exact Or.inr (Or.inl h1)
theorem cK_4 {k : Nat} (h : cK k = 4) : 40 ≤ k ∧ k ≤ 48 := by
  unfold cK at h
  split at h
  · omega
  · split at h
    · omega
    · split at h
      · omega
      · split at h
        · omega
        · split at h <;> omega
theorem cK_1 {k : Nat} (h : cK k = 1) : 1 ≤ k ∧ k ≤ 5 := by
  unfold cK at h
  split at h
  · omega
  · split at h
    · omega
    · split at h
      · omega
      · split at h
        · omega
        · split at h <;> omega
theorem cK_2 {k : Nat} (h : cK k = 2) : k = 21 := by
  unfold cK at h
  split at h
  · omega
  · split at h
    · omega
    · split at h
      · omega
      · split at h
        · omega
        · split at h <;> omega
theorem cK_5 {k : Nat} (h : cK k = 5) : k = 20 := by
  unfold cK at h
  split at h
  · omega
  · split at h
    · omega
    · split at h
      · omega
      · split at h
        · omega
        · split at h <;> omega
theorem cpbP {F : Fo} {P : Int → Prop} {p : Nat → Int} (hc : CF m0 N ns P p F) (ho : okF 4 F) (hn : 1 ≤ cntF F) : tg m0 (p 0) = 23 ∨ tg m0 (p 0) = 24 ∨ tg m0 (p 0) = 25 := by
  cases F with
  | leaf => cases hn
  | inner n d u l r =>
    obtain ⟨⟨h1, h2, h3⟩, h4⟩ := hc
    have hk := cK_4 ho.1
    by_cases k1 : d.1 = 46
    · rw [CB_46 k1] at h1; exact Or.inr (Or.inr h1)
    · by_cases k2 : d.1 = 45 ∨ d.1 = 47 ∨ d.1 = 48
      · rw [CB_45 k2] at h1; exact Or.inl h1.1
      · rw [CB_40 (by omega)] at h1; exact Or.inr (Or.inl h1.2.1)
def RSel (m0 : Mem) (N R rw c rt : Int) (ns xs : List Int) (rN : Nd) (F : Fo) : Prop := ∀ (P : Int → Prop) (p : Nat → Int) (d : Nat) (m : Mem) (stk : List Int) (w cap o i : Int) (x : Nk) (y : Nd), CF m0 N ns P p F → okF 1 F → hQ F + 120 ≤ d → tg m0 o = 16 → (tg m0 (vl m0 o 1) = 305111 ∨ tg m0 (vl m0 o 1) = 306111) → (∀ j : Nat, j < cntF F → vl m0 (vl m0 o 1) (i + j) = p j) → 0 ≤ i → vl m0 o 2 = i + cntF F → vl m0 o 2 ≤ ln m0 (vl m0 o 1) → NVn xs (x :: y) → EK aT m0 m → EC m R rw xs c rt stk w cap → w ≤ 10000 → EVs P m R rw xs c rt stk cap (rn d 109 2 [pR R, pR o, pI x.1, pI i] [] m) ((evX rN F).sel (x :: y) w)
def RSeg (m0 : Mem) (N R rw c rt : Int) (ns xs : List Int) (rN : Nd) (F : Fo) : Prop := ∀ (P : Int → Prop) (p : Nat → Int) (d : Nat) (m : Mem) (stk zz : List Int) (nodes : List Nd) (w cap q s at' : Int) (z5 z6 : PV), CF m0 N ns P p F → okF 2 F → hQ F + 120 ≤ d → tg m0 q = 15 → (tg m0 (vl m0 q 2) = 303113 ∨ tg m0 (vl m0 q 2) = 304113) → (∀ j : Nat, j < cntF F → vl m0 (vl m0 q 2) (s + j) = p j) → 0 ≤ s → vl m0 q 3 = s + cntF F → vl m0 q 3 ≤ ln m0 (vl m0 q 2) → NVs xs nodes → cat z5 = 1 → cat z6 = 1 → EK aT m0 m → EC m R rw xs c rt (stk ++ (zz ++ nodes.map ofN)) w cap → w ≤ 10000 → EVq P m R rw xs c rt stk cap (rn d 105 27 [pR R, pR q, pI at', pI ((stk.length : Int) + zz.length), pI s, z5, z6] [] m) ((evX rN F).seg nodes w)
def RAn (m0 : Mem) (N R rw c rt : Int) (ns xs : List Int) (rN : Nd) (an : Bool) (F : Fo) : Prop := ∀ (P : Int → Prop) (p : Nat → Int) (d : Nat) (m : Mem) (stk : List Int) (w cap o i : Int) (x : Nk) (y : Nd), CF m0 N ns P p F → okF 3 F → hQ F + 121 ≤ d → tg m0 o = 28 → vl m0 o 0 = b2i an → (tg m0 (vl m0 o 1) = 338112 ∨ tg m0 (vl m0 o 1) = 339112) → (∀ j : Nat, j < cntF F → vl m0 (vl m0 o 1) (i + j) = p j) → 0 ≤ i → vl m0 o 2 = i + cntF F → vl m0 o 2 ≤ ln m0 (vl m0 o 1) → NVn xs (x :: y) → EK aT m0 m → EC m R rw xs c rt stk w cap → w ≤ 10000 → EVb P m R rw xs c rt stk cap (rn d 339 2 [pR o, pR R, pI x.1, pI i] [] m) ((if an then (evX rN F).any else (evX rN F).all) (x :: y) w)
def RTst (m0 : Mem) (N R rw c rt : Int) (ns xs : List Int) (rN : Nd) (F : Fo) : Prop := ∀ (P : Int → Prop) (p : Nat → Int) (d : Nat) (m : Mem) (stk : List Int) (w cap : Int) (x : Nk) (y : Nd), CF m0 N ns P p F → okF 3 F → 1 ≤ cntF F → hQ F + 120 ≤ d → NVn xs (x :: y) → EK aT m0 m → EC m R rw xs c rt stk w cap → w ≤ 10000 → EVb P m R rw xs c rt stk cap (ci d 302 (tg m0 (p 0)) [pR (p 0), pR R, pI x.1] m) ((evX rN F).tst (x :: y) w)
def RCpb (m0 : Mem) (N R rw c rt : Int) (ns xs : List Int) (rN : Nd) (F : Fo) : Prop := ∀ (P : Int → Prop) (p : Nat → Int) (d : Nat) (m : Mem) (stk : List Int) (w cap a : Int) (x : Nk) (y : Nd), CF m0 N ns P p F → okF 4 F → 1 ≤ cntF F → hQ F + 120 ≤ d → tg m0 a = 27 → P a → NVn xs (x :: y) → EK aT m0 m → EC m R rw xs c rt stk w cap → w ≤ 10000 → EVo a P m R rw xs c rt stk cap (ci d 303 (tg m0 (p 0)) [pR (p 0), pR R, pI x.1, pR a] m) ((evX rN F).cpb (x :: y) w)
def RCp2 (m0 : Mem) (N R rw c rt : Int) (ns xs : List Int) (rN : Nd) (F : Fo) : Prop := ∀ (P : Int → Prop) (p : Nat → Int) (d : Nat) (m : Mem) (stk : List Int) (w cap a : Int) (x : Nk) (y : Nd), CF m0 N ns P p F → okF 4 F → 2 ≤ cntF F → hQ F + 120 ≤ d → tg m0 a = 27 → P a → NVn xs (x :: y) → EK aT m0 m → EC m R rw xs c rt stk w cap → w ≤ 10000 → EVo a P m R rw xs c rt stk cap (ci d 303 (tg m0 (p 1)) [pR (p 1), pR R, pI x.1, pR a] m) ((evX rN F).cp2 (x :: y) w)
def RQry (m0 : Mem) (N R rw c rt : Int) (ns xs : List Int) (rN : Nd) (F : Fo) : Prop := ∀ (P : Int → Prop) (p : Nat → Int) (d : Nat) (m : Mem) (stk : List Int) (w cap : Int) (x : Nk) (y : Nd), CF m0 N ns P p F → okF 5 F → 1 ≤ cntF F → hQ F + 120 ≤ d → NVn xs (x :: y) → EK aT m0 m → EC m R rw xs c rt stk w cap → w ≤ 10000 → EVq P m R rw xs c rt stk cap (cl d 105 [pR R, pR (p 0), pI x.1] m) ((evX rN F).qry (x :: y) w)
theorem hQ_in {n : Nat} {d : ND} {u : Unit} {l r : Fo} : hQ (.inner n d u l r) = max (hQ l + if d.1 = 21 ∨ d.1 = 46 then 70 else 5) (hQ r) := rfl
theorem EKT {m m1 : Mem} {P : Int → Prop} (k : EK aT m0 m) (k1 : EK P m m1) : EK aT m0 m1 := k.trans (k1.imp fun _ _ => trivial)
theorem rSel (hg : EG m0 N kN rt ns xs rN) {n : Nat} {d : ND} {u : Unit} {l r : Fo} (hl : RTst m0 N R rw c rt ns xs rN l) (hr : RSel m0 N R rw c rt ns xs rN r) : RSel m0 N R rw c rt ns xs rN (.inner n d u l r) := by
  intro P p dd m stk w cap o i x y hc ho hd t16 ta hp hi v2 hln hN hk h hw
  obtain ⟨hB, hNR, hns, hx, -, -⟩ := hg
  obtain ⟨⟨h1, h2, h3⟩, h4⟩ := hc
  obtain ⟨o1, o2, o3, o4, o5, o6⟩ := ho
  have hk15 := cK_1 o1
  rw [hQ_in] at hd
  have hcn : cntF (.inner n d u l r) = cntF r + 1 := rfl
  rw [hcn] at v2 hp
  have p0 := hp 0 (by omega)
  rw [show (i + ((0 : Nat) : Int)) = i by omega] at p0
  have ob1 := hk.ob (o := o) (by omega)
  have ob2 := hk.ob (o := vl m0 o 1) (by omega)
  have tp : tg m0 (p 0) = 17 ∨ tg m0 (p 0) = 18 ∨ tg m0 (p 0) = 19 ∨ tg m0 (p 0) = 20 ∨ tg m0 (p 0) = 29 := by
    rcases CB_cases h1 with ⟨q, z⟩ | ⟨q, z⟩ | ⟨q, z⟩ | ⟨q, z⟩ | ⟨q, z⟩ | ⟨q, z⟩ | ⟨q, z⟩ | ⟨q, z⟩ | ⟨q, z⟩ | ⟨q, z⟩ | ⟨q, z⟩ | ⟨q, z⟩ | ⟨q, z⟩ | z
    · exact Or.inl z.1
    · exact Or.inr (Or.inr (Or.inl z))
    · exact Or.inr (Or.inl z.1)
    · exact Or.inr (Or.inr (Or.inr (Or.inr z.1)))
    · exact Or.inr (Or.inr (Or.inr (Or.inl z)))
    all_goals (exfalso; first | omega | (have := z.1; omega))
  have ob3 := hk.ob (o := p 0) (by omega)
  have hNR' : RW m N ns kN := hk.row hNR
  have hL : LX m o i (p 0) := ⟨by rw [ob1.1]; exact t16, by rw [ob1.2.2, ob2.1]; exact ta, by rw [ob1.2.2, ob1.2.2, ob2.2.1]; have := hB (vl m0 o 1); push_cast at v2; omega, by rw [ob1.2.2, ob2.2.2]; exact p0, by rw [ob3.1]; omega⟩
  refine c109_s (T := evS d (evX rN l) (x :: y)) (G := (evX rN r).sel (x :: y)) (by omega) h.tz hL ?_ (fun m1 ys w1 cap1 hw1 e1 k1 => ?_)
  · rw [ob3.1]
    have hv := hN.h
    by_cases k5 : d.1 = 5
    · rw [CB_5 k5] at h1
      have e3 : cB d.1 = 3 := by unfold cB; rw [if_pos (by omega)]
      rw [e3] at o5
      have c1 : cntF l = 1 := by unfold cN at o2; rw [if_pos (by omega)] at o2; exact o2
      rw [CK_w (Or.inl k5)] at h3
      have h3' := h3.imp (Q := P) fun a z => z.1
      have tt := tstP h3' o5 (by omega)
      have ob4 := hk.ob (o := vl m0 (p 0) 0) (by omega)
      rw [h1]
      refine c313 (d := dd - 1) (f := (evX rN l).tst) (t0 := vl m0 (p 0) 0) (by omega) hx hv.1 k5 rfl ⟨by rw [ob3.1]; exact h1, ob3.2.2 0⟩ (by rw [ob4.1]; omega) h hw (fun m1 stk1 w1 cap1 q hq hw1 e1 k1 => ?_)
      rw [ob4.1]
      exact hl P _ (dd - 1 - 1) m1 stk1 w1 cap1 q (x :: y) h3' o5 (by omega) (by rw [if_neg (by omega)] at hd; omega) (kdS_ok hv.1 hv.2 q hq) (EKT hk k1) e1 hw1
    · rw [evS_n k5]
      by_cases k1 : d.1 = 1
      · rw [CB_1 k1] at h1
        rw [h1.1]
        exact c307 (d := dd - 1) (by omega) hx hv.1 k1 ⟨by rw [ob3.1]; exact h1.1, by rw [ob3.2.2]; exact h1.2.1, by rw [ob3.2.2]; exact h1.2.2⟩ hNR' hns h hw
      by_cases k2 : d.1 = 2
      · rw [CB_2 k2] at h1
        rw [h1]
        exact c311 (d := dd - 1) (by omega) hx hv.1 k2 h hw
      by_cases k3 : d.1 = 3
      · rw [CB_3 k3] at h1
        rw [h1.1]
        exact c309 (d := dd - 1) (by omega) hx hv.1 k3 ⟨by rw [ob3.1]; exact h1.1, by rw [ob3.2.2]; exact h1.2⟩ ⟨(o3 (Or.inl k3)).1, (o3 (Or.inl k3)).2.1⟩ h hw
      have k4 : d.1 = 4 := by omega
      rw [CB_4 k4] at h1
      rw [h1.1]
      exact c341 (d := dd - 1) (by omega) hx hv.1 k4 ⟨by rw [ob3.1]; exact h1.1, by rw [ob3.2.2, ob3.2.2, ob3.2.2, ob3.2.2, ob3.2.2]; exact h1.2⟩ (o4 k4) h hw
  · exact hr P (fun j => p (j + 1)) dd m1 _ w1 cap1 o (i + 1) x y h4 o6 (by omega) t16 ta (fun j hj => by have := hp (j + 1) (by omega); rw [← this]; congr 1; push_cast; omega) (by omega) (by push_cast at v2; omega) hln hN (EKT hk k1) e1 hw1
theorem rSel0 : RSel m0 N R rw c rt ns xs rN foN := by
  intro P p dd m stk w cap o i x y hc ho hd t16 ta hp hi v2 hln hN hk h hw
  have ob1 := hk.ob (o := o) (by omega)
  exact c109_e (by omega) h hw (by rw [ob1.1]; exact t16) (by rw [ob1.2.2, v2]; show i + ((0 : Nat) : Int) = i; omega)
theorem rSeg0 : RSeg m0 N R rw c rt ns xs rN foN := by
  intro P p dd m stk zz nodes w cap q s at' z5 z6 hc ho hd t15 ta hp hi v2 hln hN hz5 hz6 hk h hw
  have ob1 := hk.ob (o := q) (by omega)
  exact c105_e hz5 hz6 (by rw [ob1.1]; exact t15) (by rw [ob1.2.2, v2]; show s = s + ((0 : Nat) : Int); omega) h hw hN
theorem rSeg (hg : EG m0 N kN rt ns xs rN) {n : Nat} {d : ND} {u : Unit} {l r : Fo} (hl : RSel m0 N R rw c rt ns xs rN l) (hr : RSeg m0 N R rw c rt ns xs rN r) : RSeg m0 N R rw c rt ns xs rN (.inner n d u l r) := by
  intro P p dd m stk zz nodes w cap q s at' z5 z6 hc ho hd t15 ta hp hi v2 hln hN hz5 hz6 hk h hw
  obtain ⟨hB, hNR, hns, hx, hrt, -⟩ := hg
  obtain ⟨⟨h1, h2, h3⟩, h4⟩ := hc
  obtain ⟨o1, o2, o3, o4, o5, o6⟩ := ho
  have k21 := cK_2 o1
  rw [hQ_in, if_pos (Or.inl k21)] at hd
  have hcn : cntF (.inner n d u l r) = cntF r + 1 := rfl
  rw [hcn] at v2 hp
  have p0 := hp 0 (by omega)
  rw [show (s + ((0 : Nat) : Int)) = s by omega] at p0
  rw [CB_21 k21] at h1
  rw [CK_21 k21] at h3
  obtain ⟨b1, b2, b3, b4, b5⟩ := h1
  have e1 : cB d.1 = 1 := by unfold cB; rw [if_neg (by omega), if_neg (by omega), if_pos k21]
  rw [e1] at o5
  have ob1 := hk.ob (o := q) (by omega)
  have ob2 := hk.ob (o := vl m0 q 2) (by omega)
  have ob3 := hk.ob (o := p 0) (by omega)
  have hL : LG m q s (p 0) := ⟨by rw [ob1.1]; exact t15, by rw [ob1.2.2, ob2.1]; exact ta, by rw [ob1.2.2, ob1.2.2, ob2.2.1]; have := hB (vl m0 q 2); push_cast at v2; omega, by rw [ob1.2.2, ob2.2.2]; exact p0, by rw [ob3.1]; exact b1⟩
  have h3' := h3.imp (Q := P) fun a z => z.1
  have sel : ∀ (d' : Nat) (m1 : Mem) (stk1 : List Int) (w1 cap1 : Int) (z : Nk) (y : Nd), hQ l + 120 ≤ d' → NV xs z → dpF z.2.2.2.1 ≤ 40 → w1 ≤ 10000 → EC m1 R rw xs c rt stk1 w1 cap1 → EK P m m1 → EVs P m1 R rw xs c rt stk1 cap1 (cl d' 109 [pR R, pR (p 0), pI z.1] m1) ((evX rN l).sel (z :: y) w1) := by
    intro d' m1 stk1 w1 cap1 z y hd' hz hdp hw1 e1 k1
    refine (hl P _ d' m1 stk1 w1 cap1 (p 0) 0 z y h3' o5 hd' b1 b3 (fun j hj => by rw [Int.zero_add]) (by omega) (by omega) (by omega) ⟨z, y, rfl, hz, hdp⟩ (EKT hk k1) e1 hw1).of (fun Z hZ => q109 e1.tz _ hZ)
  have hvn : ∀ n ∈ nodes, NVn xs n := hN
  refine c105_s (g := evG d (evX rN l)) (G := (evX rN r).seg) hz5 hz6 (by omega) hL (fun m1 stk1 w1 cap1 z y hz hdp hw1 e1 k1 => ?_) h hw hN (fun m1 ys w1 cap1 hE hw1 e1 k1 => ?_)
  · rw [ob3.2.2, b2]
    by_cases z0 : d.2.1 = 0
    · rw [if_pos z0]
      have eg : evG d (evX rN l) (z :: y) = (evX rN l).sel (z :: y) := if_pos z0
      rw [eg]
      exact sel (dd - 1) m1 stk1 w1 cap1 z y (by omega) hz hdp hw1 e1 k1
    · rw [if_neg z0]
      have eg : evG d (evX rN l) (z :: y) = dwn (evX rN l).sel (z :: y) := if_neg z0
      rw [eg]
      exact c108 (m0 := m1) (D := hQ l + 120) hx (by omega) hz hdp (by omega) (fun d' m2 stk2 w2 cap2 z2 y2 hd2 hz2 hdp2 hw2 e2 k2 => sel d' m2 stk2 w2 cap2 z2 y2 hd2 hz2 hdp2 hw2 e2 (k1.trans k2)) e1 EK.refl hw1
  · have hGG : ∀ x, NVn xs x → EOk xs (evG d (evX rN l) x) := by
      intro x hx
      unfold evG
      split
      · exact (evX_ok hrt l).1 x hx
      · exact EOk.dn hx (evX_ok hrt l).1
    have hys : NVs xs ys := EOk.l (fun z hz => hGG z (hvn z hz)) w ys w1 hE
    exact hr P (fun j => p (j + 1)) dd m1 stk (zz ++ nodes.map ofN) ys w1 cap1 q (s + 1) at' _ _ h4 o6 (by omega) t15 ta (fun j hj => by have := hp (j + 1) (by omega); rw [← this]; congr 1; push_cast; omega) (by omega) (by push_cast at v2; omega) hln hys rfl rfl (EKT hk k1) e1 hw1
theorem rAn0 {an : Bool} : RAn m0 N R rw c rt ns xs rN an foN := by
  intro P p dd m stk w cap o i x y hc ho hd t28 v0 ta hp hi v2 hln hN hk h hw
  have ob1 := hk.ob (o := o) (by omega)
  have key := c339_e (P := P) (d := dd) (at' := x.1) (an := an) (i := i) (o := o) (by omega) h hw (by rw [ob1.1]; exact t28) (by rw [ob1.2.2]; exact v0) (by rw [ob1.2.2, v2]; show i + ((0 : Nat) : Int) = i; omega)
  cases an <;> exact key
theorem rAn {an : Bool} (hg : EG m0 N kN rt ns xs rN) {n : Nat} {d : ND} {u : Unit} {l r : Fo} (hl : RTst m0 N R rw c rt ns xs rN (.inner n d u l r)) (hr : RAn m0 N R rw c rt ns xs rN an r) : RAn m0 N R rw c rt ns xs rN an (.inner n d u l r) := by
  intro P p dd m stk w cap o i x y hc ho hd t28 v0 ta hp hi v2 hln hN hk h hw
  have hB := hg.1
  have tt := tstP hc ho (show 1 ≤ cntF (.inner n d u l r) from Nat.succ_le_succ (Nat.zero_le _))
  have hc' := hc
  have ho' := ho
  have hd' := hd
  have h4 := hc.2
  have o6 := ho.2.2.2.2.2
  rw [hQ_in] at hd'
  have hcn : cntF (.inner n d u l r) = cntF r + 1 := rfl
  rw [hcn] at v2 hp
  have p0 := hp 0 (by omega)
  rw [show (i + ((0 : Nat) : Int)) = i by omega] at p0
  have ob1 := hk.ob (o := o) (by omega)
  have ob2 := hk.ob (o := vl m0 o 1) (by omega)
  have ob3 := hk.ob (o := p 0) (by omega)
  have hL : LT m o i (p 0) an := ⟨by rw [ob1.1]; exact t28, by rw [ob1.2.2]; exact v0, by rw [ob1.2.2, ob2.1]; exact ta, by rw [ob1.2.2, ob1.2.2, ob2.2.1]; have := hB (vl m0 o 1); push_cast at v2; omega, by rw [ob1.2.2, ob2.2.2]; exact p0, by rw [ob3.1]; omega⟩
  have hh : EVb P m R rw xs c rt stk cap (ci (dd - 1) 302 (tg m (p 0)) [pR (p 0), pR R, pI x.1] m) ((evX rN (.inner n d u l r)).tst (x :: y) w) := by
    rw [ob3.1]
    exact hl P p (dd - 1) m stk w cap x y hc' ho' (Nat.succ_le_succ (Nat.zero_le _)) (by omega) hN hk h hw
  have key := c339_s (d := dd) (G := (if an then (evX rN r).any else (evX rN r).all) (x :: y)) (by omega) h.tz hL hh (fun m1 w1 cap1 hw1 e1 k1 => hr P (fun j => p (j + 1)) dd m1 stk w1 cap1 o (i + 1) x y h4 o6 (by omega) t28 v0 ta (fun j hj => by have := hp (j + 1) (by omega); rw [← this]; congr 1; push_cast; omega) (by omega) (by push_cast at v2; omega) hln hN (EKT hk k1) e1 hw1)
  cases an with
  | true => exact key
  | false =>
    have e : (fun b : Bool => if b = false then (eR false : EV Bool) else (evX rN r).all (x :: y)) = fun b : Bool => if b = true then (evX rN r).all (x :: y) else eR false := funext fun b => by cases b <;> rfl
    show EVb P m R rw xs c rt stk cap _ (eB ((evX rN (.inner n d u l r)).tst (x :: y)) (fun b : Bool => if b = true then (evX rN r).all (x :: y) else eR false) w)
    rw [← e]
    exact key
theorem rQry (hg : EG m0 N kN rt ns xs rN) {n : Nat} {d : ND} {u : Unit} {l r : Fo} (hl : RSeg m0 N R rw c rt ns xs rN l) : RQry m0 N R rw c rt ns xs rN (.inner n d u l r) := by
  intro P p dd m stk w cap x y hc ho hcn hd hN hk h hw
  obtain ⟨hB, hNR, hns, hx, hrt, hof⟩ := hg
  obtain ⟨⟨h1, h2, h3⟩, h4⟩ := hc
  obtain ⟨o1, o2, o3, o4, o5, o6⟩ := ho
  have k20 := cK_5 o1
  rw [hQ_in, if_neg (by omega)] at hd
  rw [CB_20 k20] at h1
  rw [CK_20 k20] at h3
  obtain ⟨b1, b2, b3, b4, b5, b6⟩ := h1
  have e1 : cB d.1 = 2 := by unfold cB; rw [if_neg (by omega), if_pos k20]
  rw [e1] at o5
  have h3' := h3.imp (Q := P) fun a z => z.1
  have ob3 := hk.ob (o := p 0) (by omega)
  have hv : NVs xs [if d.2.1 = 0 then x :: y else rN] := by
    intro n hn
    rw [List.mem_singleton.mp hn]
    split
    · exact hN
    · exact hrt
  refine c105 (d := dd) (G := (evX rN l).seg) (x := if d.2.1 = 0 then x :: y else rN) (dd := d) (by omega) (by rw [ob3.1]; exact b1) (by rw [ob3.2.2]; exact b2) (by split <;> first | rfl | exact hof) hv h hw (fun m1 w1 cap1 hw1 e1 k1 => ?_)
  exact hl P _ dd m1 stk [] _ w1 cap1 (p 0) 0 x.1 _ _ h3' o5 (by omega) b1 b4 (fun j hj => by rw [Int.zero_add]) (by omega) (by omega) (by omega) hv rfl rfl (EKT hk k1) e1 hw1
theorem rCpb (hg : EG m0 N kN rt ns xs rN) {n : Nat} {d : ND} {u : Unit} {l r : Fo} (hl : RCpb m0 N R rw c rt ns xs rN l) (hq : RQry m0 N R rw c rt ns xs rN l) : RCpb m0 N R rw c rt ns xs rN (.inner n d u l r) := by
  intro P p dd m stk w cap a x y hc ho hcn hd ha hP hN hk h hw
  obtain ⟨hB, hNR, hns, hx, hrt, hof⟩ := hg
  have tt := cpbP hc ho (Nat.succ_le_succ (Nat.zero_le _))
  obtain ⟨⟨h1, h2, h3⟩, h4⟩ := hc
  obtain ⟨o1, o2, o3, o4, o5, o6⟩ := ho
  have k4 := cK_4 o1
  have hd : hQ l + 5 + 120 ≤ dd := by
    rw [hQ_in] at hd
    split at hd <;> omega
  have ob3 := hk.ob (o := p 0) (by omega)
  have hNR' : RW m N ns kN := hk.row hNR
  have ha' : tg m a = 27 := by rw [(hk.1 a (by omega)).1]; exact ha
  by_cases k46 : d.1 = 46
  · rw [CB_46 k46] at h1
    have e1 : cB d.1 = 4 := by unfold cB; rw [if_neg (by omega), if_neg (by omega), if_neg (by omega), if_pos (by omega)]
    rw [e1] at o5
    have c1 : cntF l = 1 := by unfold cN at o2; rw [if_pos (by omega)] at o2; exact o2
    rw [CK_w (by omega)] at h3
    have h3' := h3.imp (Q := P) fun a z => z.1
    have t2 := cpbP h3' o5 (by omega)
    have ob4 := hk.ob (o := vl m0 (p 0) 0) (by omega)
    have ev : (evX rN (.inner n d u l r)).cpb (x :: y) = eB ((evX rN l).cpb (x :: y)) fun v => eR (vLen v) := by
      show evC d (evX rN l) (x :: y) = _
      unfold evC; rw [if_neg (by omega), if_neg (by omega), if_pos k46]
    rw [ev, h1]
    refine c323 (d := dd) (by omega) h.tz (by rw [ob3.1]; exact h1) (by rw [ob3.2.2, ob4.1]; omega) hP ?_
    rw [ob3.2.2, ob4.1]
    exact hl P _ (dd - 1) m stk w cap a x y h3' o5 (by omega) (by omega) ha hP hN hk h hw
  · by_cases k45 : d.1 = 45 ∨ d.1 = 47 ∨ d.1 = 48
    · rw [CB_45 k45] at h1
      have e1 : cB d.1 = 5 := by unfold cB; rw [if_neg (by omega), if_neg (by omega), if_neg (by omega), if_neg (by omega), if_pos (by omega)]
      rw [e1] at o5
      have c1 : cntF l = 1 := by unfold cN at o2; rw [if_pos (by omega)] at o2; exact o2
      rw [CK_w (by omega)] at h3
      have h3' := h3.imp (Q := P) fun a z => z.1
      have ev : (evX rN (.inner n d u l r)).cpb (x :: y) = eB ((evX rN l).qry (x :: y)) fun ys => eR (if d.1 = 47 then vNum ys.length else vOne ys) := by
        show evC d (evX rN l) (x :: y) = _
        unfold evC
        by_cases k47 : d.1 = 47
        · rw [if_neg (by omega), if_pos k47]
          congr 1; funext ys; rw [if_pos k47]
        · rw [if_pos (by omega)]
          congr 1; funext ys; rw [if_neg k47]
      rw [ev, h1.1]
      refine c319 (d := dd) (by omega) hx h k45 ⟨by rw [ob3.1]; exact h1.1, by rw [ob3.2.2]; exact h1.2⟩ ha' hP ?_
      rw [ob3.2.2]
      exact hq P _ (dd - 1) m stk w cap x y h3' o5 (by omega) (by omega) hN hk h hw
    · rw [CB_40 (by omega)] at h1
      have ev : (evX rN (.inner n d u l r)).cpb (x :: y) = eR (some (litN d, foN)) := by
        show evC d (evX rN l) (x :: y) = _
        unfold evC; rw [if_neg (by omega), if_neg (by omega), if_neg (by omega)]
      rw [ev, h1.2.1]
      exact c321 (d := dd) (by omega) h hw ⟨by rw [ob3.1]; exact h1.2.1, by rw [ob3.2.2]; exact h1.2.2.1, by rw [ob3.2.2]; exact h1.2.2.2.1, h1.2.2.2.2⟩ hNR' hns ha' hP
theorem rCp2 {n : Nat} {d : ND} {u : Unit} {l r : Fo} (hr : RCpb m0 N R rw c rt ns xs rN r) : RCp2 m0 N R rw c rt ns xs rN (.inner n d u l r) := by
  intro P p dd m stk w cap a x y hc ho hcn hd ha hP hN hk h hw
  rw [hQ_in] at hd
  exact hr P (fun j => p (j + 1)) dd m stk w cap a x y hc.2 ho.2.2.2.2.2 (Nat.le_of_succ_le_succ hcn) (by omega) ha hP hN hk h hw
theorem rTst (hg : EG m0 N kN rt ns xs rN) {n : Nat} {d : ND} {u : Unit} {l r : Fo} (hl : RTst m0 N R rw c rt ns xs rN l) (ha : RAn m0 N R rw c rt ns xs rN true l) (hb : RAn m0 N R rw c rt ns xs rN false l) (hc1 : RCpb m0 N R rw c rt ns xs rN l) (hc2 : RCp2 m0 N R rw c rt ns xs rN l) (hq : RQry m0 N R rw c rt ns xs rN l) : RTst m0 N R rw c rt ns xs rN (.inner n d u l r) := by
  intro P p dd m stk w cap x y hc ho hcn hd hN hk h hw
  obtain ⟨hB, hNR, hns, hx, hrt, hof⟩ := hg
  have tt := tstP hc ho (Nat.succ_le_succ (Nat.zero_le _))
  obtain ⟨⟨h1, h2, h3⟩, h4⟩ := hc
  obtain ⟨o1, o2, o3, o4, o5, o6⟩ := ho
  have hkk : d.1 = 30 ∨ d.1 = 31 ∨ d.1 = 32 ∨ d.1 = 33 ∨ d.1 = 34 := by
    unfold cK at o1
    split at o1
    · omega
    · split at o1
      · omega
      · split at o1
        · omega
        · split at o1
          · omega
          · split at o1 <;> omega
  rw [hQ_in, if_neg (by omega)] at hd
  have ob3 := hk.ob (o := p 0) (by omega)
  have h3' := h3.imp (Q := P) fun a z => z.1
  have eT : (evX rN (.inner n d u l r)).tst (x :: y) = evT d (evX rN l) (x :: y) := rfl
  rw [eT]
  by_cases k3 : d.1 = 30 ∨ d.1 = 31
  · rw [CB_30 k3] at h1
    have e3 : cB d.1 = 3 := by unfold cB; rw [if_pos (by omega)]
    rw [e3] at o5
    by_cases k1 : cntF l = 1
    · have ev : evT d (evX rN l) (x :: y) = (evX rN l).tst (x :: y) := by
        unfold evT
        by_cases k30 : d.1 = 30
        · rw [if_pos k30, (any_one k1).1]
        · rw [if_neg k30, if_pos (by omega), (any_one k1).2]
      rw [CK_31 k3 k1] at h3'
      rw [ev]
      exact hl P (fun _ => p 0) dd m stk w cap x y h3' o5 (by omega) (by omega) hN hk h hw
    · have h1' := h1.resolve_left k1
      rw [CK_3n k3 k1] at h3'
      rw [h1'.1, ci_28]
      by_cases k30 : d.1 = 30
      · have ev : evT d (evX rN l) (x :: y) = (evX rN l).any (x :: y) := by unfold evT; rw [if_pos k30]
        rw [ev]
        obtain ⟨z1, z2, z3, z4, z5⟩ := h1'
        rw [if_pos k30] at z2
        have key := ha P _ dd m stk w cap (p 0) 0 x y h3' o5 (by omega) z1 z2 z3 (fun j hj => by rw [Int.zero_add]) (by omega) (by omega) (by omega) hN hk h hw
        refine ⟨fun b w' z => ?_, fun z => ?_⟩
        · obtain ⟨g0, m', c', r', zs, g1, g2⟩ := key.1 b w' z
          exact ⟨g0, m', c', r', zs, q339 h.tz _ g1, g2⟩
        · obtain ⟨m', g1, g2⟩ := key.2 z
          exact ⟨m', q339 h.tz _ g1, g2⟩
      · have ev : evT d (evX rN l) (x :: y) = (evX rN l).all (x :: y) := by unfold evT; rw [if_neg k30, if_pos (by omega)]
        rw [ev]
        obtain ⟨z1, z2, z3, z4, z5⟩ := h1'
        rw [if_neg k30] at z2
        have key := hb P _ dd m stk w cap (p 0) 0 x y h3' o5 (by omega) z1 z2 z3 (fun j hj => by rw [Int.zero_add]) (by omega) (by omega) (by omega) hN hk h hw
        refine ⟨fun b w' z => ?_, fun z => ?_⟩
        · obtain ⟨g0, m', c', r', zs, g1, g2⟩ := key.1 b w' z
          exact ⟨g0, m', c', r', zs, q339 h.tz _ g1, g2⟩
        · obtain ⟨m', g1, g2⟩ := key.2 z
          exact ⟨m', q339 h.tz _ g1, g2⟩
  · by_cases k32 : d.1 = 32
    · rw [CB_32 k32] at h1
      have e3 : cB d.1 = 3 := by unfold cB; rw [if_pos (by omega)]
      rw [e3] at o5
      have c1 : cntF l = 1 := by unfold cN at o2; rw [if_pos (by omega)] at o2; exact o2
      rw [CK_w (by omega)] at h3'
      have t2 := tstP h3' o5 (by omega)
      have ob4 := hk.ob (o := vl m0 (p 0) 0) (by omega)
      have ev : evT d (evX rN l) (x :: y) = eB ((evX rN l).tst (x :: y)) fun b => eR (!b) := by unfold evT; rw [if_neg (by omega), if_neg (by omega), if_pos k32]
      rw [ev, h1, ci_21]
      refine c315 (d := dd) (by omega) h.tz (by rw [ob3.1]; exact h1) (by rw [ob3.2.2, ob4.1]; omega) ?_
      rw [ob3.2.2, ob4.1]
      exact hl P _ (dd - 1) m stk w cap x y h3' o5 (by omega) (by omega) hN hk h hw
    · by_cases k34 : d.1 = 34
      · rw [CB_34 k34] at h1
        have e3 : cB d.1 = 5 := by unfold cB; rw [if_neg (by omega), if_neg (by omega), if_neg (by omega), if_neg (by omega), if_pos (by omega)]
        rw [e3] at o5
        have c1 : cntF l = 1 := by unfold cN at o2; rw [if_pos (by omega)] at o2; exact o2
        rw [CK_w (by omega)] at h3'
        have ev : evT d (evX rN l) (x :: y) = eB ((evX rN l).qry (x :: y)) fun xs => eR (!xs.isEmpty) := by unfold evT; rw [if_neg (by omega), if_neg (by omega), if_neg (by omega), if_pos k34]
        rw [ev, h1, ci_22]
        refine c317 (d := dd) (by omega) h (by rw [ob3.1]; exact h1) ?_
        rw [ob3.2.2]
        exact hq P _ (dd - 1) m stk w cap x y h3' o5 (by omega) (by omega) hN hk h hw
      · have k33 : d.1 = 33 := by omega
        rw [CB_33 k33] at h1
        have e3 : cB d.1 = 4 := by unfold cB; rw [if_neg (by omega), if_neg (by omega), if_neg (by omega), if_pos (by omega)]
        rw [e3] at o5
        have c1 : cntF l = 2 := by unfold cN at o2; rw [if_neg (by omega), if_pos (by omega)] at o2; exact o2
        rw [CK_33 k33] at h3
        obtain ⟨z1, z2, z3, z4, z5⟩ := h1
        have t1 := cpbP h3 o5 (by omega)
        rw [if_pos rfl] at t1
        have t2 : tg m0 (vl m0 (p 0) 2) = 23 ∨ tg m0 (vl m0 (p 0) 2) = 24 ∨ tg m0 (vl m0 (p 0) 2) = 25 := by
          cases l with
          | leaf => cases c1
          | inner n1 d1 u1 l1 r1 => exact cpbP h3.2 o5.2.2.2.2.2 (by have : cntF r1 + 1 = 2 := c1; omega)
        have ob4 := hk.ob (o := vl m0 (p 0) 1) (by omega)
        have ob5 := hk.ob (o := vl m0 (p 0) 2) (by omega)
        have ev : evT d (evX rN l) (x :: y) = eB ((evX rN l).cpb (x :: y)) fun v => eB ((evX rN l).cp2 (x :: y)) fun u => eR (vCm d.2.1 v u) := by unfold evT; rw [if_neg (by omega), if_neg (by omega), if_neg (by omega), if_neg (by omega)]
        rw [ev, z1, ci_26]
        have tg3 : tg m (vl m0 (p 0) 3) = 27 := by rw [(hk.1 _ (by omega)).1]; exact z3
        have tg4 : tg m (vl m0 (p 0) 4) = 27 := by rw [(hk.1 _ (by omega)).1]; exact z4
        have pa := h2.2.2.2.2 k33
        refine c325 (d := dd) (P1 := fun z => CP m0 P (p 0) d z ∨ z = vl m0 (p 0) 3) (P2 := fun z => CP m0 P (p 0) d z ∨ z = vl m0 (p 0) 4) (by omega) h.tz ⟨by rw [ob3.1]; exact z1, by rw [ob3.2.2]; exact z2, by rw [ob3.2.2]; exact tg3, by rw [ob3.2.2]; exact tg4⟩ (by rw [ob3.2.2, ob4.1]; omega) (by rw [ob3.2.2, ob5.1]; omega) (fun q hq => hq.elim (fun z => z.1) (fun z => by rw [z]; exact pa.1)) (fun q hq => hq.elim (fun z => z.1) (fun z => by rw [z]; exact pa.2)) ?_ ?_ (fun m1 w1 cap1 hw1 e1 k1 => ?_)
        · rw [ob3.2.2]
          rintro (z | z)
          · exact (z.2 k33).1 rfl
          · exact z5 z
        · rw [ob3.2.2, ob3.2.2, ob4.1]
          exact hc1 (fun z => CP m0 P (p 0) d z ∨ z = vl m0 (p 0) 3) _ (dd - 1) m stk w cap (vl m0 (p 0) 3) x y (h3.imp fun a z => Or.inl z) o5 (by omega) (by omega) z3 (Or.inr rfl) hN hk h hw
        · have ob6 := (EKT hk k1).ob (o := vl m0 (p 0) 2) (by omega)
          rw [ob3.2.2, ob3.2.2, ob6.1]
          exact hc2 (fun z => CP m0 P (p 0) d z ∨ z = vl m0 (p 0) 4) _ (dd - 1) m1 stk w1 cap1 (vl m0 (p 0) 4) x y (h3.imp fun a z => Or.inl z) o5 (by omega) (by omega) z4 (Or.inr rfl) hN (EKT hk k1) e1 hw1
theorem rAll (hg : EG m0 N kN rt ns xs rN) : ∀ F : Fo, RSel m0 N R rw c rt ns xs rN F ∧ RSeg m0 N R rw c rt ns xs rN F ∧ RAn m0 N R rw c rt ns xs rN true F ∧ RAn m0 N R rw c rt ns xs rN false F ∧ RTst m0 N R rw c rt ns xs rN F ∧ RCpb m0 N R rw c rt ns xs rN F ∧ RCp2 m0 N R rw c rt ns xs rN F ∧ RQry m0 N R rw c rt ns xs rN F := by
  intro F
  induction F with
  | leaf => exact ⟨rSel0, rSeg0, rAn0, rAn0, fun _ _ _ _ _ _ _ _ _ _ _ h => (by cases h), fun _ _ _ _ _ _ _ _ _ _ _ _ h => (by cases h), fun _ _ _ _ _ _ _ _ _ _ _ _ h => (by cases h), fun _ _ _ _ _ _ _ _ _ _ _ h => (by cases h)⟩
  | inner n d u l r ihl ihr =>
    obtain ⟨l1, l2, l3, l4, l5, l6, l7, l8⟩ := ihl
    obtain ⟨r1, r2, r3, r4, r5, r6, r7, r8⟩ := ihr
    have ht := rTst (n := n) (d := d) (u := u) (r := r) hg l5 l3 l4 l6 l7 l8
    exact ⟨rSel hg l5 r1, rSeg hg l1 r2, rAn hg ht r3, rAn hg ht r4, ht, rCpb hg l6 l8, rCp2 r6, rQry hg l2⟩
end
