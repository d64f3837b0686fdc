/-! queries read by the component: a query -/
set_option maxRecDepth 100000
set_option maxHeartbeats 4000000
theorem sgF_app : ∀ (A B : Fo), sgF (fapp A B) = (sgF A && sgF B) := by
  intro A
  induction A with
  | leaf => intro B; show sgF B = (true && sgF B); rw [Bool.true_and]
  | inner n d u l r ihl ihr => intro B; show (sg1 d l && sgF (fapp r B)) = (sg1 d l && sgF r && sgF B); rw [ihr, Bool.and_assoc]
section
variable {d op : Nat} {T tp e i N c : Int} {t : Int → Int} {m0 m m1 : Mem} {xs : List Int}
/-- a list's object has another field written -/
theorem LI.fld {q fa fs t1 t2 cap f v : Int} {os : List Int} {A : Fo} (h : LI m0 m N xs q fa fs t1 t2 os cap A) (h1 : f ≠ fa ∧ f ≠ fs) (h2 : tg m q < 100 ∧ 100 ≤ t1 ∧ 100 ≤ t2) : LI m0 (mst m q f v) N xs q fa fs t1 t2 os cap A := by
  obtain ⟨⟨a1, a2, a3, a4, a5, a6, a7⟩, b1, b2, b3, b4, b5⟩ := h
  have hA : vl m q fa ≠ q := by
    intro z
    rcases a1 with w | w <;> rw [z] at w <;> omega
  have e1 : vl (mst m q f v) q fa = vl m q fa := by rw [vl_mst, if_neg (fun z => h1.1 z.2.symm)]
  have e2 : vl (mst m q f v) q fs = vl m q fs := by rw [vl_mst, if_neg (fun z => h1.2 z.2.symm)]
  refine ⟨⟨by rw [e1]; exact a1, by rw [e1]; exact a2, by rw [e2]; exact a3, a4, a5, a6, fun j j0 j1 => ?_⟩, b1, b2, by rw [e1]; exact b3, ?_, b5⟩
  · rw [e1, vl_mst, if_neg (fun z => hA z.1)]; exact a7 j j0 j1
  · rw [e1]
    have hk : QKq (fun a => nwP m0 m a ∧ a ≠ q ∧ a ≠ vl m q fa) m (mst m q f v) := ⟨fun a _ => ⟨rfl, rfl⟩, fun a ha k _ => by rw [vl_mst, if_neg (fun z => ha.2.1 z.1)]⟩
    have := CF.keep (ys := []) hk (fun _ => rfl) b4
    rw [List.append_nil] at this
    exact this
/-- one more is put into a list -/
theorem LI.put2 {P : Int → Prop} {cap s : Int} {q fa fs t1 t2 x j c0 i0 : Int} {os : List Int} {A X : Fo} {xs0 : List Int} {k : Nat} {as : List PV} (h : CS m T tp e j t op N xs c) (hms : TZ m0) (hq0 : QKp m0 m) (hC : CPh T N m0 i0 c0 xs0 m j c xs s) (hl : LI m0 m N xs q fa fs t1 t2 os cap A) (hX : CF m N xs P (fun _ => x) X) (hP : ∀ a, P a → nwP m0 m a ∧ a ≠ q ∧ a ≠ vl m q fa) (hc : cntF X = 1)
    (hL : LSQ m q fa fs t1 t2 os cap → ∃ m' cap', cl d k as m = some (.inl none, m') ∧ LSQ m' q fa fs t1 t2 (os ++ [x]) cap' ∧ GRq m m' cap cap' ∧ cap' ≤ max cap (2 * os.length) ∧ LSF m m' q fa fs) (hk : lvN (eM k) = true) :
    ∃ m2 cap', cl d k as m = some (.inl none, m2) ∧ CS m2 T tp e j t op N xs c ∧ QKp m0 m2 ∧ CPh T N m0 i0 c0 xs0 m2 j c xs (s - 2 * (cap' - cap)) ∧ LI m0 m2 N xs q fa fs t1 t2 (os ++ [x]) cap' (fapp A X) ∧ (cap' ≤ max cap (2 * os.length)) ∧ LSF m m2 q fa fs := by
  obtain ⟨m2, cap', e1, g1, g2, g3, g4⟩ := hL hl.1
  obtain ⟨f1, f2, f3⟩ := h.frl e1 hk
  have hz0 : ∀ a, nx m ≤ a → tg m0 a = 0 := fun a ha => hms a (by have := hC.2.1.1; omega)
  have l2 := hl.addP g1 g4 h.1.1 hz0 hX hP hc
  have kp := hl.kp hq0 g4
  obtain ⟨w1, w2, w3⟩ := g2
  exact ⟨m2, cap', e1, f1, kp, hC.cost (g := 2 * (cap' - cap)) f2 f3 w2 w3, l2, g3, g4⟩
/-- a query that has its list -/
theorem query_CO {m' : Mem} {j c' s v : Int} {q cap : Int} {os xs' : List Int} {A : Fo} (h : CS m' T tp e j t op N xs' c') (hq : QKp m m') (hC : CPh T N m i c xs m' j c' xs' s) (hl : LI m m' N xs' q 2 3 303113 304113 os cap A) (ht : tg m' q = 15) (hv : vl m' q 0 = v) (h1 : vl m' q 1 = b2i (sgF A)) {s' : Int} (hs : s' ≤ s) : CO T tp e t op N m i c xs m' j s' q (foC (20, v, [], []) A foN) := by
  have hf := hl.fin
  obtain ⟨⟨a1, a2, a3, a4, a5, a6, a7⟩, b1, b2, b3, b4, b5⟩ := hl
  have np : nwP m m' q := ⟨b1, b2⟩
  have na : nwP m m' (vl m' q 2) := ⟨b3, by rcases a1 with z | z <;> rw [z] <;> decide⟩
  refine ⟨c', xs', h, ⟨hq, hC.weak hs⟩, ⟨⟨?_, ⟨np, fun _ => na, fun z => (by cases z), fun z => (by rcases z with z | z <;> cases z), fun z => (by cases z)⟩, ?_⟩, trivial⟩, np⟩
  · rw [CB_20 rfl]
    exact ⟨ht, hv, h1, a1, by rw [a3, b5], by rw [a2, b5]; exact a4⟩
  · rw [CK_20 rfl]
    exact hf.imp (fun a z => ⟨z, fun w => (by cases w)⟩)
end
/-- a query's segments, from a place on -/
def QL0 (sg : Bool) (T tp e : Int) (t : Int → Int) (N : Int) (n : Nat) : Prop := ∀ (d op : Nat) (ms m : Mem) (i c i0 c0 s0 cap q : Int) (xs xs0 os : List Int) (A : Fo) (z3 : PV), cat z3 = 1 → TZ ms → CS m T tp e i t op N xs c → (xs.length : Int) + 3 * (e - i) ≤ 5900 → op ≤ 16 → dpn op 7 ≤ d → QKp ms m → tg m q = 15 → vl m q 1 = b2i (sgF A) → LI ms m N xs q 2 3 303113 304113 os cap A → CPh T N ms i0 c0 xs0 m i c xs (s0 + 16 * os.length - 2 * (cap - 2)) → cap ≤ max 2 (2 * os.length) → (os.length : Int) ≤ i →
  (∀ F j, sQ t e n 0 op sg i = some (.inr (F, j)) → ∃ m' c' xs' os' cap', rn d 82 32 [pR T, pI (b2i sg), pR q, z3] [] m = some (.inl (some (pR q)), m') ∧ CS m' T tp e j t op N xs' c' ∧ QKp ms m' ∧ CPh T N ms i0 c0 xs0 m' j c' xs' (s0 + 16 * os'.length - 2 * (cap' - 2)) ∧ LI ms m' N xs' q 2 3 303113 304113 os' cap' (fapp A F) ∧ cap' ≤ max 2 (2 * os'.length) ∧ vl m' q 1 = b2i (sgF (fapp A F)) ∧ vl m' q 0 = vl m q 0 ∧ tg m' q = 15) ∧
  (∀ p, sQ t e n 0 op sg i = some (.inl p) → ∃ m', rn d 82 32 [pR T, pI (b2i sg), pR q, z3] [] m = some (.inr 204, m') ∧ CEr T N ms i0 c0 e m' p (30 - s0))
section
variable {T tp e N : Int} {t : Int → Int}
theorem b2i_t : b2i true = 1 := rfl
theorem b2i_f : b2i false = 0 := rfl
theorem c82_l {n : Nat} {sg : Bool} (HS : QS sg T tp e t N n) (H0 : QL0 sg T tp e t N n) : QL0 sg T tp e t N (n + 1) := by
  intro d op ms m i c i0 c0 s0 cap q xs xs0 os A z3 hz3 hms h hL ho hd hq0 hq hq1 hl hC hcap hlen
  have hd' := hd
  unfold dpn at hd
  have hr := h.rng
  have hz := h.1.1
  have hT := h.2.2.1
  have v2 := h.2.2.2.1.2.2.2.1
  have rb := sB_rng t (e := e) (i := i) hr.2.1
  have e62 := c62 (d := d - 1) (by omega) hz h.2.2.2.1
  have h1 := h.sb
  have e63 := c63 (d := d - 1) h1.1.1 h1.2.2.2.1
  have hqT : q ≠ T := by intro z; rw [z, hT] at hq; omega
  unfold sQ
  rw [if_pos (rfl : (0 : Nat) = 0)]
  by_cases hp : pk t e (sB t e i) = 46 ∨ pk t e (sB t e i) = 91
  · rw [if_pos hp]
    have hlt : sB t e i < e := pkf_lt (t := t) (by omega)
    have st : ∀ Q, rn d 82 66 [pR T, pI (b2i sg), pR q, pI i] [] (mst m T 2 (sB t e i)) = some Q → rn d 82 32 [pR T, pI (b2i sg), pR q, z3] [] m = some Q := by
      intro Q hQ
      refine q82_32 (by omega) hz hz3 _ ?_
      rw [gd_of hT, nm_eq, v2, bV_eq e62, bI_eq e63]
      by_cases y : pk t e (sB t e i) = 46
      · rw [if_pos y]; exact hQ
      · rw [if_neg y, bI_eq e63, if_pos (by omega)]; exact hQ
    have key := HS (d - 1) op _ (sB t e i) c q xs h1 (by omega) ho (by unfold dpn; omega) hp hq
    have q1 : QKp m (mst m T 2 (sB t e i)) := QKp.refl.set (Or.inr (by rw [hT]; omega))
    have C1 := (hC.trans (CPg.at0 (s := 0) h rb.1 (by omega)).2).weak (s' := s0 + 16 * os.length - 2 * (cap - 2)) (by omega)
    have l1 := hl.keep (ys := []) q1 (by rw [hq]; omega) (by rw [hq]; omega) (by intro k; omega) (fun a ha => ha)
    rw [List.append_nil] at l1
    have st2 : ∀ Q, (bR (if sg = true then cl (d - 1) 83 [pR T] (mst m T 2 (sB t e i)) else cl (d - 1) 90 [pR T, pR q] (mst m T 2 (sB t e i))) fun v1 m1 => gd (tg m1 q = 15) <| bV (cl (d - 1) 303 [pR q, pR v1] m1) fun m2 => rn d 82 32 [pR T, pI (b2i sg), pR q, pI i] [] m2) = some Q → rn d 82 32 [pR T, pI (b2i sg), pR q, z3] [] m = some Q := by
      intro Q hQ
      refine st Q (q82_66 (by omega) h1.1.1 _ ?_)
      cases sg with
      | false => rw [b2i_f, if_pos rfl, gd_of h1.2.2.1]; rw [if_neg (by decide : ¬ false = true)] at hQ; exact hQ
      | true => rw [b2i_t, if_neg (by decide), gd_of h1.2.2.1]; rw [if_pos rfl] at hQ; exact hQ
    cases hE : sQ t e n 1 op sg (sB t e i) with
    | none => exact ⟨fun F j z => (by cases z), fun p z => (by cases z)⟩
    | some y =>
      rw [hE] at key
      rcases y with p | ⟨S, j⟩
      · obtain ⟨m', e1, ce⟩ := key.2 p rfl
        refine ⟨fun F j z => (by cases z), fun p' z => ?_⟩
        cases z
        exact ⟨m', st2 _ (by rw [bR_xq e1]), ce.preH (hq0.trans q1) C1 (by omega)⟩
      · obtain ⟨m', m'', o, e1, to, co, hS, hsg, hm'⟩ := key.1 S j rfl
        obtain ⟨c', xs', a1, a2, a3, a4⟩ := co
        have a2' := a2
        obtain ⟨p1, p2, p3, p4, ⟨ys, rfl, p5⟩, p6⟩ := a2'
        have rj := a1.rng
        have tq2 : tg m'' q = 15 := by rw [(p1 q (by show tg m q ≠ 0; rw [hq]; decide)).1]; exact hq
        have vq1 : vl m'' q 1 = b2i (sgF A) := by rw [(p1 q (by show tg m q ≠ 0; rw [hq]; decide)).2.2 1 (by show qOk (tg m q) 1; rw [hq]; omega), vl_mst, if_neg (fun z => hqT z.1)]; exact hq1
        have vq0 : vl m'' q 0 = vl m q 0 := by rw [(p1 q (by show tg m q ≠ 0; rw [hq]; decide)).2.2 0 (by show qOk (tg m q) 0; rw [hq]; omega), vl_mst, if_neg (fun z => hqT z.1)]
        have l2 := l1.keep (ys := ys) p1 (by show qOk (tg m q) 2; rw [hq]; omega) (by show qOk (tg m q) 3; rw [hq]; omega) (by intro k; omega) (fun a ha => by rw [(p1 a ha).1]; exact ha)
        have C2 := hC.trans ((CPg.at0 (s := 0) h rb.1 (by omega)).trans a2).2
        have z0 : tg ms q = 0 := hl.2.1
        -- the field that tells whether all are names and indices
        have stp : CS m' T tp e j t op N (xs ++ ys) c' ∧ QKp ms m' ∧ CPh T N ms i0 c0 xs0 m' j c' (xs ++ ys) (s0 + 16 * os.length - 2 * (cap - 2) + (0 + 20)) ∧ LI ms m' N (xs ++ ys) q 2 3 303113 304113 os cap A ∧ CF m' N (xs ++ ys) (nwP (mst m T 2 (sB t e i)) m') (fun _ => o) S ∧ tg m' q = 15 ∧ vl m' q 1 = b2i (sgF (fapp A S)) ∧ vl m' q 0 = vl m q 0 ∧ tg m' o = 16 ∧ vl m' q 2 = vl m q 2 := by
          have vq2 : vl m'' q 2 = vl m q 2 := by rw [(p1 q (by show tg m q ≠ 0; rw [hq]; decide)).2.2 2 (by show qOk (tg m q) 2; rw [hq]; omega), vl_mst, if_neg (fun z => hqT z.1)]
          by_cases hs : sgF S = true
          · rw [if_pos hs] at hm'
            subst hm'
            exact ⟨a1, (hq0.trans q1).trans p1, C2, l2, a3, tq2, by rw [sgF_app, hs, Bool.and_true]; exact vq1, vq0, to, vq2⟩
          · rw [if_neg hs] at hm'
            have hs' : sgF S = false := by simpa using hs
            have b1 := a1.obj (o := q) (f := 1) (v := 0) (by omega)
            have g1 := CPg.obj (o := q) (f := 1) (v := 0) (m := ms) ⟨(hq0.trans q1).trans p1, C2⟩ a1 (by omega) z0
            have l3 := l2.fld (f := 1) (v := 0) (by omega) (by omega)
            have hk : QKq (nwP (mst m T 2 (sB t e i)) m'') m'' (mst m'' q 1 0) := ⟨fun a _ => ⟨rfl, rfl⟩, fun a ha k _ => by
              have : a ≠ q := fun z => by
                have w := ha.1
                rw [z] at w
                have w' : tg m q = 0 := w
                rw [hq] at w'; cases w'
              rw [vl_mst, if_neg (fun z => this z.1)]⟩
            have f3 := CF.keep (ys := []) (p' := fun _ => o) hk (fun _ => rfl) a3
            rw [List.append_nil] at f3
            rw [hm']
            refine ⟨b1, g1.1, g1.2, l3, f3, tq2, ?_, ?_, to, ?_⟩
            · rw [vl_mst, if_pos ⟨rfl, rfl⟩, sgF_app, hs', Bool.and_false]; rfl
            · rw [vl_mst, if_neg (by omega)]; exact vq0
            · rw [vl_mst, if_neg (by omega)]; exact vq2
        obtain ⟨b1, b2, b3, b4, b5, b6, b7, b8, b9, b10⟩ := stp
        have hA : tg (mst m T 2 (sB t e i)) (vl m' q 2) ≠ 0 := by
          rw [b10]
          show tg m (vl m q 2) ≠ 0
          rcases hl.1.1 with z | z <;> rw [z] <;> decide
        have hjl := (sQ_rng (t := t) n 1 op sg (sB t e i) S j rb.2 (fun _ => hlt) hE).2.2 (by decide)
        obtain ⟨m2, cap', e2, h2, q2, C3, l3, hcap2, lf⟩ := LI.put2 (k := 303) (as := [pR q, pR o]) (d := d - 1) b1 hms b2 b3 b4 b5 (nwP_ne (hq0.trans q1) (by show tg m q ≠ 0; rw [hq]; decide) hA) hS (fun hLS => c303 (d := d - 1) b1.1 b6 hLS (by omega) (by rw [b9]; rfl) (by rw [b9]; decide)) (by rfl)
        have hlx : ((os ++ [o]).length : Int) = os.length + 1 := by rw [List.length_append, List.length_singleton]; push_cast; omega
        have v21 : vl m2 q 1 = b2i (sgF (fapp A S)) := by rw [lf.2.2.2.1 1 (by decide) (by decide)]; exact b7
        have v20 : vl m2 q 0 = vl m q 0 := by rw [lf.2.2.2.1 0 (by decide) (by decide)]; exact b8
        have tq3 : tg m2 q = 15 := by rw [(lf.2.1 q (by rw [b6]; decide)).1]; exact b6
        have key2 := H0 d op ms m2 j c' i0 c0 s0 cap' q (xs ++ ys) xs0 (os ++ [o]) (fapp A S) (pI i) (by rfl) hms h2 (by rw [List.length_append]; push_cast; omega) ho hd' q2 tq3 v21 l3 (C3.weak (by omega)) (by omega) (by omega)
        have st3 : ∀ Q, rn d 82 32 [pR T, pI (b2i sg), pR q, pI i] [] m2 = some Q → rn d 82 32 [pR T, pI (b2i sg), pR q, z3] [] m = some Q := fun Q hQ => st2 Q (by rw [bR_eq e1, gd_of b6, bV_eq e2]; exact hQ)
        show (∀ F j', bnd (sQ t e n 0 op sg j) (fun R k => some (.inr (fapp S R, k))) = some (.inr (F, j')) → _) ∧ (∀ p, bnd (sQ t e n 0 op sg j) (fun R k => some (.inr (fapp S R, k))) = some (.inl p) → _)
        cases hE2 : sQ t e n 0 op sg j with
        | none => exact ⟨fun F j z => (by cases z), fun p z => (by cases z)⟩
        | some y3 =>
          rw [hE2] at key2
          rcases y3 with p3 | ⟨R, k3⟩
          · obtain ⟨m9, e9, ce⟩ := key2.2 p3 rfl
            refine ⟨fun F j z => (by cases z), fun p' z => ?_⟩
            cases z
            exact ⟨m9, st3 _ e9, ce⟩
          · obtain ⟨m9, c9, xs9, os9, cap9, e9, f1, f2, f3, f4, f5, f6, f7, f8⟩ := key2.1 R k3 rfl
            refine ⟨fun F jj z => ?_, fun p' z => (by cases z)⟩
            cases z
            rw [fapp_assoc] at f4 f6
            exact ⟨m9, c9, xs9, os9, cap9, st3 _ e9, f1, f2, f3, f4, f5, f6, by rw [f7]; exact v20, f8⟩
  · rw [if_neg hp]
    refine ⟨fun F j z => ?_, fun p z => (by cases z)⟩
    cases z
    refine ⟨m, c, xs, os, cap, q82_32 (by omega) hz hz3 _ ?_, h, hq0, hC, by rw [fapp_nil]; exact hl, hcap, by rw [fapp_nil]; exact hq1, rfl, hq⟩
    rw [gd_of hT, nm_eq, v2, bV_eq e62, bI_eq e63, if_neg (fun z => hp (Or.inl z)), bI_eq e63, if_neg (fun z => hp (Or.inr z)), mst_mst, mst_self v2]
end
/-- a query from its sign on -/
def QQ (sg : Bool) (T tp e : Int) (t : Int → Int) (N : Int) (n : Nat) : Prop := ∀ (d op : Nat) (m : Mem) (i c : Int) (xs : List Int), CS m T tp e i t op N xs c → (xs.length : Int) + 3 * (e - i) ≤ 5900 → op ≤ 16 → dpn op 7 ≤ d → qb (pk t e i) →
  (∀ S j, sQ t e n 0 op sg (i + 1) = some (.inr (S, j)) → ∃ m' o, cl d 82 [pR T, pI (b2i sg)] m = some (.inl (some (pR o)), m') ∧ tg m' o = 15 ∧ CO T tp e t op N m i c xs m' j 30 o (foC (20, rot (pk t e i), [], []) S foN)) ∧
  (∀ p, sQ t e n 0 op sg (i + 1) = some (.inl p) → ∃ m', cl d 82 [pR T, pI (b2i sg)] m = some (.inr 204, m') ∧ CEr T N m i c e m' p 10)
section
variable {T tp e N : Int} {t : Int → Int}
theorem c82 {n : Nat} {sg : Bool} (H0 : QL0 sg T tp e t N n) : QQ sg T tp e t N n := by
  intro d op m i c xs h hL ho hd hb
  have hd' := hd
  unfold dpn at hd
  have hr := h.rng
  have hz := h.1.1
  have hT := h.2.2.1
  have hlt : i < e := pkf_lt (t := t) (by omega)
  have hv : rot (pk t e i) = 0 ∨ rot (pk t e i) = 1 := by
    unfold rot; by_cases z : pk t e i = 36
    · rw [if_pos z]; exact Or.inr rfl
    · rw [if_neg z]; exact Or.inl rfl
  obtain ⟨M, e302, nl, tM, vM, vM1⟩ := new302 (d := d - 1) (v := rot (pk t e i)) h hv
  have hM := nl.1
  have hn := h.new (q := 15) (n := 4) (by omega)
  have e63 := c63 (d := d - 1) hn.1.1 hn.2.2.2.1
  have v2 := hM.2.2.2.1.2.2.2.1
  have h1 := hM.at (j := i + 1) (by omega) (by omega)
  have g0 : CPg T N m i c xs M i c xs (-10) := ⟨nl.2.1, by have := nl.ch (CPg.refl h).2; exact this.weak (by omega)⟩
  have g1 := g0.at (k := i + 1) (s' := 30) hM (by omega) (by omega)
  have li := nl.li (m0 := m) (fun a z => z) (by rw [tM]; decide)
  have k1 : QKp M (mst M T 2 (i + 1)) := QKp.refl.set (Or.inr (by rw [hM.2.2.1]; omega))
  have l1 := li.keep (ys := []) k1 (by rw [tM]; omega) (by rw [tM]; omega) (by intro k; omega) (fun a ha => ha)
  rw [List.append_nil] at l1
  have oT : nx m ≠ T := by intro z; rw [z, hM.2.2.1] at tM; omega
  have st : ∀ Q, rn d 82 32 [pR T, pI (b2i sg), pR (nx m), pU] [] (mst M T 2 (i + 1)) = some Q → cl d 82 [pR T, pI (b2i sg)] m = some Q := by
    intro Q hQ
    refine q82 (by omega) hz _ ?_
    rw [nw_eq, gd_of hn.2.2.1, bI_eq e63]
    unfold rot at e302
    by_cases y : pk t e i = 36
    · rw [if_pos y] at e302
      rw [if_pos y, bV_eq e302, v2, (w32_of (by omega) (by omega) : w32 (i + 1) = i + 1)]
      exact hQ
    · rw [if_neg y] at e302
      rw [if_neg y, bV_eq e302, v2, (w32_of (by omega) (by omega) : w32 (i + 1) = i + 1)]
      exact hQ
  have key := H0 d op m (mst M T 2 (i + 1)) (i + 1) c i c 30 2 (nx m) xs xs [] foN pU (by rfl) hz h1 (by omega) ho hd' g1.1 tM (by rw [vl_mst, if_neg (fun z => oT z.1)]; exact vM1) l1 (g1.2.weak (by simp)) (by simp) (by simp; omega)
  refine ⟨fun S j hE => ?_, fun p hE => ?_⟩
  · obtain ⟨m', c', xs', os', cap', e1, b1, b2, b3, b4, b5, b6, b7, b8⟩ := key.1 S j hE
    have hap : fapp foN S = S := rfl
    rw [hap] at b4 b6
    have v0 : vl m' (nx m) 0 = rot (pk t e i) := by rw [b7, vl_mst, if_neg (fun z => oT z.1)]; exact vM
    exact ⟨m', nx m, st _ e1, b8, query_CO b1 b2 b3 b4 b8 v0 b6 (by omega)⟩
  · obtain ⟨m', e1, ce⟩ := key.2 p hE
    exact ⟨m', st _ e1, ce.weak (by omega)⟩
end
