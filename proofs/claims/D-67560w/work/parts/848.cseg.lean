/-! queries read by the component: selectors in brackets -/
set_option maxRecDepth 100000
set_option maxHeartbeats 4000000
/-- a method that puts what is read behind what a list has, or breaks; ms is where the whole began -/
def LR (T tp e : Int) (t : Int → Int) (op : Nat) (N : Int) (ms : Mem) (i0 c0 : Int) (xs0 : List Int) (m : Mem) (s0 : Int) (q fa fs t1 t2 cap0 : Int) (A : Fo) (rs : Rs) (Q : RM) (x : QR) (u : Int) : Prop :=
  (∀ F j, x = some (.inr (F, j)) → ∃ m' c' xs' os' cap', Q = some (rs, m') ∧ CS m' T tp e j t op N xs' c' ∧ QKp ms m' ∧ CPh T N ms i0 c0 xs0 m' j c' xs' (s0 + 16 * os'.length - 2 * (cap' - cap0)) ∧ LI ms m' N xs' q fa fs t1 t2 os' cap' (fapp A F) ∧ cap' ≤ max cap0 (2 * os'.length) ∧ (∀ a, tg m a ≠ 0 → tg m' a = tg m a) ∧ (∀ k, qOk (tg m q) k → k ≠ fa → k ≠ fs → vl m' q k = vl m q k)) ∧
  (∀ p, x = some (.inl p) → ∃ m', Q = some (.inr 204, m') ∧ CEr T N ms i0 c0 e m' p u)
section
variable {d op : Nat} {T tp e i N c : Int} {t : Int → Int} {ms m : Mem} {xs : List Int}
/-- one more is put into a list -/
theorem LI.put {cap s0 s1 : Int} {q fa fs t1 t2 x j' c0 i0 cap0 : Int} {os : List Int} {A X : Fo} {m1 : Mem} {xs0 : List Int} {k : Nat} {as : List PV} (h : CS m T tp e i t op N xs c) (hms : TZ ms) (hq0 : QKp ms m) (hC : CPh T N ms i0 c0 xs0 m i c xs (s0 + 16 * os.length - 2 * (cap - cap0))) (hl : LI ms m N xs q fa fs t1 t2 os cap A) (h1 : qOk (tg m q) fa) (h2 : qOk (tg m q) fs) (h3 : ∀ k, qOk t1 k ∧ qOk t2 k) (hA : tg m (vl m q fa) ≠ 0) (co : CO T tp e t op N m i c xs m1 j' s1 x X) (hX : cntF X = 1)
    (hL : LSQ m1 q fa fs t1 t2 os cap → ∃ m' cap', cl d k as m1 = some (.inl none, m') ∧ LSQ m' q fa fs t1 t2 (os ++ [x]) cap' ∧ GRq m1 m' cap cap' ∧ cap' ≤ max cap (2 * os.length) ∧ LSF m1 m' q fa fs) (hk : lvN (eM k) = true) :
    ∃ m2 c' xs' cap', cl d k as m1 = some (.inl none, m2) ∧ CS m2 T tp e j' t op N xs' c' ∧ QKp ms m2 ∧ CPh T N ms i0 c0 xs0 m2 j' c' xs' (s0 + (s1 - 16) + 16 * (os ++ [x]).length - 2 * (cap' - cap0)) ∧ LI ms m2 N xs' q fa fs t1 t2 (os ++ [x]) cap' (fapp A X) ∧ (cap' ≤ max cap (2 * os.length)) ∧ (∀ a, tg m a ≠ 0 → tg m2 a = tg m a) ∧ (∀ k, qOk (tg m q) k → k ≠ fa → k ≠ fs → vl m2 q k = vl m q k) ∧ (xs'.length : Int) ≤ xs.length + 3 * (j' - i) := by
  obtain ⟨c', xs', a1, a2, a3, a4⟩ := co
  have a2' := a2
  obtain ⟨p1, p2, p3, p4, ⟨ys, rfl, p5⟩, p6⟩ := a2'
  have l1 := hl.keep (ys := ys) p1 h1 h2 h3 (fun a ha => by rw [(p1 a ha).1]; exact ha)
  have hq := hl.2.2.1
  have kq := p1 q hq
  have eA : vl m1 q fa = vl m q fa := kq.2.2 fa h1
  obtain ⟨m2, cap', e1, g1, g2, g3, g4⟩ := hL l1.1
  obtain ⟨f1, f2, f3⟩ := a1.frl e1 hk
  have hz0 : ∀ a, nx m1 ≤ a → tg ms a = 0 := fun a ha => hms a (by have := hC.2.1.1; have := p3.1; omega)
  have l2 := l1.add g1 g4 a1.1.1 hz0 a3 hq0 hq (by rw [eA]; exact hA) hX
  have kp := l1.kp (hq0.trans p1) g4
  obtain ⟨w1, w2, w3⟩ := g2
  have ch := (hC.trans a2.2).cost (g := 2 * (cap' - cap)) f2 f3 w2 w3
  refine ⟨m2, c', xs ++ ys, cap', e1, f1, kp, ch.weak ?_, l2, g3, fun a ha => by rw [(g4.2.1 a (by rw [(p1 a ha).1]; exact ha)).1, (p1 a ha).1], fun k hk k1 k2 => by rw [g4.2.2.2.1 k k1 k2, kq.2.2 k hk], by rw [List.length_append]; push_cast; omega⟩
  rw [List.length_append, List.length_singleton]; push_cast; omega
end
/-- what is done for each selector in brackets -/
noncomputable def body91 (d : Nat) (T q : Int) (m : Mem) : RM := bV (cl (d - 1) 62 [pR T] m) fun m2 => bR (cl (d - 1) 92 [pR T] m2) fun v3 m3 => gd (tg m3 q = 16) <| bV (cl (d - 1) 305 [pR q, pR v3] m3) fun m4 => bV (cl (d - 1) 62 [pR T] m4) fun m5 => rn d 91 20 [pR T, pR q] [] m5
def QL3 (T tp e : Int) (t : Int → Int) (N : Int) (n : Nat) : Prop := ∀ (d op : Nat) (ms m : Mem) (i c i0 c0 s0 cap q : Int) (xs xs0 os : List Int) (A : Fo), TZ ms → CS m T tp e i t (op + 1) N xs c → (xs.length : Int) + 3 * (e - i) ≤ 5900 → op < 16 → dpn op 5 ≤ d → QKp ms m → tg m q = 16 → LI ms m N xs q 1 2 305111 306111 os cap A → CPh T N ms i0 c0 xs0 m i c xs (s0 + 16 * os.length - 2 * (cap - 1)) → cap ≤ max 1 (2 * os.length) → (os.length : Int) ≤ i →
  LR T tp e t op N ms i0 c0 xs0 m s0 q 1 2 305111 306111 1 A (.inl none) (body91 d T q m) (sQ t e n 3 (op + 1) false i) (30 - s0)
section
variable {T tp e N : Int} {t : Int → Int}
theorem c91_l {n : Nat} (H4 : QH T tp e t N n 4 16 (fun d m => cl d 92 [pR T] m)) (H3 : QL3 T tp e t N n) : QL3 T tp e t N (n + 1) := by
  intro d op ms m i c i0 c0 s0 cap q xs xs0 os A hms h hL ho hd hq0 hq hl hC hcap hlen
  unfold dpn at hd
  have hr := h.rng
  have hz := h.1.1
  have hT := h.2.2.1
  have rb := sB_rng t (e := e) (i := i) hr.2.1
  have e62 := c62 (d := d - 1) (by omega) h.1.1 h.2.2.2.1
  have h1 := h.sb
  have key := H4 (d - 1) (op + 1) _ _ _ _ h1 (by omega) (by omega) (by unfold dpn; omega) (fun _ => sB_idem t e i) (fun z => by omega)
  have q1 : QKp m (mst m T 2 (sB t e i)) := QKp.refl.set (Or.inr (by rw [hT]; omega))
  have l1 := hl.keep (ys := []) q1 (by rw [hq]; omega) (by rw [hq]; omega) (by intro k; omega) (fun a ha => ha)
  rw [List.append_nil] at l1
  have C1 := (hC.trans (CPg.at0 (s := 0) h rb.1 (by omega)).2).weak (s' := s0 + 16 * os.length - 2 * (cap - 1)) (by omega)
  have hqT : q ≠ T := by intro z; rw [z, hT] at hq; omega
  unfold sQ
  rw [if_neg (by decide : ¬ (3 : Nat) = 0), if_neg (by decide : ¬ (3 : Nat) = 1), if_neg (by decide : ¬ (3 : Nat) = 2), if_pos (rfl : (3 : Nat) = 3)]
  unfold body91
  rw [bV_eq e62]
  cases hE : sQ t e n 4 (op + 1) false (sB t e i) with
  | none => exact ⟨fun F j z => (by cases z), fun p z => (by cases z)⟩
  | some y =>
    rw [hE] at key
    rcases y with p | ⟨S, j⟩
    · obtain ⟨m', e1, ce⟩ := key.2 p rfl
      refine ⟨fun F j z => (by cases z), fun p' z => ?_⟩
      cases z
      exact ⟨m', by rw [bR_xq e1], ce.preH (hq0.trans q1) C1 (by rw [if_neg (by decide)]; omega)⟩
    · obtain ⟨m1, x, j', e1, tc, pl, co, hS⟩ := key.1 S j rfl
      have tq1 : tg m1 q = 16 := by
        obtain ⟨cc, xx, a1, a2, -⟩ := co
        rw [(a2.1 q (by show tg m q ≠ 0; omega)).1]; exact hq
      have ok1 : OK m1 := by obtain ⟨cc, xx, a1, -⟩ := co; exact a1.1
      have hA : tg (mst m T 2 (sB t e i)) (vl (mst m T 2 (sB t e i)) q 1) ≠ 0 := by
        have := l1.1.1; omega
      have tx : tg m1 x ≠ 0 := by obtain ⟨cc, xx, a1, a2, a3, a4⟩ := co; exact a4.2
      have aok : aOk 111 (tg m1 x) = true := by
        unfold cls at tc
        rw [if_neg (by decide), if_neg (by decide), if_pos rfl] at tc
        rcases tc with z | z | z | z | z <;> rw [z] <;> rfl
      obtain ⟨m2, c', xs', cap', e2, h2, q2, C2, l2, hcap2, ht2, hv2, hxl⟩ := LI.put (k := 305) (as := [pR q, pR x]) (d := d - 1) h1 hms (hq0.trans q1) C1 l1 (by show qOk (tg m q) 1; rw [hq]; omega) (by show qOk (tg m q) 2; rw [hq]; omega) (by intro k; omega) hA co hS (fun hLS => c305 (d := d - 1) ok1 tq1 hLS (by omega) aok tx) (by rfl)
      have pl' : j ≤ j' ∧ j' ≤ e ∧ sB t e j' = sB t e j := by unfold plc at pl; rwa [if_pos (by decide)] at pl
      have rj := sB_rng t (e := e) (i := j') pl'.2.1
      have e622 := c62 (d := d - 1) (by omega) h2.1.1 h2.2.2.2.1
      have h3 := h2.sb
      have hlx : ((os ++ [x]).length : Int) = os.length + 1 := by rw [List.length_append, List.length_singleton]; push_cast; omega
      have hlt : sB t e i < j := by
        have := (sQ_rng (t := t) n 4 (op + 1) false (sB t e i) S j rb.2 (fun z => by omega) hE).2.2 (by decide)
        exact this
      have hLx : (xs'.length : Int) + 3 * (e - j') ≤ 5900 := by omega
      rw [pl'.2.2] at h3 e622 rj
      have e63 := c63 (d := d - 1) h3.1.1 h3.2.2.2.1
      have v32 : vl (mst m2 T 2 (sB t e j)) T 2 = sB t e j := h3.2.2.2.1.2.2.2.1
      have hT2 := h2.2.2.1
      have st : ∀ Q, rn d 91 20 [pR T, pR q] [] (mst m2 T 2 (sB t e j)) = some Q → (bR (cl (d - 1) 92 [pR T] (mst m T 2 (sB t e i))) fun v3 m3 => gd (tg m3 q = 16) <| bV (cl (d - 1) 305 [pR q, pR v3] m3) fun m4 => bV (cl (d - 1) 62 [pR T] m4) fun m5 => rn d 91 20 [pR T, pR q] [] m5) = some Q := by
        intro Q hQ
        rw [bR_eq e1, gd_of tq1, bV_eq e2, bV_eq e622]; exact hQ
      have tq2 : tg m2 q = 16 := by rw [ht2 q (by show tg m q ≠ 0; omega)]; exact hq
      have kM : ∀ v, QKp m2 (mst m2 T 2 v) := fun v => QKp.refl.set (Or.inr (by rw [hT2]; omega))
      show LR T tp e t op N ms i0 c0 xs0 m s0 q 1 2 305111 306111 1 A (.inl none) _ (if pk t e (sB t e j) = 93 then some (.inr (S, sB t e j + 1)) else if false = false ∧ pk t e (sB t e j) = 44 then bnd (sQ t e n 3 (op + 1) false (sB t e j + 1)) fun R k => some (.inr (fapp S R, k)) else qE (sB t e j)) (30 - s0)
      by_cases q93 : pk t e (sB t e j) = 93
      · rw [if_pos q93]
        have hlt2 : sB t e j < e := pkf_lt (t := t) (by omega)
        have e89 := c89_1 (d := d - 1) (by omega) h3 (by omega) q93 (by decide)
        rw [mst_mst] at e89
        have h4 := h2.at (j := sB t e j + 1) (by omega) (by omega)
        have h5 := h4.opn (op' := op) (v := (op : Int)) rfl
        have g5 := (CPg.at0 (s := 0) h2 (j := sB t e j + 1) (by omega) (by omega)).opn (v := (op : Int)) h4
        have k5 : QKp m2 (mst (mst m2 T 2 (sB t e j + 1)) T 5 op) := (kM _).set (Or.inr (by show ¬ qOk (tg m2 T) 5; rw [hT2]; omega))
        have l5 := l2.keep (ys := []) k5 (by rw [tq2]; omega) (by rw [tq2]; omega) (by intro k; omega) (fun a ha => ha)
        rw [List.append_nil] at l5
        refine ⟨fun F jj z => ?_, fun p z => (by cases z)⟩
        cases z
        refine ⟨mst (mst m2 T 2 (sB t e j + 1)) T 5 op, c', xs', os ++ [x], cap', st _ (q91_20 (by omega) h3.1.1 _ ?_), h5, q2.trans k5, (C2.trans g5.2).weak (by omega), l5, by omega, ht2, fun k hk k1 k2 => ?_⟩
        · rw [gd_of h3.2.2.1, bI_eq e63, if_neg (by omega), bV_eq e89]
        · rw [vl_mst, if_neg (fun z => hqT z.1), vl_mst, if_neg (fun z => hqT z.1), hv2 k hk k1 k2, vl_mst, if_neg (fun z => hqT z.1)]
      · rw [if_neg q93]
        by_cases q44 : pk t e (sB t e j) = 44
        · rw [if_pos ⟨rfl, q44⟩]
          have hlt2 : sB t e j < e := pkf_lt (t := t) (by omega)
          have h4 := h2.at (j := sB t e j + 1) (by omega) (by omega)
          have g4 := CPg.at0 (s := 0) h2 (j := sB t e j + 1) (by omega) (by omega)
          have l4 := l2.keep (ys := []) (kM (sB t e j + 1)) (by rw [tq2]; omega) (by rw [tq2]; omega) (by intro k; omega) (fun a ha => ha)
          rw [List.append_nil] at l4
          have key2 := H3 d op ms (mst m2 T 2 (sB t e j + 1)) (sB t e j + 1) c' i0 c0 s0 cap' q xs' xs0 (os ++ [x]) (fapp A S) hms h4 (by omega) ho (by unfold dpn; omega) (q2.trans (kM _)) tq2 l4 ((C2.trans g4.2).weak (by omega)) (by omega) (by omega)
          have st2 : ∀ Q, body91 d T q (mst m2 T 2 (sB t e j + 1)) = some Q → (bR (cl (d - 1) 92 [pR T] (mst m T 2 (sB t e i))) fun v3 m3 => gd (tg m3 q = 16) <| bV (cl (d - 1) 305 [pR q, pR v3] m3) fun m4 => bV (cl (d - 1) 62 [pR T] m4) fun m5 => rn d 91 20 [pR T, pR q] [] m5) = some Q := by
            intro Q hQ
            refine st _ (q91_20 (by omega) h3.1.1 _ ?_)
            rw [gd_of h3.2.2.1, bI_eq e63, if_pos q44, v32, (w32_of (by omega) (by omega) : w32 (sB t e j + 1) = sB t e j + 1), mst_mst]
            exact hQ
          cases hE3 : sQ t e n 3 (op + 1) false (sB t e j + 1) with
          | none => exact ⟨fun F j z => (by cases z), fun p z => (by cases z)⟩
          | some y3 =>
            rw [hE3] at key2
            rcases y3 with p3 | ⟨R, k3⟩
            · obtain ⟨m', e4, ce⟩ := key2.2 p3 rfl
              refine ⟨fun F j z => (by cases z), fun p' z => ?_⟩
              cases z
              exact ⟨m', st2 _ e4, ce⟩
            · obtain ⟨m', c4, xs4, os4, cap4, e4, b1, b2, b3, b4, b5, b6, b7⟩ := key2.1 R k3 rfl
              refine ⟨fun F jj z => ?_, fun p' z => (by cases z)⟩
              cases z
              rw [fapp_assoc] at b4
              refine ⟨m', c4, xs4, os4, cap4, st2 _ e4, b1, b2, b3, b4, b5, fun a ha => ?_, fun k hk k1 k2 => ?_⟩
              · rw [b6 a (by show tg m2 a ≠ 0; rw [ht2 a ha]; exact ha)]; exact ht2 a ha
              · rw [b7 k (by show qOk (tg m2 q) k; rw [tq2, ← hq]; exact hk) k1 k2, vl_mst, if_neg (fun z => hqT z.1), hv2 k hk k1 k2, vl_mst, if_neg (fun z => hqT z.1)]
        · rw [if_neg (fun z => q44 z.2)]
          have e89 := c89_0 (d := d - 1) (by omega) h3 q93
          refine ⟨fun F jj z => (by cases z), fun p z => ?_⟩
          cases z
          have C3 := (C2.trans (CPg.at0 (s := 0) h2 (j := sB t e j) rj.1 (by omega)).2)
          refine ⟨_, st _ (q91_20 (by omega) h3.1.1 _ ?_), CEr.preH (u := 6) (h3.bad0 (p := sB t e j) (by omega)) (q2.trans (kM _)) C3 (by omega)⟩
          rw [gd_of h3.2.2.1, bI_eq e63, if_neg q44, bV_xq e89]
end
