/-! queries read by the component: what is or-ed and and-ed -/
set_option maxRecDepth 100000
set_option maxHeartbeats 4000000
theorem wrQ7 (B : Fo) : wrQ 7 B = B := by unfold wrQ; rw [if_neg (by decide), if_neg (by decide)]
theorem wrQ8 (B : Fo) : wrQ 8 B = B := by unfold wrQ; rw [if_neg (by decide), if_neg (by decide)]
theorem wrQ10 (B : Fo) : wrQ 10 B = B := by unfold wrQ; rw [if_neg (by decide), if_neg (by decide)]
theorem wrQ0 (B : Fo) : wrQ 0 B = B := by unfold wrQ; rw [if_neg (by decide), if_neg (by decide)]
theorem wrQ5 (B : Fo) : wrQ 5 B = foC (30, 0, [], []) B foN := by unfold wrQ; rw [if_pos rfl]
theorem wrQ6 (B : Fo) : wrQ 6 B = foC (31, 0, [], []) B foN := by unfold wrQ; rw [if_neg (by decide), if_pos rfl]
/-- what follows behind one of several -/
def E0 (t : Int → Int) (e : Int) (mo : Nat) (sgn : Int) (n op : Nat) (j : Int) : QR := if pk t e (sB t e j) = sgn then (if pk t e (sB t e j + 1) = sgn then sQ t e n mo op false (sB t e (sB t e j + 2)) else qE (sB t e j + 1)) else some (.inr (foN, j))
/-- mode, mode of an item, the sign, whether any, the number of the place, those of its call -/
def sevM (mo im : Nat) (an sgn : Int) : Prop := (mo = 5 ∧ im = 6 ∧ an = 1 ∧ sgn = 124) ∨ (mo = 6 ∧ im = 7 ∧ an = 0 ∧ sgn = 38)
theorem sev_eq {t : Int → Int} {e : Int} {mo im : Nat} {an sgn : Int} (h : sevM mo im an sgn) (n op : Nat) (i : Int) : sQ t e (n + 1) mo op false i = bnd (sQ t e n im op false i) fun B j => bnd (E0 t e mo sgn n op j) fun R k => some (.inr (fapp (wrQ im B) R, k)) := by
  rcases h with ⟨rfl, rfl, rfl, rfl⟩ | ⟨rfl, rfl, rfl, rfl⟩
  · rw [sQ]
    rw [if_neg (by decide : ¬ (5 : Nat) = 0), if_neg (by decide : ¬ (5 : Nat) = 1), if_neg (by decide : ¬ (5 : Nat) = 2), if_neg (by decide : ¬ (5 : Nat) = 3), if_neg (by decide : ¬ (5 : Nat) = 4), if_pos (rfl : (5 : Nat) = 5)]
    congr 1
    funext B j
    unfold E0
    rw [wrQ6]
    by_cases q1 : pk t e (sB t e j) = 124
    · rw [if_pos q1, if_pos q1]
      by_cases q2 : pk t e (sB t e j + 1) = 124
      · rw [if_pos q2, if_pos q2]; rfl
      · rw [if_neg q2, if_neg q2]; rfl
    · rw [if_neg q1, if_neg q1]; rfl
  · rw [sQ]
    rw [if_neg (by decide : ¬ (6 : Nat) = 0), if_neg (by decide : ¬ (6 : Nat) = 1), if_neg (by decide : ¬ (6 : Nat) = 2), if_neg (by decide : ¬ (6 : Nat) = 3), if_neg (by decide : ¬ (6 : Nat) = 4), if_neg (by decide : ¬ (6 : Nat) = 5), if_pos (rfl : (6 : Nat) = 6)]
    congr 1
    funext B j
    unfold E0
    rw [wrQ7]
    by_cases q1 : pk t e (sB t e j) = 38
    · rw [if_pos q1, if_pos q1]
      by_cases q2 : pk t e (sB t e j + 1) = 38
      · rw [if_pos q2, if_pos q2]
      · rw [if_neg q2, if_neg q2]; rfl
    · rw [if_neg q1, if_neg q1]
      show (some (Sum.inr (B, j)) : QR) = some (Sum.inr (fapp B foN, j))
      rw [fapp_nil]
/-- the call that reads one of several -/
noncomputable def itC (an : Int) (T : Int) (d : Nat) (m : Mem) : RM := if an = 0 then cl d 95 [pR T] m else cl d 94 [pR T, pI 0, pI 38] m
theorem cls_any {mo mo' : Nat} {k : Int} (h : cls mo k) (h1 : mo = 5 ∨ mo = 6 ∨ mo = 7 ∨ mo = 8) (h2 : mo' = 5 ∨ mo' = 6 ∨ mo' = 7 ∨ mo' = 8) : cls mo' k := by
  unfold cls at h ⊢
  rw [if_neg (by omega), if_neg (by omega), if_neg (by omega), if_neg (by omega)] at h
  rw [if_neg (by omega), if_neg (by omega), if_neg (by omega), if_neg (by omega)]
  exact h
theorem cls_7 {k : Int} (h : cls 7 k) : k = 21 ∨ k = 22 ∨ k = 26 ∨ k = 28 := by
  unfold cls at h
  rwa [if_neg (by decide), if_neg (by decide), if_neg (by decide), if_neg (by decide)] at h
theorem mk_cls7 {k : Int} (h : k = 21 ∨ k = 22 ∨ k = 26 ∨ k = 28) : cls 7 k := by
  unfold cls
  rwa [if_neg (by decide), if_neg (by decide), if_neg (by decide), if_neg (by decide)]
theorem plc_any {mo : Nat} {t : Int → Int} {e j j' : Int} (h : plc mo t e j j') (hj : j ≤ e) : j ≤ j' ∧ j' ≤ e ∧ sB t e j' = sB t e j := by
  unfold plc at h
  split at h
  · exact h
  · subst h; exact ⟨Int.le_refl _, hj, rfl⟩
/-- further ones come to a list -/
def QL9 (mo : Nat) (an sgn : Int) (T tp e : Int) (t : Int → Int) (N : Int) (n : Nat) : Prop := ∀ (d op : Nat) (ms m : Mem) (j0 c i0 c0 s0 cap q a3 : Int) (xs xs0 os : List Int) (A : Fo), TZ ms → CS m T tp e (sB t e j0) t op N xs c → j0 ≤ e → (xs.length : Int) + 3 * (e - sB t e j0) ≤ 5900 → op ≤ 16 → dpn op (if mo = 5 then 14 else 12) ≤ d → QKp ms m → tg m q = 28 → LI ms m N xs q 1 2 338112 339112 os cap A → CPh T N ms i0 c0 xs0 m (sB t e j0) c xs (s0 + 16 * os.length - 2 * (cap - 2)) → cap ≤ max 2 (2 * os.length) → (os.length : Int) ≤ sB t e j0 →
  (∀ F j, E0 t e mo sgn n op j0 = some (.inr (F, j)) → ∃ m' c' xs' os' cap' j', rn d 94 49 [pR T, pI an, pI sgn, pR a3, pR q] [] m = some (.inl (some (pR q)), m') ∧ CS m' T tp e j' t op N xs' c' ∧ (j ≤ j' ∧ j' ≤ e ∧ sB t e j' = sB t e j) ∧ QKp ms m' ∧ CPh T N ms i0 c0 xs0 m' j' c' xs' (s0 + 16 * os'.length - 2 * (cap' - 2)) ∧ LI ms m' N xs' q 1 2 338112 339112 os' cap' (fapp A F) ∧ cap' ≤ max 2 (2 * os'.length) ∧ vl m' q 0 = vl m q 0 ∧ tg m' q = 28 ∧ os.length ≤ os'.length ∧ (pk t e (sB t e j0) = sgn → os.length < os'.length)) ∧
  (∀ p, E0 t e mo sgn n op j0 = some (.inl p) → ∃ m', rn d 94 49 [pR T, pI an, pI sgn, pR a3, pR q] [] m = some (.inr 204, m') ∧ CEr T N ms i0 c0 e m' p (10 - s0))
section
variable {T tp e N : Int} {t : Int → Int}
theorem aok112 {k : Int} (h : k = 21 ∨ k = 22 ∨ k = 26 ∨ k = 28) : aOk 112 k = true := by
  rcases h with z | z | z | z <;> rw [z] <;> rfl
theorem c94_l {mo im off : Nat} {an sgn : Int} (hM : sevM mo im an sgn) (hoff : off = (if mo = 5 then 12 else 11)) : ∀ (n : Nat), (∀ k, k < n → QH T tp e t N k im off (fun d m => itC an T d m)) → QL9 mo an sgn T tp e t N n := by
  have hsg : 0 ≤ sgn ∧ sgn < 200 := by rcases hM with ⟨-, -, -, z⟩ | ⟨-, -, -, z⟩ <;> rw [z] <;> decide
  have hmo : (mo = 5 ∨ mo = 6) ∧ (im = 6 ∨ im = 7) ∧ off + 1 ≤ (if mo = 5 then 14 else 12) ∧ 12 ≤ (if mo = 5 then 14 else 12) := by
    rcases hM with ⟨y, z, -, -⟩ | ⟨y, z, -, -⟩ <;> subst y <;> subst z
    · rw [if_pos rfl] at hoff ⊢; omega
    · rw [if_neg (by decide)] at hoff ⊢; omega
  intro n
  induction n with
  | zero =>
    intro _ d op ms m j0 c i0 c0 s0 cap q a3 xs xs0 os A hms h hj0 hL ho hd hq0 hq hl hC hcap hlen
    unfold dpn at hd
    have hz := h.1.1
    have hT := h.2.2.1
    have v2 := h.2.2.2.1.2.2.2.1
    have e63 := c63 (d := d - 1) hz h.2.2.2.1
    unfold E0
    by_cases q1 : pk t e (sB t e j0) = sgn
    · rw [if_pos q1]
      have hlt : sB t e j0 < e := pkf_lt (t := t) (by omega)
      by_cases q2 : pk t e (sB t e j0 + 1) = sgn
      · rw [if_pos q2]; exact ⟨fun F j z => (by cases z), fun p z => (by cases z)⟩
      · rw [if_neg q2]
        have hr := h.rng
        have h1 := h.at (j := sB t e j0 + 1) (by omega) (by omega)
        have e65 := c65_0 (d := d - 1) (by omega) h1.1.1 h1.2.2.2.1 q2
        refine ⟨fun F j z => (by cases z), fun p z => ?_⟩
        cases z
        refine ⟨_, q94_49 (by omega) hz _ ?_, CEr.preH (u := 6) (h1.bad0 (p := sB t e j0 + 1) (by omega)) (hq0.trans (QKp.refl.set (Or.inr (by rw [hT]; omega)))) (hC.trans (CPg.at0 (s := 0) h (j := sB t e j0 + 1) (by omega) (by omega)).2) (by omega)⟩
        rw [gd_of hT, bI_eq e63, if_pos q1, v2, (w32_of (by omega) (by omega) : w32 (sB t e j0 + 1) = sB t e j0 + 1), bV_xq e65]
    · rw [if_neg q1]
      refine ⟨fun F j z => ?_, fun p z => (by cases z)⟩
      cases z
      have rb := sB_rng t hj0
      refine ⟨m, c, xs, os, cap, sB t e j0, q94_49 (by omega) hz _ ?_, h, ⟨rb.1, rb.2, sB_idem t e j0⟩, hq0, hC, by rw [fapp_nil]; exact hl, hcap, rfl, hq, Nat.le_refl _, fun z => absurd z q1⟩
      rw [gd_of hT, bI_eq e63, if_neg q1]
  | succ n ih =>
    intro HI d op ms m j0 c i0 c0 s0 cap q a3 xs xs0 os A hms h hj0 hL ho hd hq0 hq hl hC hcap hlen
    have hd' := hd
    unfold dpn at hd
    have hr := h.rng
    have hz := h.1.1
    have hT := h.2.2.1
    have v2 := h.2.2.2.1.2.2.2.1
    have e63 := c63 (d := d - 1) hz h.2.2.2.1
    have hqT : q ≠ T := by intro z; rw [z, hT] at hq; omega
    have rb := sB_rng t hj0
    unfold E0
    by_cases q1 : pk t e (sB t e j0) = sgn
    · rw [if_pos q1]
      have hlt : sB t e j0 < e := pkf_lt (t := t) (by omega)
      have h1 := h.at (j := sB t e j0 + 1) (by omega) (by omega)
      have kM : ∀ v, QKp m (mst m T 2 v) := fun v => QKp.refl.set (Or.inr (by rw [hT]; omega))
      by_cases q2 : pk t e (sB t e j0 + 1) = sgn
      · rw [if_pos q2]
        have hlt2 : sB t e j0 + 1 < e := pkf_lt (t := t) (by omega)
        have e65 := c65_1 (d := d - 1) (by omega) h1.1.1 h1.2.2.2.1 q2 (by omega)
        rw [mst_mst, show sB t e j0 + 1 + 1 = sB t e j0 + 2 by omega] at e65
        have h2 := h.at (j := sB t e j0 + 2) (by omega) (by omega)
        have e62 := c62 (d := d - 1) (by omega) h2.1.1 h2.2.2.2.1
        have h3 := h2.sb
        rw [mst_mst] at e62 h3
        have r3 := sB_rng t (e := e) (i := sB t e j0 + 2) (by omega)
        generalize hb : sB t e (sB t e j0 + 2) = b at *
        have hbb : sB t e b = b := by rw [← hb]; exact sB_idem t e _
        have C3 := hC.trans (CPg.at0 (s := 80) h (j := b) (by omega) (by omega)).2
        have l3 := hl.keep (ys := []) (kM b) (by rw [hq]; omega) (by rw [hq]; omega) (by intro k; omega) (fun a ha => ha)
        rw [List.append_nil] at l3
        have key := HI n (by omega) (d - 1) op _ _ _ _ h3 (by omega) ho (by unfold dpn; omega) (fun z => by omega) (fun z => by omega)
        have st : ∀ Q, (bR (itC an T (d - 1) (mst m T 2 b)) fun v4 m4 => gd (tg m4 q = 28) <| bV (cl (d - 1) 338 [pR q, pR v4] m4) fun m5 => bV (cl (d - 1) 62 [pR T] m5) fun m6 => rn d 94 49 [pR T, pI an, pI sgn, pR a3, pR q] [] m6) = some Q → rn d 94 49 [pR T, pI an, pI sgn, pR a3, pR q] [] m = some Q := by
          intro Q hQ
          refine q94_49 (by omega) hz _ ?_
          rw [gd_of hT, bI_eq e63, if_pos q1, v2, (w32_of (by omega) (by omega) : w32 (sB t e j0 + 1) = sB t e j0 + 1), bV_eq e65, bV_eq e62]
          unfold itC at hQ
          by_cases y : an = 0
          · rw [if_pos y] at hQ ⊢; exact hQ
          · rw [if_neg y] at hQ ⊢; exact hQ
        rw [sev_eq hM]
        cases hE : sQ t e n im op false b with
        | none => exact ⟨fun F j z => (by cases z), fun p z => (by cases z)⟩
        | some y =>
          rw [hE] at key
          rcases y with p | ⟨B, j⟩
          · obtain ⟨m', e1, ce⟩ := key.2 p rfl
            refine ⟨fun F j z => (by cases z), fun p' z => ?_⟩
            cases z
            exact ⟨m', st _ (by rw [bR_xq e1]), ce.preH (hq0.trans (kM b)) C3 (by split <;> omega)⟩
          · obtain ⟨m1, x, j', e1, tc, pl, co, hS⟩ := key.1 B j rfl
            have hrg := sQ_rng (t := t) n im op false b B j r3.2 (fun z => by omega) hE
            have pl' := plc_any pl hrg.2.1
            obtain ⟨c', xs', a1, a2, a3', a4⟩ := co
            have a2' := a2
            obtain ⟨p1, p2, p3, p4, ⟨ys, rfl, p5⟩, p6⟩ := a2'
            have tq1 : tg m1 q = 28 := by rw [(p1 q (by show tg m q ≠ 0; rw [hq]; decide)).1]; exact hq
            have l4 := l3.keep (ys := ys) p1 (by show qOk (tg m q) 1; rw [hq]; omega) (by show qOk (tg m q) 2; rw [hq]; omega) (by intro k; omega) (fun a ha => by rw [(p1 a ha).1]; exact ha)
            have C4 := C3.trans a2.2
            have vA : vl m1 q 1 = vl m q 1 := by rw [(p1 q (by show tg m q ≠ 0; rw [hq]; decide)).2.2 1 (by show qOk (tg m q) 1; rw [hq]; omega), vl_mst, if_neg (fun z => hqT z.1)]
            have v0 : vl m1 q 0 = vl m q 0 := by rw [(p1 q (by show tg m q ≠ 0; rw [hq]; decide)).2.2 0 (by show qOk (tg m q) 0; rw [hq]; omega), vl_mst, if_neg (fun z => hqT z.1)]
            have hA : tg (mst m T 2 b) (vl m1 q 1) ≠ 0 := by
              rw [vA]
              show tg m (vl m q 1) ≠ 0
              rcases hl.1.1 with z | z <;> rw [z] <;> decide
            have tcx : tg m1 x = 21 ∨ tg m1 x = 22 ∨ tg m1 x = 26 ∨ tg m1 x = 28 := cls_7 (cls_any tc (by omega) (by omega))
            obtain ⟨m2, cap', e2, h5, q5, C5, l5, hcap5, lf⟩ := LI.put2 (k := 338) (as := [pR q, pR x]) (d := d - 1) a1 hms ((hq0.trans (kM b)).trans p1) C4 l4 a3' (nwP_ne (hq0.trans (kM b)) (by show tg m q ≠ 0; rw [hq]; decide) hA) hS (fun hLS => c338 (d := d - 1) a1.1 tq1 hLS (by omega) (aok112 tcx) (by omega)) (by rfl)
            have hlx : ((os ++ [x]).length : Int) = os.length + 1 := by rw [List.length_append, List.length_singleton]; push_cast; omega
            have e622 := c62 (d := d - 1) (by omega) h5.1.1 h5.2.2.2.1
            have h6 := h5.sb
            rw [pl'.2.2] at e622 h6
            have rj := sB_rng t (e := e) (i := j') pl'.2.1
            rw [pl'.2.2] at rj
            have hT5 := h5.2.2.1
            have k6 : QKp m2 (mst m2 T 2 (sB t e j)) := QKp.refl.set (Or.inr (by rw [hT5]; omega))
            have tq2 : tg m2 q = 28 := by rw [(lf.2.1 q (by rw [tq1]; decide)).1]; exact tq1
            have l6 := l5.keep (ys := []) k6 (by rw [tq2]; omega) (by rw [tq2]; omega) (by intro k; omega) (fun a ha => ha)
            rw [List.append_nil] at l6
            have C6 := C5.trans (CPg.at0 (s := 0) h5 (j := sB t e j) rj.1 (by omega)).2
            have key2 := ih (fun k hk => HI k (by omega)) d op ms (mst m2 T 2 (sB t e j)) j c' i0 c0 s0 cap' q a3 (xs ++ ys) xs0 (os ++ [x]) (fapp A (wrQ im B)) hms h6 hrg.2.1 (by rw [List.length_append]; push_cast; omega) ho hd' (q5.trans k6) tq2 l6 (C6.weak (by omega)) (by omega) (by omega)
            have st2 : ∀ Q, rn d 94 49 [pR T, pI an, pI sgn, pR a3, pR q] [] (mst m2 T 2 (sB t e j)) = some Q → rn d 94 49 [pR T, pI an, pI sgn, pR a3, pR q] [] m = some Q := fun Q hQ => st Q (by rw [bR_eq e1, gd_of tq1, bV_eq e2, bV_eq e622]; exact hQ)
            have vv : vl (mst m2 T 2 (sB t e j)) q 0 = vl m q 0 := by rw [vl_mst, if_neg (fun z => hqT z.1), lf.2.2.2.1 0 (by decide) (by decide)]; exact v0
            show (∀ F j', bnd (E0 t e mo sgn n op j) (fun R k => some (.inr (fapp (wrQ im B) R, k))) = some (.inr (F, j')) → _) ∧ (∀ p, bnd (E0 t e mo sgn n op j) (fun R k => some (.inr (fapp (wrQ im B) R, k))) = some (.inl p) → _)
            cases hE2 : E0 t e mo sgn n op j with
            | none => exact ⟨fun F j z => (by cases z), fun p z => (by cases z)⟩
            | some y3 =>
              rw [hE2] at key2
              rcases y3 with p3 | ⟨R, k3⟩
              · obtain ⟨m9, e9, ce⟩ := key2.2 p3 rfl
                refine ⟨fun F j z => (by cases z), fun p' z => ?_⟩
                cases z
                exact ⟨m9, st2 _ e9, ce⟩
              · obtain ⟨m9, c9, xs9, os9, cap9, j9, e9, f1, f2, f3, f4, f5, f6, f7, f8, f9, f10⟩ := key2.1 R k3 rfl
                refine ⟨fun F jj z => ?_, fun p' z => (by cases z)⟩
                cases z
                rw [fapp_assoc] at f5
                exact ⟨m9, c9, xs9, os9, cap9, j9, st2 _ e9, f1, f2, f3, f4, f5, f6, by rw [f7]; exact vv, f8, by omega, fun _ => by omega⟩
      · rw [if_neg q2]
        have e65 := c65_0 (d := d - 1) (by omega) h1.1.1 h1.2.2.2.1 q2
        refine ⟨fun F j z => (by cases z), fun p z => ?_⟩
        cases z
        refine ⟨_, q94_49 (by omega) hz _ ?_, CEr.preH (u := 6) (h1.bad0 (p := sB t e j0 + 1) (by omega)) (hq0.trans (kM _)) (hC.trans (CPg.at0 (s := 0) h (j := sB t e j0 + 1) (by omega) (by omega)).2) (by omega)⟩
        rw [gd_of hT, bI_eq e63, if_pos q1, v2, (w32_of (by omega) (by omega) : w32 (sB t e j0 + 1) = sB t e j0 + 1), bV_xq e65]
    · rw [if_neg q1]
      refine ⟨fun F j z => ?_, fun p z => (by cases z)⟩
      cases z
      refine ⟨m, c, xs, os, cap, sB t e j0, q94_49 (by omega) hz _ ?_, h, ⟨rb.1, rb.2, sB_idem t e j0⟩, hq0, hC, by rw [fapp_nil]; exact hl, hcap, rfl, hq, Nat.le_refl _, fun z => absurd z q1⟩
      rw [gd_of hT, bI_eq e63, if_neg q1]
/-- several tests that have their list -/
theorem many_CO {m m' : Mem} {mo op : Nat} {i j c c' s q cap : Int} {os xs xs' : List Int} {F : Fo} (hmo : mo = 5 ∨ mo = 6) (h : CS m' T tp e j t op N xs' c') (hq : QKp m m') (hC : CPh T N m i c xs m' j c' xs' s) (hl : LI m m' N xs' q 1 2 338112 339112 os cap F) (ht : tg m' q = 28) (hv : vl m' q 0 = (if mo = 5 then 1 else 0)) (h2 : 2 ≤ os.length) (hs : 20 ≤ s) : CO T tp e t op N m i c xs m' j 20 q (wrQ mo F) := by
  have hf := hl.fin
  obtain ⟨⟨a1, a2, a3, a4, a5, a6, a7⟩, b1, b2, b3, b4, b5⟩ := hl
  have np : nwP m m' q := ⟨b1, b2⟩
  have na : nwP m m' (vl m' q 1) := ⟨b3, by rcases a1 with z | z <;> rw [z] <;> decide⟩
  have hc1 : cntF F ≠ 1 := by omega
  rcases hmo with z | z
  · subst z
    rw [wrQ5]
    rw [if_pos rfl] at hv
    refine ⟨c', xs', h, ⟨hq, hC.weak hs⟩, ⟨⟨?_, ⟨np, fun z => (by cases z), fun z => (by cases z), fun _ _ => na, fun z => (by cases z)⟩, ?_⟩, trivial⟩, np⟩
    · rw [CB_30 (Or.inl rfl)]
      exact Or.inr ⟨ht, hv, a1, by rw [a3, b5], by rw [a2, b5]; exact a4⟩
    · rw [CK_3n (Or.inl rfl) hc1]
      exact hf.imp (fun a z => ⟨z, fun w => (by cases w)⟩)
  · subst z
    rw [wrQ6]
    rw [if_neg (by decide)] at hv
    refine ⟨c', xs', h, ⟨hq, hC.weak hs⟩, ⟨⟨?_, ⟨np, fun z => (by cases z), fun z => (by cases z), fun _ _ => na, fun z => (by cases z)⟩, ?_⟩, trivial⟩, np⟩
    · rw [CB_30 (Or.inr rfl)]
      exact Or.inr ⟨ht, hv, a1, by rw [a3, b5], by rw [a2, b5]; exact a4⟩
    · rw [CK_3n (Or.inr rfl) hc1]
      exact hf.imp (fun a z => ⟨z, fun w => (by cases w)⟩)
/-- one test alone -/
theorem one_CO {m m' : Mem} {mo op : Nat} {i j c s o : Int} {xs : List Int} {X : Fo} (hmo : mo = 5 ∨ mo = 6) (co : CO T tp e t op N m i c xs m' j s o X) (hX : cntF X = 1) : CO T tp e t op N m i c xs m' j s o (wrQ mo X) := by
  obtain ⟨c', xs', a1, a2, a3, a4⟩ := co
  rcases hmo with z | z
  · subst z
    rw [wrQ5]
    refine ⟨c', xs', a1, a2, ⟨⟨?_, ⟨a4, fun z => (by cases z), fun z => (by cases z), fun _ z => absurd hX z, fun z => (by cases z)⟩, ?_⟩, trivial⟩, a4⟩
    · rw [CB_30 (Or.inl rfl)]; exact Or.inl hX
    · rw [CK_31 (Or.inl rfl) hX]
      exact a3.imp (fun a z => ⟨z, fun w => (by cases w)⟩)
  · subst z
    rw [wrQ6]
    refine ⟨c', xs', a1, a2, ⟨⟨?_, ⟨a4, fun z => (by cases z), fun z => (by cases z), fun _ z => absurd hX z, fun z => (by cases z)⟩, ?_⟩, trivial⟩, a4⟩
    · rw [CB_30 (Or.inr rfl)]; exact Or.inl hX
    · rw [CK_31 (Or.inr rfl) hX]
      exact a3.imp (fun a z => ⟨z, fun w => (by cases w)⟩)
/-- several tests -/
theorem c94 {mo im off off2 : Nat} {an sgn : Int} (hM : sevM mo im an sgn) (hoff : off = (if mo = 5 then 12 else 11)) (hoff2 : off2 = (if mo = 5 then 14 else 12)) {n : Nat} (HI : ∀ k, k ≤ n → QH T tp e t N k im off (fun d m => itC an T d m)) : QH T tp e t N (n + 1) mo off2 (fun d m => cl d 94 [pR T, pI an, pI sgn] m) := by
  intro d op m i c xs h hL ho hd _ _
  have hsg : 0 ≤ sgn ∧ sgn < 200 := by rcases hM with ⟨-, -, -, z⟩ | ⟨-, -, -, z⟩ <;> rw [z] <;> decide
  have han : an = 0 ∨ an = 1 := by rcases hM with ⟨-, -, z, -⟩ | ⟨-, -, z, -⟩ <;> rw [z] <;> decide
  have hmo : (mo = 5 ∨ mo = 6) ∧ (im = 6 ∨ im = 7) ∧ off + 1 ≤ off2 ∧ 12 ≤ off2 := by
    rcases hM with ⟨y, z, -, -⟩ | ⟨y, z, -, -⟩ <;> subst y <;> subst z
    · rw [if_pos rfl] at hoff hoff2; omega
    · rw [if_neg (by decide)] at hoff hoff2; omega
  have han5 : an = (if mo = 5 then 1 else 0) := by
    rcases hM with ⟨y, -, z, -⟩ | ⟨y, -, z, -⟩ <;> subst y <;> rw [z] <;> rfl
  unfold dpn at hd
  have hr := h.rng
  have hz := h.1.1
  have hT := h.2.2.1
  have key := HI n (Nat.le_refl _) (d - 1) op m i c xs h hL ho (by unfold dpn; omega) (fun z => by omega) (fun z => by omega)
  have m10 : (if mo = 10 then (16 : Int) else 30) = 30 := if_neg (by omega)
  have i10 : (if im = 10 then (16 : Int) else 30) = 30 := if_neg (by omega)
  rw [i10] at key
  rw [m10, sev_eq hM]
  have st : ∀ Q, (bR (itC an T (d - 1) m) fun v1 m1 => rn d 94 18 [pR T, pI an, pI sgn, pU, pU] [pR v1] m1) = some Q → cl d 94 [pR T, pI an, pI sgn] m = some Q := by
    intro Q hQ
    refine q94 (by omega) hz _ ?_
    unfold itC at hQ
    by_cases y : an = 0
    · rw [if_pos y] at hQ ⊢; rw [gd_of hT]; exact hQ
    · rw [if_neg y] at hQ ⊢; rw [gd_of hT]; exact hQ
  show CR mo T tp e t op N m i c xs (cl d 94 [pR T, pI an, pI sgn] m) _ 30
  cases hE : sQ t e n im op false i with
  | none => exact CR.no
  | some y =>
    rw [hE] at key
    rcases y with p | ⟨B, j⟩
    · obtain ⟨m', e1, ce⟩ := key.2 p rfl
      exact CR.inl (st _ (by rw [bR_xq e1])) ce
    · obtain ⟨m1, x, j', e1, tc, pl, co, hS⟩ := key.1 B j rfl
      have hrg := sQ_rng (t := t) n im op false i B j hr.2.1 (fun z => by omega) hE
      have pl' := plc_any pl hrg.2.1
      have co0 := co
      obtain ⟨c', xs', a1, a2, a3', a4⟩ := co
      have e62 := c62 (d := d - 1) (by omega) a1.1.1 a1.2.2.2.1
      have h2 := a1.sb
      have rj := sB_rng t (e := e) (i := j') pl'.2.1
      rw [pl'.2.2] at e62 h2 rj
      have co2 := co0.at rj.1 rj.2
      have e63 := c63 (d := d - 1) h2.1.1 h2.2.2.2.1
      have tcx : tg m1 x = 21 ∨ tg m1 x = 22 ∨ tg m1 x = 26 ∨ tg m1 x = 28 := cls_7 (cls_any tc (by omega) (by omega))
      have st2 : ∀ Q, (if pk t e (sB t e j) = sgn then (nw (nx (mst m1 T 2 (sB t e j))) (mal (mst m1 T 2 (sB t e j)) 28 3) fun o3 m3 => bV (cl (d - 1) 337 [pR o3, pI an] m3) fun m4 => bV (cl (d - 1) 338 [pR o3, pR x] m4) fun m5 => rn d 94 49 [pR T, pI an, pI sgn, pR x, pR o3] [] m5) else some (.inl (some (pR x)), mst m1 T 2 (sB t e j))) = some Q → cl d 94 [pR T, pI an, pI sgn] m = some Q := by
        intro Q hQ
        refine st Q ?_
        rw [bR_eq e1]
        refine q94_18 (by omega) a1.1.1 _ ?_
        rw [gd_of a1.2.2.1, bV_eq e62, bI_eq e63]
        exact hQ
      show CR mo T tp e t op N m i c xs _ (bnd (E0 t e mo sgn n op j) fun R k => some (.inr (fapp (wrQ im B) R, k))) 30
      by_cases q1 : pk t e (sB t e j) = sgn
      · rw [if_pos q1] at st2
        obtain ⟨c2, xs2, d1, d2, d3, d4⟩ := co2
        obtain ⟨M, e337, nl, tM, vM⟩ := new337 (d := d - 1) (v := an) d1 han
        have hM1 := nl.1
        have li := nl.li (m0 := m) d2.1.z (by rw [tM]; decide)
        have ch := nl.ch d2.2
        have d3' := CF.keep (ys := []) (p' := fun _ => x) nl.2.1.q (fun _ => rfl) d3
        rw [List.append_nil] at d3'
        have tx : tg M x = tg m1 x := (nl.2.1 x (by show tg m1 x ≠ 0; omega)).1
        have o0 := nl.2.2.2.2.2.2.1
        have ar0 := nl.2.2.2.2.2.2.2.1
        obtain ⟨m2, cap', e2, h5, q5, C5, l5, hcap5, lf⟩ := LI.put2 (k := 338) (as := [pR (nx (mst m1 T 2 (sB t e j))), pR x]) (d := d - 1) hM1 hz (d2.1.trans nl.2.1) ch li d3' (fun a ha => ⟨⟨ha.1, by rw [(nl.2.1 a ha.2).1]; exact ha.2⟩, fun z => ha.2 (by rw [z]; exact o0), fun z => ha.2 (by rw [z]; exact ar0)⟩) hS (fun hLS => c338 (d := d - 1) hM1.1 tM hLS (by simp) (aok112 (by rw [tx]; exact tcx)) (by rw [tx]; omega)) (by rfl)
        rw [List.nil_append] at l5
        have hap : fapp foN (wrQ im B) = wrQ im B := rfl
        rw [hap] at l5
        have tq2 : tg m2 (nx (mst m1 T 2 (sB t e j))) = 28 := by rw [(lf.2.1 _ (by rw [tM]; decide)).1]; exact tM
        have hcap6 : cap' ≤ 2 := by
          have w : (([] : List Int).length : Int) = 0 := rfl
          omega
        have v2' : vl m2 (nx (mst m1 T 2 (sB t e j))) 0 = an := by rw [lf.2.2.2.1 0 (by decide) (by decide)]; exact vM
        have key2 := c94_l hM hoff n (fun k hk => HI k (by omega)) d op m m2 j c2 i c (-6) cap' (nx (mst m1 T 2 (sB t e j))) x xs2 xs [x] (wrQ im B) hz h5 hrg.2.1 (by obtain ⟨-, -, -, -, ⟨ys, rfl, p5⟩, -⟩ := d2; rw [List.length_append]; push_cast; omega) ho (by rw [← hoff2]; unfold dpn; omega) q5 tq2 l5 (C5.weak (by simp <;> omega)) (by simp <;> omega) (by simp <;> omega)
        have st3 : ∀ Q, rn d 94 49 [pR T, pI an, pI sgn, pR x, pR (nx (mst m1 T 2 (sB t e j)))] [] m2 = some Q → cl d 94 [pR T, pI an, pI sgn] m = some Q := fun Q hQ => st2 Q (by rw [nw_eq, bV_eq e337, bV_eq e2]; exact hQ)
        cases hE2 : E0 t e mo sgn n op j with
        | none => exact CR.no
        | some y3 =>
          rw [hE2] at key2
          rcases y3 with p3 | ⟨R, k3⟩
          · obtain ⟨m9, e9, ce⟩ := key2.2 p3 rfl
            exact CR.inl (st3 _ e9) (ce.weak (by omega))
          · obtain ⟨m9, c9, xs9, os9, cap9, j9, e9, f1, f2, f3, f4, f5, f6, f7, f8, f9, f10⟩ := key2.1 R k3 rfl
            have f10' := f10 q1
            have hl9 : (2 : Int) ≤ os9.length := by simp at f10'; omega
            refine CR.inr (st3 _ e9) ?_ ?_ (many_CO hmo.1 f1 f3 f4 f5 f8 (by rw [f7, v2']; exact han5) (by omega) (by omega)) ?_
            · exact cls_any (mo := 7) (mk_cls7 (by omega)) (by omega) (by omega)
            · unfold plc; rw [if_pos (by omega)]; exact f2
            · rcases hmo.1 with z | z <;> subst z
              · rw [wrQ5]; rfl
              · rw [wrQ6]; rfl
      · rw [if_neg q1] at st2
        have e0 : E0 t e mo sgn n op j = some (.inr (foN, j)) := by unfold E0; rw [if_neg q1]
        rw [e0]
        show CR mo T tp e t op N m i c xs _ (some (.inr (fapp (wrQ im B) foN, j))) 30
        rw [fapp_nil]
        refine CR.inr (st2 _ rfl) ?_ ?_ (one_CO hmo.1 co2 hS) ?_
        · exact cls_any (mo := 7) (mk_cls7 tcx) (by omega) (by omega)
        · unfold plc; rw [if_pos (by omega)]; exact ⟨by omega, rj.2, sB_idem t e j⟩
        · rcases hmo.1 with z | z <;> subst z
          · rw [wrQ5]; rfl
          · rw [wrQ6]; rfl
end
