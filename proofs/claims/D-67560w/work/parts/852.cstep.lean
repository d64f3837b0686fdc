/-! queries read by the component: a segment of one name or index -/
set_option maxRecDepth 100000
set_option maxHeartbeats 4000000
section
variable {T tp e N : Int} {t : Int → Int}
theorem sIn_nn {i : Int} (h : ¬ nb (pk t e i)) : sIn t e i = .inl i := by
  have h1 : ¬ pk t e i = 45 := fun z => h (Or.inr z)
  have h2 : nI0 t e i = i := if_neg h1
  unfold sIn
  rw [h2, if_pos (Or.inl (fun z => h (Or.inl z)))]
/-- the end of a step -/
theorem c83_90 {d op : Nat} {m m2 : Mem} {i c j o : Int} {xs : List Int} {X : Fo} (hd : 6 ≤ d) (ho : op ≤ 100) (co : CO T tp e t (op + 1) N m i c xs m2 j 20 o (foC (21, 0, [], []) X foN)) (t2 : tg m2 o = 16) (hX : sg1 (21, 0, [], []) X = true) (hij : i ≤ j) {q : Int} :
    SR true T tp e t op N m i c xs q (rn d 83 90 [pR T, pR o] [] m2) (if pk t e (sB t e j) = 93 then qN 21 0 [] X (sB t e j + 1) else qE (sB t e j)) 30 := by
  have co0 := co
  obtain ⟨c', xs', a1, a2, a3, a4⟩ := co
  have hr := a1.rng
  have e62 := c62 (d := d - 1) (by omega) a1.1.1 a1.2.2.2.1
  have rj := sB_rng t (e := e) (i := j) hr.2.1
  have h2 := a1.sb
  by_cases q93 : pk t e (sB t e j) = 93
  · rw [if_pos q93]
    have hlt2 : sB t e j < e := pkf_lt (t := t) (by omega)
    have e89 := c89_1 (d := d - 1) (by omega) h2 (by omega) q93 (by decide)
    rw [mst_mst] at e89
    have h3 := a1.at (j := sB t e j + 1) (by omega) (by omega)
    have h4 := h3.opn (op' := op) (v := (op : Int)) rfl
    have g4 := (a2.at (k := sB t e j + 1) (s' := 20) a1 (by omega) (by omega)).opn (v := (op : Int)) h3
    have hT := a1.2.2.1
    have kp : QKp m2 (mst (mst m2 T 2 (sB t e j + 1)) T 5 op) := (QKp.refl.set (Or.inr (by rw [hT]; omega))).set (Or.inr (by rw [hT]; omega))
    have a3' := CF.keep (ys := []) (p' := fun _ => o) kp.q (fun _ => rfl) a3
    rw [List.append_nil] at a3'
    refine ⟨fun F k z => ?_, fun p z => (by cases z)⟩
    cases z
    have es : sgF (foC (21, 0, [], []) X foN) = true := by
      show (sg1 (21, 0, [], []) X && true) = true
      rw [hX]; rfl
    refine ⟨_, mst (mst m2 T 2 (sB t e j + 1)) T 5 op, o, ?_, t2, ⟨c', xs', h4, g4, a3', a4⟩, rfl, fun _ => es, (if_pos es).symm⟩
    refine q83_90 (by omega) a1.1.1 _ ?_
    rw [gd_of a1.2.2.1, bV_eq e62, bV_eq e89]
  · rw [if_neg q93]
    have e89 := c89_0 (d := d - 1) (by omega) h2 q93
    have g2 := a2.at (k := sB t e j) (s' := 20) a1 (by omega) (by omega)
    refine SR.inl (q83_90 (by omega) a1.1.1 _ ?_) ((h2.bad0 (p := sB t e j) (u := 6) (by omega)).pre g2 (by omega))
    rw [gd_of a1.2.2.1, bV_eq e62, bV_xq e89]
/-- a segment of one name or index -/
theorem c83 {n : Nat} : QS true T tp e t N n := by
  intro d op m i c q xs h hL ho hd hp hq
  rw [if_pos rfl]
  unfold dpn at hd
  have hr := h.rng
  have hz := h.1.1
  have hT := h.2.2.1
  have hlt : i < e := pkf_lt (t := t) (by omega)
  cases n with
  | zero => exact SR.no
  | succ n =>
  unfold sQ
  rw [if_neg (by decide : ¬ (1 : Nat) = 0), if_pos (rfl : (1 : Nat) = 1)]
  obtain ⟨M, e304, nl, tM, vM⟩ := new304 (d := d - 1) (v := 0) h (Or.inl rfl)
  have hM := nl.1
  have e63 := c63 (d := d - 1) hM.1.1 hM.2.2.2.1
  have v2 := hM.2.2.2.1.2.2.2.1
  have gM : CPg T N m i c xs M i c xs (-10) := ⟨nl.2.1, by have := nl.ch (CPg.refl h).2; exact this.weak (by omega)⟩
  have li := nl.li (m0 := m) (fun a z => z) (by rw [tM]; decide)
  by_cases q46 : pk t e i = 46
  · rw [if_pos q46, if_neg (fun z => by cases z.1), if_neg (fun z => by cases z.1)]
    have h1 := hM.at (j := i + 1) (by omega) (by omega)
    have g1 := gM.at (k := i + 1) (s' := 30) hM (by omega) (by omega)
    obtain ⟨s1, s2⟩ := c84 (d := d - 1) (by omega) h1 (by omega)
    have st : ∀ Q, (bR (cl (d - 1) 84 [pR T] (mst M T 2 (i + 1))) fun v16 m16 => bV (cl (d - 1) 305 [pR (nx m), pR v16] m16) fun m17 => some (.inl (some (pR (nx m))), m17)) = some Q → cl d 83 [pR T] m = some Q := by
      intro Q hQ
      refine q83 (by omega) hz _ ?_
      rw [nw_eq, bV_eq e304, gd_of hM.2.2.1, bI_eq e63, if_pos q46, v2, (w32_of (by omega) (by omega) : w32 (i + 1) = i + 1)]
      exact hQ
    by_cases q2 : ltr (pk t e (i + 1))
    · rw [if_neg (fun z => z q2)]
      obtain ⟨m1, x, e1, t1, co⟩ := s1 q2
      have coM : CO T tp e t op N M i c xs m1 (sNa t e (i + 1)).2 70 x (foC (1, 0, (sNa t e (i + 1)).1, []) foN foN) := CO.pre (CPg.at0 (s := 40) hM (by omega) (by omega)) co
      obtain ⟨m2, e2, t2, co2, tt⟩ := seg_one (d := d - 1) hz hM gM.1 gM.2 li (by omega) tM vM coM rfl (by rw [t1]; rfl)
      refine ⟨fun F k z => ?_, fun p z => (by cases z)⟩
      cases z
      exact ⟨m2, m2, nx m, st _ (by rw [bR_eq e1, bV_eq e2]), t2, co2, rfl, fun _ => rfl, (if_pos rfl).symm⟩
    · rw [if_pos q2]
      exact SR.inl (st _ (by rw [bR_xq (s2 q2)])) ((h1.bad0 (p := i + 1) (u := 6) (by omega)).pre g1 (by omega))
  · rw [if_neg q46]
    cases n with
    | zero => exact SR.no
    | succ n =>
    unfold sQ
    rw [if_neg (by decide : ¬ (2 : Nat) = 0), if_neg (by decide : ¬ (2 : Nat) = 1), if_pos (rfl : (2 : Nat) = 2)]
    have stA : ∀ Q, (bV (cl (d - 1) 86 [pR T] M) fun m4 => bV (cl (d - 1) 62 [pR T] m4) fun m5 => bI (cl (d - 1) 63 [pR T] m5) fun v6 m6 => if v6 = 39 then (bR (cl (d - 1) 87 [pR T] m6) fun v7 m7 => bV (cl (d - 1) 305 [pR (nx m), pR v7] m7) fun m8 => rn d 83 90 [pR T, pR (nx m)] [] m8) else bI (cl (d - 1) 63 [pR T] m6) fun v9 m9 => if v9 = 34 then (bR (cl (d - 1) 87 [pR T] m9) fun v14 m14 => bV (cl (d - 1) 305 [pR (nx m), pR v14] m14) fun m15 => rn d 83 90 [pR T, pR (nx m)] [] m15) else nw (nx m9) (mal m9 18 1) fun o10 m10 => bL (cl (d - 1) 88 [pR T] m10) fun v11 m11 => bV (cl (d - 1) 308 [pR o10, pL v11] m11) fun m12 => bV (cl (d - 1) 305 [pR (nx m), pR o10] m12) fun m13 => rn d 83 90 [pR T, pR (nx m)] [] m13) = some Q → cl d 83 [pR T] m = some Q := by
      intro Q hQ
      refine q83 (by omega) hz _ ?_
      rw [nw_eq, bV_eq e304, gd_of hM.2.2.1, bI_eq e63, if_neg q46]
      exact hQ
    by_cases h16 : op < 16
    · rw [if_neg (fun z => z h16)]
      have e86 := c86_1 (d := d - 1) (by omega) hM hlt h16
      have h1 := hM.opn (op' := op + 1) (v := (op : Int) + 1) (by push_cast; rfl)
      have h2 := h1.at (j := i + 1) (by omega) (by omega)
      have rb := sB_rng t (e := e) (i := i + 1) (by omega)
      have e62 := c62 (d := d - 1) (by omega) h2.1.1 h2.2.2.2.1
      have h3 := h2.sb
      rw [mst_mst] at h3 e62
      have g3 := (gM.opn hM (v := (op : Int) + 1)).at (k := sB t e (i + 1)) (s' := 30) h1 (by omega) (by omega)
      have k3 : QKp M (mst (mst M T 5 ((op : Int) + 1)) T 2 (sB t e (i + 1))) := (QKp.refl.set (Or.inr (by rw [hM.2.2.1]; omega))).set (Or.inr (by rw [hM.2.2.1]; omega))
      have l3 := li.keep (ys := []) k3 (by rw [tM]; omega) (by rw [tM]; omega) (by intro k; omega) (fun a ha => ha)
      rw [List.append_nil] at l3
      have e633 := c63 (d := d - 1) h3.1.1 h3.2.2.2.1
      have oT : nx m ≠ T := by intro z; rw [z, hM.2.2.1] at tM; omega
      generalize hM3 : mst (mst M T 5 ((op : Int) + 1)) T 2 (sB t e (i + 1)) = M3 at *
      have tM3 : tg M3 (nx m) = 16 := by rw [← hM3]; exact tM
      have vM3 : vl M3 (nx m) 0 = 0 := by rw [← hM3, vl_mst, if_neg (fun z => oT z.1), vl_mst, if_neg (fun z => oT z.1)]; exact vM
      have stB : ∀ Q, (if pk t e (sB t e (i + 1)) = 39 ∨ pk t e (sB t e (i + 1)) = 34 then (bR (cl (d - 1) 87 [pR T] M3) fun v7 m7 => bV (cl (d - 1) 305 [pR (nx m), pR v7] m7) fun m8 => rn d 83 90 [pR T, pR (nx m)] [] m8) else bL (cl (d - 1) 88 [pR T] (mal M3 18 1)) fun v11 m11 => bV (cl (d - 1) 308 [pR (nx M3), pL v11] m11) fun m12 => bV (cl (d - 1) 305 [pR (nx m), pR (nx M3)] m12) fun m13 => rn d 83 90 [pR T, pR (nx m)] [] m13) = some Q → cl d 83 [pR T] m = some Q := by
        intro Q hQ
        refine stA Q ?_
        rw [bV_eq e86, bV_eq e62, bI_eq e633]
        by_cases y1 : pk t e (sB t e (i + 1)) = 39
        · rw [if_pos (Or.inl y1)] at hQ
          rw [if_pos y1]; exact hQ
        · rw [if_neg y1, bI_eq e633]
          by_cases y2 : pk t e (sB t e (i + 1)) = 34
          · rw [if_pos (Or.inr y2)] at hQ
            rw [if_pos y2]; exact hQ
          · rw [if_neg (fun z => by rcases z with z | z
                                    · exact y1 z
                                    · exact y2 z)] at hQ
            rw [if_neg y2, nw_eq]; exact hQ
      cases n with
      | zero => exact SR.no
      | succ n =>
      unfold sQ
      rw [if_neg (by decide : ¬ (3 : Nat) = 0), if_neg (by decide : ¬ (3 : Nat) = 1), if_neg (by decide : ¬ (3 : Nat) = 2), if_pos (rfl : (3 : Nat) = 3)]
      cases n with
      | zero => exact SR.no
      | succ n =>
      unfold sQ
      rw [if_neg (by decide : ¬ (4 : Nat) = 0), if_neg (by decide : ¬ (4 : Nat) = 1), if_neg (by decide : ¬ (4 : Nat) = 2), if_neg (by decide : ¬ (4 : Nat) = 3), if_pos (rfl : (4 : Nat) = 4)]
      have tail : ∀ (j x s1 : Int) (m1 : Mem) (X : Fo), CO T tp e t (op + 1) N M3 (sB t e (i + 1)) c xs m1 j s1 x X → -10 ≤ s1 → cntF X = 1 → aOk 111 (tg m1 x) = true → sg1 (21, 0, [], []) X = true → (∀ Q, (bV (cl (d - 1) 305 [pR (nx m), pR x] m1) fun m8 => rn d 83 90 [pR T, pR (nx m)] [] m8) = some Q → cl d 83 [pR T] m = some Q) → SR true T tp e t op N m i c xs q (cl d 83 [pR T] m) (if pk t e (sB t e j) = 93 then qN 21 0 [] X (sB t e j + 1) else qE (sB t e j)) 30 := by
        intro j x s1 m1 X co hs1 hX hx hsg hst
        obtain ⟨m2, e2, t2, co2, tt⟩ := seg_one (d := d - 1) hz h3 g3.1 g3.2 l3 (by omega) tM3 vM3 co hX hx
        have hj : i ≤ j := by obtain ⟨cc, xx, a1, a2, -⟩ := co2; exact a2.2.2.2.2.2
        exact SR.to (c83_90 (d := d) (by omega) (by omega) co2 t2 hsg hj) (fun z hz' => hst z (by rw [bV_eq e2]; exact hz')) (Int.le_refl _)
      have sgb : ∀ (j : Int) (S : Fo), bnd (if pk t e (sB t e j) = 93 then some (.inr (S, sB t e j + 1)) else if true = false ∧ pk t e (sB t e j) = 44 then bnd (sQ t e (n + 1) 3 (op + 1) true (sB t e j + 1)) fun R k => some (.inr (fapp S R, k)) else qE (sB t e j)) (fun L j => qN 21 0 [] L j) = (if pk t e (sB t e j) = 93 then qN 21 0 [] S (sB t e j + 1) else qE (sB t e j)) := by
        intro j S
        by_cases z : pk t e (sB t e j) = 93
        · rw [if_pos z, if_pos z]; rfl
        · rw [if_neg z, if_neg z, if_neg (fun y => by cases y.1)]; rfl
      by_cases y : pk t e (sB t e (i + 1)) = 39 ∨ pk t e (sB t e (i + 1)) = 34
      · rw [if_pos y]
        obtain ⟨s1, s2⟩ := c87 (d := d - 1) (by omega) h3 (by omega) y
        cases hE : sS t e (pk t e (sB t e (i + 1))) (sB t e (i + 1) + 1) with
        | inl p =>
          obtain ⟨m', e1, ce⟩ := s2 p hE
          exact SR.inl (stB _ (by rw [if_pos y, bR_xq e1])) (ce.pre g3 (by omega))
        | inr w =>
          obtain ⟨us, j⟩ := w
          obtain ⟨m', o, e1, t1, co⟩ := s1 us j hE
          have key := tail j o 30 m' _ co (by decide) rfl (by rw [t1]; rfl) rfl (fun Q hQ => stB Q (by rw [if_pos y, bR_eq e1]; exact hQ))
          rw [← sgb j] at key
          exact key
      · rw [if_neg y, if_neg (fun z => by cases z.1), if_neg (fun z => by cases z.1)]
        have hn := h3.new (q := 18) (n := 1) (by omega)
        have gn := (CPg.refl h3).new (q := 18) (n := 1) h3 (by omega) (by omega)
        obtain ⟨s1, s2⟩ := c88 (d := d - 1) (by omega) hn
        have z0 : tg M3 (nx M3) = 0 := h3.1.1 _ (Int.le_refl _)
        have t0 : tg (mal M3 18 1) (nx M3) = 18 := new_tg.1
        cases hE : sIn t e (sB t e (i + 1)) with
        | inl p =>
          obtain ⟨k, k0, k1, e88⟩ := s2 p hE
          have ce := ((hn.bad (j := k) (p := p) (u := 6) (by omega)).pre gn (u' := 20) (by omega)).pre g3 (u' := 30) (by omega)
          have key : SR true T tp e t op N m i c xs q (cl d 83 [pR T] m) (qE p) 30 := SR.inl (stB _ (by rw [if_neg y, bL_xq e88])) ce
          by_cases y4 : nb (pk t e (sB t e (i + 1)))
          · rw [if_pos y4]; exact key
          · rw [if_neg y4, if_neg (fun z => by cases z.1)]
            rw [sIn_nn y4] at hE
            cases hE
            exact key
        | inr w =>
          obtain ⟨v, j⟩ := w
          have y4 : nb (pk t e (sB t e (i + 1))) := Classical.byContradiction fun z => by rw [sIn_nn z] at hE; cases hE
          rw [if_pos y4]
          have e88 := s1 v j hE
          have rj := sIn_rng hE
          have h4 := hn.at (j := j) (by omega) rj.2.1
          have g4 := gn.at (k := j) (s' := 30) hn (by omega) (by omega)
          have h5 := h4.obj (o := nx M3) (f := 0) (v := v) (show 15 ≤ tg (mal M3 18 1) (nx M3) ∧ tg (mal M3 18 1) (nx M3) ≤ 29 by omega)
          have g5 := g4.obj (o := nx M3) (f := 0) (v := v) h4 (show 15 ≤ tg (mal M3 18 1) (nx M3) ∧ tg (mal M3 18 1) (nx M3) ≤ 29 by omega) z0
          have e308 : cl (d - 1) 308 [pR (nx M3), pL v] (mst (mal M3 18 1) T 2 j) = some (.inl none, mst (mst (mal M3 18 1) T 2 j) (nx M3) 0 v) := by
            refine q308 h4.1.1 _ ?_
            rw [gd_of (show tg (mst (mal M3 18 1) T 2 j) (nx M3) = 18 from t0)]
          have co : CO T tp e t (op + 1) N M3 (sB t e (i + 1)) c xs (mst (mst (mal M3 18 1) T 2 j) (nx M3) 0 v) j 30 (nx M3) (foC (3, v, [], []) foN foN) := CO.leaf h5 g5 ⟨z0, by show tg (mal M3 18 1) _ ≠ 0; rw [t0]; decide⟩ (Or.inl (by decide)) (by rw [CB_3 rfl]; exact ⟨t0, by rw [vl_mst, if_pos ⟨rfl, rfl⟩]⟩)
          have key := tail j (nx M3) 30 _ _ co (by decide) rfl (by show aOk 111 (tg (mal M3 18 1) (nx M3)) = true; rw [t0]; rfl) rfl (fun Q hQ => stB Q (by rw [if_neg y, bL_eq e88, bV_eq e308]; exact hQ))
          dsimp only
          rw [if_neg (fun z => by cases z.1)]
          rw [← sgb j] at key
          exact key
    · rw [if_pos h16]
      have e86 := c86_0 (d := d - 1) (by omega) hM h16
      exact SR.inl (stA _ (by rw [bV_xq e86])) ((hM.bad0 (p := i) (u := 6) (by omega)).pre gM (by omega))
end
