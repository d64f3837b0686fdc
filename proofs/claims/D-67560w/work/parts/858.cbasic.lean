/-! queries read by the component: tests -/
set_option maxRecDepth 100000
set_option maxHeartbeats 4000000
section
variable {d op : Nat} {T tp e i N c : Int} {t : Int → Int} {m : Mem} {xs : List Int}
/-- an object with one below that was there before -/
theorem CO.wrap {m1 : Mem} {q n j s x v : Int} {kd : Nat} {F : Fo} (hk : CO T tp e t op N m i c xs m1 j s x F) (hz : TZ m) (hq : 15 ≤ q ∧ q ≤ 29) (hn : 0 ≤ n ∧ n ≤ 5) (hkd : oneK kd) (hCB : ∀ (M : Mem) (N : Int) (xs : List Int), tg M (nx m1) = q → vl M (nx m1) 1 = v → CB M N xs (nx m1) (kd, 0, [], []) F) :
    CO T tp e t op N m i c xs (mst (mst (mal m1 q n) (nx m1) 0 x) (nx m1) 1 v) j (s - 5) (nx m1) (foC (kd, 0, [], []) F foN) := by
  obtain ⟨c', xs', a1, a2, a3, a4⟩ := hk
  have z0 : tg m (nx m1) = 0 := hz _ a2.2.2.1.1
  have b0 := a1.new (q := q) (n := n) (by omega)
  have g0 := a2.new (q := q) (n := n) a1 (by omega) hn
  have t1 : tg (mal m1 q n) (nx m1) = q := new_tg.1
  have b1 := b0.obj (o := nx m1) (f := 0) (v := x) (by omega)
  have g1 := g0.obj (o := nx m1) (f := 0) (v := x) b0 (by omega) z0
  have b2 := b1.obj (o := nx m1) (f := 1) (v := v) (show 15 ≤ tg (mal m1 q n) (nx m1) ∧ tg (mal m1 q n) (nx m1) ≤ 29 by omega)
  have g2 := g1.obj (o := nx m1) (f := 1) (v := v) b1 (show 15 ≤ tg (mal m1 q n) (nx m1) ∧ tg (mal m1 q n) (nx m1) ≤ 29 by omega) z0
  have hz1 := a1.1.1
  generalize hM : mst (mst (mal m1 q n) (nx m1) 0 x) (nx m1) 1 v = M at *
  have tM : tg M (nx m1) = q := by rw [← hM]; exact t1
  have v0 : vl M (nx m1) 0 = x := by rw [← hM, vl_mst, if_neg (by omega), vl_mst, if_pos ⟨rfl, rfl⟩]
  have v1 : vl M (nx m1) 1 = v := by rw [← hM, vl_mst, if_pos ⟨rfl, rfl⟩]
  have np : nwP m M (nx m1) := ⟨z0, by rw [tM]; omega⟩
  have hk : QKp m1 M := by rw [← hM]; exact ((QKp.refl.mal hz1).set (Or.inl (hz1 _ (Int.le_refl _)))).set (Or.inl (hz1 _ (Int.le_refl _)))
  have a3' := CF.keep (ys := []) (p' := CK M (nx m1) (kd, 0, [], []) F) hk.q (fun j => by rw [CK_w hkd, v0]) a3
  rw [List.append_nil] at a3'
  exact ⟨c', xs', b2, g2, ⟨⟨hCB M N xs' tM v1, ⟨np, fun w => absurd (show kd = 20 from w) (by omega), fun w => absurd (show kd = 21 from w) (by omega), fun w => absurd (show kd = 30 ∨ kd = 31 from w) (by omega), fun w => absurd (show kd = 33 from w) (by omega)⟩, a3'.imp (fun a z => ⟨⟨z.1, by rw [(hk a z.2).1]; exact z.2⟩, fun w => absurd (show kd = 33 from w) (by omega)⟩)⟩, trivial⟩, np⟩
/-- the object of a comparison -/
theorem cmp_CO {m0 m2 : Mem} {k s2 l r o2 q c1 : Int} {xs1 : List Int} {L R : Fo} (hz : TZ m) (h0 : CS m0 T tp e k t op N xs1 c1) (h10 : CPg T N m i c xs m0 k c1 xs1 s2) (hX : CF m0 N xs1 (nwP m m0) (fun _ => l) L) (hL : cntF L = 1) (hr : CO T tp e t op N (mal m0 26 5) k c1 xs1 m2 q 20 r R) (hR : cntF R = 1) (hs : 15 ≤ s2) :
    ∃ M, cl (d + 1) 324 [pR (nx m0), pI o2, pR l, pR r] m2 = some (.inl none, M) ∧ tg M (nx m0) = 26 ∧ CO T tp e t op N m i c xs M q 20 (nx m0) (foC (33, o2, [], []) (fapp L R) foN) := by
  obtain ⟨c', xs', a1, a2, a3, a4⟩ := hr
  have hz0 := h0.1.1
  have z0 : tg m (nx m0) = 0 := hz _ h10.2.2.1.1
  have t0 : tg (mal m0 26 5) (nx m0) = 26 := new_tg.1
  have t2 : tg m2 (nx m0) = 26 := by rw [(a2.1 (nx m0) (by rw [t0]; decide)).1]; exact t0
  have g2 := (h10.new (q := 26) (n := 5) h0 (by omega) (by omega)).trans a2
  have n2 : nx m0 < nx m2 := by have := a2.2.2.1.1; have : nx (mal m0 26 5) = nx m0 + 1 := rfl; omega
  have z2 := a1.1.1
  have b3 := a1.new (q := 27) (n := 4) (by omega)
  have g3 := g2.new (q := 27) (n := 4) a1 (by omega) (by omega)
  have t3 : tg (mal m2 27 4) (nx m0) = 26 := by show (if nx m0 = nx m2 then 27 else tg m2 (nx m0)) = 26; rw [if_neg (by omega)]; exact t2
  have b4 := b3.obj (o := nx m0) (f := 3) (v := nx m2) (by omega)
  have g4 := g3.obj (o := nx m0) (f := 3) (v := nx m2) b3 (by omega) z0
  have n4 : nx (mst (mal m2 27 4) (nx m0) 3 (nx m2)) = nx m2 + 1 := rfl
  have b5 := b4.new (q := 27) (n := 4) (by omega)
  have g5 := g4.new (q := 27) (n := 4) b4 (by omega) (by omega)
  have t5 : tg (mal (mst (mal m2 27 4) (nx m0) 3 (nx m2)) 27 4) (nx m0) = 26 := by show (if nx m0 = nx m2 + 1 then 27 else tg (mal m2 27 4) (nx m0)) = 26; rw [if_neg (by omega)]; exact t3
  have b6 := b5.obj (o := nx m0) (f := 4) (v := nx m2 + 1) (by omega)
  have g6 := g5.obj (o := nx m0) (f := 4) (v := nx m2 + 1) b5 (by omega) z0
  have b7 := b6.obj (o := nx m0) (f := 0) (v := o2) (show 15 ≤ tg (mal (mst (mal m2 27 4) (nx m0) 3 (nx m2)) 27 4) (nx m0) ∧ tg (mal (mst (mal m2 27 4) (nx m0) 3 (nx m2)) 27 4) (nx m0) ≤ 29 by omega)
  have g7 := g6.obj (o := nx m0) (f := 0) (v := o2) b6 (show 15 ≤ tg (mal (mst (mal m2 27 4) (nx m0) 3 (nx m2)) 27 4) (nx m0) ∧ tg (mal (mst (mal m2 27 4) (nx m0) 3 (nx m2)) 27 4) (nx m0) ≤ 29 by omega) z0
  have b8 := b7.obj (o := nx m0) (f := 1) (v := l) (show 15 ≤ tg (mal (mst (mal m2 27 4) (nx m0) 3 (nx m2)) 27 4) (nx m0) ∧ tg (mal (mst (mal m2 27 4) (nx m0) 3 (nx m2)) 27 4) (nx m0) ≤ 29 by omega)
  have g8 := g7.obj (o := nx m0) (f := 1) (v := l) b7 (show 15 ≤ tg (mal (mst (mal m2 27 4) (nx m0) 3 (nx m2)) 27 4) (nx m0) ∧ tg (mal (mst (mal m2 27 4) (nx m0) 3 (nx m2)) 27 4) (nx m0) ≤ 29 by omega) z0
  have b9 := b8.obj (o := nx m0) (f := 2) (v := r) (show 15 ≤ tg (mal (mst (mal m2 27 4) (nx m0) 3 (nx m2)) 27 4) (nx m0) ∧ tg (mal (mst (mal m2 27 4) (nx m0) 3 (nx m2)) 27 4) (nx m0) ≤ 29 by omega)
  have g9 := g8.obj (o := nx m0) (f := 2) (v := r) b8 (show 15 ≤ tg (mal (mst (mal m2 27 4) (nx m0) 3 (nx m2)) 27 4) (nx m0) ∧ tg (mal (mst (mal m2 27 4) (nx m0) 3 (nx m2)) 27 4) (nx m0) ≤ 29 by omega) z0
  have e326a : cl (d + 1 - 1) 326 [pR (nx m2)] (mal m2 27 4) = some (.inl none, mal m2 27 4) := by
    refine q326 b3.1.1 _ ?_
    rw [gd_of new_tg.1]
  have e326b : cl (d + 1 - 1) 326 [pR (nx m2 + 1)] (mal (mst (mal m2 27 4) (nx m0) 3 (nx m2)) 27 4) = some (.inl none, mal (mst (mal m2 27 4) (nx m0) 3 (nx m2)) 27 4) := by
    refine q326 b5.1.1 _ ?_
    rw [gd_of (show tg (mal (mst (mal m2 27 4) (nx m0) 3 (nx m2)) 27 4) (nx m2 + 1) = 27 from new_tg.1)]
  have e324 : cl (d + 1) 324 [pR (nx m0), pI o2, pR l, pR r] m2 = some (.inl none, mst (mst (mst (mst (mal (mst (mal m2 27 4) (nx m0) 3 (nx m2)) 27 4) (nx m0) 4 (nx m2 + 1)) (nx m0) 0 o2) (nx m0) 1 l) (nx m0) 2 r) := by
    refine q324 (by omega) z2 _ ?_
    rw [gd_of t2, nw_eq, bV_eq e326a, nw_eq, n4, bV_eq e326b]
  generalize hM : mst (mst (mst (mst (mal (mst (mal m2 27 4) (nx m0) 3 (nx m2)) 27 4) (nx m0) 4 (nx m2 + 1)) (nx m0) 0 o2) (nx m0) 1 l) (nx m0) 2 r = M at *
  have tM : tg M (nx m0) = 26 := by rw [← hM]; exact t5
  have tM3 : tg M (nx m2) = 27 := by
    rw [← hM]
    show (if nx m2 = nx m2 + 1 then 27 else (if nx m2 = nx m2 then 27 else tg m2 (nx m2))) = 27
    rw [if_neg (by omega), if_pos rfl]
  have tM4 : tg M (nx m2 + 1) = 27 := by
    rw [← hM]
    show (if nx m2 + 1 = nx m2 + 1 then 27 else tg (mal m2 27 4) (nx m2 + 1)) = 27
    rw [if_pos rfl]
  have v0 : vl M (nx m0) 0 = o2 := by rw [← hM, vl_mst, if_neg (by omega), vl_mst, if_neg (by omega), vl_mst, if_pos ⟨rfl, rfl⟩]
  have v1 : vl M (nx m0) 1 = l := by rw [← hM, vl_mst, if_neg (by omega), vl_mst, if_pos ⟨rfl, rfl⟩]
  have v2 : vl M (nx m0) 2 = r := by rw [← hM, vl_mst, if_pos ⟨rfl, rfl⟩]
  have v4 : vl M (nx m0) 4 = nx m2 + 1 := by rw [← hM, vl_mst, if_neg (by omega), vl_mst, if_neg (by omega), vl_mst, if_neg (by omega), vl_mst, if_pos ⟨rfl, rfl⟩]
  have v3 : vl M (nx m0) 3 = nx m2 := by
    rw [← hM, vl_mst, if_neg (by omega), vl_mst, if_neg (by omega), vl_mst, if_neg (by omega), vl_mst, if_neg (by omega), vl_mal, if_neg (by rw [n4]; omega), vl_mst, if_pos ⟨rfl, rfl⟩]
  have hq : QKq (fun a => a ≠ nx m0) m2 M := by
    refine ⟨fun a ha => ?_, fun a ha k hk => ?_⟩
    · have h1 : a ≠ nx m2 := fun z => ha (by rw [z]; exact z2 _ (Int.le_refl _))
      have h2 : a ≠ nx m2 + 1 := fun z => ha (by rw [z]; exact z2 _ (by omega))
      rw [← hM]
      exact ⟨by show (if a = nx m2 + 1 then 27 else (if a = nx m2 then 27 else tg m2 a)) = tg m2 a; rw [if_neg h2, if_neg h1], by show (if a = nx m2 + 1 then 4 else (if a = nx m2 then 4 else ln m2 a)) = ln m2 a; rw [if_neg h2, if_neg h1]⟩
    · have ha0 : tg m2 a ≠ 0 := by intro z; rw [z] at hk; omega
      have h1 : a ≠ nx m2 := fun z => ha0 (by rw [z]; exact z2 _ (Int.le_refl _))
      have h2 : a ≠ nx m2 + 1 := fun z => ha0 (by rw [z]; exact z2 _ (by omega))
      rw [← hM, vl_mst, if_neg (fun z => ha z.1), vl_mst, if_neg (fun z => ha z.1), vl_mst, if_neg (fun z => ha z.1), vl_mst, if_neg (fun z => ha z.1), vl_mal, if_neg (by rw [n4]; exact h2), vl_mst, if_neg (fun z => ha z.1), vl_mal, if_neg h1]
  have k0 : QKp m0 (mal m0 26 5) := QKp.refl.mal hz0
  have k2 : QKp m0 m2 := k0.trans a2.1
  have ne0 : ∀ a, nwP m m0 a → a ≠ nx m0 := fun a ha z => ha.2 (by rw [z]; exact hz0 _ (Int.le_refl _))
  have ne1 : ∀ a, nwP (mal m0 26 5) m2 a → a ≠ nx m0 := fun a ha z => by have := ha.1; rw [z, t0] at this; cases this
  obtain ⟨ys, rfl, -⟩ := a2.2.2.2.2.1
  have f1 := CF.keep (ys := ys) (p' := fun _ => l) k2.q (fun _ => rfl) hX
  have f2 := CF.keep (ys := []) (p' := fun _ => l) (hq.imp ne0) (fun _ => rfl) f1
  have f3 := CF.keep (ys := []) (p' := fun _ => r) (hq.imp ne1) (fun _ => rfl) a3
  rw [List.append_nil] at f2 f3
  have tt : ∀ a, tg m2 a ≠ 0 → tg M a ≠ 0 ∧ a ≠ nx m2 ∧ a ≠ nx m2 + 1 := fun a ha => ⟨by rw [(hq.1 a ha).1]; exact ha, fun z => ha (by rw [z]; exact z2 _ (Int.le_refl _)), fun z => ha (by rw [z]; exact z2 _ (by omega))⟩
  have i1 : ∀ a, nwP m m0 a → CP M (nwP m M) (nx m0) (33, o2, [], []) a := fun a ha => by
    have w := tt a (by rw [(k2 a ha.2).1]; exact ha.2)
    exact ⟨⟨ha.1, w.1⟩, fun _ => ⟨by rw [v3]; exact w.2.1, by rw [v4]; exact w.2.2⟩⟩
  have i2 : ∀ a, nwP (mal m0 26 5) m2 a → CP M (nwP m M) (nx m0) (33, o2, [], []) a := fun a ha => by
    have w := tt a ha.2
    refine ⟨⟨?_, w.1⟩, fun _ => ⟨by rw [v3]; exact w.2.1, by rw [v4]; exact w.2.2⟩⟩
    exact (h10.1.trans k0).z a ha.1
  have np : nwP m M (nx m0) := ⟨z0, by rw [tM]; decide⟩
  have hnx : nx m ≤ nx m2 := g2.2.2.1.1
  refine ⟨M, e324, tM, ⟨c', xs1 ++ ys, b9, g9.weak (by omega), ⟨⟨?_, ⟨np, fun w => (by cases w), fun w => (by cases w), fun w => (by rcases w with w | w <;> cases w), fun _ => ⟨by rw [v3]; exact ⟨hz _ hnx, by rw [tM3]; decide⟩, by rw [v4]; exact ⟨hz _ (by omega), by rw [tM4]; decide⟩⟩⟩, ?_⟩, trivial⟩, np⟩⟩
  · rw [CB_33 rfl]
    exact ⟨tM, v0, by rw [v3]; exact tM3, by rw [v4]; exact tM4, by rw [v3, v4]; omega⟩
  · rw [CK_33 rfl]
    refine CF.app ?_ ?_
    · refine CF.cg (fun j hj => ?_) (f2.imp i1)
      rw [hL] at hj
      rw [if_pos (by omega)]; exact v1
    · refine CF.cg (fun j hj => ?_) (f3.imp i2)
      rw [hL]
      rw [if_neg (by omega)]; exact v2
/-- blanks and what closes -/
theorem CO.close {m1 : Mem} {j s o ch : Int} {F : Fo} {f : Mem → RM} (hd : 5 ≤ d) (ho : op ≤ 100) (co : CO T tp e t (op + 1) N m i c xs m1 j s o F) (hp : pk t e (sB t e j) = ch) (h0 : 0 ≤ ch) :
    (bV (cl d 62 [pR T] m1) fun m2 => bV (cl d 89 [pR T, pI ch] m2) f) = f (mst (mst m1 T 2 (sB t e j + 1)) T 5 op) ∧ CO T tp e t op N m i c xs (mst (mst m1 T 2 (sB t e j + 1)) T 5 op) (sB t e j + 1) s o F := by
  obtain ⟨c', xs', a1, a2, a3, a4⟩ := co
  have hr := a1.rng
  have e62 := c62 (d := d) (by omega) a1.1.1 a1.2.2.2.1
  have rj := sB_rng t (e := e) (i := j) hr.2.1
  have h2 := a1.sb
  have hlt2 : sB t e j < e := pkf_lt (t := t) (by omega)
  have e89 := c89_1 (d := d) (by omega) h2 (by omega) hp h0
  rw [mst_mst] at e89
  have h3 := a1.at (j := sB t e j + 1) (by omega) (by omega)
  have h4 := h3.opn (op' := op) (v := (op : Int)) rfl
  have g4 := (a2.at (k := sB t e j + 1) (s' := s) a1 (by omega) (by omega)).opn (v := (op : Int)) h3
  have hT := a1.2.2.1
  have kp : QKp m1 (mst (mst m1 T 2 (sB t e j + 1)) T 5 op) := (QKp.refl.set (Or.inr (by rw [hT]; omega))).set (Or.inr (by show ¬ qOk (tg m1 T) 5; rw [hT]; omega))
  have a3' := CF.keep (ys := []) (p' := fun _ => o) kp.q (fun _ => rfl) a3
  rw [List.append_nil] at a3'
  exact ⟨by rw [bV_eq e62, bV_eq e89], ⟨c', xs', h4, g4, a3', a4⟩⟩
theorem CO.opn {m1 : Mem} {op' : Nat} {j s o ch : Int} {F : Fo} {f : Mem → RM} (hd : 5 ≤ d) (co : CO T tp e t op' N m i c xs m1 j s o F) (hp : pk t e (sB t e j) ≠ ch) (hs : 0 ≤ s) :
    ∃ m', (bV (cl d 62 [pR T] m1) fun m2 => bV (cl d 89 [pR T, pI ch] m2) f) = some (.inr 204, m') ∧ CEr T N m i c e m' (sB t e j) 6 := by
  obtain ⟨c', xs', a1, a2, a3, a4⟩ := co
  have hr := a1.rng
  have e62 := c62 (d := d) (by omega) a1.1.1 a1.2.2.2.1
  have rj := sB_rng t (e := e) (i := j) hr.2.1
  have h2 := a1.sb
  have e89 := c89_0 (d := d) (by omega) h2 hp
  have g2 := a2.at (k := sB t e j) (s' := 0) a1 (by omega) (by omega)
  exact ⟨_, by rw [bV_eq e62, bV_xq e89], (h2.bad0 (p := sB t e j) (u := 6) (by omega)).pre g2 (by omega)⟩
end
section
variable {T tp e N : Int} {t : Int → Int}
/-- a test in parentheses -/
theorem c96 {n : Nat} (H5 : QH T tp e t N n 5 14 (fun d m => cl d 94 [pR T, pI 1, pI 124] m)) : QH T tp e t N (n + 1) 8 10 (fun d m => cl d 96 [pR T] m) := by
  intro d op m i c xs h hL ho hd _ h40
  have h40 := h40 rfl
  unfold dpn at hd
  have hr := h.rng
  have hz := h.1.1
  have hT := h.2.2.1
  have hlt : i < e := pkf_lt (t := t) (by omega)
  show CR 8 T tp e t op N m i c xs (cl d 96 [pR T] m) (sQ t e (n + 1) 8 op false i) 30
  unfold sQ
  rw [if_neg (by decide : ¬ (8 : Nat) = 0), if_neg (by decide : ¬ (8 : Nat) = 1), if_neg (by decide : ¬ (8 : Nat) = 2), if_neg (by decide : ¬ (8 : Nat) = 3), if_neg (by decide : ¬ (8 : Nat) = 4), if_neg (by decide : ¬ (8 : Nat) = 5), if_neg (by decide : ¬ (8 : Nat) = 6), if_neg (by decide : ¬ (8 : Nat) = 7), if_pos (rfl : (8 : Nat) = 8)]
  by_cases h16 : op < 16
  · rw [if_neg (fun z => z h16)]
    have e86 := c86_1 (d := d - 1) (by omega) h hlt h16
    have h1 := h.opn (op' := op + 1) (v := (op : Int) + 1) (by push_cast; rfl)
    have h2 := h1.at (j := i + 1) (by omega) (by omega)
    have rb := sB_rng t (e := e) (i := i + 1) (by omega)
    have e62 := c62 (d := d - 1) (by omega) h2.1.1 h2.2.2.2.1
    have h3 := h2.sb
    rw [mst_mst] at h3 e62
    have g3 := ((CPg.refl h).opn h (v := (op : Int) + 1)).at (k := sB t e (i + 1)) (s' := 40) h1 (by omega) (by omega)
    have key := H5 (d - 2) (op + 1) _ _ _ _ h3 (by omega) (by omega) (by unfold dpn; omega) (fun q => by omega) (fun q => by omega)
    have st : ∀ Q, (bR (cl (d - 1) 93 [pR T] (mst (mst m T 5 ((op : Int) + 1)) T 2 (sB t e (i + 1)))) fun v3 m3 => bV (cl (d - 1) 62 [pR T] m3) fun m4 => bV (cl (d - 1) 89 [pR T, pI 41] m4) fun m5 => some (.inl (some (pR v3)), m5)) = some Q → cl d 96 [pR T] m = some Q := by
      intro Q hQ
      refine q96 (by omega) hz _ ?_
      rw [gd_of hT, bV_eq e86, bV_eq e62]
      exact hQ
    cases hE : sQ t e n 5 (op + 1) false (sB t e (i + 1)) with
    | none => exact CR.no
    | some y =>
      rw [hE] at key
      rcases y with p | ⟨L, j⟩
      · obtain ⟨m', e1, ce⟩ := key.2 p rfl
        have e93 := c93_94 (d := d - 1) (by omega) h3 (fun z q => (by cases q)) (by intro q; cases q) (show cl (d - 1 - 1) 94 [pR T, pI 1, pI 124] _ = some (.inr 204, m') from e1)
        exact CR.inl (st _ (by rw [bR_xq e93])) (ce.pre g3 (by rw [if_neg (by decide)]; omega))
      · obtain ⟨m', x, j', e1, tc, pl, co, hc⟩ := key.1 L j rfl
        have hrg := sQ_rng (t := t) n 5 (op + 1) false (sB t e (i + 1)) L j rb.2 (fun z => by omega) hE
        have pl' := plc_any pl hrg.2.1
        have e93 := c93_94 (d := d - 1) (by omega) h3 (fun z q => by cases q; exact ⟨x, rfl⟩) (by intro q; cases q) (show cl (d - 1 - 1) 94 [pR T, pI 1, pI 124] _ = some (.inl (some (pR x)), m') from e1)
        have co1 := CO.pre g3 co
        rw [wrQ5] at co1
        show CR 8 T tp e t op N m i c xs _ (if pk t e (sB t e j) = 41 then qN 30 0 [] L (sB t e j + 1) else qE (sB t e j)) 30
        by_cases q41 : pk t e (sB t e j) = 41
        · rw [if_pos q41]
          obtain ⟨k1, k2⟩ := CO.close (d := d - 1) (ch := 41) (f := fun m5 => some (.inl (some (pR x)), m5)) (by omega) (by omega) co1 (by rw [pl'.2.2]; exact q41) (by decide)
          rw [pl'.2.2] at k1 k2
          have rj := k2
          refine CR.inr (st _ (by rw [bR_eq e93]; exact k1)) ?_ ?_ (k2.weak (by omega)) rfl
          · exact cls_any (mo := 5) tc (by omega) (by omega)
          · obtain ⟨cc, xx, a1, -⟩ := k2
            exact plc_ex a1.rng.2.1
        · rw [if_neg q41]
          obtain ⟨m9, k1, k2⟩ := CO.opn (d := d - 1) (ch := 41) (f := fun m5 => some (.inl (some (pR x)), m5)) (by omega) co1 (by rw [pl'.2.2]; exact q41) (by omega)
          rw [pl'.2.2] at k2
          exact CR.inl (st _ (by rw [bR_eq e93]; exact k1)) (k2.weak (by omega))
  · rw [if_pos h16]
    have e86 := c86_0 (d := d - 1) (by omega) h h16
    refine CR.inl (q96 (by omega) hz _ ?_) (h.bad0 (p := i) (by omega))
    rw [gd_of hT, bV_xq e86]
/-- a comparison behind its left side -/
theorem c100 {n d op : Nat} {m m1 : Mem} {i c j s1 l : Int} {xs : List Int} {L : Fo} (H10 : QH T tp e t N n 10 9 (fun d m => cl d 98 [pR T] m)) (hd : dpn op 10 ≤ d) (ho : op ≤ 16) (hz : TZ m) (hl : CO T tp e t op N m i c xs m1 j s1 l L) (hL : cntF L = 1) (hs : 15 ≤ s1) (hlen : (xs.length : Int) + 3 * (e - i) ≤ 5900) : CR 7 T tp e t op N m i c xs (cl d 100 [pR T, pR l] m1) (match sOp t e (sB t e j) with
    | .inl p => qE p
    | .inr (o, k) => bnd (sQ t e n 10 op false (sB t e k)) fun R q => qN 33 o [] (fapp L R) q) 30 := by
  unfold dpn at hd
  have hl0 := hl
  obtain ⟨c', xs', a1, a2, a3, a4⟩ := hl
  have hr := a1.rng
  have hT := a1.2.2.1
  have rj := sB_rng t (e := e) (i := j) hr.2.1
  have e62 := c62 (d := d - 1) (by omega) a1.1.1 a1.2.2.2.1
  have h1 := a1.sb
  obtain ⟨s2, s3⟩ := c101 (d := d - 1) (by omega) h1
  cases hO : sOp t e (sB t e j) with
  | inl p =>
    obtain ⟨k, k0, k1, e101⟩ := s3 p hO
    have g1 := a2.at (k := sB t e j) (s' := s1) a1 rj.1 (by omega)
    refine CR.inl (q100 (by omega) a1.1.1 _ ?_) ((h1.bad (j := k) (p := p) (u := 6) (by omega)).pre g1 (by omega))
    rw [gd_of hT, bV_eq e62, bI_xq e101]
  | inr y =>
    obtain ⟨o2, k⟩ := y
    have e101 := s2 o2 k hO
    have rk := sOp_rng rj.2 hO
    have h2 := h1.at (j := k) (by omega) rk.2.1
    rw [mst_mst] at e101 h2
    have r2 := sB_rng t (e := e) (i := k) rk.2.1
    have e622 := c62 (d := d - 1) (by omega) h2.1.1 h2.2.2.2.1
    have h3 := h2.sb
    rw [mst_mst] at e622 h3
    have g3 := a2.at (k := sB t e k) (s' := s1 + 40) a1 (by omega) (by omega)
    have kp : QKp m1 (mst m1 T 2 (sB t e k)) := QKp.refl.set (Or.inr (by rw [hT]; omega))
    have f3 : CF (mst m1 T 2 (sB t e k)) N xs' (nwP m (mst m1 T 2 (sB t e k))) (fun _ => l) L := by
      have w := CF.keep (ys := []) (p' := fun _ => l) kp.q (fun _ => rfl) a3
      rw [List.append_nil] at w
      exact w
    generalize hM3 : mst m1 T 2 (sB t e k) = M3 at *
    have hn := h3.new (q := 26) (n := 5) (by omega)
    have gn := g3.new (q := 26) (n := 5) h3 (by omega) (by omega)
    have hxl : (xs'.length : Int) + 3 * (e - sB t e k) ≤ 5900 := by
      obtain ⟨-, -, -, -, ⟨ys, rfl, p5⟩, -⟩ := g3
      rw [List.length_append]; push_cast; omega
    have key := H10 (d - 1) op _ _ _ _ hn hxl ho (by unfold dpn; omega) (fun q => by omega) (fun q => by omega)
    have st : ∀ Q, (bR (cl (d - 1) 98 [pR T] (mal M3 26 5)) fun v5 m5 => bV (cl (d - 1) 324 [pR (nx M3), pI o2, pR l, pR v5] m5) fun m6 => some (.inl (some (pR (nx M3))), m6)) = some Q → cl d 100 [pR T, pR l] m1 = some Q := by
      intro Q hQ
      refine q100 (by omega) a1.1.1 _ ?_
      rw [gd_of hT, bV_eq e62, bI_eq e101, bV_eq e622, nw_eq]
      exact hQ
    show CR 7 T tp e t op N m i c xs _ (bnd (sQ t e n 10 op false (sB t e k)) fun R q => qN 33 o2 [] (fapp L R) q) 30
    cases hE : sQ t e n 10 op false (sB t e k) with
    | none => exact CR.no
    | some y =>
      rw [hE] at key
      rcases y with p | ⟨R, q⟩
      · obtain ⟨m', e1, ce⟩ := key.2 p rfl
        exact CR.inl (st _ (by rw [bR_xq e1])) (ce.pre gn (by rw [if_pos rfl]; omega))
      · obtain ⟨m2, r, j', e1, tc, pl, co, hR⟩ := key.1 R q rfl
        have hjq : j' = q := by unfold plc at pl; rwa [if_neg (by decide)] at pl
        subst hjq
        rw [wrQ10] at co hR
        obtain ⟨M, e324, tM, cof⟩ := cmp_CO (d := d - 2) (o2 := o2) hz h3 g3 f3 hL co hR (by omega)
        rw [show d - 2 + 1 = d - 1 by omega] at e324
        have hq : j' ≤ e := by obtain ⟨cc, xx, b1, -⟩ := co; exact b1.rng.2.1
        refine CR.inr (st _ (by rw [bR_eq e1, bV_eq e324])) ?_ (plc_ex hq) ?_ rfl
        · exact mk_cls7 (by omega)
        · rw [wrQ7]; exact cof
end
