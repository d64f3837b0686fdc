/-! queries read by the twin: rows without any below -/
set_option maxRecDepth 100000
set_option maxHeartbeats 4000000
section
variable {g en : RF} {us : List Int}
/-- a row without any below -/
theorem gI.leaf {w : Bool} {c : Int} {d : ND} {P : Int → Prop} (hk : d.1 ≤ 4 ∨ (40 ≤ d.1 ∧ d.1 ≤ 44)) (h : gB g en us c d foN) : gI g en us w P c d foN := by
  have hu : unw g w d.1 c = c := by unfold unw; rw [if_neg (fun z => by omega)]
  exact ⟨fun z => absurd z.2 (by omega), by rw [hu]; exact h, trivial⟩
theorem gB.nm {x : Int} {k : Nat} {v : Int} {un : List Int} (hk : k = 1 ∨ k = 41) (h0 : g x 0 = k) (h1 : At us (g x 2) un) (h2 : g x 3 = un.length) (h3 : wfU un) (h4 : sur un) : gB g en us x (k, v, un, []) foN :=
  ⟨h0, fun _ => ⟨h1, h2, h3, h4⟩, fun z => absurd (show k = 3 ∨ k = 40 from z) (by omega), fun z => absurd (show k = 4 from z) (by omega), fun z => absurd (show k = 20 from z) (by omega), fun z => absurd (show k = 21 from z) (by omega), fun z => absurd (show k = 30 ∨ k = 31 from z) (by omega), fun z => absurd (show k = 33 from z) (by omega)⟩
theorem gB.nu {x v : Int} {k : Nat} (hk : k = 3 ∨ k = 40) (h0 : g x 0 = k) (h1 : en x 0 = v) : gB g en us x (k, v, [], []) foN :=
  ⟨h0, fun z => absurd (show k = 1 ∨ k = 41 from z) (by omega), fun _ => h1, fun z => absurd (show k = 4 from z) (by omega), fun z => absurd (show k = 20 from z) (by omega), fun z => absurd (show k = 21 from z) (by omega), fun z => absurd (show k = 30 ∨ k = 31 from z) (by omega), fun z => absurd (show k = 33 from z) (by omega)⟩
theorem gB.pl {x v : Int} {k : Nat} {un : List Int} (hk : k = 2 ∨ k = 42 ∨ k = 43 ∨ k = 44) (h0 : g x 0 = k) : gB g en us x (k, v, un, []) foN :=
  ⟨h0, fun z => absurd (show k = 1 ∨ k = 41 from z) (by omega), fun z => absurd (show k = 3 ∨ k = 40 from z) (by omega), fun z => absurd (show k = 4 from z) (by omega), fun z => absurd (show k = 20 from z) (by omega), fun z => absurd (show k = 21 from z) (by omega), fun z => absurd (show k = 30 ∨ k = 31 from z) (by omega), fun z => absurd (show k = 33 from z) (by omega)⟩
theorem gB.sl {x hs s he e st sp : Int} (h0 : g x 0 = 4) (h1 : hs = 0 ∨ hs = 1) (h2 : he = 0 ∨ he = 1) (h3 : st = 0 ∨ st = 1) (h4 : g x 2 = hs + 2 * he + 4 * st) (h5 : hs = 1 → en x 0 = s) (h6 : he = 1 → en x 1 = e) (h7 : st = 1 → en x 2 = sp) (h8 : st = 0 → sp = 1) : gB g en us x (4, 0, [hs, s, he, e, sp], []) foN :=
  ⟨h0, fun z => absurd (show (4 : Nat) = 1 ∨ (4 : Nat) = 41 from z) (by omega), fun z => absurd (show (4 : Nat) = 3 ∨ (4 : Nat) = 40 from z) (by omega), fun _ => ⟨hs, s, he, e, st, sp, rfl, h1, h2, h3, h4, h5, h6, h7, h8⟩, fun z => absurd (show (4 : Nat) = 20 from z) (by omega), fun z => absurd (show (4 : Nat) = 21 from z) (by omega), fun z => absurd (show (4 : Nat) = 30 ∨ (4 : Nat) = 31 from z) (by omega), fun z => absurd (show (4 : Nat) = 33 from z) (by omega)⟩
end
section
variable {d op : Nat} {m : Mem} {M tp e i S k C K : Int} {t : Int → Int} {us : List Int}
/-- a call that puts units into the tree of what was said -/
theorem QT.un {q : Nat} {as : List PV} {r : Rs} {m' : Mem} {vs : List Int} (h : QT m M tp e i t op S k us C K) (e1 : cl d q as m = some (r, m')) (hY : YQ S 0 C m (us ++ vs) m') (h1 : rqN (eM q) = true) (h4 : scN (eM q) = true) (h5 : Nat.testBit (eM q) (bix 11 31) = false) : Qr m' M S k (us ++ vs) C K ∧ SYQ m' ∧ vl m' M 31 = op ∧ (∀ b, QP b m M S k us K m' k (us ++ vs) K) ∧ rv m' M = rv m M ∧ ev m' M = ev m M := by
  have f := cl_FRM e1
  obtain ⟨⟨a1, a2, a3, a4, a5, a6⟩, a7, a8, a9⟩ := h
  obtain ⟨y1, y2, y3, y4, y5⟩ := hY
  obtain ⟨b1, b2, b3, b4⟩ := a3.fr f a1.1 h1
  obtain ⟨w1, w2, w3⟩ := y3
  have hn := f.1.2.1
  exact ⟨⟨a1.fr f, y2.1, b1, by rw [b4]; exact a4, y1, y5⟩, a8.fr f a1.1 h4, by rw [vl_of f a1.1 a3.1 (by decide) h5]; exact a9, fun b => ⟨y2, by rw [b2, b3]; exact AG.refl, ⟨vs, rfl⟩, Int.le_refl _, ⟨hn, by omega, by omega⟩, ⟨w1, by omega⟩, by omega⟩, b2, b3⟩
theorem QT.said (h : QT m M tp e i t op S k us C K) : vl m M 30 = S ∧ tg m S = 13 ∧ vl m S 12 = us.length := ⟨h.1.2.2.2.1, h.tw.1, h.tw.2.2.2.2.2.1⟩
/-- what stands in quotes -/
theorem c203q {q : Int} (hd : 7 ≤ d) (hB : tB t e) (h : QT m M tp e i t op S k us C K) (hk : k ≤ 19500) (hq : pk t e i = q) (hq2 : q = 39 ∨ q = 34) (hL : (us.length : Int) + (e - i) ≤ 39900) :
    (∀ vs j, sS t e q (i + 1) = .inr (vs, j) → ∃ m', cl d 203 [pR M, pI q, pR S] m = some (.inl (some (pI 1)), m') ∧ QT m' M tp e j t op S k (us ++ vs) C K ∧ (∀ b, QP b m M S k us K m' k (us ++ vs) K) ∧ rv m' M = rv m M ∧ ev m' M = ev m M ∧ i + 1 < j ∧ j ≤ e ∧ (vs.length : Int) ≤ j - i - 2 ∧ wfU vs ∧ sur vs) ∧
    (∀ p, sS t e q (i + 1) = .inl p → ∃ m', cl d 203 [pR M, pI q, pR S] m = some (.inl (some (pI 0)), m') ∧ QE m M S k us C K m' p) := by
  obtain ⟨s1, s2⟩ := c203 (d := d) (q := q) (n := 0) (C := C) (tr := S) hd (by omega) hB h.1.1 h.1.2.1 h.2.1 h.2.2.1.1.2.2.2 h.tw h.1.2.2.2.2.2 (by omega) hq
  have hr := h.rng
  refine ⟨fun vs j hE => ?_, fun p hE => ?_⟩
  · obtain ⟨b1, b2, b3, m', e1, b4, b5⟩ := s1 vs j hE
    obtain ⟨c1, c2, c3, c4, c5, c6⟩ := h.un e1 b5 (by rfl) (by rfl) (by rfl)
    have hwf : wfU vs := fun u hu => b5.2.2.2.2 u (List.mem_append_right _ hu)
    exact ⟨m', e1, ⟨c1, b4, c2, c3⟩, c4, c5, c6, b1, b2, b3, hwf, sS_sur (by omega) hE⟩
  · obtain ⟨m', vs, e1, b1, b2, b3⟩ := s2 p hE
    obtain ⟨c1, c2, c3, c4, c5, c6⟩ := h.un e1 b2 (by rfl) (by rfl) (by rfl)
    exact ⟨m', e1, b1, k, _, K, c1, c4 0, hk, by rw [List.length_append]; push_cast; omega⟩
/-- a name or string in quotes, with its row -/
theorem row_q {kd : Nat} {q : Int} (hd : 7 ≤ d) (hB : tB t e) (hkd : kd = 1 ∨ kd = 41) (h : QT m M tp e i t op S k us C K) (hk : k ≤ 19000) (hq : pk t e i = q) (hq2 : q = 39 ∨ q = 34) (hL : (us.length : Int) + (e - i) ≤ 39900) {w : Bool} {s : Int} (hs : s ≤ 7) {Q : RM}
    (hQ : ∀ Z, (bI (cl d 245 [pR M, pI kd] m) fun v1 m1 => nm (vl m1 M 30) fun v6 => gd (tg m1 v6 = 13) <| bV (cl d 246 [pR M, pI v1, pI 2, pI (vl m1 v6 12)] m1) fun m2 => bI (cl d 203 [pR M, pI q, pR (vl m2 M 30)] m2) fun v3 m3 => if v3 = 0 then (some (.inl (some (pI (-1))), m3)) else nm (vl m3 M 30) fun v7 => gd (tg m3 v7 = 13) <| bI (cl d 251 [pR M, pI v1, pI 2] m3) fun v4 m4 => bV (cl d 246 [pR M, pI v1, pI 3, pI (w32 ((vl m3 v7 12) - v4))] m4) fun m5 => some (.inl (some (pI v1)), m5)) = some Z → Q = some Z) :
    RD w M tp e t op S C m i k us K Q (match sS t e q (i + 1) with
        | .inl p => qE p
        | .inr (un, j) => qN kd 0 un foN j) s := by
  have hr := h.rng
  have hkK := h.kK
  obtain ⟨m1, m2, K', K1, e1, h1, e2, h2, p2, r2⟩ := h.row2 (kd := kd) (f := 2) (v := us.length) (by omega) (by omega)
  obtain ⟨s1, s2, s3⟩ := h1.said
  obtain ⟨s4, s5, s6⟩ := h2.said
  obtain ⟨q1, q2⟩ := c203q (d := d) hd hB h2 (by omega) hq hq2 hL
  have st : ∀ Z, (bI (cl d 203 [pR M, pI q, pR S] m2) fun v3 m3 => if v3 = 0 then (some (.inl (some (pI (-1))), m3)) else nm (vl m3 M 30) fun v7 => gd (tg m3 v7 = 13) <| bI (cl d 251 [pR M, pI k, pI 2] m3) fun v4 m4 => bV (cl d 246 [pR M, pI k, pI 3, pI (w32 ((vl m3 v7 12) - v4))] m4) fun m5 => some (.inl (some (pI k)), m5)) = some Z → Q = some Z := fun Z hZ => hQ Z (by
    rw [bI_eq (e1 d), nm_eq, s1, gd_of s2, s3, bV_eq (e2 d), s4]; exact hZ)
  cases hE : sS t e q (i + 1) with
  | inl p =>
    obtain ⟨m3, e3, ce⟩ := q2 p hE
    exact RD.inl (st _ (by rw [bI_eq e3, if_pos rfl])) (ce.pre p2 (by omega) h.tw h2.tw)
  | inr x =>
    obtain ⟨un, j⟩ := x
    obtain ⟨m3, e3, h3, p3, r3, l3, j1, j2, j3, wu, su⟩ := q1 un j hE
    obtain ⟨t4, t5, t6⟩ := h3.said
    have e4 := c251 (d := d) (r := k) (f := 2) h3 (by omega) (by omega)
    have rk2 : rv m3 M k 2 = us.length := by rw [r3, r2 2 (by omega) (by omega), if_pos rfl]
    have e5 := c246 (d := d) (r := k) (f := 3) (v := un.length) h3 (by omega) (by omega)
    obtain ⟨h5, p5, r5, l5⟩ := h3.set (r := k) (f := 3) (v := un.length) (by omega) (by omega)
    have ew : w32 (vl m3 S 12 - rv m3 M k 2) = un.length := by
      rw [t6, rk2, List.length_append, w32_of (by push_cast; omega) (by push_cast; omega)]; push_cast; omega
    have rr : ∀ g, 0 ≤ g → g < 8 → rv (mst m3 (vl m3 M 27) (8 * k + 3) un.length) M k g = if g = 3 then (un.length : Int) else if g = 2 then (us.length : Int) else if g = 0 then (kd : Int) else -1 := fun g g0 g1 => by
      rw [r5 k g g0 g1, r3, r2 g g0 g1]
      by_cases z : g = 3
      · rw [if_pos ⟨rfl, z⟩, if_pos z]
      · rw [if_neg (fun y => z y.2), if_neg z]
    refine RD.inr (st _ ?_) h5 ((p2.trans (p3 k) (Int.le_refl _) h.tw h2.tw).trans (p5 k (Int.le_refl _)) (Int.le_refl _) h.tw h3.tw) (by omega) (by rw [List.length_append]; push_cast; omega) ⟨Int.le_refl _, by omega⟩ (gI.leaf (by show kd ≤ 4 ∨ (40 ≤ kd ∧ kd ≤ 44); omega) (gB.nm hkd (by rw [rr 0 (by omega) (by omega)]; rfl) ?_ (by rw [rr 3 (by omega) (by omega)]; rfl) wu su)) (fun _ => ⟨by show kd ≠ 21; omega, by rw [rr 1 (by omega) (by omega)]; rfl⟩)
    · rw [bI_eq e3, if_neg (by decide), nm_eq, t4, gd_of t5, bI_eq e4, ew, bV_eq e5]
    · rw [rr 2 (by omega) (by omega)]
      exact At.end
end
