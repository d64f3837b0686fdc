/-! the disk: a child goes back under its parent -/
set_option maxRecDepth 100000
set_option maxHeartbeats 4000000
theorem ents_app (A B : CH) : ents (A ++ B) = ents A ++ ents B := by unfold ents; exact List.map_append
theorem ents_cons (x : Int × DL × List Int) (B : CH) : ents (x :: B) = (hdId x.2.1, x.1) :: ents B := rfl
/-- children as they should be: read from c, their blocks marked -/
def CHK (c : RF) (u : List Int) (h : Nat) (Q : CH) : Prop := chV c h Q ∧ (∀ b ∈ flB Q, b ∈ u ∧ 2 ≤ b ∧ b < 1600) ∧ (flB Q).Nodup ∧ ∀ z ∈ flL Q, 0 ≤ z.1 ∧ z.1 < 10000
theorem CHK.app {c : RF} {u : List Int} {h : Nat} {A B : CH} : CHK c u h (A ++ B) ↔ CHK c u h A ∧ CHK c u h B ∧ ∀ x ∈ flB A, ∀ y ∈ flB B, x ≠ y := by
  unfold CHK
  rw [flB_app, flL_app, List.nodup_append]
  constructor
  · rintro ⟨h1, h2, ⟨h3, h4, h5⟩, h6⟩
    exact ⟨⟨fun x hx => h1 x (List.mem_append_left _ hx), fun b hb => h2 b (List.mem_append_left _ hb), h3, fun z hz => h6 z (List.mem_append_left _ hz)⟩, ⟨fun x hx => h1 x (List.mem_append_right _ hx), fun b hb => h2 b (List.mem_append_right _ hb), h4, fun z hz => h6 z (List.mem_append_right _ hz)⟩, h5⟩
  · rintro ⟨⟨a1, a2, a3, a4⟩, ⟨b1, b2, b3, b4⟩, h5⟩
    exact ⟨fun x hx => (List.mem_append.mp hx).elim (a1 x) (b1 x), fun x hx => (List.mem_append.mp hx).elim (a2 x) (b2 x), ⟨a3, b3, h5⟩, fun x hx => (List.mem_append.mp hx).elim (a4 x) (b4 x)⟩
theorem CHK.cg {c c' : RF} {u u' : List Int} {h : Nat} {Q : CH} (H : CHK c u h Q) (hc : ∀ x ∈ u, c' x = c x) (hu : ∀ x ∈ u, x ∈ u') : CHK c' u' h Q := by
  obtain ⟨h1, h2, h3, h4⟩ := H
  refine ⟨fun x hx => (h1 x hx).cg fun b hb j _ _ => ?_, fun b hb => ⟨hu b (h2 b hb).1, (h2 b hb).2⟩, h3, h4⟩
  rw [hc b (h2 b (List.mem_flatMap.mpr ⟨x, hx, hb⟩)).1]
/-- a node's children become one child -/
theorem CHK.up {c : RF} {u : List Int} {h : Nat} {Q : CH} {b : Int} (H : CHK c u h Q) (hb : bNode (c b) (h == 0) (ents Q)) (hl : 3 ≤ Q.length ∧ Q.length ≤ 8) (hu : b ∈ u) (hr : 2 ≤ b ∧ b < 1600) (hn : b ∉ flB Q) : CHK c u (h + 1) [(b, flL Q, b :: flB Q)] := by
  obtain ⟨h1, h2, h3, h4⟩ := H
  have eB : flB [(b, flL Q, b :: flB Q)] = b :: flB Q := by rw [flB_cons]; exact List.append_nil _
  have eL : flL [(b, flL Q, b :: flB Q)] = flL Q := by rw [flL_cons]; exact List.append_nil _
  refine ⟨fun x hx => ?_, fun x hx => ?_, ?_, ?_⟩
  · rw [List.mem_singleton.mp hx]
    exact ⟨Q, hb, rfl, rfl, hl, h1⟩
  · rw [eB] at hx
    rcases List.mem_cons.mp hx with q | q
    · rw [q]; exact ⟨hu, hr⟩
    · exact h2 x q
  · rw [eB]; exact List.nodup_cons.mpr ⟨hn, h3⟩
  · rw [eL]; exact h4
theorem flL_ne {c : RF} {h : Nat} {x : Int × DL × List Int} {Q : CH} (hv : chV c h (x :: Q)) : hdId (flL (x :: Q)) = hdId x.2.1 := by
  have := (hv x List.mem_cons_self).ne
  rw [flL_cons]
  cases hx : x.2.1 with
  | nil => exact absurd hx this
  | cons y l => rfl
theorem ND1.at {m : Mem} {p : Int} {lf : Bool} {es : List (Int × Int)} (h : ND1 m p lf es) {k : Nat} {e : Int × Int} (he : es[k]? = some e) : (vl m (vl m p 1) k = e.1 ∧ vl m (vl m p 2) k = e.2) ∧ ((0 : Int) ≤ (k : Int) ∧ (k : Int) < ln m (vl m p 1)) ∧ (0 : Int) ≤ (k : Int) ∧ (k : Int) < ln m (vl m p 2) := by
  have hk : k < es.length := (List.getElem?_eq_some_iff.mp he).1
  obtain ⟨a1, a2, a3, a4, a5, a6⟩ := h
  have y1 : gi (es.map (·.1)) k = e.1 := by unfold gi; rw [Int.toNat_natCast, List.getD_eq_getElem?_getD, List.getElem?_map, he]; rfl
  have y2 : gi (es.map (·.2)) k = e.2 := by unfold gi; rw [Int.toNat_natCast, List.getD_eq_getElem?_getD, List.getElem?_map, he]; rfl
  rw [a1.2.1.2, a1.2.2.1.2]
  exact ⟨⟨by rw [a5 k (by omega) (by omega)]; exact y1, by rw [a6 k (by omega) (by omega)]; exact y2⟩, by omega, by omega⟩
/-- a node is cut short -/
theorem ND1.cut {m : Mem} {p : Int} {lf : Bool} {A B : List (Int × Int)} (h : ND1 m p lf (A ++ B)) : ND1 (mst m p 3 A.length) p lf A := by
  obtain ⟨n1, n2⟩ := h.1.ne
  obtain ⟨⟨a1, a2, a3, a4⟩, a5, a6, a7, a8, a9⟩ := h
  have g : ∀ f, f ≠ 3 → vl (mst m p 3 A.length) p f = vl m p f := fun f hf => by rw [vl_mst, if_neg (fun z => hf z.2)]
  rw [List.length_append] at a7 a8 a9
  push_cast at a7 a8 a9
  refine ⟨⟨a1, by rw [g 1 (by decide)]; exact a2, by rw [g 2 (by decide)]; exact a3, by rw [g 1 (by decide), g 2 (by decide)]; exact a4⟩, by rw [g 0 (by decide)]; exact a5, by rw [vl_mst, if_pos ⟨rfl, rfl⟩], by omega, fun i i0 i1 => ?_, fun i i0 i1 => ?_⟩
  · rw [g 1 (by decide), vl_mst, if_neg (fun z => n1 z.1.symm), a8 i i0 (by omega), List.map_append, gi_app_l i0 (by rw [List.length_map]; omega)]
  · rw [g 2 (by decide), vl_mst, if_neg (fun z => n2 z.1.symm), a9 i i0 (by omega), List.map_append, gi_app_l i0 (by rw [List.length_map]; omega)]
section
variable {d : Nat} {K : Int} {c c' : RF} {sg u ns : List Int} {cnt : Nat}
theorem DOR.kp {S : Int → Prop} {a b : Nat} {m m' : Mem} {c'' : RF} {sg' u' ns' : List Int} {cnt' : Nat} (h : DOR K c c' sg u ns cnt S a b m m' c'' sg' u' ns' cnt') {q : Int} (hq : q ∈ ns.take cnt) (hS : ¬ S q) {lf : Bool} {es : List (Int × Int)} (hn : ND1 m q lf es) : ND1 m' q lf es := h.2.2.2.2.1 q hq hS lf es hn
theorem DOR.mem {S : Int → Prop} {a b : Nat} {m m' : Mem} {c'' : RF} {sg' u' ns' : List Int} {cnt' : Nat} (h : DOR K c c' sg u ns cnt S a b m m' c'' sg' u' ns' cnt') {q : Int} (hq : q ∈ ns.take cnt) : q ∈ ns'.take cnt' := by
  have h1 := h.2.2.2.1
  have h2 := h.2.2.1.2.2.1
  rw [← h1] at hq
  have : (ns'.take cnt').take cnt = ns'.take cnt := by rw [List.take_take, Nat.min_eq_left h2]
  rw [← this] at hq
  exact List.mem_of_mem_take hq
theorem DOR.chk {S : Int → Prop} {a b : Nat} {m m' : Mem} {c'' : RF} {sg' u' ns' : List Int} {cnt' : Nat} (h : DOR K c c' sg u ns cnt S a b m m' c'' sg' u' ns' cnt') {hh : Nat} {Q : CH} (H : CHK c' u hh Q) : CHK c'' u' hh Q := H.cg h.2.1.1 h.2.1.2
theorem c300_op {m : Mem} {n id bk : Int} {lf : Bool} {A B : List (Int × Int)} (h : DSt m K c c' sg u ns cnt) (hp : n ∈ ns.take cnt) (hn : ND1 m n lf (A ++ B)) (hl : (A.length : Int) + B.length < 18) : ∃ m', cl d 300 [pR n, pI A.length, pI id, pI bk] m = some (.inl none, m') ∧ DOR K c c' sg u ns cnt (fun x => x = n) 0 0 m m' c' sg u ns cnt ∧ ND1 m' n lf (A ++ (id, bk) :: B) := by
  obtain ⟨m', e, k, n1, g⟩ := c300 (d := d) (id := id) (bk := bk) h.1.1 hn hl
  exact ⟨m', e, DOR.nd h (List.mem_of_mem_take hp) k (g 1 (by decide)) (g 2 (by decide)) (fun _ => rfl), n1⟩
theorem c301_op {m : Mem} {n : Int} {lf : Bool} {A B : List (Int × Int)} {x : Int × Int} (h : DSt m K c c' sg u ns cnt) (hp : n ∈ ns.take cnt) (hn : ND1 m n lf (A ++ x :: B)) : ∃ m', cl d 301 [pR n, pI A.length] m = some (.inl none, m') ∧ DOR K c c' sg u ns cnt (fun x => x = n) 0 0 m m' c' sg u ns cnt ∧ ND1 m' n lf (A ++ B) := by
  obtain ⟨m', e, k, n1, g⟩ := c301 (d := d) h.1.1 hn
  exact ⟨m', e, DOR.nd h (List.mem_of_mem_take hp) k (g 1 (by decide)) (g 2 (by decide)) (fun _ => rfl), n1⟩
theorem hdId_rng {L : DL} (h : ∀ z ∈ L, 0 ≤ z.1 ∧ z.1 < 10000) : 0 ≤ hdId L ∧ hdId L < 10000 := by
  cases L with
  | nil => exact ⟨by decide, by decide⟩
  | cons x L => exact h x List.mem_cons_self
theorem ents_rng {u : List Int} {hh : Nat} {Q : CH} (H : CHK c u hh Q) : ∀ e ∈ ents Q, (0 ≤ e.1 ∧ e.1 < 10000) ∧ 2 ≤ e.2 ∧ e.2 < 1600 := by
  intro e he
  obtain ⟨x, hx, rfl⟩ := List.mem_map.mp he
  obtain ⟨h1, h2, h3, h4⟩ := H
  refine ⟨hdId_rng fun z hz => h4 z (List.mem_flatMap.mpr ⟨x, hx, hz⟩), ?_⟩
  obtain ⟨t, ht⟩ := (h1 x hx).vb.hd
  exact (h2 x.1 (List.mem_flatMap.mpr ⟨x, hx, by rw [ht]; exact List.mem_cons_self⟩)).2
/-- a node with its children is written -/
theorem c176_op {m : Mem} {p : Int} {hh : Nat} {Q : CH} (hd : 5 ≤ d) (hl : sg.length < 64) (hu : u.length ≤ 1500) (h : DSt m K c c' sg u ns cnt) (hn : ND1 m p (hh == 0) (ents Q)) (H : CHK c' u hh Q) (hQ : 3 ≤ Q.length ∧ Q.length ≤ 8) : ∃ m' b c'', cl d 176 [pR K, pR p] m = some (.inl (some (pI b)), m') ∧ DOR K c c' sg u ns cnt (fun _ => False) 1 0 m m' c'' (sg ++ [b]) (b :: u) ns cnt ∧ b ∉ u ∧ CHK c'' (b :: u) (hh + 1) [(b, flL Q, b :: flB Q)] := by
  have er := ents_rng H
  obtain ⟨m', b, c'', e1, o1, hb, hr, hB⟩ := (c176 (d := d) hd hl hu (by rw [ents_len]; exact hQ.2) (fun e he => by have := er e he; omega) h hn).op h.2.1
  exact ⟨m', b, c'', e1, o1, hb, (o1.chk H).up hB hQ List.mem_cons_self hr fun z => hb (H.2.1 b z).1⟩
/-- what comes of putting a child back -/
def BCK (m : Mem) (K n q : Int) (c c' : RF) (sg u ns : List Int) (cnt : Nat) (hh : Nat) (P1 P2 Q : CH) (X : RM) : Prop := ∃ m' c'' sg' u' ns' cnt' R, X = some (.inl none, m') ∧ DOR K c c' sg u ns cnt (fun x => x = n ∨ x = q) 2 1 m m' c'' sg' u' ns' cnt' ∧ ND1 m' n false (ents (P1 ++ (R ++ P2))) ∧ (1 ≤ R.length ∧ R.length ≤ 2 ∧ (R.length = 2 ↔ 8 < Q.length)) ∧ flL R = flL Q ∧ CHK c'' u' (hh + 1) R ∧ ∀ b ∈ flB R, b ∈ flB Q ∨ b ∉ u
theorem c175_48 {n k q r : Int} {lf : Bool} {v : Int} {Q1 : CH} (hd : 1 ≤ d) (hqr : q ≠ r) : ∀ (rest done : CH) (m : Mem), DSt m K c c' sg u ns cnt → q ∈ ns.take cnt → r ∈ ns.take cnt → ND1 m q lf (ents (Q1 ++ (done ++ rest))) → ND1 m r lf (ents done) → (Q1.length : Int) + done.length + rest.length < 18 → ∃ m', (∀ Z, rn d 175 48 [pR K, pR n, pI k, pR q, pI v, pR r, pI ((Q1.length : Int) + done.length + rest.length)] [] m' = some Z → rn d 175 48 [pR K, pR n, pI k, pR q, pI v, pR r, pI ((Q1.length : Int) + done.length)] [] m = some Z) ∧ DOR K c c' sg u ns cnt (fun x => x = r) 0 0 m m' c' sg u ns cnt ∧ ND1 m' r lf (ents (done ++ rest)) := by
  intro rest
  induction rest with
  | nil =>
    intro done m h hq hr nq nr hl
    refine ⟨m, fun Z hZ => ?_, ⟨h, ⟨fun _ _ => rfl, fun _ h => h⟩, by omega, rfl, fun q _ _ lf es hn => hn, NCo.refl ⟨rfl, rfl⟩⟩, by rw [List.append_nil]; exact nr⟩
    rw [show ((Q1.length : Int) + done.length + ([] : CH).length) = (Q1.length : Int) + done.length by simp] at hZ
    exact hZ
  | cons x rest ih =>
    intro done m h hq hr nq nr hl
    rw [List.length_cons] at hl
    push_cast at hl
    have hat := nq.at (k := Q1.length + done.length) (e := (hdId x.2.1, x.1)) (by
      have := ents_at (A := Q1 ++ done) (B := rest) (x := x)
      rw [List.length_append, List.append_assoc] at this
      exact this)
    obtain ⟨⟨t1, t2⟩, t3, t4⟩ := hat
    push_cast at t1 t2 t3 t4
    obtain ⟨m1, e1, o1, n1⟩ := c300_op (d := d - 1) (A := ents done) (B := []) (id := hdId x.2.1) (bk := x.1) h hr (by rw [List.append_nil]; exact nr) (by rw [ents_len]; simp; omega)
    have n1' : ND1 m1 r lf (ents (done ++ [x])) := by rw [ents_app]; exact n1
    have nq1 := o1.kp hq hqr nq
    obtain ⟨m2, k2, o2, n2⟩ := ih (done ++ [x]) m1 o1.1 hq hr (by rw [List.append_assoc]; exact nq1) n1' (by rw [List.length_append, List.length_singleton]; push_cast; omega)
    refine ⟨m2, fun Z hZ => q175_48 (by omega) h.1.1 _ ?_, o1.trans o2 (fun _ _ z => z) (fun _ _ z => z), by rw [List.append_assoc] at n2; exact n2⟩
    have hlq : vl m q 3 = (Q1.length : Int) + done.length + (rest.length + 1) := by
      rw [nq.2.2.1, ents_len]; simp; omega
    have hlr : vl m r 3 = (ents done).length := nr.2.2.1
    rw [gd_of nq.1.1, hlq, if_pos (by omega), gd_of nr.1.1, nm_eq, gd_of nq.1.2.1.1, gd_of t3, nm_eq, gd_of nq.1.2.2.1.1, gd_of t4, hlr, t1, t2, bV_eq e1, (w32_of (by omega) (by omega) : w32 ((Q1.length : Int) + done.length + 1) = (Q1.length : Int) + done.length + 1)]
    have := k2 Z (by
      rw [List.length_append, List.length_singleton]
      rw [show ((Q1.length : Int) + ((done.length + 1 : Nat) : Int) + rest.length) = (Q1.length : Int) + done.length + (rest.length + 1 : Nat) by push_cast; omega]
      rw [List.length_cons] at hZ
      exact hZ)
    rw [List.length_append, List.length_singleton, show ((Q1.length : Int) + ((done.length + 1 : Nat) : Int)) = (Q1.length : Int) + done.length + 1 by push_cast; omega] at this
    exact this
/-- a child goes back under its parent, as one block or as two -/
theorem c175 {m : Mem} {n q : Int} {hh : Nat} {P1 P2 Q : CH} (hd : 7 ≤ d) (h : DSt m K c c' sg u ns cnt) (hc : cnt < 64) (hs : sg.length + 2 ≤ 64) (hu : u.length + 2 ≤ 1500) (hn : ND1 m n false (ents (P1 ++ P2))) (hnn : n ∈ ns.take cnt) (hq : ND1 m q (hh == 0) (ents Q)) (hqn : q ∈ ns.take cnt) (hne : n ≠ q) (hP : P1.length + P2.length ≤ 15) (hQ : 3 ≤ Q.length ∧ Q.length ≤ 16) (H : CHK c' u hh Q) : BCK m K n q c c' sg u ns cnt hh P1 P2 Q (cl d 175 [pR K, pR n, pI P1.length, pR q] m) := by
  obtain ⟨x, Q0, rfl⟩ : ∃ x Q0, Q = x :: Q0 := by
    cases Q with
    | nil => simp at hQ
    | cons x Q0 => exact ⟨x, Q0, rfl⟩
  have hq3 : vl m q 3 = ((x :: Q0).length : Int) := by rw [hq.2.2.1, ents_len]
  have hq0 := hq.at (k := 0) (e := (hdId x.2.1, x.1)) rfl
  have hd0 := flL_ne H.1
  by_cases h8 : 8 < (x :: Q0).length
  · -- in two
    obtain ⟨m1, r, ns1, e1, o1, n1, p1, t1⟩ := c172_op (d := d - 1) (lf := hh == 0) (by omega) h hc
    obtain ⟨y, Q1, Q2, z, hQQ, hl1, hl2⟩ : ∃ (y : Int × DL × List Int) (Q1 Q2 : CH) (z : Int × DL × List Int), x :: Q0 = (y :: Q1) ++ (z :: Q2) ∧ (y :: Q1).length = (x :: Q0).length / 2 ∧ (z :: Q2).length = (x :: Q0).length - (x :: Q0).length / 2 := by
      have h1 : (x :: Q0) = (x :: Q0).take ((x :: Q0).length / 2) ++ (x :: Q0).drop ((x :: Q0).length / 2) := (List.take_append_drop _ _).symm
      have h2 : ((x :: Q0).take ((x :: Q0).length / 2)).length = (x :: Q0).length / 2 := by rw [List.length_take]; omega
      have h3 : ((x :: Q0).drop ((x :: Q0).length / 2)).length = (x :: Q0).length - (x :: Q0).length / 2 := by rw [List.length_drop]
      generalize (x :: Q0).take ((x :: Q0).length / 2) = T at *
      generalize (x :: Q0).drop ((x :: Q0).length / 2) = U at *
      cases T with
      | nil => rw [List.length_nil] at h2; omega
      | cons y Q1 =>
        cases U with
        | nil => rw [List.length_nil] at h3; omega
        | cons z Q2 => exact ⟨y, Q1, Q2, z, h1, h2, h3⟩
    have hxy : x = y := by
      have := congrArg List.head? hQQ
      simpa using this
    rw [hQQ] at hq H ⊢
    obtain ⟨H1, H2, H12⟩ := CHK.app.mp H
    have hrn : r ∈ ns1.take (cnt + 1) := (take_mem t1).1
    have hqn1 := o1.mem hqn
    have hnn1 := o1.mem hnn
    have hqr : q ≠ r := fun w => p1 (by rw [← w]; exact hqn)
    have hnr : n ≠ r := fun w => p1 (by rw [← w]; exact hnn)
    have nq1 := o1.kp hqn (fun w => w) hq
    have nn1 := o1.kp hnn (fun w => w) hn
    obtain ⟨m2, k2, o2, n2⟩ := c175_48 (d := d) (K := K) (n := n) (k := (P1.length : Int)) (q := q) (r := r) (lf := hh == 0) (v := ((y :: Q1).length : Int)) (Q1 := y :: Q1) (by omega) hqr (z :: Q2) [] m1 o1.1 hqn1 hrn (by rw [List.nil_append]; exact nq1) n1 (by rw [hl1, hl2]; simp only [List.length_nil]; omega)
    rw [List.nil_append] at n2
    have nq2 := o2.kp hqn1 hqr nq1
    have nn2 := o2.kp hnn1 hnr nn1
    -- cut
    rw [ents_app] at nq2
    have nq3 := nq2.cut
    rw [ents_len] at nq3
    have kc : NC (nS m2 q) m2 (mst m2 q 3 (y :: Q1).length) := NC.set (Or.inl rfl)
    have gc : ∀ f, f ≠ 3 → vl (mst m2 q 3 (y :: Q1).length) q f = vl m2 q f := fun f hf => by rw [vl_mst, if_neg (fun w => hf w.2)]
    have o3 := DOR.nd (S := fun w => w = q) o2.1 (List.mem_of_mem_take hqn1) kc (gc 1 (by decide)) (gc 2 (by decide)) (fun _ => rfl)
    have nr3 := o3.kp hrn (fun w => hqr w.symm) n2
    have nn3 := o3.kp hnn1 hne nn2
    have hq20 := nq2.at (k := 0) (e := (hdId y.2.1, y.1)) rfl
    generalize hm3 : mst m2 q 3 (y :: Q1).length = m3 at *
    -- the first half
    have hle1 : u.length ≤ 1500 := by omega
    obtain ⟨m4, b1, c4, e4, o4, nb1, C1⟩ := c176_op (d := d - 1) (p := q) (hh := hh) (Q := y :: Q1) (by omega) (by omega) hle1 o3.1 nq3 H1 (by omega)
    have nn4 := o4.kp hnn1 (fun w => w) nn3
    have nr4 := o4.kp hrn (fun w => w) nr3
    obtain ⟨m5, e5, o5, n5⟩ := c300_op (d := d - 1) (A := ents P1) (B := ents P2) (id := hdId y.2.1) (bk := b1) o4.1 hnn1 (by rw [← ents_app]; exact nn4) (by rw [ents_len, ents_len]; omega)
    have nr5 := o5.kp hrn (fun w => hnr w.symm) nr4
    -- the second
    have H2' := o4.chk H2
    obtain ⟨m6, b2, c6, e6, o6, nb2, C2⟩ := c176_op (d := d - 1) (p := r) (hh := hh) (Q := z :: Q2) (by omega) (by rw [List.length_append, List.length_singleton]; omega) (by rw [List.length_cons]; omega) o5.1 nr5 H2' (by omega)
    have nn6 := o6.kp hnn1 (fun w => w) n5
    obtain ⟨m7, e7, o7, n7⟩ := c300_op (d := d - 1) (A := ents P1 ++ [(hdId y.2.1, b1)]) (B := ents P2) (id := hdId z.2.1) (bk := b2) o6.1 hnn1 (by rw [List.append_assoc]; exact nn6) (by rw [List.length_append, ents_len, ents_len]; simp; omega)
    have hr20 := nr5.at (k := 0) (e := (hdId z.2.1, z.1)) rfl
    have hdy : hdId (flL (y :: Q1)) = hdId y.2.1 := flL_ne H1.1
    have hdz : hdId (flL (z :: Q2)) = hdId z.2.1 := flL_ne H2.1
    have C1' := o6.chk (Q := [(b1, flL (y :: Q1), b1 :: flB (y :: Q1))]) C1
    have ot : DOR K c c' sg u ns1 (cnt + 1) (fun w => (w = n ∨ w = q) ∨ w = r) 2 0 m1 m7 c6 (sg ++ [b1] ++ [b2]) (b2 :: b1 :: u) ns1 (cnt + 1) := by
      have a1 := o2.trans o3 (S := fun w => (w = n ∨ w = q) ∨ w = r) (fun _ _ w => Or.inr w) (fun _ _ w => Or.inl (Or.inr w))
      have a2 := a1.trans o4 (S := fun w => (w = n ∨ w = q) ∨ w = r) (fun _ _ w => w) (fun _ _ w => w.elim)
      have a3 := a2.trans o5 (S := fun w => (w = n ∨ w = q) ∨ w = r) (fun _ _ w => w) (fun _ _ w => Or.inl (Or.inl w))
      have a4 := a3.trans o6 (S := fun w => (w = n ∨ w = q) ∨ w = r) (fun _ _ w => w) (fun _ _ w => w.elim)
      have a5 := a4.trans o7 (S := fun w => (w = n ∨ w = q) ∨ w = r) (fun _ _ w => w) (fun _ _ w => Or.inl (Or.inl w))
      exact a5.mono (fun _ _ w => w) (by omega) (by omega)
    refine ⟨m7, c6, sg ++ [b1] ++ [b2], b2 :: b1 :: u, ns1, cnt + 1, [(b1, flL (y :: Q1), b1 :: flB (y :: Q1)), (b2, flL (z :: Q2), b2 :: flB (z :: Q2))], ?_, (o1.trans ot (S := fun x => x = n ∨ x = q) (fun _ _ w => w.elim) (fun w hw hS => hS.elim id fun v => absurd hw (by rw [v]; exact p1))).mono (fun _ _ w => w) (by omega) (by omega), ?_, ⟨by simp, by simp, ?_⟩, ?_, ?_, ?_⟩
    · refine q175 (by omega) h.1.1 _ ?_
      have hdiv : w32 (((x :: Q0).length : Int).tdiv 2) = ((y :: Q1).length : Int) := by
        rw [hl1, Int.tdiv_eq_ediv_of_nonneg (by omega), w32_of (by omega) (by omega)]; push_cast; rfl
      rw [gd_of hq.1.1, nm_eq, hq3, if_pos (by omega), nm_eq, hdiv, gd_of h.2.1.1, hq.2.1, bR_eq e1]
      have := k2
      rw [show (((y :: Q1).length : Int) + (([] : CH).length : Int)) = ((y :: Q1).length : Int) by simp] at this
      refine this _ (q175_48 (by omega) o2.1.1.1 _ ?_)
      have hlq : vl m2 q 3 = ((y :: Q1).length : Int) + (z :: Q2).length := by rw [nq2.2.2.1, List.length_append, ents_len, ents_len]; push_cast; rfl
      have w1 : w32 ((P1.length : Int) + 1) = ((ents P1 ++ [(hdId y.2.1, b1)]).length : Int) := by
        rw [List.length_append, ents_len, List.length_singleton, w32_of (by omega) (by omega)]; push_cast; rfl
      have e5' : cl (d - 1) 300 [pR n, pI P1.length, pI (hdId y.2.1), pI b1] m4 = some (.inl none, m5) := by
        rw [ents_len] at e5; exact e5
      have q20 := hq20.1.1
      have r20 := hr20.1.1
      rw [Int.natCast_zero] at q20 r20
      have l1 := hq20.2.1
      have l2 := hr20.2.1
      rw [Int.natCast_zero] at l1 l2
      rw [gd_of nq2.1.1, hlq, if_neg (by omega), nm_eq, gd_of nq2.1.2.1.1, gd_of l1, gd_of o2.1.2.1.1, hm3, bI_eq e4, gd_of nn4.1.1, q20, bV_eq e5', gd_of nr5.1.1, nm_eq, gd_of nr5.1.2.1.1, gd_of l2, bI_eq e6, w1, r20, bV_eq e7]
    · rw [ents_app, ents_app, ents_cons, ents_cons, hdy, hdz]
      rw [List.append_assoc] at n7
      exact n7
    · exact ⟨fun _ => by rw [← hQQ]; exact h8, fun _ => rfl⟩
    · rw [flL_cons, flL_cons, flL_app]; simp [flL]
    · have := CHK.app (c := c6) (u := b2 :: b1 :: u) (h := hh + 1) (A := [(b1, flL (y :: Q1), b1 :: flB (y :: Q1))]) (B := [(b2, flL (z :: Q2), b2 :: flB (z :: Q2))])
      refine this.mpr ⟨C1', C2, fun v hv w hw => ?_⟩
      rw [flB_cons] at hv hw
      have hv' : v ∈ b1 :: flB (y :: Q1) := by simpa [flB] using hv
      have hw' : w ∈ b2 :: flB (z :: Q2) := by simpa [flB] using hw
      rintro rfl
      rcases List.mem_cons.mp hv' with s | s <;> rcases List.mem_cons.mp hw' with t | t
      · exact nb2 (by rw [← t, s]; exact List.mem_cons_self)
      · exact nb1 (by rw [← s]; exact (H2.2.1 v t).1)
      · exact nb2 (by rw [← t]; exact List.mem_cons_of_mem _ (H1.2.1 v s).1)
      · exact H12 v s v t rfl
    · intro b hb
      rw [flB_cons, flB_cons] at hb
      have hb' : b ∈ (b1 :: flB (y :: Q1)) ++ (b2 :: flB (z :: Q2)) := by simpa [flB] using hb
      rw [flB_app]
      rcases List.mem_append.mp hb' with s | s <;> rcases List.mem_cons.mp s with t | t
      · exact Or.inr (by rw [t]; exact nb1)
      · exact Or.inl (List.mem_append_left _ t)
      · exact Or.inr fun v => nb2 (by rw [← t]; exact List.mem_cons_of_mem _ v)
      · exact Or.inl (List.mem_append_right _ t)
  · obtain ⟨m1, b, c1, e1, o1, nb, C⟩ := c176_op (d := d - 1) (p := q) (hh := hh) (Q := x :: Q0) (by omega) (by omega) (by omega) h hq H (by omega)
    have nn1 := o1.kp hnn (fun w => w) hn
    obtain ⟨m2, e2, o2, n2⟩ := c300_op (d := d - 1) (A := ents P1) (B := ents P2) (id := hdId x.2.1) (bk := b) o1.1 hnn (by rw [← ents_app]; exact nn1) (by rw [ents_len, ents_len]; omega)
    refine ⟨m2, c1, sg ++ [b], b :: u, ns, cnt, [(b, flL (x :: Q0), b :: flB (x :: Q0))], ?_, (o1.trans o2 (S := fun w => w = n ∨ w = q) (fun _ _ w => w.elim) (fun _ _ w => Or.inl w)).mono (fun _ _ w => w) (by omega) (by omega), ?_, ⟨by simp, by simp, ?_⟩, ?_, C, ?_⟩
    · refine q175 (by omega) h.1.1 _ ?_
      have e2' : cl (d - 1) 300 [pR n, pI P1.length, pI (hdId x.2.1), pI b] m1 = some (.inl none, m2) := by
        rw [ents_len] at e2; exact e2
      have q20 := hq0.1.1
      rw [Int.natCast_zero] at q20
      have l1 := hq0.2.1
      rw [Int.natCast_zero] at l1
      rw [gd_of hq.1.1, nm_eq, hq3, if_neg (by omega), nm_eq, gd_of hq.1.2.1.1, gd_of l1, gd_of h.2.1.1, bI_eq e1, gd_of nn1.1.1, q20, bV_eq e2']
    · rw [ents_app, ents_app, ents_cons, hd0]
      exact n2
    · exact ⟨fun w => by simp at w, fun w => absurd w h8⟩
    · rw [flL_cons]; simp [flL]
    · intro v hv
      rw [flB_cons] at hv
      have hv' : v ∈ b :: flB (x :: Q0) := by simpa [flB] using hv
      rcases List.mem_cons.mp hv' with t | t
      · exact Or.inr (by rw [t]; exact nb)
      · exact Or.inl t
end
