/-! the disk: a document goes out below a node -/
set_option maxRecDepth 100000
set_option maxHeartbeats 4000000
theorem CHK.mid {c' c4 : RF} {u u4 : List Int} {h : Nat} {PA M PB R : CH} (H : CHK c' u h (PA ++ (M ++ PB))) (hc : ∀ x ∈ u, c4 x = c' x) (hu : ∀ x ∈ u, x ∈ u4) (HR : CHK c4 u4 h R) (hb : ∀ b ∈ flB R, b ∈ flB M ∨ b ∉ u) : CHK c4 u4 h (PA ++ (R ++ PB)) ∧ ∀ b ∈ flB (PA ++ (R ++ PB)), b ∈ flB (PA ++ (M ++ PB)) ∨ b ∉ u := by
  obtain ⟨HA, HMB, hAM⟩ := CHK.app.mp H
  obtain ⟨HM, HB, hMB⟩ := CHK.app.mp HMB
  refine ⟨CHK.app.mpr ⟨HA.cg hc hu, CHK.app.mpr ⟨HR, HB.cg hc hu, fun v hv w hw z => ?_⟩, fun v hv w hw z => ?_⟩, fun b hb' => ?_⟩
  · rcases hb v hv with s | s
    · exact hMB v s w hw z
    · exact s (by rw [z]; exact (HB.2.1 w hw).1)
  · rw [flB_app] at hw
    rcases List.mem_append.mp hw with t | t
    · rcases hb w t with s | s
      · exact hAM v hv w (by rw [flB_app]; exact List.mem_append_left _ s) z
      · exact s (by rw [← z]; exact (HA.2.1 v hv).1)
    · exact hAM v hv w (by rw [flB_app]; exact List.mem_append_right _ t) z
  · rw [flB_app, flB_app] at hb' ⊢
    rcases List.mem_append.mp hb' with t | t
    · exact Or.inl (List.mem_append_left _ t)
    · rcases List.mem_append.mp t with s | s
      · rcases hb b s with r | r
        · exact Or.inl (List.mem_append_right _ (List.mem_append_left _ r))
        · exact Or.inr r
      · exact Or.inl (List.mem_append_right _ (List.mem_append_right _ s))
section
variable {d : Nat} {K : Int} {c c' : RF} {sg u ns : List Int} {cnt : Nat}
theorem c180_131 {n q s f p p2 id a3 a5 : Int} {lf : Bool} {E : CH} (hd : 1 ≤ d) (hpf : p ≠ f) : ∀ (rest pre : CH) (m : Mem), DSt m K c c' sg u ns cnt → p ∈ ns.take cnt → f ∈ ns.take cnt → ND1 m p lf (ents (pre ++ rest)) → ND1 m f lf (ents (E ++ pre)) → (E.length : Int) + pre.length + rest.length < 18 → ∃ m', (∀ Z, rn d 180 131 [pR K, pR n, pI id, pI a3, pR q, pI a5, pR s, pR f, pR p, pR p2, pI ((pre ++ rest : CH).length)] [] m' = some Z → rn d 180 131 [pR K, pR n, pI id, pI a3, pR q, pI a5, pR s, pR f, pR p, pR p2, pI pre.length] [] m = some Z) ∧ DOR K c c' sg u ns cnt (fun x => x = f) 0 0 m m' c' sg u ns cnt ∧ ND1 m' f lf (ents (E ++ (pre ++ rest))) := by
  intro rest
  induction rest with
  | nil =>
    intro pre m h hp hf np nf hl
    rw [List.append_nil]
    exact ⟨m, fun Z hZ => hZ, ⟨h, ⟨fun _ _ => rfl, fun _ h => h⟩, by omega, rfl, fun q _ _ lf es hn => hn, NCo.refl ⟨rfl, rfl⟩⟩, nf⟩
  | cons x rest ih =>
    intro pre m h hp hf np nf hl
    rw [List.length_cons] at hl
    push_cast at hl
    obtain ⟨⟨t1, t2⟩, t3, t4⟩ := np.at (k := pre.length) (e := (hdId x.2.1, x.1)) ents_at
    obtain ⟨m1, e1, o1, n1⟩ := c300_op (d := d - 1) (A := ents (E ++ pre)) (B := []) (id := hdId x.2.1) (bk := x.1) h hf (by rw [List.append_nil]; exact nf) (by rw [ents_len, List.length_append]; simp; omega)
    have n1' : ND1 m1 f lf (ents (E ++ (pre ++ [x]))) := by rw [← List.append_assoc, ents_app]; exact n1
    have np1 := o1.kp hp hpf np
    obtain ⟨m2, k2, o2, n2⟩ := ih (pre ++ [x]) m1 o1.1 hp hf (by rw [List.append_assoc]; exact np1) n1' (by rw [List.length_append, List.length_singleton]; push_cast; omega)
    have eq1 : pre ++ [x] ++ rest = pre ++ x :: rest := by simp
    rw [eq1] at k2 n2
    refine ⟨m2, fun Z hZ => q180_131 (by omega) h.1.1 _ ?_, o1.trans o2 (fun _ _ z => z) (fun _ _ z => z), n2⟩
    have hlp : vl m p 3 = (pre.length : Int) + (rest.length + 1) := by rw [np.2.2.1, ents_len, List.length_append, List.length_cons]; push_cast; rfl
    have hlf : vl m f 3 = (ents (E ++ pre)).length := nf.2.2.1
    rw [gd_of np.1.1, hlp, if_pos (by omega), gd_of nf.1.1, nm_eq, gd_of np.1.2.1.1, gd_of t3, nm_eq, gd_of np.1.2.2.1.1, gd_of t4, hlf, t1, t2, bV_eq e1, (w32_of (by omega) (by omega) : w32 ((pre.length : Int) + 1) = (pre.length : Int) + 1)]
    have := k2 Z hZ
    rw [List.length_append, List.length_singleton, show ((pre.length + 1 : Nat) : Int) = (pre.length : Int) + 1 by push_cast; rfl] at this
    exact this
theorem c180_176 {n q s f p p2 id a3 a5 : Int} {lf : Bool} {E : CH} (hd : 1 ≤ d) (hpf : p ≠ f) : ∀ (rest pre : CH) (m : Mem), DSt m K c c' sg u ns cnt → p ∈ ns.take cnt → f ∈ ns.take cnt → ND1 m p lf (ents (pre ++ rest)) → ND1 m f lf (ents (E ++ pre)) → (E.length : Int) + pre.length + rest.length < 18 → ∃ m', (∀ Z, rn d 180 176 [pR K, pR n, pI id, pI a3, pR q, pI a5, pR s, pR f, pR p2, pR p, pI ((pre ++ rest : CH).length)] [] m' = some Z → rn d 180 176 [pR K, pR n, pI id, pI a3, pR q, pI a5, pR s, pR f, pR p2, pR p, pI pre.length] [] m = some Z) ∧ DOR K c c' sg u ns cnt (fun x => x = f) 0 0 m m' c' sg u ns cnt ∧ ND1 m' f lf (ents (E ++ (pre ++ rest))) := by
  intro rest
  induction rest with
  | nil =>
    intro pre m h hp hf np nf hl
    rw [List.append_nil]
    exact ⟨m, fun Z hZ => hZ, ⟨h, ⟨fun _ _ => rfl, fun _ h => h⟩, by omega, rfl, fun q _ _ lf es hn => hn, NCo.refl ⟨rfl, rfl⟩⟩, nf⟩
  | cons x rest ih =>
    intro pre m h hp hf np nf hl
    rw [List.length_cons] at hl
    push_cast at hl
    obtain ⟨⟨t1, t2⟩, t3, t4⟩ := np.at (k := pre.length) (e := (hdId x.2.1, x.1)) ents_at
    obtain ⟨m1, e1, o1, n1⟩ := c300_op (d := d - 1) (A := ents (E ++ pre)) (B := []) (id := hdId x.2.1) (bk := x.1) h hf (by rw [List.append_nil]; exact nf) (by rw [ents_len, List.length_append]; simp; omega)
    have n1' : ND1 m1 f lf (ents (E ++ (pre ++ [x]))) := by rw [← List.append_assoc, ents_app]; exact n1
    have np1 := o1.kp hp hpf np
    obtain ⟨m2, k2, o2, n2⟩ := ih (pre ++ [x]) m1 o1.1 hp hf (by rw [List.append_assoc]; exact np1) n1' (by rw [List.length_append, List.length_singleton]; push_cast; omega)
    have eq1 : pre ++ [x] ++ rest = pre ++ x :: rest := by simp
    rw [eq1] at k2 n2
    refine ⟨m2, fun Z hZ => q180_176 (by omega) h.1.1 _ ?_, o1.trans o2 (fun _ _ z => z) (fun _ _ z => z), n2⟩
    have hlp : vl m p 3 = (pre.length : Int) + (rest.length + 1) := by rw [np.2.2.1, ents_len, List.length_append, List.length_cons]; push_cast; rfl
    have hlf : vl m f 3 = (ents (E ++ pre)).length := nf.2.2.1
    rw [gd_of np.1.1, hlp, if_pos (by omega), gd_of nf.1.1, nm_eq, gd_of np.1.2.1.1, gd_of t3, nm_eq, gd_of np.1.2.2.1.1, gd_of t4, hlf, t1, t2, bV_eq e1, (w32_of (by omega) (by omega) : w32 ((pre.length : Int) + 1) = (pre.length : Int) + 1)]
    have := k2 Z hZ
    rw [List.length_append, List.length_singleton, show ((pre.length + 1 : Nat) : Int) = (pre.length : Int) + 1 by push_cast; rfl] at this
    exact this
/-- both children go into a fresh node, and that goes back -/
theorem c180_fin {m : Mem} {n q s f p1 p2 id a3 : Int} {hh : Nat} {P1 P2 F1 F2 : CH} (hd : 8 ≤ d) (h : DSt m K c c' sg u ns cnt) (hc : cnt < 64) (hs : sg.length + 2 ≤ 64) (hu : u.length + 2 ≤ 1500) (hn : ND1 m n false (ents (P1 ++ P2))) (hnn : n ∈ ns.take cnt) (nf : ND1 m f (hh == 0) []) (hf : f ∈ ns.take cnt) (h1 : ND1 m p1 (hh == 0) (ents F1)) (hp1 : p1 ∈ ns.take cnt) (h2 : ND1 m p2 (hh == 0) (ents F2)) (hp2 : p2 ∈ ns.take cnt) (n1 : n ≠ f) (n2 : p1 ≠ f) (n3 : p2 ≠ f) (hP : P1.length + P2.length ≤ 15) (hF : 3 ≤ F1.length + F2.length ∧ F1.length + F2.length ≤ 16) (H : CHK c' u hh (F1 ++ F2)) : BCK m K n f c c' sg u ns cnt hh P1 P2 (F1 ++ F2) (rn d 180 131 [pR K, pR n, pI id, pI a3, pR q, pI P1.length, pR s, pR f, pR p1, pR p2, pI 0] [] m) := by
  obtain ⟨m1, k1, o1, w1⟩ := c180_131 (d := d) (n := n) (q := q) (s := s) (p2 := p2) (id := id) (a3 := a3) (a5 := P1.length) (E := []) (by omega) n2 F1 [] m h hp1 hf h1 nf (by simp; omega)
  rw [List.nil_append, List.nil_append] at w1
  rw [List.nil_append] at k1
  have h21 := o1.kp hp2 n3 h2
  have h11 := o1.kp hp1 n2 h1
  have nn1 := o1.kp hnn n1 hn
  obtain ⟨m2, k2, o2, w2⟩ := c180_176 (d := d) (n := n) (q := q) (s := s) (p2 := p1) (id := id) (a3 := a3) (a5 := P1.length) (E := F1) (by omega) n3 F2 [] m1 o1.1 hp2 hf h21 (by rw [List.append_nil]; exact w1) (by simp; omega)
  rw [List.nil_append] at w2 k2
  have h22 := o2.kp hp2 n3 h21
  have nn2 := o2.kp hnn n1 nn1
  obtain ⟨m3, c3, sg3, u3, ns3, cnt3, R, e3, o3, n3', lR, fR, HR, bR⟩ := c175 (d := d - 1) (n := n) (q := f) (hh := hh) (P1 := P1) (P2 := P2) (Q := F1 ++ F2) (by omega) o2.1 hc hs hu nn2 hnn w2 hf n1 hP (by rw [List.length_append]; exact hF) H
  have o12 := o1.trans o2 (S := fun w => w = n ∨ w = f) (fun _ _ w => Or.inr w) (fun _ _ w => Or.inr w)
  refine ⟨m3, c3, sg3, u3, ns3, cnt3, R, ?_, (o12.trans o3 (S := fun w => w = n ∨ w = f) (fun _ _ w => w) (fun _ _ w => w)).mono (fun _ _ w => w) (by omega) (by omega), n3', lR, fR, HR, bR⟩
  refine k1 _ (q180_131 (by omega) o1.1.1.1 _ ?_)
  rw [gd_of h11.1.1, h11.2.2.1, ents_len, if_neg (by omega)]
  refine k2 _ (q180_176 (by omega) o2.1.1.1 _ ?_)
  rw [gd_of h22.1.1, h22.2.2.1, ents_len, if_neg (by omega), gd_of o2.1.2.1.1, bV_eq e3]
/-- a child that is too small joins the one beside it -/
theorem c180_70 {m : Mem} {n q id a3 : Int} {hh : Nat} {P1 P2 Q : CH} {y : Int × DL × List Int} (hd : 9 ≤ d) (h : DSt m K c c' sg u ns cnt) (hc : cnt + 3 ≤ 64) (hs : sg.length + 2 ≤ 64) (hu : u.length + 2 ≤ 1500) (hn : ND1 m n false (ents (P1 ++ y :: P2))) (hnn : n ∈ ns.take cnt) (hq : ND1 m q (hh == 0) (ents Q)) (hqn : q ∈ ns.take cnt) (hne : n ≠ q) (hP : P1.length + P2.length ≤ 15) (hQ : Q.length = 2) (H : CHK c' u hh Q) (Hy : CHK c' u (hh + 1) [y]) (hdis : ∀ v ∈ flB Q, v ∉ y.2.2) (hcy : c' y.1 = c y.1) : ∃ m' c'' sg' u' ns' cnt' R, rn d 180 70 [pR K, pR n, pI id, pI a3, pR q, pU, pU, pU, pU, pU, pU] [pI P1.length] m = some (.inl none, m') ∧ DOR K c c' sg u ns cnt (fun x => x = n ∨ x = q) 2 3 m m' c'' sg' u' ns' cnt' ∧ ND1 m' n false (ents (P1 ++ (R ++ P2))) ∧ (1 ≤ R.length ∧ R.length ≤ 2) ∧ flL R = (if 0 < a3 then y.2.1 ++ flL Q else flL Q ++ y.2.1) ∧ CHK c'' u' (hh + 1) R ∧ ∀ b ∈ flB R, b ∈ flB Q ∨ b ∈ y.2.2 ∨ b ∉ u := by
  have fB1 : flB [y] = y.2.2 := by simp [flB]
  have fL1 : flL [y] = y.2.1 := by simp [flL]
  obtain ⟨ch, cn, cL, cB, cl', cv⟩ := Hy.1 y (by simp)
  have hyb := Hy.2.1
  have hynd := Hy.2.2.1
  have hyid := Hy.2.2.2
  rw [fB1] at hyb hynd
  rw [fL1, cL] at hyid
  have hy1 := (hyb y.1 (by rw [cB]; exact List.mem_cons_self)).2
  have hch : ∀ b ∈ flB ch, b ∈ y.2.2 := fun b hb => by rw [cB]; exact List.mem_cons_of_mem _ hb
  have Hch : CHK c' u hh ch := ⟨cv, fun b hb => hyb b (hch b hb), by rw [cB] at hynd; exact (List.nodup_cons.mp hynd).2, hyid⟩
  obtain ⟨⟨t1, t2⟩, t3, t4⟩ := hn.at (k := P1.length) (e := (hdId y.2.1, y.1)) ents_at
  rw [hcy] at cn
  obtain ⟨m1, s, ns1, e1, o1, n1, p1, s1⟩ := c173 (d := d - 1) (b := y.1) (lf := hh == 0) (es := ents ch) (by omega) h (by omega) hy1 cn (by rw [ents_len]; exact cl'.2)
  have hsn : s ∈ ns1.take (cnt + 1) := (take_mem s1).1
  have hnn1 := o1.mem hnn
  have hqn1 := o1.mem hqn
  have hns : n ≠ s := fun w => p1 (by rw [← w]; exact hnn)
  have nn1 := o1.kp hnn (fun w => w) hn
  have nq1 := o1.kp hqn (fun w => w) hq
  rw [ents_app, ents_cons] at nn1
  obtain ⟨m2, e2, o2, n2⟩ := c301_op (d := d - 1) o1.1 hnn1 nn1
  rw [ents_len] at e2
  have nq2 := o2.kp hqn1 (fun w => hne w.symm) nq1
  have ns2' := o2.kp hsn (fun w => hns w.symm) n1
  obtain ⟨m3, f, ns3, e3, o3, n3, p3, s3⟩ := c172_op (d := d - 1) (lf := hh == 0) (by omega) o2.1 (by omega)
  have hfn : f ∈ ns3.take (cnt + 1 + 1) := (take_mem s3).1
  have hnn3 := o3.mem hnn1
  have hqn3 := o3.mem hqn1
  have hsn3 := o3.mem hsn
  have nn3 := o3.kp hnn1 (fun w => w) n2
  have nq3 := o3.kp hqn1 (fun w => w) nq2
  have ns3' := o3.kp hsn (fun w => w) ns2'
  have f1 : n ≠ f := fun w => p3 (by rw [← w]; exact hnn1)
  have f2 : q ≠ f := fun w => p3 (by rw [← w]; exact hqn1)
  have f3 : s ≠ f := fun w => p3 (by rw [← w]; exact hsn)
  have o12 := o1.trans o2 (S := fun w => w = n ∨ w = q) (fun _ _ w => w.elim) (fun _ _ w => Or.inl w)
  have o13 := o12.trans o3 (S := fun w => w = n ∨ w = q) (fun _ _ w => w) (fun _ _ w => w.elim)
  have hfo : f ∉ ns.take cnt := fun w => p3 (o1.mem w)
  have st : ∀ Z, (if 0 < a3 then rn d 180 113 [pR K, pR n, pI id, pI a3, pR q, pI P1.length, pR s, pR f, pU, pU, pU] [pR s] m3 else rn d 180 113 [pR K, pR n, pI id, pI a3, pR q, pI P1.length, pR s, pR f, pU, pU, pU] [pR q] m3) = some Z → rn d 180 70 [pR K, pR n, pI id, pI a3, pR q, pU, pU, pU, pU, pU, pU] [pI P1.length] m = some Z := fun Z hZ => by
    refine q180_70 (by omega) h.1.1 _ ?_
    rw [gd_of hn.1.1, nm_eq, gd_of hn.1.2.2.1.1, gd_of t4, gd_of h.2.1.1, t2, bR_eq e1, bV_eq e2, gd_of nq2.1.1, nq2.2.1, bR_eq e3]
    exact hZ
  have hdd : ∀ v ∈ flB Q, ∀ w ∈ flB ch, v ≠ w := fun v hv w hw z => hdis v hv (by rw [z]; exact hch w hw)
  by_cases z : 0 < a3
  · obtain ⟨m4, c4, sg4, u4, ns4, cnt4, R, e4, o4, n4, lR, fR, HR, bR⟩ := c180_fin (d := d) (n := n) (q := q) (s := s) (f := f) (p1 := s) (p2 := q) (id := id) (a3 := a3) (hh := hh) (P1 := P1) (P2 := P2) (F1 := ch) (F2 := Q) (by omega) o3.1 (by omega) hs hu (by rw [ents_app]; exact nn3) hnn3 n3 hfn ns3' hsn3 nq3 hqn3 f1 f3 f2 hP (by omega) (CHK.app.mpr ⟨Hch, H, fun v hv w hw z => hdd w hw v hv z.symm⟩)
    refine ⟨m4, c4, sg4, u4, ns4, cnt4, R, st _ ?_, (o13.trans o4 (S := fun w => w = n ∨ w = q) (fun _ _ w => w) (fun w hw hS => hS.elim Or.inl fun v => absurd hw (by rw [v]; exact hfo))).mono (fun _ _ w => w) (by omega) (by omega), n4, ⟨lR.1, lR.2.1⟩, ?_, HR, fun b hb => ?_⟩
    · rw [if_pos z]
      refine q180_113 o3.1.1.1 _ ?_
      rw [if_pos z]; exact e4
    · rw [fR, flL_app, if_pos z, cL]
    · rcases bR b hb with t | t
      · rw [flB_app] at t
        rcases List.mem_append.mp t with v | v
        · exact Or.inr (Or.inl (hch b v))
        · exact Or.inl v
      · exact Or.inr (Or.inr t)
  · obtain ⟨m4, c4, sg4, u4, ns4, cnt4, R, e4, o4, n4, lR, fR, HR, bR⟩ := c180_fin (d := d) (n := n) (q := q) (s := s) (f := f) (p1 := q) (p2 := s) (id := id) (a3 := a3) (hh := hh) (P1 := P1) (P2 := P2) (F1 := Q) (F2 := ch) (by omega) o3.1 (by omega) hs hu (by rw [ents_app]; exact nn3) hnn3 n3 hfn nq3 hqn3 ns3' hsn3 f1 f2 f3 hP (by omega) (CHK.app.mpr ⟨H, Hch, hdd⟩)
    refine ⟨m4, c4, sg4, u4, ns4, cnt4, R, st _ ?_, (o13.trans o4 (S := fun w => w = n ∨ w = q) (fun _ _ w => w) (fun w hw hS => hS.elim Or.inl fun v => absurd hw (by rw [v]; exact hfo))).mono (fun _ _ w => w) (by omega) (by omega), n4, ⟨lR.1, lR.2.1⟩, ?_, HR, fun b hb => ?_⟩
    · rw [if_neg z]
      refine q180_113 o3.1.1.1 _ ?_
      rw [if_neg z]; exact e4
    · rw [fR, flL_app, if_neg z, cL]
    · rcases bR b hb with t | t
      · rw [flB_app] at t
        rcases List.mem_append.mp t with v | v
        · exact Or.inl v
        · exact Or.inr (Or.inl (hch b v))
      · exact Or.inr (Or.inr t)
/-- what comes of a removal -/
def RMR (m : Mem) (K n : Int) (c c' : RF) (sg u ns : List Int) (cnt : Nat) (hh : Nat) (id : Int) (Q : CH) (X : RM) : Prop := ∃ m' c'' sg' u' ns' cnt' Q', X = some (.inl none, m') ∧ DOR K c c' sg u ns cnt (fun x => x = n) (2 * hh) (4 * hh) m m' c'' sg' u' ns' cnt' ∧ ND1 m' n (hh == 0) (ents Q') ∧ flL Q' = rmL id (flL Q) ∧ (Q.length ≤ Q'.length + 1 ∧ Q'.length ≤ Q.length) ∧ CHK c'' u' hh Q' ∧ ∀ b ∈ flB Q', b ∈ flB Q ∨ b ∉ u
theorem c180 {id : Int} : ∀ (hh d : Nat) (m : Mem) (c' : RF) (sg u ns : List Int) (cnt : Nat) (n : Int) (Q : CH), hh + 10 ≤ d → DSt m K c c' sg u ns cnt → cnt + 4 * hh ≤ 64 → sg.length + 2 * hh ≤ 64 → u.length + 2 * hh ≤ 1500 → ND1 m n (hh == 0) (ents Q) → n ∈ ns.take cnt → (1 ≤ Q.length ∧ (0 < hh → 2 ≤ Q.length)) → Q.length ≤ 8 → CHK c' u hh Q → srt (flL Q) → (∀ b ∈ flB Q, c' b = c b) → lkL id (flL Q) ≠ none → RMR m K n c c' sg u ns cnt hh id Q (cl d 180 [pR K, pR n, pI id] m) := by
  intro hh
  induction hh with
  | zero =>
    intro d m c' sg u ns cnt n Q hd h hc hs hu hn hnn hQ0 hQ H hst hcc hlk
    obtain ⟨A, x, B, rfl, hB, hA⟩ := spl id (Q.length - 1) Q (by omega)
    obtain ⟨ys, hx, hxd⟩ := (H.1 x (by simp)).leaf
    have hL : x.2.1 = [(hdId x.2.1, ys)] := by conv => lhs; rw [hx]
    have hxne : x.2.1 ≠ [] := by rw [hL]; simp
    rw [spl_lk hst hA hxne hB, hL] at hlk
    have hi : hdId x.2.1 = id := by
      by_cases z : hdId x.2.1 = id
      · exact z
      · exfalso; apply hlk
        show (if hdId x.2.1 = id then some ys else none) = none
        rw [if_neg z]
    have hn' := hn
    rw [ents_app, ents_cons] at hn'
    have e299 := c299 (d := d - 1) (id := id) h.1.1 hn' (fun z => hA (fun w => z (by rw [w]; rfl))) (fun y hy => by
      obtain ⟨w, hw, rfl⟩ := List.mem_map.mp hy
      exact hB w hw)
    obtain ⟨m1, e1, o1, n1⟩ := c301_op (d := d - 1) h hnn hn'
    have hl : vl m n 0 = 1 := hn.2.1
    have H0 : CHK c' u 0 (A ++ ([x] ++ B)) := H
    have hm := CHK.mid (R := []) H0 (fun _ _ => rfl) (fun _ w => w) ⟨fun x hx => (by cases hx), fun x hx => (by cases hx), List.nodup_nil, fun x hx => (by cases hx)⟩ (fun b hb => (by cases hb))
    rw [List.nil_append] at hm
    refine ⟨m1, c', sg, u, ns, cnt, A ++ B, ?_, o1, by rw [ents_app]; exact n1, ?_, by simp; omega, hm.1, hm.2⟩
    · refine q180 (by omega) h.1.1 _ ?_
      rw [gd_of hn.1.1, bI_eq e299, hl, if_neg (by decide), bV_eq e1]
    · rw [spl_rm hst hA hxne hB, flL_app, hL]
      show _ = flL A ++ ((if hdId x.2.1 = id then [] else _) ++ flL B)
      rw [if_pos hi]; rfl
  | succ hh ih =>
    intro d m c' sg u ns cnt n Q hd h hc hs hu hn hnn hQ0 hQ H hst hcc hlk
    have h2 := hQ0.2 (by omega)
    obtain ⟨A, x, B, rfl, hB, hA⟩ := spl id (Q.length - 1) Q (by omega)
    have H0 : CHK c' u (hh + 1) (A ++ ([x] ++ B)) := H
    obtain ⟨HA, HxB, HAx⟩ := CHK.app.mp H0
    obtain ⟨Hx, HBB, HxB'⟩ := CHK.app.mp HxB
    have hVx := Hx.1 x (by simp)
    have hxne := hVx.ne
    obtain ⟨ch, cn, cL, cB, cl', cv⟩ := hVx
    have fB1 : ∀ (z : Int × DL × List Int), flB [z] = z.2.2 := fun z => by simp [flB]
    have fL1 : ∀ (z : Int × DL × List Int), flL [z] = z.2.1 := fun z => by simp [flL]
    have hsub : ∀ b ∈ x.2.2, b ∈ flB (A ++ x :: B) := fun b hb => List.mem_flatMap.mpr ⟨x, by simp, hb⟩
    have hx1 : x.1 ∈ x.2.2 := by rw [cB]; exact List.mem_cons_self
    have hcx := hcc x.1 (hsub _ hx1)
    have hrx := (H.2.1 x.1 (hsub _ hx1)).2
    have hch : ∀ b ∈ flB ch, b ∈ x.2.2 := fun b hb => by rw [cB]; exact List.mem_cons_of_mem _ hb
    have Hch : CHK c' u hh ch := by
      obtain ⟨-, a2, a3, a4⟩ := Hx
      rw [fB1] at a2 a3
      rw [fL1, cL] at a4
      refine ⟨cv, fun b hb => a2 b (hch b hb), ?_, a4⟩
      rw [cB] at a3
      exact (List.nodup_cons.mp a3).2
    rw [spl_lk hst hA hxne hB, cL] at hlk
    have hrm := spl_rm hst hA hxne hB
    have hQl : A.length + (B.length + 1) ≤ 8 := by rw [List.length_append, List.length_cons] at hQ; exact hQ
    have h2l : 2 ≤ A.length + (B.length + 1) := by rw [List.length_append, List.length_cons] at h2; exact h2
    have hn' := hn
    rw [ents_app, ents_cons] at hn'
    have e299 := c299 (d := d - 1) (id := id) h.1.1 hn' (fun z => hA (fun w => z (by rw [w]; rfl))) (fun y hy => by
      obtain ⟨w, hw, rfl⟩ := List.mem_map.mp hy
      exact hB w hw)
    rw [ents_len] at e299
    obtain ⟨⟨t1, t2⟩, t3, t4⟩ := hn.at (k := A.length) (e := (hdId x.2.1, x.1)) ents_at
    have hl : vl m n 0 = 0 := hn.2.1
    rw [hcx] at cn
    obtain ⟨m1, q, ns1, e1, o1, n1, p1, s1⟩ := c173 (d := d - 1) (b := x.1) (lf := hh == 0) (es := ents ch) (by omega) h (by omega) hrx cn (by rw [ents_len]; exact cl'.2)
    have hqn : q ∈ ns1.take (cnt + 1) := (take_mem s1).1
    have hnn1 := o1.mem hnn
    have hne : n ≠ q := fun w => p1 (by rw [← w]; exact hnn)
    have nn1 := o1.kp hnn (fun w => w) hn
    obtain ⟨m2, c2, sg2, u2, ns2, cnt2, Q', e2, o2, n2, fL2, ln2, H2, b2⟩ := ih (d - 1) m1 c' sg u ns1 (cnt + 1) q ch (by omega) o1.1 (by omega) (by omega) (by omega) n1 hqn ⟨by omega, fun _ => by omega⟩ cl'.2 Hch (by have := spl_mid hst; rw [cL] at this; exact this) (fun b hb => hcc b (hsub b (hch b hb))) hlk
    have hnn2 := o2.mem hnn1
    have hqn2 := o2.mem hqn
    have nn2 := o2.kp hnn1 hne nn1
    rw [ents_app, ents_cons] at nn2
    obtain ⟨m3, e3, o3, n3⟩ := c301_op (d := d - 1) o2.1 hnn2 nn2
    rw [ents_len] at e3
    have nq3 := o3.kp hqn2 (fun w => hne w.symm) n2
    have o2s := o2.2.2.1
    have o12 := o1.trans o2 (S := fun w => w = n ∨ w = q) (fun _ _ w => w.elim) (fun _ _ w => Or.inr w)
    have o13 := o12.trans o3 (S := fun w => w = n ∨ w = q) (fun _ _ w => w) (fun _ _ w => Or.inl w)
    have cut : ∀ (w : Int), w ∈ ns.take cnt → (w = n ∨ w = q) → w = n := fun w hw hS => hS.elim (fun z => z) fun v => absurd hw (by rw [v]; exact p1)
    have hq3 : vl m3 q 3 = (Q'.length : Int) := by rw [nq3.2.2.1, ents_len]
    have hn3 : vl m3 n 3 = (A.length : Int) + B.length := by rw [n3.2.2.1, List.length_append, ents_len, ents_len]; push_cast; rfl
    have st : ∀ Z, (if (Q'.length : Int) < 3 then (if 0 < (A.length : Int) then (rn d 180 70 [pR K, pR n, pI id, pI A.length, pR q, pU, pU, pU, pU, pU, pU] [pI (w32 ((A.length : Int) - 1))] m3) else rn d 180 70 [pR K, pR n, pI id, pI A.length, pR q, pU, pU, pU, pU, pU, pU] [pI 0] m3) else bV (cl (d - 1) 175 [pR K, pR n, pI A.length, pR q] m3) fun m5 => some (.inl none, m5)) = some Z → cl d 180 [pR K, pR n, pI id] m = some Z := fun Z hZ => by
      refine q180 (by omega) h.1.1 _ ?_
      rw [gd_of hn.1.1, bI_eq e299, hl, if_pos rfl, nm_eq, gd_of hn.1.2.2.1.1, gd_of t4, gd_of h.2.1.1, t2, bR_eq e1, bV_eq e2, bV_eq e3, gd_of nq3.1.1, hq3, hn3]
      by_cases z : (Q'.length : Int) < 3
      · rw [if_pos z] at hZ ⊢
        rw [if_pos (by omega)]
        exact hZ
      · rw [if_neg z] at hZ ⊢
        exact hZ
    by_cases z3 : (Q'.length : Int) < 3
    · have hQ2 : Q'.length = 2 := by omega
      have e13 : ∀ x, x ∈ u → c2 x = c' x := o2.2.1.1
      have hu2 : ∀ x, x ∈ u → x ∈ u2 := o2.2.1.2
      by_cases zA : 0 < (A.length : Int)
      · obtain ⟨A', y, rfl⟩ : ∃ A' y, A = A' ++ [y] := by
          rcases List.eq_nil_or_concat A with w | ⟨l, a, w⟩
          · rw [w] at zA; simp at zA
          · exact ⟨l, a, by rw [w, List.concat_eq_append]⟩
        obtain ⟨HA', Hy, HAy⟩ := CHK.app.mp HA
        have hyb : ∀ b ∈ y.2.2, b ∈ flB (A' ++ [y]) := fun b hb => by rw [flB_app, fB1]; exact List.mem_append_right _ hb
        have hyu : ∀ b ∈ y.2.2, b ∈ u := fun b hb => (HA.2.1 b (hyb b hb)).1
        have hy1 : y.1 ∈ y.2.2 := by obtain ⟨w, hw⟩ := (Hy.1 y (by simp)).vb.hd; rw [hw]; exact List.mem_cons_self
        rw [List.length_append, List.length_singleton] at hQl h2l
        obtain ⟨m4, c4, sg4, u4, ns4, cnt4, R, e4, o4, n4, lR, fR, HR, bR⟩ := c180_70 (d := d) (n := n) (q := q) (id := id) (a3 := ((A' ++ [y]).length : Int)) (hh := hh) (P1 := A') (P2 := B) (Q := Q') (y := y) (by omega) o3.1 (by omega) (by omega) (by omega) (by rw [show A' ++ y :: B = (A' ++ [y]) ++ B by simp, ents_app]; exact n3) hnn2 nq3 hqn2 hne (by omega) hQ2 H2 (Hy.cg e13 hu2) (fun v hv hw => by
          rcases b2 v hv with t | t
          · exact HAx v (hyb v hw) v (by rw [flB_app, fB1]; exact List.mem_append_left _ (hch v t)) rfl
          · exact t (hyu v hw)) (by rw [e13 y.1 (hyu _ hy1)]; exact hcc y.1 (by rw [show A' ++ [y] ++ x :: B = (A' ++ [y]) ++ (x :: B) from rfl, flB_app]; exact List.mem_append_left _ (hyb _ hy1)))
        have o14 := (o13.trans o4 (S := fun w => w = n ∨ w = q) (fun _ _ w => w) (fun _ _ w => w)).mono (S := fun w => w = n) (a' := 2 * (hh + 1)) (b' := 4 * (hh + 1)) cut (by omega) (by omega)
        have H00 : CHK c' u (hh + 1) (A' ++ (([y] ++ [x]) ++ B)) := by
          have e : A' ++ (([y] ++ [x]) ++ B) = (A' ++ [y]) ++ ([x] ++ B) := by simp
          rw [e]; exact H0
        have hm := H00.mid o14.2.1.1 o14.2.1.2 HR (fun b hb => by
          rw [flB_app, fB1, fB1]
          rcases bR b hb with t | t | t
          · rcases b2 b t with w | w
            · exact Or.inl (List.mem_append_right _ (hch b w))
            · exact Or.inr w
          · exact Or.inl (List.mem_append_left _ t)
          · exact Or.inr fun w => t (hu2 b w))
        refine ⟨m4, c4, sg4, u4, ns4, cnt4, A' ++ (R ++ B), st _ ?_, o14, n4, ?_, ?_, hm.1, fun b hb => ?_⟩
        · rw [if_pos z3, if_pos zA, show w32 (((A' ++ [y]).length : Int) - 1) = (A'.length : Int) by rw [List.length_append, List.length_singleton, w32_of (by omega) (by omega)]; push_cast; omega]
          exact e4
        · rw [hrm, flL_app, flL_app, fR, if_pos zA, fL2, flL_app, fL1, cL]
          simp only [List.append_assoc]
        · simp only [List.length_append, List.length_cons, List.length_nil]; omega
        · have e : A' ++ [y] ++ x :: B = A' ++ (([y] ++ [x]) ++ B) := by simp
          rw [e]; exact hm.2 b hb
      · have hA0 : A = [] := List.length_eq_zero_iff.mp (by omega)
        subst hA0
        obtain ⟨y, B', rfl⟩ : ∃ y B', B = y :: B' := by
          cases B with
          | nil => simp at h2l
          | cons y B' => exact ⟨y, B', rfl⟩
        have HBB' : CHK c' u (hh + 1) ([y] ++ B') := HBB
        obtain ⟨Hy, HB', HyB⟩ := CHK.app.mp HBB'
        have hyb : ∀ b ∈ y.2.2, b ∈ flB (y :: B') := fun b hb => by rw [flB_cons]; exact List.mem_append_left _ hb
        have hyu : ∀ b ∈ y.2.2, b ∈ u := fun b hb => (HBB.2.1 b (hyb b hb)).1
        have hy1 : y.1 ∈ y.2.2 := by obtain ⟨w, hw⟩ := (Hy.1 y (by simp)).vb.hd; rw [hw]; exact List.mem_cons_self
        rw [List.length_cons] at hQl h2l
        obtain ⟨m4, c4, sg4, u4, ns4, cnt4, R, e4, o4, n4, lR, fR, HR, bR⟩ := c180_70 (d := d) (n := n) (q := q) (id := id) (a3 := 0) (hh := hh) (P1 := []) (P2 := B') (Q := Q') (y := y) (by omega) o3.1 (by omega) (by omega) (by omega) n3 hnn2 nq3 hqn2 hne (by simp at hQl ⊢; omega) hQ2 H2 (Hy.cg e13 hu2) (fun v hv hw => by
          rcases b2 v hv with t | t
          · exact HxB' v (by rw [fB1]; exact hch v t) v (hyb v hw) rfl
          · exact t (hyu v hw)) (by rw [e13 y.1 (hyu _ hy1)]; exact hcc y.1 (by rw [List.nil_append, flB_cons]; exact List.mem_append_right _ (hyb _ hy1)))
        have o14 := (o13.trans o4 (S := fun w => w = n ∨ w = q) (fun _ _ w => w) (fun _ _ w => w)).mono (S := fun w => w = n) (a' := 2 * (hh + 1)) (b' := 4 * (hh + 1)) cut (by omega) (by omega)
        have H00 : CHK c' u (hh + 1) ([] ++ (([x] ++ [y]) ++ B')) := H0
        have hm := H00.mid o14.2.1.1 o14.2.1.2 HR (fun b hb => by
          rw [flB_app, fB1, fB1]
          rcases bR b hb with t | t | t
          · rcases b2 b t with w | w
            · exact Or.inl (List.mem_append_left _ (hch b w))
            · exact Or.inr w
          · exact Or.inl (List.mem_append_right _ t)
          · exact Or.inr fun w => t (hu2 b w))
        refine ⟨m4, c4, sg4, u4, ns4, cnt4, [] ++ (R ++ B'), st _ ?_, o14, n4, ?_, ?_, hm.1, fun b hb => hm.2 b hb⟩
        · rw [if_pos z3, if_neg zA]
          exact e4
        · rw [hrm, flL_app, flL_app, fR, if_neg (by decide), fL2, cL]
          show [] ++ (_ ++ y.2.1 ++ flL B') = [] ++ (_ ++ flL (y :: B'))
          rw [flL_cons]
          simp only [List.append_assoc]
        · simp only [List.length_append, List.length_cons, List.length_nil]; omega
    · obtain ⟨m4, c4, sg4, u4, ns4, cnt4, R, e4, o4, n4, lR, fR, HR, bR⟩ := c175 (d := d - 1) (n := n) (q := q) (hh := hh) (P1 := A) (P2 := B) (Q := Q') (by omega) o3.1 (by omega) (by omega) (by omega) (by rw [ents_app]; exact n3) hnn2 nq3 hqn2 hne (by omega) (by omega) H2
      have o14 := (o13.trans o4 (S := fun w => w = n ∨ w = q) (fun _ _ w => w) (fun _ _ w => w)).mono (S := fun w => w = n) (a' := 2 * (hh + 1)) (b' := 4 * (hh + 1)) cut (by omega) (by omega)
      have hm := H0.mid o14.2.1.1 o14.2.1.2 HR (fun b hb => by
        rw [fB1]
        rcases bR b hb with t | t
        · rcases b2 b t with w | w
          · exact Or.inl (hch b w)
          · exact Or.inr w
        · exact Or.inr fun w => t (o2.2.1.2 b w))
      have hR1 : R.length = 1 := by
        have := lR.2.2
        rcases Nat.lt_or_ge 8 Q'.length with w | w
        · omega
        · have : R.length ≠ 2 := fun v => by have := lR.2.2.mp v; omega
          omega
      refine ⟨m4, c4, sg4, u4, ns4, cnt4, A ++ (R ++ B), st _ ?_, o14, n4, ?_, ?_, hm.1, hm.2⟩
      · rw [if_neg z3, bV_eq e4]
      · rw [hrm, flL_app, flL_app, fR, fL2, cL]
      · simp only [List.length_append, List.length_cons]; omega
/-- a document goes out of a version -/
theorem c179 {m : Mem} {root id : Int} {L : DL} {bs : List Int} (hd : 30 ≤ d) (h : DSt m K c c' sg u ns cnt) (hc : cnt + 20 ≤ 64) (hs : sg.length + 12 ≤ 64) (hu : u.length + 12 ≤ 1500) (hV : VsO c root L bs) (hL : L.length ≤ 100) (hbu : ∀ b ∈ bs, b ∈ u ∧ c' b = c b) (hlk : lkL id L ≠ none) : TOP m K c c' sg u ns cnt (fun _ => False) 10 16 (rmL id L) (fun b => b ∈ bs) (cl d 179 [pR K, pI root, pI id] m) := by
  obtain ⟨hV, hst, hir, hnd, hr⟩ := hV
  rcases hV with ⟨rfl, rfl, rfl⟩ | ⟨hh, ch, hn, rfl, rfl, hl, hv⟩
  · exact absurd rfl hlk
  · have hrt := hr root List.mem_cons_self
    have h3 := lev_le hv ⟨hl.1, hl.2.2⟩ hL
    have hsub : ∀ b ∈ flB ch, b ∈ root :: flB ch := fun b hb => List.mem_cons_of_mem _ hb
    obtain ⟨m1, n, ns1, e1, o1, n1, p1, t1⟩ := c173 (d := d - 1) (b := root) (lf := hh == 0) (es := ents ch) (by omega) h (by omega) hrt hn (by rw [ents_len]; exact hl.2.1)
    have hnn : n ∈ ns1.take (cnt + 1) := (take_mem t1).1
    have H : CHK c' u hh ch := ⟨fun x hx => (hv x hx).cg fun b hb j _ _ => by rw [(hbu b (hsub b (List.mem_flatMap.mpr ⟨x, hx, hb⟩))).2], fun b hb => ⟨(hbu b (hsub b hb)).1, hr b (hsub b hb)⟩, (List.nodup_cons.mp hnd).2, hir⟩
    obtain ⟨m2, c2, sg2, u2, ns2, cnt2, Q', e2, o2, n2, fL2, ln2, H2, b2⟩ := c180 (K := K) (id := id) hh (d - 1) m1 c' sg u ns1 (cnt + 1) n ch (by omega) o1.1 (by omega) (by omega) (by omega) n1 hnn ⟨hl.1, hl.2.2⟩ hl.2.1 H hst (fun b hb => (hbu b (hsub b hb)).2) hlk
    have o2s := o2.2.2.1
    have hnn2 := o2.mem hnn
    have hst2 : srt (flL Q') := by rw [fL2]; exact srt_rm hst
    obtain ⟨m3, c3, sg3, u3, ns3, cnt3, root', bs', e3, o3, v3, i3, r3⟩ := c177 (d := d - 1) (n := n) (hh := hh) (Q := Q') (by omega) o2.1 (by omega) (by omega) (by omega) n2 hnn2 (by omega) (fun w => by have := hl.2.2 w; omega) H2 hst2
    have o12 := o1.trans o2 (S := fun w => w = n) (fun _ _ w => w.elim) (fun _ _ w => w)
    have o13 := (o12.trans o3 (S := fun w => w = n) (fun _ _ w => w) (fun _ _ w => w)).mono (S := fun _ => False) (a' := 10) (b' := 16) (fun w hw hS => p1 (by rw [← hS]; exact hw)) (by omega) (by omega)
    rw [fL2] at v3
    refine ⟨m3, c3, sg3, u3, ns3, cnt3, root', bs', q179 (by omega) h.1.1 _ ?_, o13, v3, i3, fun b hb => ?_⟩
    · rw [gd_of h.2.1.1, bR_eq e1, bV_eq e2, bI_eq e3]
    · rcases r3 b hb with s | s
      · rcases b2 b s with t | t
        · exact Or.inl (hsub b t)
        · exact Or.inr t
      · exact Or.inr fun w => s (o2.2.1.2 b w)
end
