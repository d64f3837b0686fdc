/-! the disk: a new root; a document is put -/
set_option maxRecDepth 100000
set_option maxHeartbeats 4000000
theorem flL_len {f : Nat} : ∀ {ch : CH}, (∀ x ∈ ch, f ≤ x.2.1.length) → f * ch.length ≤ (flL ch).length := by
  intro ch
  induction ch with
  | nil => intro _; simp
  | cons x ch ih =>
    intro h
    have h1 := h x List.mem_cons_self
    have h2 := ih fun y hy => h y (List.mem_cons_of_mem _ hy)
    rw [flL_cons, List.length_append, List.length_cons, Nat.mul_succ]
    omega
theorem VTr.cnt {c : RF} : ∀ {h : Nat} {b : Int} {L : DL} {bs : List Int}, VTr c h b L bs → 3 ^ h ≤ L.length := by
  intro h
  induction h with
  | zero => rintro b L bs ⟨-, id, xs, rfl, -⟩; simp
  | succ h ih =>
    rintro b L bs ⟨ch, -, rfl, -, hl, hv⟩
    have := flL_len (f := 3 ^ h) fun x hx => ih (hv x hx)
    have h2 : 3 ^ h * 3 ≤ 3 ^ h * ch.length := Nat.mul_le_mul_left _ hl.1
    rw [Nat.pow_succ]; omega
/-- few levels -/
theorem lev_le {c : RF} {h : Nat} {ch : CH} (hv : chV c h ch) (hl : 1 ≤ ch.length ∧ (0 < h → 2 ≤ ch.length)) (hL : (flL ch).length ≤ 100) : h ≤ 3 := by
  have := flL_len (f := 3 ^ h) fun x hx => (hv x hx).cnt
  rcases Nat.lt_or_ge 3 h with q | q
  · exfalso
    have h1 : 3 ^ 4 ≤ 3 ^ h := Nat.pow_le_pow_right (by decide) q
    have h2 := hl.2 (by omega)
    have h3 : 3 ^ h * 2 ≤ 3 ^ h * ch.length := Nat.mul_le_mul_left _ h2
    have : (3 : Nat) ^ 4 = 81 := by decide
    omega
  · exact q
section
variable {d : Nat} {K : Int} {c c' : RF} {sg u ns : List Int} {cnt : Nat}
/-- what a new root comes to -/
def TOP (m : Mem) (K : Int) (c c' : RF) (sg u ns : List Int) (cnt : Nat) (S : Int → Prop) (a b : Nat) (L : DL) (O : Int → Prop) (X : RM) : Prop := ∃ m' c'' sg' u' ns' cnt' root bs, X = some (.inl (some (pI root)), m') ∧ DOR K c c' sg u ns cnt S a b m m' c'' sg' u' ns' cnt' ∧ VsO c'' root L bs ∧ (∀ b ∈ bs, b ∈ u') ∧ ∀ b ∈ bs, O b ∨ b ∉ u
theorem VsO.of {c : RF} {u : List Int} {h : Nat} {Q : CH} {b : Int} (H : CHK c u h Q) (hb : bNode (c b) (h == 0) (ents Q)) (hl : 1 ≤ Q.length ∧ Q.length ≤ 8 ∧ (0 < h → 2 ≤ Q.length)) (hs : srt (flL Q)) (hr : 2 ≤ b ∧ b < 1600) (hn : b ∉ flB Q) : VsO c b (flL Q) (b :: flB Q) := by
  refine ⟨Or.inr ⟨h, Q, hb, rfl, rfl, hl, H.1⟩, hs, H.2.2.2, List.nodup_cons.mpr ⟨hn, H.2.2.1⟩, fun x hx => ?_⟩
  rcases List.mem_cons.mp hx with q | q
  · rw [q]; exact hr
  · exact (H.2.1 x q).2
/-- a node becomes the root -/
theorem c177 {m : Mem} {n : Int} {hh : Nat} {Q : CH} (hd : 9 ≤ d) (h : DSt m K c c' sg u ns cnt) (hc : cnt + 2 ≤ 64) (hs : sg.length + 4 ≤ 64) (hu : u.length + 4 ≤ 1500) (hn : ND1 m n (hh == 0) (ents Q)) (hnn : n ∈ ns.take cnt) (hQ : Q.length ≤ 10) (h0 : 0 < hh → 1 ≤ Q.length) (H : CHK c' u hh Q) (hst : srt (flL Q)) : TOP m K c c' sg u ns cnt (fun x => x = n) 3 2 (flL Q) (fun b => b ∈ flB Q) (cl d 177 [pR K, pR n] m) := by
  have h3 : vl m n 3 = (Q.length : Int) := by rw [hn.2.2.1, ents_len]
  have er := ents_rng H
  -- staged as it is
  have wr : 1 ≤ Q.length → Q.length ≤ 8 → (0 < hh → 2 ≤ Q.length) → (∀ Z, (bI (cl (d - 1) 176 [pR K, pR n] m) fun v m' => some (.inl (some (pI v)), m')) = some Z → cl d 177 [pR K, pR n] m = some Z) → TOP m K c c' sg u ns cnt (fun x => x = n) 3 2 (flL Q) (fun b => b ∈ flB Q) (cl d 177 [pR K, pR n] m) := by
    intro q1 q2 q3 st
    obtain ⟨m', b, c'', e1, o1, hb, hr, hB⟩ := (c176 (d := d - 1) (by omega) (by omega) (by omega) (by rw [ents_len]; exact q2) (fun e he => by have := er e he; omega) h hn).op h.2.1
    have H' := o1.chk H
    refine ⟨m', c'', _, _, ns, cnt, b, b :: flB Q, st _ (by rw [bI_eq e1]), o1.mono (fun _ _ w => w.elim) (by omega) (by omega), VsO.of H' hB ⟨q1, q2, q3⟩ hst hr (fun z => hb (H.2.1 b z).1), fun x hx => ?_, fun x hx => ?_⟩
    · rcases List.mem_cons.mp hx with q | q
      · rw [q]; exact List.mem_cons_self
      · exact List.mem_cons_of_mem _ (H.2.1 x q).1
    · rcases List.mem_cons.mp hx with q | q
      · exact Or.inr (by rw [q]; exact hb)
      · exact Or.inl q
  by_cases z0 : Q.length = 0
  · have : Q = [] := List.length_eq_zero_iff.mp z0
    subst this
    refine ⟨m, c', sg, u, ns, cnt, 0, [], q177 (by omega) h.1.1 _ ?_, ⟨h, ⟨fun _ _ => rfl, fun _ h => h⟩, by omega, rfl, fun q _ _ lf es hn => hn, NCo.refl ⟨rfl, rfl⟩⟩, ⟨Or.inl ⟨rfl, rfl, rfl⟩, trivial, fun x hx => (by cases hx), List.nodup_nil, fun x hx => (by cases hx)⟩, fun x hx => (by cases hx), fun x hx => (by cases hx)⟩
    rw [gd_of hn.1.1, h3, nm_eq, if_pos (by simp)]
  · by_cases z8 : 8 < Q.length
    · obtain ⟨m1, r, ns1, e1, o1, n1, p1, t1⟩ := c172_op (d := d - 1) (lf := false) (by omega) h (by omega)
      have hrn : r ∈ ns1.take (cnt + 1) := (take_mem t1).1
      have hnn1 := o1.mem hnn
      have hne : r ≠ n := fun w => p1 (by rw [w]; exact hnn)
      have nn1 := o1.kp hnn (fun w => w) hn
      obtain ⟨m2, c2, sg2, u2, ns2, cnt2, R, e2, o2, n2, lR, fR, HR, bR⟩ := c175 (d := d - 1) (n := r) (q := n) (hh := hh) (P1 := []) (P2 := []) (Q := Q) (by omega) o1.1 (by omega) (by omega) (by omega) n1 hrn nn1 hnn1 hne (by simp) (by omega) (o1.chk H)
      rw [List.append_nil, List.nil_append] at n2
      have o2s := o2.2.2.1
      have er2 := ents_rng HR
      have hlR : R.length = 2 := lR.2.2.mpr z8
      obtain ⟨m3, b, c3, e3, o3, hb, hr, hB⟩ := (c176 (d := d - 1) (p := r) (lf := false) (es := ents R) (by omega) (by omega) (by omega) (by rw [ents_len]; omega) (fun e he => by have := er2 e he; omega) o2.1 n2).op o2.1.2.1
      have HR' := o3.chk HR
      have o12 := o1.trans o2 (S := fun w => w = n ∨ w = r) (fun _ _ w => w.elim) (fun _ _ w => w.elim Or.inr Or.inl)
      have o13 := (o12.trans o3 (S := fun w => w = n ∨ w = r) (fun _ _ w => w) (fun _ _ w => w.elim)).mono (S := fun w => w = n) (a' := 3) (b' := 2) (fun w hw hS => hS.elim id fun v => absurd hw (by rw [v]; exact p1)) (by omega) (by omega)
      rw [← fR] at hst ⊢
      refine ⟨m3, c3, _, _, ns2, cnt2, b, b :: flB R, q177 (by omega) h.1.1 _ ?_, o13, VsO.of (h := hh + 1) HR' hB ⟨by omega, by omega, fun _ => by omega⟩ hst hr (fun z => hb (HR.2.1 b z).1), fun x hx => ?_, fun x hx => ?_⟩
      · have e1' : cl (d - 1) 172 [pR K, pI 0] m = some (.inl (some (pR r)), m1) := e1
        have e2' : cl (d - 1) 175 [pR K, pR r, pI 0, pR n] m1 = some (.inl none, m2) := e2
        rw [gd_of hn.1.1, h3, nm_eq, if_neg (by omega), if_pos (by omega), gd_of h.2.1.1, bR_eq e1', bV_eq e2', bI_eq e3]
      · rcases List.mem_cons.mp hx with q | q
        · rw [q]; exact List.mem_cons_self
        · exact List.mem_cons_of_mem _ (HR.2.1 x q).1
      · rcases List.mem_cons.mp hx with q | q
        · rw [q]; exact Or.inr fun w => hb (o2.2.1.2 b (o1.2.1.2 b w))
        · rcases bR x q with s | s
          · exact Or.inl s
          · exact Or.inr fun w => s (o1.2.1.2 x w)
    · cases hh with
      | zero =>
        have hl : vl m n 0 = 1 := hn.2.1
        refine wr (by omega) (by omega) (fun w => absurd w (by omega)) fun Z hZ => q177 (by omega) h.1.1 _ ?_
        rw [gd_of hn.1.1, h3, nm_eq, if_neg (by omega), if_neg (by omega), hl, if_neg (by decide), gd_of h.2.1.1]
        exact hZ
      | succ hh =>
        have hl : vl m n 0 = 0 := hn.2.1
        by_cases z1 : Q.length = 1
        · obtain ⟨x, rfl⟩ : ∃ x, Q = [x] := by
            cases Q with
            | nil => cases z1
            | cons x Q =>
              have : Q = [] := List.length_eq_zero_iff.mp (by simpa using z1)
              exact ⟨x, by rw [this]⟩
          have fB1 : flB [x] = x.2.2 := by simp [flB]
          have fL1 : flL [x] = x.2.1 := by simp [flL]
          obtain ⟨⟨t1, t2⟩, t3, t4⟩ := hn.at (k := 0) (e := (hdId x.2.1, x.1)) rfl
          rw [Int.natCast_zero] at t2 t4
          obtain ⟨ch, cn, cL, cB, cl', cv⟩ := H.1 x (by simp)
          have hbs := H.2.1
          have hnd := H.2.2.1
          have hid := H.2.2.2
          rw [fB1] at hbs hnd
          rw [fL1] at hid hst ⊢
          rw [fB1]
          refine ⟨m, c', sg, u, ns, cnt, x.1, x.2.2, q177 (by omega) h.1.1 _ ?_, ⟨h, ⟨fun _ _ => rfl, fun _ h => h⟩, by omega, rfl, fun q _ _ lf es hn => hn, NCo.refl ⟨rfl, rfl⟩⟩, ⟨Or.inr ⟨hh, ch, cn, cL, cB, ⟨by omega, by omega, fun _ => by omega⟩, cv⟩, hst, hid, hnd, fun b hb => (hbs b hb).2⟩, fun b hb => (hbs b hb).1, fun b hb => Or.inl hb⟩
          rw [gd_of hn.1.1, h3, nm_eq, if_neg (by omega), if_neg (by omega), hl, if_pos rfl, if_pos (by simp), nm_eq, gd_of hn.1.2.2.1.1, gd_of t4, t2]
        · refine wr (by omega) (by omega) (fun w => by omega) fun Z hZ => q177 (by omega) h.1.1 _ ?_
          rw [gd_of hn.1.1, h3, nm_eq, if_neg (by omega), if_neg (by omega), hl, if_pos rfl, if_neg (by omega), gd_of h.2.1.1]
          exact hZ
/-- a document is put into a version -/
theorem c171 {m : Mem} {root id db : Int} {L : DL} {bs xs : List Int} (hd : 30 ≤ d) (h : DSt m K c c' sg u ns cnt) (hc : cnt + 12 ≤ 64) (hs : sg.length + 12 ≤ 64) (hu : u.length + 12 ≤ 1500) (hV : VsO c root L bs) (hL : L.length ≤ 100) (hbu : ∀ b ∈ bs, b ∈ u ∧ c' b = c b) (hid : 0 ≤ id ∧ id < 10000) (hdb : db ∈ u ∧ 2 ≤ db ∧ db < 1600) (hdoc : bDoc (c' db) xs) (hdq : db ∉ bs) : TOP m K c c' sg u ns cnt (fun _ => False) 10 10 (insL id xs L) (fun b => b ∈ bs ∨ b = db) (cl d 171 [pR K, pI root, pI id, pI db] m) := by
  obtain ⟨hV, hst, hir, hnd, hr⟩ := hV
  -- from a node on
  have key : ∀ (m1 : Mem) (n : Int) (ns1 : List Int) (hh : Nat) (Q : CH), hh ≤ 3 → DOR K c c' sg u ns cnt (fun _ => False) 0 1 m m1 c' sg u ns1 (cnt + 1) → ND1 m1 n (hh == 0) (ents Q) → n ∉ ns.take cnt → ns1.take (cnt + 1) = ns.take cnt ++ [n] → (0 < hh → 1 ≤ Q.length) → Q.length ≤ 8 → CHK c' u hh Q → srt (flL Q) → (∀ b ∈ flB Q, c' b = c b) → db ∉ flB Q → flL Q = L → (∀ b ∈ flB Q, b ∈ bs) → (∀ Z, rn d 171 17 [pR K, pI root, pI id, pI db, pU] [pR n] m1 = some Z → cl d 171 [pR K, pI root, pI id, pI db] m = some Z) → TOP m K c c' sg u ns cnt (fun _ => False) 10 10 (insL id xs L) (fun b => b ∈ bs ∨ b = db) (cl d 171 [pR K, pI root, pI id, pI db] m) := by
    intro m1 n ns1 hh Q h3 o1 n1 p1 t1 q0 q8 H hsQ hcc hdQ eL hsub st
    have hnn : n ∈ ns1.take (cnt + 1) := (take_mem t1).1
    obtain ⟨m2, c2, sg2, u2, ns2, cnt2, Q', e2, o2, n2, fL2, ln2, H2, b2⟩ := c174 (K := K) (id := id) (db := db) (xs := xs) hid hh (d - 1) m1 c' sg u ns1 (cnt + 1) n Q (by omega) o1.1 (by omega) (by omega) (by omega) n1 hnn q0 q8 H hsQ hcc hdb hdoc hdQ
    have o2s := o2.2.2.1
    have hnn2 := o2.mem hnn
    have hst2 : srt (flL Q') := by rw [fL2]; exact srt_ins hsQ
    obtain ⟨m3, c3, sg3, u3, ns3, cnt3, root', bs', e3, o3, v3, i3, r3⟩ := c177 (d := d - 1) (n := n) (hh := hh) (Q := Q') (by omega) o2.1 (by omega) (by omega) (by omega) n2 hnn2 (by omega) (fun w => by have := q0 w; omega) H2 hst2
    have o12 := o1.trans o2 (S := fun w => w = n) (fun _ _ w => w.elim) (fun _ _ w => w)
    have o13 := (o12.trans o3 (S := fun w => w = n) (fun _ _ w => w) (fun _ _ w => w)).mono (S := fun _ => False) (a' := 10) (b' := 10) (fun w hw hS => p1 (by rw [← hS]; exact hw)) (by omega) (by omega)
    rw [fL2, eL] at v3
    refine ⟨m3, c3, sg3, u3, ns3, cnt3, root', bs', st _ (q171_17 (by omega) o1.1.1.1 _ ?_), o13, v3, i3, fun b hb => ?_⟩
    · rw [gd_of o1.1.2.1.1, bV_eq e2, bI_eq e3]
    · rcases r3 b hb with s | s
      · rcases b2 b s with t | t | t
        · exact Or.inl (Or.inl (hsub b t))
        · exact Or.inl (Or.inr t)
        · exact Or.inr t
      · exact Or.inr fun w => s (o2.2.1.2 b w)
  rcases hV with ⟨rfl, rfl, rfl⟩ | ⟨hh, ch, hn, rfl, rfl, hl, hv⟩
  · obtain ⟨m1, n, ns1, e1, o1, n1, p1, t1⟩ := c172_op (d := d - 1) (lf := true) (by omega) h (by omega)
    refine key m1 n ns1 0 [] (by omega) o1 n1 p1 t1 (fun w => absurd w (by omega)) (by simp) ⟨fun x hx => (by cases hx), fun x hx => (by cases hx), List.nodup_nil, fun x hx => (by cases hx)⟩ trivial (fun x hx => (by cases hx)) (fun hx => (by cases hx)) rfl (fun x hx => (by cases hx)) fun Z hZ => q171 (by omega) h.1.1 _ ?_
    have e1' : cl (d - 1) 172 [pR K, pI 1] m = some (.inl (some (pR n)), m1) := e1
    rw [if_pos rfl, gd_of h.2.1.1, bR_eq e1']
    exact hZ
  · have hrt := hr root List.mem_cons_self
    have h3 := lev_le hv ⟨hl.1, hl.2.2⟩ hL
    have hsub : ∀ b ∈ flB ch, b ∈ root :: flB ch := fun b hb => List.mem_cons_of_mem _ hb
    obtain ⟨m1, n, ns1, e1, o1, n1, p1, t1⟩ := c173 (d := d - 1) (b := root) (lf := hh == 0) (es := ents ch) (by omega) h (by omega) hrt hn (by rw [ents_len]; exact hl.2.1)
    refine key m1 n ns1 hh ch h3 o1 n1 p1 t1 (fun _ => hl.1) hl.2.1 ⟨fun x hx => (hv x hx).cg fun b hb j _ _ => ?_, fun b hb => ⟨(hbu b (hsub b hb)).1, hr b (hsub b hb)⟩, (List.nodup_cons.mp hnd).2, hir⟩ hst (fun b hb => (hbu b (hsub b hb)).2) (fun w => hdq (hsub _ w)) rfl hsub fun Z hZ => q171 (by omega) h.1.1 _ ?_
    · rw [(hbu b (hsub b (List.mem_flatMap.mpr ⟨x, hx, hb⟩))).2]
    · rw [if_neg (by omega), gd_of h.2.1.1, bR_eq e1]
      exact hZ
end
