/-! the disk: a document comes in below a node -/
set_option maxRecDepth 100000
set_option maxHeartbeats 4000000
theorem gi_mid {A B : List Int} {x y j : Int} (h0 : 0 ≤ j) (hj : j ≠ A.length) : gi (A ++ x :: B) j = gi (A ++ y :: B) j := by
  by_cases z : j < A.length
  · rw [gi_app_l h0 z, gi_app_l h0 z]
  · rw [gi_app_r (by omega), gi_app_r (by omega), gi_succ (by omega), gi_succ (by omega)]
/-- another block in a place -/
theorem ND1.setb {m : Mem} {p : Int} {lf : Bool} {A B : List (Int × Int)} {i b b' : Int} (h : ND1 m p lf (A ++ (i, b) :: B)) : ND1 (mst m (vl m p 2) A.length b') p lf (A ++ (i, b') :: B) := by
  obtain ⟨n1, n2⟩ := h.1.ne
  obtain ⟨⟨a1, a2, a3, a4⟩, a5, a6, a7, a8, a9⟩ := h
  have g : ∀ f, vl (mst m (vl m p 2) A.length b') p f = vl m p f := fun f => by rw [vl_mst, if_neg (fun z => n2 z.1)]
  have e1 : (A ++ (i, b') :: B).map (·.1) = (A ++ (i, b) :: B).map (·.1) := by rw [List.map_append, List.map_append, List.map_cons, List.map_cons]
  have el : (A ++ (i, b') :: B).length = (A ++ (i, b) :: B).length := by rw [List.length_append, List.length_append, List.length_cons, List.length_cons]
  refine ⟨⟨a1, by rw [g]; exact a2, by rw [g]; exact a3, by rw [g, g]; exact a4⟩, by rw [g]; exact a5, by rw [g, el]; exact a6, by rw [el]; exact a7, fun j j0 j1 => ?_, fun j j0 j1 => ?_⟩
  · rw [el] at j1
    rw [g, vl_mst, if_neg (fun z => a4 z.1), e1]; exact a8 j j0 j1
  · rw [el] at j1
    rw [g, vl_mst]
    by_cases z : j = A.length
    · rw [if_pos ⟨rfl, z⟩, z, List.map_append, List.map_cons, gi_app_r (by rw [List.length_map]; omega), List.length_map, Int.sub_self, gi_zero]
    · rw [if_neg (fun y => z y.2), a9 j j0 j1, List.map_append, List.map_append, List.map_cons, List.map_cons]
      exact gi_mid j0 (by rw [List.length_map]; exact z)
/-- the children of a node of documents -/
theorem VTr.leaf {c : RF} {x : Int × DL × List Int} (h : VTr c 0 x.1 x.2.1 x.2.2) : ∃ ys, x = (x.1, [(hdId x.2.1, ys)], [x.1]) ∧ bDoc (c x.1) ys := by
  obtain ⟨b, L, bs⟩ := x
  obtain ⟨h1, i, ys, h2, h3⟩ := h
  dsimp only at h1 h2 h3 ⊢
  subst h1 h2
  exact ⟨ys, rfl, h3⟩
section
variable {d : Nat} {K : Int} {c c' : RF} {sg u ns : List Int} {cnt : Nat}
/-- what comes of an insertion -/
def INR (m : Mem) (K n : Int) (c c' : RF) (sg u ns : List Int) (cnt : Nat) (hh : Nat) (id db : Int) (xs : List Int) (Q : CH) (X : RM) : Prop := ∃ m' c'' sg' u' ns' cnt' Q', X = some (.inl none, m') ∧ DOR K c c' sg u ns cnt (fun x => x = n) (2 * hh) (2 * hh) m m' c'' sg' u' ns' cnt' ∧ ND1 m' n (hh == 0) (ents Q') ∧ flL Q' = insL id xs (flL Q) ∧ (Q.length ≤ Q'.length ∧ Q'.length ≤ Q.length + 1) ∧ CHK c'' u' hh Q' ∧ ∀ b ∈ flB Q', b ∈ flB Q ∨ b = db ∨ b ∉ u
theorem CHK.doc {c : RF} {u : List Int} {id db : Int} {xs : List Int} (hid : 0 ≤ id ∧ id < 10000) (hdb : db ∈ u ∧ 2 ≤ db ∧ db < 1600) (hdoc : bDoc (c db) xs) : CHK c u 0 [(db, [(id, xs)], [db])] := by
  refine ⟨fun x hx => ?_, fun b hb => ?_, ?_, fun z hz => ?_⟩
  · rw [List.mem_singleton.mp hx]; exact ⟨rfl, id, xs, rfl, hdoc⟩
  · have : b = db := by simpa [flB] using hb
    rw [this]; exact hdb
  · simp [flB]
  · have : z = (id, xs) := by simpa [flL] using hz
    rw [this]; exact hid
theorem c174_leaf {m : Mem} {n id db : Int} {xs : List Int} {Q : CH} (hd : 3 ≤ d) (h : DSt m K c c' sg u ns cnt) (hn : ND1 m n true (ents Q)) (hnn : n ∈ ns.take cnt) (hQ : Q.length ≤ 8) (H : CHK c' u 0 Q) (hs : srt (flL Q)) (hid : 0 ≤ id ∧ id < 10000) (hdb : db ∈ u ∧ 2 ≤ db ∧ db < 1600) (hdoc : bDoc (c' db) xs) (hdq : db ∉ flB Q) : INR m K n c c' sg u ns cnt 0 id db xs Q (cl d 174 [pR K, pR n, pI id, pI db] m) := by
  have hD := CHK.doc hid hdb hdoc
  have fL1 : ∀ (z : Int × DL × List Int), flL [z] = z.2.1 := fun z => by simp [flL]
  have fB1 : ∀ (z : Int × DL × List Int), flB [z] = z.2.2 := fun z => by simp [flB]
  by_cases hq : Q = []
  · subst hq
    obtain ⟨m1, e1, o1, n1⟩ := c300_op (d := d - 1) (A := []) (B := []) (id := id) (bk := db) h hnn hn (by simp)
    refine ⟨m1, c', sg, u, ns, cnt, [(db, [(id, xs)], [db])], ?_, o1, n1, by rw [fL1]; rfl, ⟨by simp, by simp⟩, hD, fun b hb => ?_⟩
    · have h0 : vl m n 3 = 0 := hn.2.2.1
      have hl : vl m n 0 = 1 := hn.2.1
      refine q174 (by omega) h.1.1 _ ?_
      rw [gd_of hn.1.1, if_pos h0]
      refine q174_16 (by omega) h.1.1 _ ?_
      rw [gd_of hn.1.1, hl, if_neg (by decide), h0, if_neg (by decide)]
      refine q174_54 (by omega) h.1.1 _ ?_
      have e1' : cl (d - 1) 300 [pR n, pI 0, pI id, pI db] m = some (.inl none, m1) := e1
      rw [gd_of hn.1.1, h0, if_neg (by decide), bV_eq e1']
    · rw [fB1] at hb
      exact Or.inr (Or.inl (List.mem_singleton.mp hb))
  · have hQ0 : Q.length ≠ 0 := fun z => hq (List.length_eq_zero_iff.mp z)
    obtain ⟨A, x, B, rfl, hB, hA⟩ := spl id (Q.length - 1) Q (by omega)
    obtain ⟨HA, HxB, HAx⟩ := CHK.app.mp H
    rw [show x :: B = [x] ++ B from rfl] at HxB
    obtain ⟨Hx, HBB, HxB'⟩ := CHK.app.mp HxB
    obtain ⟨ys, hx, hxd⟩ := (Hx.1 x (by simp)).leaf
    have hxne : x.2.1 ≠ [] := by rw [hx]; simp
    rw [List.length_append, List.length_cons] at hQ
    have hn' := hn
    rw [ents_app, ents_cons] at hn'
    have e299 := c299 (d := d - 1) (id := id) h.1.1 hn' (fun z => hA (fun w => z (by rw [w]; rfl))) (fun y hy => by
      obtain ⟨w, hw, rfl⟩ := List.mem_map.mp hy
      exact hB w hw)
    rw [ents_len] at e299
    have hat := hn.at (k := A.length) (e := (hdId x.2.1, x.1)) ents_at
    obtain ⟨⟨t1, t2⟩, t3, t4⟩ := hat
    have h3 : vl m n 3 = (A.length : Int) + (B.length + 1) := by rw [hn.2.2.1, ents_len, List.length_append, List.length_cons]; push_cast; rfl
    have hl : vl m n 0 = 1 := hn.2.1
    have st : ∀ Z, (if hdId x.2.1 = id then (some (.inl none, mst m (vl m n 2) A.length db) : RM) else rn d 174 54 [pR K, pR n, pI id, pI db, pI A.length, pU] [] m) = some Z → cl d 174 [pR K, pR n, pI id, pI db] m = some Z := fun Z hZ => by
      refine q174 (by omega) h.1.1 _ ?_
      rw [gd_of hn.1.1, h3, if_neg (by omega), bI_eq e299]
      refine q174_16 (by omega) h.1.1 _ ?_
      rw [gd_of hn.1.1, hl, if_neg (by decide), h3, if_pos (by omega), nm_eq, gd_of hn.1.2.1.1, gd_of t3, t1]
      by_cases z : hdId x.2.1 = id
      · rw [if_pos z] at hZ ⊢; rw [nm_eq, gd_of hn.1.2.2.1.1, gd_of t4]; exact hZ
      · rw [if_neg z] at hZ ⊢; exact hZ
    have hins := spl_ins (xs := xs) hs hA hxne hB
    have hL : x.2.1 = [(hdId x.2.1, ys)] := by conv => lhs; rw [hx]
    have hBx : x.2.2 = [x.1] := by conv => lhs; rw [hx]
    rw [hL] at hins
    -- the three outcomes
    have mk : ∀ (A' B' : CH) (m' : Mem), cl d 174 [pR K, pR n, pI id, pI db] m = some (.inl none, m') → DOR K c c' sg u ns cnt (fun x => x = n) 0 0 m m' c' sg u ns cnt → ND1 m' n true (ents (A' ++ [(db, [(id, xs)], [db])] ++ B')) → flL A' ++ ([(id, xs)] ++ flL B') = insL id xs (flL (A ++ x :: B)) → A.length + B.length ≤ A'.length + B'.length → A'.length + B'.length ≤ A.length + B.length + 1 → CHK c' u 0 (A' ++ B') → (∀ b ∈ flB (A' ++ B'), b ∈ flB (A ++ x :: B)) → INR m K n c c' sg u ns cnt 0 id db xs (A ++ x :: B) (cl d 174 [pR K, pR n, pI id, pI db] m) := by
      intro A' B' m' e1 o1 n1 f1 l1 l2 C1 g1
      refine ⟨m', c', sg, u, ns, cnt, A' ++ [(db, [(id, xs)], [db])] ++ B', e1, o1, n1, ?_, ?_, ?_, fun b hb => ?_⟩
      · rw [flL_app, flL_app, fL1, List.append_assoc]; exact f1
      · simp only [List.length_append, List.length_cons, List.length_nil]
        omega
      · obtain ⟨c1, c2, c3⟩ := CHK.app.mp C1
        have nd : ∀ b ∈ flB (A' ++ B'), b ≠ db := fun b hb z => hdq (by rw [← z]; exact g1 b hb)
        refine CHK.app.mpr ⟨CHK.app.mpr ⟨c1, hD, fun v hv w hw => ?_⟩, c2, fun v hv w hw => ?_⟩
        · rw [fB1] at hw
          rw [List.mem_singleton.mp hw]
          exact nd v (by rw [flB_app]; exact List.mem_append_left _ hv)
        · rw [flB_app, fB1] at hv
          rcases List.mem_append.mp hv with s | s
          · exact c3 v s w hw
          · rw [List.mem_singleton.mp s]
            exact fun z => nd w (by rw [flB_app]; exact List.mem_append_right _ hw) z.symm
      · rw [flB_app, flB_app, fB1] at hb
        rcases List.mem_append.mp hb with s | s
        · rcases List.mem_append.mp s with t | t
          · exact Or.inl (g1 b (by rw [flB_app]; exact List.mem_append_left _ t))
          · exact Or.inr (Or.inl (List.mem_singleton.mp t))
        · exact Or.inl (g1 b (by rw [flB_app]; exact List.mem_append_right _ s))
    have eAx : A ++ [x] ++ B = A ++ x :: B := by simp
    by_cases z : hdId x.2.1 = id
    · have kc : NC (nS m n) m (mst m (vl m n 2) A.length db) := NC.set (Or.inr (Or.inr rfl))
      have gc : ∀ f, vl (mst m (vl m n 2) A.length db) n f = vl m n f := fun f => by rw [vl_mst, if_neg (fun w => hn.1.ne.2 w.1)]
      have o1 := DOR.nd (S := fun w => w = n) h (List.mem_of_mem_take hnn) kc (gc 1) (gc 2) (fun _ => rfl)
      refine mk A B _ (st _ (by rw [if_pos z])) o1 ?_ ?_ (Nat.le_refl _) (by omega) ?_ ?_
      · have := ND1.setb (b' := db) hn'
        rw [ents_len, z] at this
        rw [ents_app, ents_app, List.append_assoc]
        exact this
      · rw [hins]
        show _ = flL A ++ ((if hdId x.2.1 < id then _ else if hdId x.2.1 = id then (id, xs) :: [] else _) ++ flL B)
        rw [if_neg (by omega), if_pos z]
      · exact CHK.app.mpr ⟨HA, HBB, fun v hv w hw => HAx v hv w (by rw [show x :: B = [x] ++ B from rfl, flB_app]; exact List.mem_append_right _ hw)⟩
      · intro b hb
        rw [flB_app] at hb ⊢
        rcases List.mem_append.mp hb with s | s
        · exact List.mem_append_left _ s
        · exact List.mem_append_right _ (by rw [flB_cons]; exact List.mem_append_right _ s)
    · by_cases y : hdId x.2.1 < id
      · obtain ⟨m1, e1, o1, n1⟩ := c300_op (d := d - 1) (A := ents (A ++ [x])) (B := ents B) (id := id) (bk := db) h hnn (by rw [← ents_app, eAx]; exact hn) (by rw [ents_len, ents_len, List.length_append, List.length_singleton]; omega)
        refine mk (A ++ [x]) B m1 (st _ ?_) o1 ?_ ?_ (by simp <;> omega) (by simp <;> omega) (by rw [eAx]; exact H) (fun b hb => by rw [eAx] at hb; exact hb)
        · rw [if_neg z]
          refine q174_54 (by omega) h.1.1 _ ?_
          have w1 : w32 ((A.length : Int) + 1) = ((ents (A ++ [x])).length : Int) := by rw [ents_len, List.length_append, List.length_singleton, w32_of (by omega) (by omega)]; push_cast; rfl
          rw [gd_of hn.1.1, h3, if_pos (by omega), nm_eq, gd_of hn.1.2.1.1, gd_of t3, t1, if_pos y, w1, bV_eq e1]
        · rw [ents_app, ents_app, List.append_assoc]; exact n1
        · rw [hins, flL_app, fL1]
          show _ = flL A ++ ((if hdId x.2.1 < id then (hdId x.2.1, ys) :: [(id, xs)] else _) ++ flL B)
          rw [if_pos y, List.append_assoc]
          conv => lhs; rw [hL]
          rfl
      · obtain ⟨m1, e1, o1, n1⟩ := c300_op (d := d - 1) (A := ents A) (B := ents (x :: B)) (id := id) (bk := db) h hnn (by rw [← ents_app]; exact hn) (by rw [ents_len, ents_len, List.length_cons]; push_cast; omega)
        refine mk A (x :: B) m1 (st _ ?_) o1 ?_ ?_ (by simp <;> omega) (by simp <;> omega) H (fun b hb => hb)
        · rw [if_neg z]
          refine q174_54 (by omega) h.1.1 _ ?_
          rw [ents_len] at e1
          rw [gd_of hn.1.1, h3, if_pos (by omega), nm_eq, gd_of hn.1.2.1.1, gd_of t3, t1, if_neg y, bV_eq e1]
        · rw [ents_app, ents_app, List.append_assoc]; exact n1
        · rw [hins]
          show _ = flL A ++ ((if hdId x.2.1 < id then _ else if hdId x.2.1 = id then _ else (id, xs) :: [(hdId x.2.1, ys)]) ++ flL B)
          rw [if_neg y, if_neg z, flL_cons]
          conv => lhs; rw [hL]
          rfl
/-- an insertion below a node -/
theorem c174 {id db : Int} {xs : List Int} (hid : 0 ≤ id ∧ id < 10000) : ∀ (hh d : Nat) (m : Mem) (c' : RF) (sg u ns : List Int) (cnt : Nat) (n : Int) (Q : CH), hh + 9 ≤ d → DSt m K c c' sg u ns cnt → cnt + 2 * hh ≤ 64 → sg.length + 2 * hh ≤ 64 → u.length + 2 * hh ≤ 1500 → ND1 m n (hh == 0) (ents Q) → n ∈ ns.take cnt → (0 < hh → 1 ≤ Q.length) → Q.length ≤ 8 → CHK c' u hh Q → srt (flL Q) → (∀ b ∈ flB Q, c' b = c b) → (db ∈ u ∧ 2 ≤ db ∧ db < 1600) → bDoc (c' db) xs → db ∉ flB Q → INR m K n c c' sg u ns cnt hh id db xs Q (cl d 174 [pR K, pR n, pI id, pI db] m) := by
  intro hh
  induction hh with
  | zero =>
    intro d m c' sg u ns cnt n Q hd h hc hs hu hn hnn hQ0 hQ H hst hcc hdb hdoc hdq
    exact c174_leaf (by omega) h hn hnn hQ H hst hid hdb hdoc hdq
  | succ hh ih =>
    intro d m c' sg u ns cnt n Q hd h hc hs hu hn hnn hQ0 hQ H hst hcc hdb hdoc hdq
    obtain ⟨A, x, B, rfl, hB, hA⟩ := spl id (Q.length - 1) Q (by have := hQ0 (by omega); omega)
    obtain ⟨HA, HxB, HAx⟩ := CHK.app.mp H
    rw [show x :: B = [x] ++ B from rfl] at HxB
    obtain ⟨Hx, HBB, HxB'⟩ := CHK.app.mp HxB
    have hVx := Hx.1 x (by simp)
    have hxne := hVx.ne
    have hV0 := hVx
    obtain ⟨ch, cn, cL, cB, cl', cv⟩ := hVx
    have fB1 : flB [x] = x.2.2 := by simp [flB]
    have fL1 : flL [x] = x.2.1 := by simp [flL]
    have hsub : ∀ b ∈ x.2.2, b ∈ flB (A ++ x :: B) := fun b hb => List.mem_flatMap.mpr ⟨x, by simp, hb⟩
    have hx1 : x.1 ∈ x.2.2 := by rw [cB]; exact List.mem_cons_self
    have hcx := hcc x.1 (hsub _ hx1)
    have hrx := (H.2.1 x.1 (hsub _ hx1)).2
    have hch : ∀ b ∈ flB ch, b ∈ x.2.2 := fun b hb => by rw [cB]; exact List.mem_cons_of_mem _ hb
    have Hch : CHK c' u hh ch := by
      obtain ⟨-, a2, a3, a4⟩ := Hx
      rw [fB1] at a2 a3
      rw [fL1, cL] at a4
      refine ⟨cv, fun b hb => a2 b (hch b hb), ?_, a4⟩
      rw [cB] at a3
      exact (List.nodup_cons.mp a3).2
    rw [List.length_append, List.length_cons] at hQ
    have hn' := hn
    rw [ents_app, ents_cons] at hn'
    have e299 := c299 (d := d - 1) (id := id) h.1.1 hn' (fun z => hA (fun w => z (by rw [w]; rfl))) (fun y hy => by
      obtain ⟨w, hw, rfl⟩ := List.mem_map.mp hy
      exact hB w hw)
    rw [ents_len] at e299
    obtain ⟨⟨t1, t2⟩, t3, t4⟩ := hn.at (k := A.length) (e := (hdId x.2.1, x.1)) ents_at
    have h3 : vl m n 3 = (A.length : Int) + (B.length + 1) := by rw [hn.2.2.1, ents_len, List.length_append, List.length_cons]; push_cast; rfl
    have hl : vl m n 0 = 0 := hn.2.1
    -- the child is read
    rw [hcx] at cn
    obtain ⟨m1, q, ns1, e1, o1, n1, p1, s1⟩ := c173 (d := d - 1) (b := x.1) (lf := hh == 0) (es := ents ch) (by omega) h (by omega) hrx cn (by rw [ents_len]; exact cl'.2)
    have hqn : q ∈ ns1.take (cnt + 1) := (take_mem s1).1
    have hnn1 := o1.mem hnn
    have hne : n ≠ q := fun w => p1 (by rw [← w]; exact hnn)
    have nn1 := o1.kp hnn (fun w => w) hn
    -- below it
    obtain ⟨m2, c2, sg2, u2, ns2, cnt2, Q', e2, o2, n2, fL2, ln2, H2, b2⟩ := ih (d - 1) m1 c' sg u ns1 (cnt + 1) q ch (by omega) o1.1 (by omega) (by omega) (by omega) n1 hqn (fun _ => by omega) cl'.2 Hch (by have := spl_mid hst; rw [cL] at this; exact this) (fun b hb => hcc b (hsub b (hch b hb))) hdb hdoc (fun w => hdq (hsub _ (hch _ w)))
    have hnn2 := o2.mem hnn1
    have hqn2 := o2.mem hqn
    have nn2 := o2.kp hnn1 hne nn1
    rw [ents_app, ents_cons] at nn2
    -- it leaves its place
    obtain ⟨m3, e3, o3, n3⟩ := c301_op (d := d - 1) o2.1 hnn2 nn2
    rw [ents_len] at e3
    have nq3 := o3.kp hqn2 (fun w => hne w.symm) n2
    have o2s := o2.2.2.1
    obtain ⟨m4, c4, sg4, u4, ns4, cnt4, R, e4, o4, n4, lR, fR, HR, bR⟩ := c175 (d := d - 1) (n := n) (q := q) (hh := hh) (P1 := A) (P2 := B) (Q := Q') (by omega) o3.1 (by omega) (by omega) (by omega) (by rw [ents_app]; exact n3) hnn2 nq3 hqn2 hne (by omega) (by omega) H2
    have o12 := o1.trans o2 (S := fun w => w = n ∨ w = q) (fun _ _ w => w.elim) (fun _ _ w => Or.inr w)
    have o13 := o12.trans o3 (S := fun w => w = n ∨ w = q) (fun _ _ w => w) (fun _ _ w => Or.inl w)
    have o14 := (o13.trans o4 (S := fun w => w = n ∨ w = q) (fun _ _ w => w) (fun _ _ w => w)).mono (S := fun w => w = n) (a' := 2 * (hh + 1)) (b' := 2 * (hh + 1)) (fun w hw hS => hS.elim (fun z => z) fun v => absurd hw (by rw [v]; exact p1)) (by omega) (by omega)
    refine ⟨m4, c4, sg4, u4, ns4, cnt4, A ++ (R ++ B), ?_, o14, n4, ?_, ?_, ?_, fun b hb => ?_⟩
    · refine q174 (by omega) h.1.1 _ ?_
      rw [gd_of hn.1.1, h3, if_neg (by omega), bI_eq e299]
      refine q174_16 (by omega) h.1.1 _ ?_
      rw [gd_of hn.1.1, hl, if_pos rfl, nm_eq, gd_of hn.1.2.2.1.1, gd_of t4, gd_of h.2.1.1, t2, bR_eq e1, bV_eq e2, bV_eq e3, bV_eq e4]
    · rw [flL_app, flL_app, fR, fL2, spl_ins hst hA hxne hB, cL]
    · rw [List.length_append, List.length_append, List.length_append, List.length_cons]; omega
    · have o34 := o12.trans o3 (S := fun w => w = n ∨ w = q) (fun _ _ w => w) (fun _ _ w => Or.inl w)
      have HA4 := o14.chk HA
      have HB4 := o14.chk HBB
      -- new blocks are not old ones
      have key : ∀ b ∈ flB R, ∀ P : CH, CHK c' u (hh + 1) P → (∀ v ∈ flB P, v ∈ flB (A ++ x :: B)) → (∀ v ∈ flB P, v ∉ x.2.2) → b ∉ flB P := by
        intro b hb P HP hP hPx hbP
        have hbu := (HP.2.1 b hbP).1
        rcases bR b hb with s | s
        · rcases b2 b s with t | t | t
          · exact hPx b hbP (hch b t)
          · exact hdq (by rw [← t]; exact hP b hbP)
          · exact t hbu
        · exact s (o2.2.1.2 b hbu)
      have nA : ∀ v ∈ flB A, v ∈ flB (A ++ x :: B) := fun v hv => by rw [flB_app]; exact List.mem_append_left _ hv
      have nB : ∀ v ∈ flB B, v ∈ flB (A ++ x :: B) := fun v hv => by rw [flB_app, flB_cons]; exact List.mem_append_right _ (List.mem_append_right _ hv)
      refine CHK.app.mpr ⟨HA4, CHK.app.mpr ⟨HR, HB4, fun v hv w hw z => ?_⟩, fun v hv w hw z => ?_⟩
      · refine key v hv B HBB nB (fun b hb hx => HxB' b (by rw [fB1]; exact hx) b hb rfl) (by rw [z]; exact hw)
      · rw [flB_app] at hw
        rcases List.mem_append.mp hw with s | s
        · exact key w s A HA nA (fun b hb hx => HAx b hb b (by rw [flB_cons]; exact List.mem_append_left _ hx) rfl) (by rw [← z]; exact hv)
        · exact HAx v hv w (by rw [flB_cons]; exact List.mem_append_right _ s) z
    · rw [flB_app, flB_app] at hb
      rw [flB_app, flB_cons]
      rcases List.mem_append.mp hb with s | s
      · exact Or.inl (List.mem_append_left _ s)
      · rcases List.mem_append.mp s with t | t
        · rcases bR b t with v | v
          · rcases b2 b v with w | w | w
            · exact Or.inl (List.mem_append_right _ (List.mem_append_left _ (hch b w)))
            · exact Or.inr (Or.inl w)
            · exact Or.inr (Or.inr w)
          · exact Or.inr (Or.inr fun w => v (o2.2.1.2 b w))
        · exact Or.inl (List.mem_append_right _ (List.mem_append_right _ t))
end
