/-! the twin: a query runs over a document -/
set_option maxRecDepth 100000
set_option maxHeartbeats 4000000
theorem kdL_dpV {ob : Bool} : ∀ (F : Fo) (p : Int) (k : Nat), ∀ y ∈ kdL ob F p k, dpV y.2.2.1 y.2.2.2.1 ≤ dpF F := by
  intro F
  induction F with
  | leaf => intro p k y hy; cases hy
  | inner n d u l r ihl ihr =>
    intro p k y hy
    rw [kdL_inner] at hy
    have e : dpF (.inner n d u l r : Fo) = max (if d.1 < 5 then 0 else 1 + dpF l) (dpF r) := rfl
    rcases List.mem_cons.mp hy with rfl | hy
    · show (if d.1 < 5 then 0 else 1 + dpF l) ≤ _
      rw [e]; omega
    · have := ihr _ _ y hy
      rw [e]; omega
section
variable {g : RF} {us : List Int} {n : Int}
/-- a chain of nodes is no longer than the document is deep; names are of units -/
theorem chN_len {rN : Nk} (h : DM g us n rN) : ∀ (x : Nd) (y : Nk), chN rN (y :: x) → x.length + dpV y.2.2.1 y.2.2.2.1 ≤ dpV rN.2.2.1 rN.2.2.2.1 := by
  intro x
  induction x with
  | nil =>
    intro y hy
    have : y = rN := hy
    rw [this]; simp
  | cons c x ih =>
    intro y hy
    obtain ⟨h1, h2⟩ := hy
    have h3 := ih c h2
    have h4 := chN_dm h x c h2
    have h5 := kdL_dpV _ _ _ y h1
    have h6 : ¬ c.2.2.1.1 < 5 := fun q => by
      have := h4.2.1.2.2.1 q
      have h1 : y ∈ kdL (c.2.2.1.1 == 6) c.2.2.2.1 _ _ := h1
      rw [this] at h1
      cases h1
    have e : dpV c.2.2.1 c.2.2.2.1 = 1 + dpF c.2.2.2.1 := by unfold dpV; rw [if_neg h6]
    rw [List.length_cons]
    omega
theorem chN_nm {rN : Nk} (h : DM g us n rN) : ∀ (x : Nd) (y : Nk), chN rN (y :: x) → nmU (y :: x) := by
  intro x
  induction x with
  | nil =>
    intro y hy z hz
    rw [List.mem_singleton.mp hz]
    exact (chN_dm h [] y hy).2.1.1.2.2.2.2
  | cons c x ih =>
    intro y hy z hz
    rcases List.mem_cons.mp hz with rfl | hz
    · exact (chN_dm h (c :: x) z hy).2.1.1.2.2.2.2
    · exact ih c hy.2 z hz
end
/-- a query's rows -/
def QLD (m : Mem) (M : Int) (B : Int → Int) (g en : RF) (us : List Int) (k K CS cc : Int) (L : Fo) : Prop := QA m M k K ∧ (rv m M = g ∧ ev m M = en) ∧ (TW m (B 30) 0 us CS ∧ wfU us) ∧ gI g en us false (fun a => 0 ≤ a ∧ a < k ∧ a ≠ cc) cc (20, 1, [], []) L ∧ (0 ≤ cc ∧ cc < k) ∧ ((us.length : Int) ≤ 1290 ∧ okF 2 L ∧ hQ L ≤ 1700)
/-- what a query chooses in the twin's tree -/
def deQ (L : Fo) (nd : ND) (l : Fo) : EV (List Nd) := (evX [(0, 0, nd, l, 0)] (foC (20, 1, [], []) L foN)).qry [(0, 0, nd, l, 0)]
theorem deQ_er {L : Fo} {nd : ND} {l : Fo} {w : Int} : qDoc L (nd, erF l) w = (deQ L nd l w).map fun z => (z.1.map eN, z.2) := qDoc_er (i := 0) w
/-- a document as it stands in a tree -/
def DOC (nd : ND) (l : Fo) : Prop := wfF (foC nd l foN) ∧ dpV nd l ≤ 32 ∧ (prV nd l).length ≤ 480 ∧ cnF false (foC nd (erF l) foN)
section
variable {d n : Nat} {m m1 : Mem} {M : Int} {B : Int → Int} {s : St} {c : Int → Int} {K : Int} {f : Int → Option PV}
theorem DOC.sz {nd : ND} {l : Fo} (h : DOC nd l) : 1 + szF l + nd.2.2.1.length + unF (nd.1 == 6) l ≤ 480 := by
  have := prV_sz (wfV_er.mpr h.1) h.2.2.2
  rw [szF_er, unF_er, prV_er] at this
  have := h.2.2.1
  omega
theorem DOC.dm {g : RF} {us : List Int} {n : Int} {nd : ND} {l : Fo} (h : DOC nd l) (tn : TN g us n 0 nd l) (nl : (idF l).Nodup) : DM g us n (0, 0, nd, l, 0) := ⟨tn, h.1, nl, by have := h.sz; show szF l ≤ 100000; omega⟩
/-- a call that leaves what is printed -/
def wpN (e : Nat) : Bool := ([15, 16, 17] : List Int).all (fun f => !(Nat.testBit e (bix 11 f))) && !(Nat.testBit e (bix 186103 0))
theorem WK.cl {q : Nat} {as : List PV} {r : Rs} {ys : List Int} (h : WK m M ys) (hz : TZ m) (e : cl d q as m = some (r, m1)) (hN : wpN (eM q) = true) : WK m1 M ys := by
  unfold wpN at hN
  simp only [Bool.and_eq_true, Bool.not_eq_true'] at hN
  obtain ⟨h1, h2, h3, h4, h5, h6⟩ := h
  have k := SFr.fr (cl_FRM e)
  have b : ∀ g : Int, g ∈ ([15, 16, 17] : List Int) → vl m1 M g = vl m M g := fun g hg => k.v hz (by omega) (by
    show ¬ _ = true
    rw [h1]
    have := List.all_eq_true.mp hN.1 g hg
    simpa using this)
  have e15 := b 15 (by simp)
  have ll := k.l hz (a := vl m M 15) ⟨rfl, rfl⟩ (by omega)
  exact ⟨k.t hz h1 (by decide), by rw [e15, ll.1]; exact h2, by rw [e15, ll.2]; exact h3, by rw [b 16 (by simp)]; exact h4, by rw [b 17 (by simp)]; exact h5, fun i i0 i1 i2 => by
    rw [e15, k.v hz (by omega) (by show ¬ _ = true; rw [h2, bix_100 (by decide), hN.2]; decide)]
    exact h6 i i0 i1 i2⟩
theorem WK.mf {f v : Int} {ys : List Int} (h : WK m M ys) (hf : f ≠ 15 ∧ f ≠ 16 ∧ f ≠ 17) : WK (mst m M f v) M ys := by
  have ne := h.ne
  obtain ⟨h1, h2, h3, h4, h5, h6⟩ := h
  have e : ∀ g, g ≠ f → vl (mst m M f v) M g = vl m M g := fun g hg => by rw [vl_mst, if_neg (fun z => hg z.2)]
  have e15 := e 15 (fun z => hf.1 z.symm)
  exact ⟨h1, by rw [e15]; exact h2, by rw [e15]; exact h3, by rw [e 16 (fun z => hf.2.1 z.symm)]; exact h4, by rw [e 17 (fun z => hf.2.2 z.symm)]; exact h5, fun i i0 i1 i2 => by rw [e15, vl_mst, if_neg (fun z => ne z.1)]; exact h6 i i0 i1 i2⟩
/-- the rows through what doesn't write them -/
theorem QLD.cl {g en : RF} {us : List Int} {k CS cc : Int} {L : Fo} {q : Nat} {as : List PV} {r : Rs} (h : QLD m M B g en us k K CS cc L) (hz : TZ m) (e : cl d q as m = some (r, m1)) (hN : rqN (eM q) = true) (hw : TW m1 (B 30) 0 us CS) : QLD m1 M B g en us k K CS cc L := by
  obtain ⟨h1, ⟨h2, h3⟩, ⟨h4, h5⟩, h6⟩ := h
  obtain ⟨k1, k2, k3, -⟩ := h1.fr (cl_FRM e) hz hN
  exact ⟨k1, ⟨by rw [k2]; exact h2, by rw [k3]; exact h3⟩, ⟨hw, h5⟩, h6⟩
theorem QLD.sf {g en : RF} {us : List Int} {k CS cc : Int} {L : Fo} {S : Int → Int → Prop} (h : QLD m M B g en us k K CS cc L) (kk : SFr S m m1) (hz : TZ m) (hM : ¬ S M 27 ∧ ¬ S M 28 ∧ ¬ S M 29 ∧ ¬ S M 32) (ha : ∀ a j, tq (tg m a) ∨ tl (tg m a) → ¬ S a j) (hw : TW m1 (B 30) 0 us CS) : QLD m1 M B g en us k K CS cc L := by
  obtain ⟨h1, ⟨h2, h3⟩, ⟨h4, h5⟩, h6⟩ := h
  have h0 : tg m M ≠ 0 := by have := h1.1; omega
  have t27 := h1.2.2.1.1
  have t28 := h1.2.2.2.1.1
  refine ⟨h1.sf kk hz hM, ⟨?_, ?_⟩, ⟨hw, h5⟩, h6⟩
  · rw [← h2]
    funext x f
    unfold rv
    rw [kk.v hz h0 hM.1, kk.v hz (by unfold tq at t27; omega) (ha _ _ (Or.inl t27))]
  · rw [← h3]
    funext x f
    unfold ev
    rw [kk.v hz h0 hM.2.1, kk.v hz (by unfold tl at t28; omega) (ha _ _ (Or.inr t28))]
/-- a field of the twin that the rows don't look at -/
theorem QLD.mf {g en : RF} {us : List Int} {k CS cc f v : Int} {L : Fo} (h : QLD m M B g en us k K CS cc L) (hz : TZ m) (hf : f ≠ 27 ∧ f ≠ 28 ∧ f ≠ 29 ∧ f ≠ 32) : QLD (mst m M f v) M B g en us k K CS cc L := by
  have hm := h.1.1
  exact h.sf (S := fun a j => a = M ∧ j = f) SFr.mst hz ⟨fun z => hf.1 z.2.symm, fun z => hf.2.1 z.2.symm, fun z => hf.2.2.1 z.2.symm, fun z => hf.2.2.2 z.2.symm⟩ (fun a j ha z => by rw [z.1, hm] at ha; unfold tq tl at ha; omega) (TLD.mf (g := nv m (B 30)) ⟨h.2.2.1.1, fun _ _ _ _ => rfl⟩ hm hz).1
/-- a query runs -/
theorem yask {g en : RF} {us : List Int} {k CS cc w : Int} {L : Fo} {nd : ND} {l : Fo} {nD CD : Int} {ud : List Int} (hd : 1900 ≤ d) (h : TWt m M B s c K) (hL : QLD m M B g en us k K CS cc L) (tw : TW m (B 18) nD ud CD) (tn : TN (nv m (B 18)) ud nD 0 nd l) (hv : DOC nd l) (hf : vl m M 36 = 0 ∧ vl m M 33 = 0 ∧ vl m M 34 = w ∧ vl m M 35 = 0) (hw : 0 ≤ w ∧ w ≤ 10000) :
    ∃ m' c' zs, cl d 262 [pR M, pI cc, pI 0] m = some (.inl (some (pI 0)), m') ∧ TWt m' M B s c' K ∧ QLD m' M B g en us k K CS cc L ∧ TLD m' (B 18) nD CD ud (nv m (B 18)) ∧ TV (B 37) 0 m m' ∧ (vl m' M 33 = zs.length ∧ (zs.length : Int) ≤ 10000 ∧ ∀ j : Int, 0 ≤ j → j < zs.length → vl m' (B 32) j = gi zs j) ∧ GR m m' (pcT c K) (pcT c' K) ∧
    (deQ L nd l w = none → vl m' M 35 = 1) ∧ ∀ ys w', deQ L nd l w = some (ys, w') → zs = ys.map idN ∧ (vl m' M 35 = 0 ∧ vl m' M 34 = w' ∧ 0 ≤ w' ∧ w' ≤ 10000) ∧ ∀ y ∈ ys, chN (0, 0, nd, l, 0) y := by
  obtain ⟨q1, ⟨q2, q3⟩, ⟨q4, q5⟩, q6, q7, q8, q9, q10⟩ := hL
  have y := h.y
  obtain ⟨n1, n2, n3, n4, n5, n6, n7, n8, n9, n10⟩ := y.ne
  obtain ⟨⟨r1, r2, r3, r4⟩, C, b1, b2, b3, b4⟩ := h.tr
  let E : ZE := (M, B 18, B 30, B 37, g, en, nv m (B 18), k, K, us, ud, nD, CD, CS, 0)
  have hO : ZO E := ⟨n4, n10, q8⟩
  have sz := hv.sz
  have hr : DNk E (0, 0, nd, l, 0) := ⟨tn, hv.1, by show szF l ≤ 479; omega, by show nd.2.2.1.length + unF (nd.1 == 6) l ≤ 480; omega, by have := hI_dq hv.1; have := hv.2.1; show hI l ≤ 40; omega⟩
  have hC : ZC E (some w) m [] 0 [] C := ⟨⟨⟨h.ok, h.1.2.1⟩, ⟨q1, q2, q3⟩, ⟨y.f (by unfold qf; omega), y.f (by unfold qf; omega), y.f (by unfold qf; omega), hf.1⟩, ⟨⟨q4, tw⟩, fun _ _ _ _ => rfl⟩, ⟨b1, fun x hx => by cases hx⟩, by show ln m (vl m M 32) = 20100; rw [y.f (by unfold qf; omega)]; exact y.b32.2⟩, ⟨hf.2.1, (show ((0 : Nat) : Int) ≤ 10000 by decide), fun j j0 j1 => absurd j1 (by show ¬ j < ((0 : Nat) : Int); omega), fun x hx => by cases hx⟩, ⟨hf.2.2.2, hf.2.2.1, hw.1, hw.2⟩⟩
  have hg : gF E.g E.en E.us false (PK E) (fun _ => cc) (foC (20, 1, [], []) L foN) := gF.one (p := fun _ => cc) q7 (q6.imp fun a ha => ⟨ha.1, ha.2.1⟩)
  have hok : okF 5 (foC (20, 1, [], []) L foN) := ⟨by decide, by unfold cN; simp, fun _ => ⟨by decide, by decide, fun z => absurd z (by simp), fun _ => Or.inr rfl⟩, fun z => absurd z (by simp), q9, trivial⟩
  have hq : hQ (foC (20, 1, [], []) L foN) ≤ hQ L + 5 := by
    show max (hQ L + if (20 = 21 ∨ 20 = 46) then 70 else 5) (hQ foN) ≤ _
    have : hQ foN = 0 := rfl
    rw [if_neg (by decide)]; omega
  have T := (tAll (E := E) (rN := [(0, 0, nd, l, 0)]) hO ⟨_, [], rfl, hr⟩ rfl (foC (20, 1, [], []) L foN)).2.2.2.2.2.2.2 false 0 [] (fun _ => cc) d m [] C (some w) (0, 0, nd, l, 0) [] hg hok (by show 1 ≤ cntF foN + 1; omega) (by omega) (by unfold BL; simp only [List.length_nil]; omega) hr hC
  obtain ⟨m', C', r, zs, n', uv', e, z1, ⟨tv, gr, z3, z4⟩, rfl, rfl, rfl, z5⟩ := T
  have e : cl d 262 [pR M, pI cc, pI 0] m = some (.inl (some (pI 0)), m') := e
  rw [List.nil_append] at z1
  have tr : TRY m' B (upc c 37 (tC m' (B 37) C')) := by
    have hV := z1.1.hV
    refine ⟨⟨by rw [upc_n (by decide)]; exact r1.tv tv n4, by rw [upc_n (by decide)]; exact r2.tv tv n7, by rw [upc_n (by decide)]; exact r3.tv tv n9, by rw [upc_n (by decide)]; exact r4.tv tv n10⟩, C', hV, upc_s, ?_, ?_⟩
    · have z3 : C' ≤ max C 31000 := z3
      omega
    · have z4 : uC m' (B 37) ≤ max (uC m (B 37)) 80000 := z4
      omega
  have h' : TWt m' M B s (upc c 37 (tC m' (B 37) C')) K := h.call e (by decide +kernel) (by decide +kernel) z1.1.1.2 tr ⟨k, z1.1.2.1.1⟩
  have f32 : vl m' M 32 = B 32 := h'.y.f (by unfold qf; omega)
  have hs := z1.1.hS
  refine ⟨m', _, zs, e, h', ⟨z1.1.2.1.1, ⟨z1.1.2.1.2.1, z1.1.2.1.2.2⟩, ⟨hs, q5⟩, q6, q7, q8, q9, q10⟩, ⟨z1.1.hD, z1.1.gD⟩, tv, ⟨z1.top, z1.len, fun j j0 j1 => by rw [← f32]; exact z1.at j j0 j1⟩, ?_, fun hn => ?_, fun ys w' hy => ?_⟩
  · obtain ⟨g1, g2, g3⟩ := gr
    have b2 : c 37 = tC m (B 37) C := b2
    have g1 : tC m (B 37) C ≤ tC m' (B 37) C' := g1
    have g2 : nx m' - nx m ≤ (tC m' (B 37) C' - tC m (B 37) C) / 16 := g2
    have g3 : sl m' - sl m ≤ 2 * (tC m' (B 37) C' - tC m (B 37) C) := g3
    rw [pcT_upc (by omega)]
    unfold GR; omega
  · have hn : (evX [(0, 0, nd, l, 0)] (foC (20, 1, [], []) L foN)).qry [(0, 0, nd, l, 0)] w = none := hn
    have z1' := z1.2.2
    have ee : eZ (some w) ((evX [(0, 0, nd, l, 0)] (foC (20, 1, [], []) L foN)).qry [(0, 0, nd, l, 0)]) = none := hn
    rw [ee] at z1'
    exact z1'
  · have hy : (evX [(0, 0, nd, l, 0)] (foC (20, 1, [], []) L foN)).qry [(0, 0, nd, l, 0)] w = some (ys, w') := hy
    have ee : eZ (some w) ((evX [(0, 0, nd, l, 0)] (foC (20, 1, [], []) L foN)).qry [(0, 0, nd, l, 0)]) = some (ys, w') := hy
    have z1' := z1.2.2
    rw [ee] at z1' z5
    obtain ⟨a1, a2, a3, a4⟩ := z1'
    have a3' : ((zs.length : Nat) : Int) ≤ w' := a3
    exact ⟨(z5 ys rfl).1, ⟨a1, a2, by omega, a4⟩, fun x hx => (evX_Pn (Pn := chN (0, 0, nd, l, 0)) chN_k (rt := [(0, 0, nd, l, 0)]) rfl (foC (20, 1, [], []) L foN)).2.2 [(0, 0, nd, l, 0)] rfl w ys w' hy x hx⟩
end
