/-! the component at rest: what calls leave alone -/
set_option maxRecDepth 100000
set_option maxHeartbeats 4000000
theorem KP.ok {m m1 : Mem} (k : KP m m1) (ok : OK m) : OK m1 := ⟨k.1 ok.1, by rw [(k.2.2 0 (by have := ok.2.2; omega)).1]; exact ok.2.1, by have := k.2.1; have := ok.2.2; omega⟩
/-- tags of the objects of a query -/
abbrev qyT : List Int := [15, 16, 17, 18, 20, 21, 22, 23, 24, 25, 26, 28, 29, 303113, 304113, 305111, 306111, 338112, 339112]
theorem QKp.ut {m m1 : Mem} {ts : List Int} (u : UT ts m m1) (hz : TZ m) (hs : ∀ t ∈ qyT, t ∈ ts) : QKp m m1 := fun a ha => by
  refine ⟨u.t' hz ha, u.l hz ha, fun k q => ?_⟩
  have hn : tg m a ∈ qyT ∧ (100 ≤ tg m a ∨ (0 ≤ k ∧ k < nF (tg m a))) := by
    have n15 : nF 15 = 4 := by decide
    have n16 : nF 16 = 3 := by decide
    have n17 : nF 17 = 2 := by decide
    have n18 : nF 18 = 1 := by decide
    have n20 : nF 20 = 1 := by decide
    have n21 : nF 21 = 1 := by decide
    have n22 : nF 22 = 1 := by decide
    have n23 : nF 23 = 2 := by decide
    have n24 : nF 24 = 2 := by decide
    have n25 : nF 25 = 1 := by decide
    have n26 : nF 26 = 5 := by decide
    have n28 : nF 28 = 3 := by decide
    have n29 : nF 29 = 5 := by decide
    rcases q with ⟨z, y⟩ | ⟨z, y⟩ | ⟨z, y⟩ | ⟨z, y⟩ | ⟨z, y⟩ | ⟨z, y⟩ | ⟨z, y⟩ | ⟨z, y⟩ | ⟨z, y⟩ | ⟨z, y⟩ | ⟨z, y⟩ | ⟨z, y⟩ | ⟨z, y⟩ | z | z | z | z | z | z
    · rw [z, n15]; exact ⟨by simp, Or.inr (by omega)⟩
    · rw [z, n16]; exact ⟨by simp, Or.inr (by omega)⟩
    · rw [z, n17]; exact ⟨by simp, Or.inr (by omega)⟩
    · rw [z, n18]; exact ⟨by simp, Or.inr (by omega)⟩
    · rw [z, n20]; exact ⟨by simp, Or.inr (by omega)⟩
    · rw [z, n21]; exact ⟨by simp, Or.inr (by omega)⟩
    · rw [z, n22]; exact ⟨by simp, Or.inr (by omega)⟩
    · rw [z, n23]; exact ⟨by simp, Or.inr (by omega)⟩
    · rw [z, n24]; exact ⟨by simp, Or.inr (by omega)⟩
    · rw [z, n25]; exact ⟨by simp, Or.inr (by omega)⟩
    · rw [z, n26]; exact ⟨by simp, Or.inr (by omega)⟩
    · rw [z, n28]; exact ⟨by simp, Or.inr (by omega)⟩
    · rw [z, n29]; exact ⟨by simp, Or.inr (by omega)⟩
    all_goals (rw [z]; exact ⟨by simp, Or.inl (by decide)⟩)
  exact u.2 a (tz_lt hz ha) (hs _ hn.1) k hn.2
/-- tags of strings -/
abbrev strT : List Int := [31, 103]
section
variable {n : Nat} {m m1 : Mem} {X : Int} {A : Int → Int} {s : St} {g : GH}
theorem BSm.ok (h : BSm m) : OK m := h.1
theorem BSm.tz (h : BSm m) : TZ m := h.1.1
/-- base facts through a call that makes no rows nor sinks -/
def bsN (e : Nat) : Bool := utN e strT && !(Nat.testBit e (bix 8 0)) && !(Nat.testBit e (bix 2 0))
theorem BSm.ca {d q : Nat} {as : List PV} {r : Rs} (h : BSm m) (e : cl d q as m = some (r, m1)) (hb : bsN (eM q) = true) : BSm m1 := by
  unfold bsN at hb
  simp only [Bool.and_eq_true, Bool.not_eq_true'] at hb
  obtain ⟨⟨b1, b2⟩, b3⟩ := hb
  obtain ⟨a1, a2, a3, a4, a5⟩ := h
  have f := cl_FRM e
  have ok1 := a1.fr f
  exact ⟨ok1, a2.fr2 f (cl_NZ e) a1.1 (by have := a1.2.2; omega) b2 (by have := ok1.2.2; omega), a3.fr f (cl_NZ e) a1.1 b3, cl_LB e a4, a5.ut (ut_cl e b1) a1.1 (by simp) (by simp)⟩
theorem BSm.ca' {d q : Nat} {as : List PV} {r : Rs} (h : BSm m) (e : cl d q as m = some (r, m1)) (hb : utN (eM q) strT = true) (hR : RI m1) (hS : SI m1) : BSm m1 := ⟨h.1.fr (cl_FRM e), hR, hS, cl_LB e h.2.2.2.1, h.2.2.2.2.ut (ut_cl e hb) h.1.1 (by simp) (by simp)⟩
theorem SI_mal {t k : Int} (ht : t ≠ 2) (h : SI m) : SI (mal m t k) := by
  intro s s' h1 h2 h3 h4
  rw [tg_mal] at h1 h2
  have n1 : s ≠ nx m := fun z => by rw [if_pos z] at h1; exact ht h1
  have n2 : s' ≠ nx m := fun z => by rw [if_pos z] at h2; exact ht h2
  rw [if_neg n1] at h1
  rw [if_neg n2] at h2
  rw [vl_mal, if_neg n1] at h4 ⊢
  rw [vl_mal, if_neg n2]
  exact h s s' h1 h2 h3 h4
theorem SI_mst {a f v : Int} (ht : tg m a ≠ 2) (h : SI m) : SI (mst m a f v) := by
  intro s s' h1 h2 h3 h4
  have n1 : s ≠ a := fun z => ht (by rw [← z]; exact h1)
  have n2 : s' ≠ a := fun z => ht (by rw [← z]; exact h2)
  rw [vl_mst, if_neg (fun z => n1 z.1)] at h4 ⊢
  rw [vl_mst, if_neg (fun z => n2 z.1)]
  exact h s s' h1 h2 h3 h4
theorem BSm.mal {t k : Int} (h : BSm m) (h1 : t ≠ 2) (h2 : t ≠ 8) (hk : k ≤ 2000000) : BSm (mal m t k) := ⟨(KP_mal (t1 := t) (n1 := k)).ok h.1, RI_mal h2 h.2.1, SI_mal h1 h.2.2.1, lb_mal h.2.2.2.1 hk, h.2.2.2.2.ut (UT.mal (ts := strT)) h.1.1 (by simp) (by simp)⟩
theorem BSm.mst {a f v : Int} (h : BSm m) (h1 : tg m a ≠ 2 ∧ tg m a ≠ 8 ∧ tg m a ≠ 31 ∧ tg m a ≠ 103) : BSm (mst m a f v) := ⟨h.1, h.2.1.mT h1.2.1, SI_mst h1.1 h.2.2.1, h.2.2.2.1, h.2.2.2.2.ut (UT.mst (ts := strT) (by simp; omega)) h.1.1 (by simp) (by simp)⟩
/-- tags of rows and the patcher -/
abbrev rwT : List Int := [8, 130103, 132103]
theorem PB.gen {P k : Int} {L : List Int} {ts : List Int} (h : PB m P L none none k) (u : UT ts m m1) (hI : RI m1) (h7 : (7 : Int) ∈ ts) (hr : ∀ r ys c, (pRw m P r ∨ r = vl m P 0) → RW m r ys c → RW m1 r ys c) : PB m1 P L none none k ∧ (∀ f, 0 ≤ f → f < 17 → vl m1 P f = vl m P f) ∧ ∀ r, pRw m1 P r ↔ pRw m P r := by
  obtain ⟨rd, ro, rh, rm, rt, sa, aa, rw, cd, co, ch, cm', ct, cw, os, hs', ms', ts', h1, h2, h3, ⟨e5, e6, e7, e8, e9, e10, e12, e0⟩, ⟨f1, f2, f3, f4⟩, h6, ⟨w1, w2, w3, w4, w5, w6⟩, h8, h9, h10, h11, h12⟩ := h
  have hz := h1.1
  have g : ∀ f, 0 ≤ f → f < 17 → vl m1 P f = vl m P f := fun f f0 f1 => u.f hz h3 (by decide) h7 (by
    have : nF 7 = 17 := by decide
    rw [this]; omega)
  obtain ⟨s1, s2, s3, s4, s5⟩ := h6
  refine ⟨⟨rd, ro, rh, rm, rt, sa, aa, rw, cd, co, ch, cm', ct, cw, os, hs', ms', ts', u.ok h1, hI, u.t hz h3 (by decide), ⟨by rw [g 5 (by decide) (by decide)]; exact e5, by rw [g 6 (by decide) (by decide)]; exact e6, by rw [g 7 (by decide) (by decide)]; exact e7, by rw [g 8 (by decide) (by decide)]; exact e8, by rw [g 9 (by decide) (by decide)]; exact e9, by rw [g 10 (by decide) (by decide)]; exact e10, by rw [g 12 (by decide) (by decide)]; exact e12, by rw [g 0 (by decide) (by decide)]; exact e0⟩, ⟨by rw [g 1 (by decide) (by decide)]; exact f1, by rw [g 2 (by decide) (by decide)]; exact f2, by rw [g 3 (by decide) (by decide)]; exact f3, by rw [g 4 (by decide) (by decide)]; exact f4⟩, ⟨u.t hz s1 (by decide), by rw [u.l hz (by omega)]; exact s2, u.t hz s3 (by decide), by rw [u.l hz (by omega)]; exact s4, s5⟩, ⟨hr _ _ _ (Or.inl (pRw_5 e5)) w1, hr _ _ _ (Or.inl (pRw_6 e6)) w2, hr _ _ _ (Or.inl (pRw_7 e7)) w3, hr _ _ _ (Or.inl (pRw_8 e8)) w4, hr _ _ _ (Or.inl (pRw_9 e9)) w5, hr _ _ _ (Or.inr e0.symm) w6⟩, h8, h9, h10, h11, fun _ q => (by cases q)⟩, g, fun q => ?_⟩
  unfold pRw
  rw [g 5 (by decide) (by decide), g 6 (by decide) (by decide), g 7 (by decide) (by decide), g 8 (by decide) (by decide), g 9 (by decide) (by decide)]
theorem PTI.gen {k : Int} {ts : List Int} (h : PTI m A k) (u : UT ts m m1) (hI : RI m1) (h7 : (7 : Int) ∈ ts) (hr : ∀ r ys c, r ≠ A 10 ∨ r ≠ A 11 → (r ≠ A 10 ∧ r ≠ A 11) → RW m r ys c → RW m1 r ys c) (hk : ∀ ys, SK m (A 50) ys 480 → ∃ zs, SK m1 (A 50) zs 480) : PTI m1 A k ∧ RKp A m m1 := by
  obtain ⟨⟨L, a1⟩, a2, ⟨ys, a3⟩, a4, a5, a6, a7⟩ := h
  have hz := a1.ok.1.1
  obtain ⟨p1, p2, p3⟩ := a1.gen u hI h7 fun r ys c hq hw => by
    have h10 : r ≠ A 10 := fun z => by
      rcases hq with q | q
      · rw [z] at q; exact a4 q
      · exact a6 (q.symm.trans z)
    have h11 : r ≠ A 11 := fun z => by
      rcases hq with q | q
      · rw [z] at q; exact a5 q
      · exact a7 (q.symm.trans z)
    exact hr r ys c (Or.inl h10) ⟨h10, h11⟩ hw
  exact ⟨⟨⟨L, p1⟩, by rw [p2 15 (by decide) (by decide)]; exact a2, hk ys a3, fun z => a4 ((p3 _).mp z), fun z => a5 ((p3 _).mp z), by rw [p2 0 (by decide) (by decide)]; exact a6, by rw [p2 0 (by decide) (by decide)]; exact a7⟩, fun N xs cN n1 n2 _ hw => hr N xs cN (Or.inl n1) ⟨n1, n2⟩ hw, p3⟩
theorem PTI.ut {k : Int} {ts : List Int} (h : PTI m A k) (u : UT ts m m1) (hI : RI m1) (h7 : (7 : Int) ∈ ts) (hs : ∀ t ∈ rwT, t ∈ ts) (hk : ∀ ys, SK m (A 50) ys 480 → ∃ zs, SK m1 (A 50) zs 480) : PTI m1 A k ∧ RKp A m m1 := by
  have hz := h.1.choose_spec.ok.1.1
  exact h.gen u hI h7 (fun r ys c _ _ hw => hw.ut u hz (hs _ (by simp)) (hs _ (by simp)) (hs _ (by simp))) hk
/-- all that the disk's and versions' parts rest on -/
abbrev dvT : List Int := [1, 10, 17115] ++ dkT
/-- all tags of the component at rest but for the sinks' -/
abbrev noS : List Int := [1, 31, 103, 17103, 6, 7] ++ rwT ++ [10, 17115] ++ dkT ++ tbT ++ qyT
/-- all but the sinks -/
theorem CPt.nos {res : List Int} (h : CPt n m X A s g) (u : UT noS m m1) (b : BSm m1) (hk : SKI m1 X A res) (hp : ∀ ys, SK m (A 50) ys 480 → ∃ zs, SK m1 (A 50) zs 480) : CPt n m1 X A (s.wres res) g := by
  obtain ⟨b0, x, t1, fl, k, r1, r2, rn, p, dk, tb⟩ := h
  have hz := b0.tz
  have hr : ∀ t ∈ rwT, t ∈ noS := by decide
  obtain ⟨p1, p2⟩ := p.ut u b.2.1 (by simp) hr hp
  exact ⟨b, x.ut u hz (by simp), t1.ut x u hz (by simp) (by simp), fl.ut x u hz (by simp), hk, ⟨r1.1.ut u hz (by simp) (by simp) (by simp), r1.2⟩, ⟨r2.1.ut u hz (by simp) (by simp) (by simp), r2.2⟩, rn.ut u hz (by simp), p1, dk.ut x u hz (by simp) (by simp) (by simp) (by decide), tb.keep x u hz (by decide) (QKp.ut u hz (by decide)) p2⟩
/-- nothing of the component's was changed -/
theorem CPt.all (h : CPt n m X A s g) (u : UT (noS ++ [2, 52103]) m m1) (b : BSm m1) : CPt n m1 X A s g := by
  have hz := h.1.tz
  exact h.nos (res := s.res) (u.sub fun t ht => List.mem_append_left _ ht) b (h.2.2.2.2.1.ut h.2.1 u hz (by simp) (by simp) (by simp)) fun ys q => ⟨ys, q.ut u hz (by simp) (by simp)⟩
/-- an exception is made -/
theorem CPt.exc {t : Int} (h : CPt n m X A s g) (ht : 200 < t ∧ t < 207) : CPt n (mal m t 6) X A s g := h.all UT.mal (h.1.mal (by omega) (by omega) (by decide))
/-- a flag, the tape's length -/
theorem CPt.mX {f v : Int} {s' : St} (h : CPt n m X A s g) (hf : f = 1 ∨ f = 17 ∨ f = 18 ∨ f = 19 ∨ f = 22) (ht : TPI (mst m X f v) X A s'.tp) (hfl : FLI (mst m X f v) X s'.dk s'.ct s'.pl) (hr : s'.res = s.res ∧ s'.now = s.now ∧ s'.rd = s.rd ∧ s'.ix = s.ix) : CPt n (mst m X f v) X A s' g := by
  obtain ⟨b, x, t1, fl, k, r1, r2, rn, p, dk, tb⟩ := h
  obtain ⟨e1, e2, e3, e4⟩ := hr
  have hz := b.tz
  have hX := x.1
  have bb : BSm (mst m X f v) := b.mst (by omega)
  have u : UT ([31, 103, 2, 52103, 6, 7, 10, 17115] ++ rwT ++ dkT ++ tbT ++ qyT) m (mst m X f v) := UT.mst (by rw [hX]; simp)
  have g0 : ∀ j, j ≠ f → vl (mst m X f v) X j = vl m X j := fun j hj => by rw [vl_mst, if_neg (fun z => hj z.2)]
  have xx : XP (mst m X f v) X A := x.mst fun _ => by omega
  have k' : SKI (mst m X f v) X A s'.res := by
    obtain ⟨a1, ⟨zs, a2⟩, ⟨ws, a3⟩, a4⟩ := k
    rw [e1]
    exact ⟨by rw [g0 2 (by omega)]; exact a1.ut u hz (by simp) (by simp), ⟨zs, by rw [g0 3 (by omega)]; exact a2.ut u hz (by simp) (by simp)⟩, ⟨ws, a3.ut u hz (by simp) (by simp)⟩, by rw [g0 2 (by omega), g0 3 (by omega)]; exact a4⟩
  obtain ⟨p1, p2⟩ := p.ut u bb.2.1 (by simp) (by decide) fun ys q => ⟨ys, q.ut u hz (by simp) (by simp)⟩
  refine ⟨bb, xx, ht, hfl, k', ⟨r1.1.ut u hz (by simp) (by simp) (by simp), r1.2⟩, ⟨r2.1.ut u hz (by simp) (by simp) (by simp), r2.2⟩, rn.ut u hz (by simp), p1, ?_, by rw [e4]; exact tb.keep x u hz (by decide) (QKp.ut u hz (by decide)) p2⟩
  obtain ⟨a1, a2, a3, ⟨a4, a5, a6⟩, a7, a8, a9⟩ := dk
  have gv : ∀ v' j, tg m v' = 10 → vl (mst m X f v) v' j = vl m v' j := fun v' j hv => by rw [vl_mst, if_neg (fun z => by rw [z.1, hX] at hv; omega)]
  have vn : ∀ v' D, tg m v' = 10 → VNI m g.c g.hist g.srl v' D → VNI (mst m X f v) g.c g.hist g.srl v' D := fun v' D hv q => by
    obtain ⟨bs, q1, q2, q3⟩ := q
    exact ⟨bs, by rw [gv v' 0 hv]; exact q1, by rw [gv v' 1 hv]; exact q2, by rw [gv v' 2 hv]; exact q3⟩
  rw [e2, e3]
  refine ⟨a1.ut u hz (by decide), ⟨by rw [g0 15 (by omega)]; exact a2.1, by rw [g0 16 (by omega)]; exact a2.2⟩, a3, ⟨a4.ut x u hz (by simp), vn _ _ x.a12 a5, a6⟩, by rw [gv _ 0 x.a12]; exact a7, a8, fun k k0 k1 => ?_⟩
  have tv := (a4.1 k k0 k1).2
  exact ⟨by rw [gv _ 3 tv]; exact (a9 k k0 k1).1, fun D hD => ⟨vn _ _ tv ((a9 k k0 k1).2 D hD).1, ((a9 k k0 k1).2 D hD).2⟩⟩
/-- the tape is cut -/
theorem CPt.tape (h : CPt n m X A s g) (k : Nat) (hk : k ≤ s.tp.length) : CPt n (mst m X 1 (k : Int)) X A (s.wtp (s.tp.take k)) g := by
  have t1 := h.2.2.1
  have fl := h.2.2.2.1
  have hX := h.2.1
  have hl : (s.tp.take k).length = k := by rw [List.length_take]; omega
  refine h.mX (Or.inl rfl) ⟨?_, ?_, fun j j0 j1 => ?_⟩ ⟨?_, ?_, ?_⟩ ⟨rfl, rfl, rfl, rfl⟩
  · rw [vl_mst, if_pos ⟨rfl, rfl⟩]; show (k : Int) = (s.tp.take k).length; rw [hl]
  · show ((s.tp.take k).length : Int) ≤ 1280; rw [hl]; have := t1.2.1; omega
  · have j1 : j < ((s.tp.take k).length : Int) := j1
    rw [hl] at j1
    have ne : A 0 ≠ X := fun z => by have := hX.a0.1; rw [z, hX.1] at this; omega
    rw [vl_mst, if_neg (fun z => ne z.1), t1.2.2 j j0 (by omega)]
    show gi s.tp j = gi (s.tp.take k) j
    unfold gi
    rw [List.getD_eq_getElem?_getD, List.getD_eq_getElem?_getD, List.getElem?_take_of_lt (by omega)]
  · rw [vl_mst, if_neg (by omega)]; exact fl.1
  · rw [vl_mst, if_neg (by omega)]; exact fl.2.1
  · rw [vl_mst, if_neg (by omega)]; exact fl.2.2
theorem CPt.tape0 (h : CPt n m X A s g) : CPt n (mst m X 1 0) X A (s.wtp []) g := h.tape 0 (Nat.zero_le _)
theorem CPt.place {p : Int} (h : CPt n m X A s g) : CPt n (mst m X 19 p) X A (s.wpl p) g := by
  obtain ⟨t1, t2, t3⟩ := h.2.2.1
  have fl := h.2.2.2.1
  have hX := h.2.1
  have ne : A 0 ≠ X := fun z => by have := hX.a0.1; rw [z, hX.1] at this; omega
  exact h.mX (s' := s.wpl p) (Or.inr (Or.inr (Or.inr (Or.inl rfl)))) ⟨by rw [vl_mst, if_neg (by omega)]; exact t1, t2, fun j j0 j1 => by rw [vl_mst, if_neg (fun z => ne z.1)]; exact t3 j j0 j1⟩ ⟨by rw [vl_mst, if_neg (by omega)]; exact fl.1, by rw [vl_mst, if_neg (by omega)]; exact fl.2.1, by rw [vl_mst, if_pos ⟨rfl, rfl⟩]; rfl⟩ ⟨rfl, rfl, rfl, rfl⟩
theorem CPt.cut {p : Int} (h : CPt n m X A s g) : CPt n (mst m X 18 p) X A (s.wct p) g := by
  obtain ⟨t1, t2, t3⟩ := h.2.2.1
  have fl := h.2.2.2.1
  have hX := h.2.1
  have ne : A 0 ≠ X := fun z => by have := hX.a0.1; rw [z, hX.1] at this; omega
  exact h.mX (s' := s.wct p) (Or.inr (Or.inr (Or.inl rfl))) ⟨by rw [vl_mst, if_neg (by omega)]; exact t1, t2, fun j j0 j1 => by rw [vl_mst, if_neg (fun z => ne z.1)]; exact t3 j j0 j1⟩ ⟨by rw [vl_mst, if_neg (by omega)]; exact fl.1, by rw [vl_mst, if_pos ⟨rfl, rfl⟩]; rfl, by rw [vl_mst, if_neg (by omega)]; exact fl.2.2⟩ ⟨rfl, rfl, rfl, rfl⟩
/-- all tags of the component at rest but for the rows' -/
abbrev noR : List Int := [1, 31, 103, 17103, 6, 7, 2, 52103] ++ [10, 17115] ++ dkT ++ tbT ++ qyT
theorem CPt.rows {xs ls : List Int} {c1 c2 : Int} (h : CPt n m X A s g) (u : UT noR m m1) (b : BSm m1) (hr : ∀ r ys c, r ≠ A 10 → r ≠ A 11 → RW m r ys c → RW m1 r ys c) (h1 : RW m1 (A 10) xs c1 ∧ c1 ≤ 12000) (h2 : RW m1 (A 11) ls c2 ∧ c2 ≤ 12000) : CPt n m1 X A s (g.c, g.ns, g.sq, g.srl, g.hist, (xs, c1), (ls, c2), g.k, g.cap) := by
  obtain ⟨b0, x, t1, fl, k, r1, r2, rn, p, dk, tb⟩ := h
  have hz := b0.tz
  obtain ⟨p1, p2⟩ := p.gen u b.2.1 (by decide) (fun r ys c _ q hw => hr r ys c q.1 q.2 hw) fun ys q => ⟨ys, q.ut u hz (by decide) (by decide)⟩
  exact ⟨b, x.ut u hz (by decide), t1.ut x u hz (by decide) (by decide), fl.ut x u hz (by decide), k.ut x u hz (by decide) (by decide) (by decide), h1, h2, rn.ut u hz (by decide), p1, dk.ut x u hz (by decide) (by decide) (by decide) (by decide), tb.keep x u hz (by decide) (QKp.ut u hz (by decide)) p2⟩
/-- what is read is another -/
theorem CPt.r10 {xs : List Int} {c1 : Int} (h : CPt n m X A s g) (u : UT noR m m1) (b : BSm m1) (hr : RO (A 10) m m1) (h1 : RW m1 (A 10) xs c1 ∧ c1 ≤ 12000) : CPt n m1 X A s (g.c, g.ns, g.sq, g.srl, g.hist, (xs, c1), (g.ls, g.c2), g.k, g.cap) :=
  h.rows u b (fun r ys c h10 _ hw => hr.2 r h10 ys c hw) h1 ⟨hr.2 _ (fun z => h.2.1.ne z.symm) _ _ h.2.2.2.2.2.2.1.1, h.2.2.2.2.2.2.1.2⟩
/-- what is loaded is another -/
theorem CPt.r11 {xs : List Int} {c1 : Int} (h : CPt n m X A s g) (u : UT noR m m1) (b : BSm m1) (hr : RO (A 11) m m1) (h1 : RW m1 (A 11) xs c1 ∧ c1 ≤ 12000) : CPt n m1 X A s (g.c, g.ns, g.sq, g.srl, g.hist, (g.xs, g.c1), (xs, c1), g.k, g.cap) :=
  h.rows u b (fun r ys c _ h11 hw => hr.2 r h11 ys c hw) ⟨hr.2 _ h.2.1.ne _ _ h.2.2.2.2.2.1.1, h.2.2.2.2.2.1.2⟩ h1
end
