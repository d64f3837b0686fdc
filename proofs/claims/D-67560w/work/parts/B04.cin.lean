/-! the component at rest: its parts -/
set_option maxRecDepth 100000
set_option maxHeartbeats 4000000
/-- fields of the component that never change -/
abbrev pf (f : Int) : Prop := f = 0 ∨ (4 ≤ f ∧ f ≤ 14) ∨ f = 20 ∨ f = 21
/-- the component's objects, at the places of A -/
def XP (m : Mem) (X : Int) (A : Int → Int) : Prop := tg m X = 1 ∧ (∀ f, pf f → vl m X f = A f) ∧ ((tg m (A 0) = 17103 ∧ ln m (A 0) = 16384) ∧ tg m (A 4) = 2 ∧ tg m (A 5) = 4 ∧ tg m (A 6) = 5 ∧ tg m (A 7) = 6 ∧ tg m (A 8) = 7 ∧ tg m (A 9) = 9 ∧ tg m (A 10) = 8 ∧ tg m (A 11) = 8 ∧ A 10 ≠ A 11 ∧ tg m (A 12) = 10 ∧ (tg m (A 13) = 17115 ∧ ln m (A 13) = 8) ∧ (tg m (A 14) = 17116 ∧ ln m (A 14) = 4) ∧ (tg m (A 20) = 17101 ∧ ln m (A 20) = 128) ∧ (tg m (A 21) = 17101 ∧ ln m (A 21) = 128) ∧ A 20 ≠ A 21)
section
variable {m m1 : Mem} {X : Int} {A : Int → Int} {ts tp : List Int}
theorem XP.x (h : XP m X A) : tg m X = 1 := h.1
theorem XP.f (h : XP m X A) {f : Int} (hf : pf f) : vl m X f = A f := h.2.1 f hf
theorem XP.a0 (h : XP m X A) : tg m (A 0) = 17103 ∧ ln m (A 0) = 16384 := h.2.2.1
theorem XP.a4 (h : XP m X A) : tg m (A 4) = 2 := h.2.2.2.1
theorem XP.a5 (h : XP m X A) : tg m (A 5) = 4 := h.2.2.2.2.1
theorem XP.a6 (h : XP m X A) : tg m (A 6) = 5 := h.2.2.2.2.2.1
theorem XP.a7 (h : XP m X A) : tg m (A 7) = 6 := h.2.2.2.2.2.2.1
theorem XP.a8 (h : XP m X A) : tg m (A 8) = 7 := h.2.2.2.2.2.2.2.1
theorem XP.a9 (h : XP m X A) : tg m (A 9) = 9 := h.2.2.2.2.2.2.2.2.1
theorem XP.a10 (h : XP m X A) : tg m (A 10) = 8 := h.2.2.2.2.2.2.2.2.2.1
theorem XP.a11 (h : XP m X A) : tg m (A 11) = 8 := h.2.2.2.2.2.2.2.2.2.2.1
theorem XP.ne (h : XP m X A) : A 10 ≠ A 11 := h.2.2.2.2.2.2.2.2.2.2.2.1
theorem XP.a12 (h : XP m X A) : tg m (A 12) = 10 := h.2.2.2.2.2.2.2.2.2.2.2.2.1
theorem XP.a13 (h : XP m X A) : tg m (A 13) = 17115 ∧ ln m (A 13) = 8 := h.2.2.2.2.2.2.2.2.2.2.2.2.2.1
theorem XP.a14 (h : XP m X A) : tg m (A 14) = 17116 ∧ ln m (A 14) = 4 := h.2.2.2.2.2.2.2.2.2.2.2.2.2.2.1
theorem XP.a20 (h : XP m X A) : tg m (A 20) = 17101 ∧ ln m (A 20) = 128 := h.2.2.2.2.2.2.2.2.2.2.2.2.2.2.2.1
theorem XP.a21 (h : XP m X A) : tg m (A 21) = 17101 ∧ ln m (A 21) = 128 := h.2.2.2.2.2.2.2.2.2.2.2.2.2.2.2.2.1
theorem XP.nel (h : XP m X A) : A 20 ≠ A 21 := h.2.2.2.2.2.2.2.2.2.2.2.2.2.2.2.2.2
theorem XP.kp (h : XP m X A) (k : KP m m1) (hz : TZ m) (hf : ∀ f, pf f → vl m1 X f = vl m X f) : XP m1 X A := by
  have t : ∀ a t : Int, tg m a = t → t ≠ 0 → tg m1 a = t := fun a t ht h0 => by rw [(k.2.2 a (tz_lt hz (by rw [ht]; exact h0))).1, ht]
  have l : ∀ a t n : Int, (tg m a = t ∧ ln m a = n) → t ≠ 0 → tg m1 a = t ∧ ln m1 a = n := fun a _ n ht h0 => ⟨t a _ ht.1 h0, by rw [(k.2.2 a (tz_lt hz (by rw [ht.1]; exact h0))).2, ht.2]⟩
  obtain ⟨b1, b2, c0, c4, c5, c6, c7, c8, c9, c10, c11, cn, c12, c13, c14, c20, c21, cm⟩ := h
  exact ⟨t X _ b1 (by decide), fun f hp => by rw [hf f hp]; exact b2 f hp, l _ _ _ c0 (by decide), t _ _ c4 (by decide), t _ _ c5 (by decide), t _ _ c6 (by decide), t _ _ c7 (by decide), t _ _ c8 (by decide), t _ _ c9 (by decide), t _ _ c10 (by decide), t _ _ c11 (by decide), cn, t _ _ c12 (by decide), l _ _ _ c13 (by decide), l _ _ _ c14 (by decide), l _ _ _ c20 (by decide), l _ _ _ c21 (by decide), cm⟩
theorem XP.ut (h : XP m X A) (u : UT ts m m1) (hz : TZ m) (h1 : (1 : Int) ∈ ts) : XP m1 X A := h.kp u.1 hz fun f hf => u.f hz h.1 (by decide) h1 (by
  have : nF 1 = 23 := by decide
  rw [this]; omega)
theorem XP.mst {a f v : Int} (h : XP m X A) (hf : a = X → ¬ pf f) : XP (mst m a f v) X A := ⟨h.1, fun g hg => by rw [vl_mst, if_neg (fun z => hf z.1.symm (by rw [← z.2]; exact hg))]; exact h.2.1 g hg, h.2.2⟩
/-- a field of the component through a call -/
theorem XP.fld {f : Int} (h : XP m X A) (u : UT ts m m1) (hz : TZ m) (h1 : (1 : Int) ∈ ts) (hf : 0 ≤ f ∧ f < 23) : vl m1 X f = vl m X f := u.f hz h.1 (by decide) h1 (by
  have : nF 1 = 23 := by decide
  rw [this]; omega)
/-- the tape -/
def TPI (m : Mem) (X : Int) (A : Int → Int) (tp : List Int) : Prop := vl m X 1 = tp.length ∧ (tp.length : Int) ≤ 1280 ∧ ∀ j : Int, 0 ≤ j → j < tp.length → vl m (A 0) j = gi tp j
theorem TPI.tT (h : TPI m X A tp) (hX : XP m X A) {e : Int} (he : 0 ≤ e ∧ e ≤ tp.length) : TP m (A 0) e (gtp tp) := ⟨hX.a0.1, he.1, by rw [hX.a0.2]; have := h.2.1; omega, by rw [hX.a0.2]; decide, fun j j0 j1 => h.2.2 j j0 (by omega)⟩
theorem TPI.ut (h : TPI m X A tp) (hX : XP m X A) (u : UT ts m m1) (hz : TZ m) (h1 : (1 : Int) ∈ ts) (h2 : (17103 : Int) ∈ ts) : TPI m1 X A tp := ⟨by rw [hX.fld u hz h1 (by decide)]; exact h.1, h.2.1, fun j j0 j1 => by rw [u.a hz hX.a0.1 (by decide) h2]; exact h.2.2 j j0 j1⟩
/-- flags: dark, the cut, the place -/
def FLI (m : Mem) (X : Int) (dk : Bool) (ct pl : Int) : Prop := vl m X 17 = b2i dk ∧ vl m X 18 = ct ∧ vl m X 19 = pl
theorem FLI.ut {dk : Bool} {ct pl : Int} (h : FLI m X dk ct pl) (hX : XP m X A) (u : UT ts m m1) (hz : TZ m) (h1 : (1 : Int) ∈ ts) : FLI m1 X dk ct pl := ⟨by rw [hX.fld u hz h1 (by decide)]; exact h.1, by rw [hX.fld u hz h1 (by decide)]; exact h.2.1, by rw [hX.fld u hz h1 (by decide)]; exact h.2.2⟩
/-- the sinks: the answer's, the spare one, the one that measures -/
def SKI (m : Mem) (X : Int) (A : Int → Int) (res : List Int) : Prop := SK m (vl m X 2) res 32768 ∧ (∃ zs, SK m (vl m X 3) zs 32768) ∧ (∃ ws, SK m (A 4) ws 480) ∧ (vl m X 2 ≠ vl m X 3 ∧ vl m X 2 ≠ A 4 ∧ vl m X 3 ≠ A 4 ∧ A 50 ≠ vl m X 2 ∧ A 50 ≠ vl m X 3 ∧ A 50 ≠ A 4)
theorem SK.ut {s cap : Int} {ys : List Int} (h : SK m s ys cap) (u : UT ts m m1) (hz : TZ m) (h1 : (2 : Int) ∈ ts) (h2 : (52103 : Int) ∈ ts) : SK m1 s ys cap := by
  obtain ⟨h1', h2', h3, h4, h5, h6, h7⟩ := h
  have e0 := u.f hz h1' (by decide) h1 (j := 0) (by decide)
  have e1 := u.f hz h1' (by decide) h1 (j := 1) (by decide)
  refine ⟨u.t hz h1' (by decide), by rw [e0]; exact u.t hz h2' (by decide), by rw [e0, u.l hz (by omega)]; exact h3, by rw [e1]; exact h4, h5, h6, fun i i0 i1 => ?_⟩
  rw [e0, u.a hz h2' (by decide) h2]
  exact h7 i i0 i1
theorem SKI.ut {res : List Int} (h : SKI m X A res) (hX : XP m X A) (u : UT ts m m1) (hz : TZ m) (h0 : (1 : Int) ∈ ts) (h1 : (2 : Int) ∈ ts) (h2 : (52103 : Int) ∈ ts) : SKI m1 X A res := by
  obtain ⟨a1, ⟨zs, a2⟩, ⟨ws, a3⟩, a4⟩ := h
  have e2 := hX.fld (f := 2) u hz h0 (by decide)
  have e3 := hX.fld (f := 3) u hz h0 (by decide)
  exact ⟨by rw [e2]; exact a1.ut u hz h1 h2, ⟨zs, by rw [e3]; exact a2.ut u hz h1 h2⟩, ⟨ws, a3.ut u hz h1 h2⟩, by rw [e2, e3]; exact a4⟩
theorem RW.ut {r c : Int} {xs : List Int} (h : RW m r xs c) (u : UT ts m m1) (hz : TZ m) (h1 : (8 : Int) ∈ ts) (h2 : (130103 : Int) ∈ ts) (h3 : (132103 : Int) ∈ ts) : RW m1 r xs c := by
  obtain ⟨a1, a2, a3, a4, a5, a6, a7⟩ := h
  have e0 := u.f hz a1 (by decide) h1 (j := 0) (by decide)
  have e1 := u.f hz a1 (by decide) h1 (j := 1) (by decide)
  have hb : ∀ j, vl m1 (vl m r 0) j = vl m (vl m r 0) j := fun j => by
    rcases a2 with q | q
    · exact u.a hz q (by decide) h2
    · exact u.a hz q (by decide) h3
  exact ⟨u.t hz a1 (by decide), by rw [e0, u.t' hz (by omega)]; exact a2, by rw [e0, u.l hz (by omega)]; exact a3, by rw [e1]; exact a4, a5, a6, fun i i0 i1 => by rw [e0, hb]; exact a7 i i0 i1⟩
/-- the runner -/
def RNI (m : Mem) (R cap : Int) : Prop := tg m R = 6 ∧ ((tg m (vl m R 2) = 104101 ∨ tg m (vl m R 2) = 107101) ∧ ln m (vl m R 2) = cap) ∧ 256 ≤ cap ∧ cap ≤ 20000
theorem RNI.ut {R cap : Int} (h : RNI m R cap) (u : UT ts m m1) (hz : TZ m) (h1 : (6 : Int) ∈ ts) : RNI m1 R cap := by
  obtain ⟨a1, a2, a3⟩ := h
  have e2 := u.f hz a1 (by decide) h1 (j := 2) (by decide)
  exact ⟨u.t hz a1 (by decide), by rw [e2, u.t' hz (by omega), u.l hz (by omega)]; exact a2, a3⟩
/-- the patcher; its sink is at A 50 -/
def PTI (m : Mem) (A : Int → Int) (k : Int) : Prop := (∃ L, PB m (A 8) L none none k) ∧ vl m (A 8) 15 = A 50 ∧ (∃ ys, SK m (A 50) ys 480) ∧ (¬ pRw m (A 8) (A 10) ∧ ¬ pRw m (A 8) (A 11) ∧ vl m (A 8) 0 ≠ A 10 ∧ vl m (A 8) 0 ≠ A 11)
/-- the disk at rest -/
def DR (m : Mem) (K : Int) (c : RF) (ns : List Int) : Prop := DA m K ∧ BC m K c ∧ (0 ≤ vl m K 6 ∧ vl m K 6 < 1600) ∧ ∃ cnt, NSt m K ns cnt
/-- tags of the disk's objects -/
abbrev dkT : List Int := [9, 153103, 153101, 153105, 153114, 14, 298101]
theorem DR.ut {K : Int} {c : RF} {ns : List Int} (h : DR m K c ns) (u : UT ts m m1) (hz : TZ m) (hs : ∀ t ∈ dkT, t ∈ ts) : DR m1 K c ns := by
  obtain ⟨⟨d9, d0, d1, d2, d3, d5, d7, dn⟩, hc, h6, cnt, ⟨s1, s2, s3, s4, s5, s6, s7⟩⟩ := h
  have m9 : (9 : Int) ∈ ts := hs 9 (by simp)
  have g : ∀ f, 0 ≤ f → f < 9 → vl m1 K f = vl m K f := fun f f0 f1 => u.f hz d9 (by decide) m9 (by
    have : nF 9 = 9 := by decide
    rw [this]; omega)
  have al : ∀ a t n, (tg m a = t ∧ ln m a = n) → t ≠ 0 → tg m1 a = t ∧ ln m1 a = n := fun a t n q q0 => ⟨u.t hz q.1 q0, by rw [u.l hz (by rw [q.1]; exact q0)]; exact q.2⟩
  have v0 : ∀ j, vl m1 (vl m K 0) j = vl m (vl m K 0) j := fun j => u.a hz d0.1 (by decide) (hs _ (by simp))
  have v7 : ∀ j, vl m1 (vl m K 7) j = vl m (vl m K 7) j := fun j => u.a hz d7.1 (by decide) (hs _ (by simp))
  have m14 : (14 : Int) ∈ ts := hs 14 (by simp)
  have gp : ∀ p, NO m p → ∀ f, 0 ≤ f → f < 4 → vl m1 p f = vl m p f := fun p hp f f0 f1 => u.f hz hp.1 (by decide) m14 (by
    have : nF 14 = 4 := by decide
    rw [this]; omega)
  have hNO : ∀ p ∈ ns, NO m1 p := fun p hp => by
    have q := s6 p hp
    obtain ⟨q1, q2, q3, q4⟩ := q
    have e1 := gp p (s6 p hp) 1 (by decide) (by decide)
    have e2 := gp p (s6 p hp) 2 (by decide) (by decide)
    exact ⟨u.t hz q1 (by decide), by rw [e1]; exact al _ _ _ q2 (by decide), by rw [e2]; exact al _ _ _ q3 (by decide), by rw [e1, e2]; exact q4⟩
  refine ⟨⟨u.t hz d9 (by decide), by rw [g 0 (by decide) (by decide)]; exact al _ _ _ d0 (by decide), by rw [g 1 (by decide) (by decide)]; exact al _ _ _ d1 (by decide), by rw [g 2 (by decide) (by decide)]; exact al _ _ _ d2 (by decide), by rw [g 3 (by decide) (by decide)]; exact al _ _ _ d3 (by decide), by rw [g 5 (by decide) (by decide)]; exact al _ _ _ d5 (by decide), by rw [g 7 (by decide) (by decide)]; exact al _ _ _ d7 (by decide), by rw [g 0 (by decide) (by decide), g 1 (by decide) (by decide), g 2 (by decide) (by decide)]; exact dn⟩, fun b j b0 b1 j0 j1 => by rw [g 0 (by decide) (by decide), v0]; exact hc b j b0 b1 j0 j1, by rw [g 6 (by decide) (by decide)]; exact h6, cnt, ⟨by rw [g 8 (by decide) (by decide)]; exact s1, s2, fun i i0 i1 => by rw [g 7 (by decide) (by decide), v7]; exact s3 i i0 i1, fun i i0 i1 => by rw [g 7 (by decide) (by decide), v7]; exact s4 i i0 i1, s5, hNO, fun p hp q hq hne => ?_⟩⟩
  rw [gp p (s6 p hp) 1 (by decide) (by decide), gp p (s6 p hp) 2 (by decide) (by decide), gp q (s6 q hq) 1 (by decide) (by decide), gp q (s6 q hq) 2 (by decide) (by decide)]
  exact s7 p hp q hq hne
/-- a version's object; readers stand at A 100 .. -/
abbrev vA (A : Int → Int) (k : Int) : Int := if k < 0 then A 12 else A (100 + k)
def VOb (m : Mem) (A : Int → Int) : Prop := (∀ k, 0 ≤ k → k < 8 → vl m (A 13) k = A (100 + k) ∧ tg m (A (100 + k)) = 10) ∧ ∀ j k, -1 ≤ j → j < 8 → -1 ≤ k → k < 8 → j ≠ k → vA A j ≠ vA A k
theorem VOb.t (h : VOb m A) (hX : XP m X A) {k : Int} (h0 : -1 ≤ k) (h1 : k < 8) : tg m (vA A k) = 10 := by
  unfold vA
  split
  · exact hX.a12
  · exact (h.1 k (by omega) h1).2
theorem VOb.ut (h : VOb m A) (hX : XP m X A) (u : UT ts m m1) (hz : TZ m) (h2 : (17115 : Int) ∈ ts) : VOb m1 A := ⟨fun k k0 k1 => ⟨by rw [u.a hz hX.a13.1 (by decide) h2]; exact (h.1 k k0 k1).1, u.t hz (h.1 k k0 k1).2 (by decide)⟩, h.2⟩
/-- a header that isn't the newest: torn, or the one before -/
def OHd (f : Int → Int) (s : Int) : Prop := (¬ (f 0 = 4 ∧ SLD f) ∨ (f 0 = 4 ∧ SLD f ∧ ftw f 1 = 0 ∧ ftw f 3 = s - 1)) ∧ (∀ j, 368 ≤ j → j < 732 → f j = 0) ∧ ((s = 1 ∧ ∀ k : Int, 0 ≤ k → k < 4 → f (732 + k) = 0) ∨ (2 ≤ s ∧ ∃ r0 n0 : Int, (0 ≤ r0 ∧ r0 < 1600) ∧ (0 ≤ n0 ∧ n0 ≤ 100) ∧ ∀ k : Int, 0 ≤ k → k < 4 → f (732 + k) = w8 (pShr (sumN (hb (s - 1) r0 n0) 732) (24 - 8 * k))))
/-- a version in memory: what it has, by its serial number -/
def VNI (m : Mem) (c : RF) (hist : Int → DC) (srl v : Int) (D : DC) : Prop := ∃ bs, VsO c (vl m v 0) (encD D) bs ∧ vl m v 1 = D.length ∧ (0 ≤ vl m v 2 ∧ vl m v 2 ≤ srl ∧ hist (vl m v 2) = D)
/-- the disk and the versions -/
def DKI (n : Nat) (m : Mem) (X : Int) (A : Int → Int) (c : RF) (ns : List Int) (sq srl : Int) (hist : Int → DC) (now : DC) (rd : Int → Option DC) : Prop :=
  DR m (A 9) c ns ∧ (vl m X 15 = sq ∧ vl m X 16 = srl) ∧ (1 ≤ sq ∧ sq ≤ n + 1 ∧ 0 ≤ srl ∧ srl ≤ n) ∧ (VOb m A ∧ VNI m c hist srl (A 12) now ∧ DCK n now) ∧ HB (c (sq % 2)) sq (vl m (A 12) 0) now.length ∧ OHd (c (1 - sq % 2)) sq ∧ ∀ k, 0 ≤ k → k < 8 → vl m (A (100 + k)) 3 = b2i (rd k).isSome ∧ ∀ D, rd k = some D → VNI m c hist srl (A (100 + k)) D ∧ DCK n D
theorem DKI.ut {n : Nat} {c : RF} {ns : List Int} {sq srl : Int} {hist : Int → DC} {now : DC} {rd : Int → Option DC} (h : DKI n m X A c ns sq srl hist now rd) (hX : XP m X A) (u : UT ts m m1) (hz : TZ m) (h1 : (1 : Int) ∈ ts) (h2 : (10 : Int) ∈ ts) (h3 : (17115 : Int) ∈ ts) (hs : ∀ t ∈ dkT, t ∈ ts) : DKI n m1 X A c ns sq srl hist now rd := by
  obtain ⟨a1, a2, a3, ⟨a4, a5, a6⟩, a7, a8, a9⟩ := h
  have g : ∀ v f, tg m v = 10 → 0 ≤ f → f < 4 → vl m1 v f = vl m v f := fun v f hv f0 f1 => u.f hz hv (by decide) h2 (by
    have : nF 10 = 4 := by decide
    rw [this]; omega)
  have vn : ∀ v D, tg m v = 10 → VNI m c hist srl v D → VNI m1 c hist srl v D := fun v D hv q => by
    obtain ⟨bs, q1, q2, q3⟩ := q
    exact ⟨bs, by rw [g v 0 hv (by decide) (by decide)]; exact q1, by rw [g v 1 hv (by decide) (by decide)]; exact q2, by rw [g v 2 hv (by decide) (by decide)]; exact q3⟩
  refine ⟨a1.ut u hz hs, ⟨by rw [hX.fld u hz h1 (by decide)]; exact a2.1, by rw [hX.fld u hz h1 (by decide)]; exact a2.2⟩, a3, ⟨a4.ut hX u hz h3, vn _ _ hX.a12 a5, a6⟩, by rw [g _ 0 hX.a12 (by decide) (by decide)]; exact a7, a8, fun k k0 k1 => ?_⟩
  have tv := (a4.1 k k0 k1).2
  exact ⟨by rw [g _ 3 tv (by decide) (by decide)]; exact (a9 k k0 k1).1, fun D hD => ⟨vn _ _ tv ((a9 k k0 k1).2 D hD).1, ((a9 k k0 k1).2 D hD).2⟩⟩
/-- what a table of a query comes to hold -/
def bldT (S : Fo) (D : DC) : List (Int × Int) := D.foldl (fun L x => match chs S x.2 with
  | some u => inK (kyV u.1 u.2) x.1 L
  | none => L) []
/-- a query as a table may have it -/
def QSi (S : Fo) : Prop := sgF S = true ∧ (okF 2 S ∧ hQ S ≤ 1700) ∧ cntF S ≤ 1300
/-- a table at t of a query S; one at A 60 is in the making -/
def TBI1 (m : Mem) (A : Int → Int) (srl : Int) (hist : Int → DC) (t : Int) (S : Fo) : Prop := ∃ L N xs cN, TBl m t L ∧ srK L ∧ ((vl m t 1 = -1 ∧ L = []) ∨ (0 ≤ vl m t 1 ∧ vl m t 1 ≤ srl ∧ L = bldT S (hist (vl m t 1))) ∨ t = A 60) ∧ (RW m N xs cN ∧ xs.length < 60000 ∧ N ≠ A 10 ∧ N ≠ A 11 ∧ ¬ pRw m (A 8) N) ∧ CF m N xs aT (fun _ => vl m t 0) (foC (20, 1, [], []) S foN) ∧ QSi S
/-- the tables -/
def TBI (m : Mem) (A : Int → Int) (srl : Int) (hist : Int → DC) (ix : Int → Option Fo) : Prop := (∀ k, 0 ≤ k → k < 4 → (ix k = none → vl m (A 14) k = 0) ∧ ∀ S, ix k = some S → TBI1 m A srl hist (vl m (A 14) k) S) ∧ ∀ j k, 0 ≤ j → j < 4 → 0 ≤ k → k < 4 → j ≠ k → vl m (A 14) j ≠ 0 → vl m (A 14) k ≠ 0 → vl m (A 14) j ≠ vl m (A 14) k ∧ vl m (vl m (A 14) j) 2 ≠ vl m (vl m (A 14) k) 2 ∧ vl m (vl m (A 14) j) 3 ≠ vl m (vl m (A 14) k) 3
abbrev tbU : List Int := [30, 344102, 344101]
abbrev tbT : List Int := [30, 344102, 344101, 17116]
theorem TBl.ut {t : Int} {L : List (Int × Int)} (h : TBl m t L) (u : UT ts m m1) (hz : TZ m) (hs : ∀ t ∈ tbU, t ∈ ts) : TBl m1 t L ∧ ∀ f, 0 ≤ f → f < 5 → vl m1 t f = vl m t f := by
  obtain ⟨⟨a1, a2, a3⟩, a4, a5, a6, a7⟩ := h
  have g : ∀ f, 0 ≤ f → f < 5 → vl m1 t f = vl m t f := fun f f0 f1 => u.f hz a1 (by decide) (hs _ (by simp)) (by
    have : nF 30 = 5 := by decide
    rw [this]; omega)
  have g2 := g 2 (by decide) (by decide)
  have g3 := g 3 (by decide) (by decide)
  exact ⟨⟨⟨u.t hz a1 (by decide), by rw [g2, u.t hz a2.1 (by decide), u.l hz (by omega)]; exact ⟨rfl, a2.2⟩, by rw [g3, u.t hz a3.1 (by decide), u.l hz (by omega)]; exact ⟨rfl, a3.2⟩⟩, by rw [g 4 (by decide) (by decide)]; exact a4, a5, fun i i0 i1 => by rw [g2, u.a hz a2.1 (by decide) (hs _ (by simp))]; exact a6 i i0 i1, fun i i0 i1 => by rw [g3, u.a hz a3.1 (by decide) (hs _ (by simp))]; exact a7 i i0 i1⟩, g⟩
/-- rows of tables stay, and what the patcher's rows are -/
def RKp (A : Int → Int) (m m1 : Mem) : Prop := (∀ N xs cN, N ≠ A 10 → N ≠ A 11 → ¬ pRw m (A 8) N → RW m N xs cN → RW m1 N xs cN) ∧ ∀ r, pRw m1 (A 8) r ↔ pRw m (A 8) r
theorem TBI1.keep {srl t : Int} {hist : Int → DC} {S : Fo} (h : TBI1 m A srl hist t S) (u : UT ts m m1) (hz : TZ m) (hs : ∀ t ∈ tbU, t ∈ ts) (hq : QKp m m1) (hr : RKp A m m1) : TBI1 m1 A srl hist t S := by
  obtain ⟨L, N, xs, cN, b1, b2, b3, ⟨b4, b5, b6, b7, b8⟩, b9, b10⟩ := h
  obtain ⟨d1, d2⟩ := b1.ut u hz hs
  refine ⟨L, N, xs, cN, d1, b2, by rw [d2 1 (by decide) (by decide)]; exact b3, ⟨hr.1 N xs cN b6 b7 b8 b4, b5, b6, b7, fun z => b8 ((hr.2 N).mp z)⟩, ?_, b10⟩
  have := b9.keep (ys := []) (p' := fun _ => vl m1 t 0) hq.q (fun j => d2 0 (by decide) (by decide))
  rwa [List.append_nil] at this
theorem TBI.keep {srl : Int} {hist : Int → DC} {ix : Int → Option Fo} (h : TBI m A srl hist ix) (hX : XP m X A) (u : UT ts m m1) (hz : TZ m) (hs : ∀ t ∈ tbT, t ∈ ts) (hq : QKp m m1) (hr : RKp A m m1) : TBI m1 A srl hist ix := by
  have e : ∀ k, vl m1 (A 14) k = vl m (A 14) k := fun k => u.a hz hX.a14.1 (by decide) (hs _ (by simp))
  refine ⟨fun k k0 k1 => ⟨fun hn => by rw [e]; exact (h.1 k k0 k1).1 hn, fun S hS => by rw [e]; exact ((h.1 k k0 k1).2 S hS).keep u hz (fun t ht => hs t ((by decide : ∀ t ∈ tbU, t ∈ tbT) t ht)) hq hr⟩, fun j k j0 j1 k0 k1 hne z1 z2 => ?_⟩
  rw [e] at z1 z2
  rw [e, e]
  have tt : ∀ k, 0 ≤ k → k < 4 → vl m (A 14) k ≠ 0 → tg m (vl m (A 14) k) = 30 := fun k k0 k1 hk => by
    cases hx : ix k with
    | none => exact absurd ((h.1 k k0 k1).1 hx) hk
    | some S =>
      obtain ⟨L, N, xs, cN, b1, -⟩ := (h.1 k k0 k1).2 S hx
      exact b1.1.1
  have g : ∀ t f, tg m t = 30 → 0 ≤ f → f < 5 → vl m1 t f = vl m t f := fun t f ht f0 f1 => u.f hz ht (by decide) (hs _ (by simp)) (by
    have : nF 30 = 5 := by decide
    rw [this]; omega)
  rw [g _ 2 (tt j j0 j1 z1) (by decide) (by decide), g _ 2 (tt k k0 k1 z2) (by decide) (by decide), g _ 3 (tt j j0 j1 z1) (by decide) (by decide), g _ 3 (tt k k0 k1 z2) (by decide) (by decide)]
  exact h.2 j k j0 j1 k0 k1 hne z1 z2
end
/-- what is known beside the state: blocks, nodes, sequence, serials, versions by serial; the rows' bytes and room; the patcher's room, the runner's -/
abbrev GH : Type := RF × List Int × Int × Int × (Int → DC) × (List Int × Int) × (List Int × Int) × Int × Int
abbrev GH.c (g : GH) : RF := g.1
abbrev GH.ns (g : GH) : List Int := g.2.1
abbrev GH.sq (g : GH) : Int := g.2.2.1
abbrev GH.srl (g : GH) : Int := g.2.2.2.1
abbrev GH.hist (g : GH) : Int → DC := g.2.2.2.2.1
abbrev GH.xs (g : GH) : List Int := g.2.2.2.2.2.1.1
abbrev GH.c1 (g : GH) : Int := g.2.2.2.2.2.1.2
abbrev GH.ls (g : GH) : List Int := g.2.2.2.2.2.2.1.1
abbrev GH.c2 (g : GH) : Int := g.2.2.2.2.2.2.1.2
abbrev GH.k (g : GH) : Int := g.2.2.2.2.2.2.2.1
abbrev GH.cap (g : GH) : Int := g.2.2.2.2.2.2.2.2
def pcG (g : GH) : Int := g.c1 + g.c2 + g.k + g.cap + 48 * g.ns.length
def BSm (m : Mem) : Prop := OK m ∧ RI m ∧ SI m ∧ LB m ∧ STRm m
/-- the component at rest -/
def CPt (n : Nat) (m : Mem) (X : Int) (A : Int → Int) (s : St) (g : GH) : Prop := BSm m ∧ XP m X A ∧ TPI m X A s.tp ∧ FLI m X s.dk s.ct s.pl ∧ SKI m X A s.res ∧ (RW m (A 10) g.xs g.c1 ∧ g.c1 ≤ 12000) ∧ (RW m (A 11) g.ls g.c2 ∧ g.c2 ≤ 12000) ∧ RNI m (A 7) g.cap ∧ PTI m A g.k ∧ DKI n m X A g.c g.ns g.sq g.srl g.hist s.now s.rd ∧ TBI m A g.srl g.hist s.ix
/-- what a call may cost: cells and slots against the tape that is used up and the room that is gained -/
def PN (m : Mem) (tp : List Int) (pc : Int) : Int := 16 * nx m + 640 * tp.length - pc
def PSl (m : Mem) (tp : List Int) (pc : Int) : Int := sl m + 40 * tp.length - 2 * pc
def CST (m : Mem) (tp : List Int) (pc : Int) (m' : Mem) (tp' : List Int) (pc' : Int) : Prop := PN m' tp' pc' ≤ PN m tp pc + 32000 ∧ PSl m' tp' pc' ≤ PSl m tp pc + 27000
