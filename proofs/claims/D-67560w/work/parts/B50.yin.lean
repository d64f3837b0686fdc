/-! the twin at rest: its parts -/
set_option maxRecDepth 100000
set_option maxHeartbeats 4000000
/-- fields of the twin that never change -/
abbrev qf (f : Int) : Prop := f = 0 ∨ f = 2 ∨ (8 ≤ f ∧ f ≤ 10) ∨ f = 15 ∨ (18 ≤ f ∧ f ≤ 20) ∨ f = 22 ∨ f = 23 ∨ f = 25 ∨ f = 30 ∨ f = 32 ∨ f = 37
/-- but for the places of S all is as it was -/
def SFr (S : Int → Int → Prop) (m m' : Mem) : Prop := KP m m' ∧ ∀ a j, a < nx m → ¬ S a j → vl m' a j = vl m a j
section
variable {S : Int → Int → Prop} {m m1 : Mem} {M : Int} {B : Int → Int}
theorem SFr.fr {e : Nat} (h : FRM e m m1) : SFr (fun a j => Nat.testBit e (bix (tg m a) j) = true) m m1 := ⟨h.1, fun a j ha hj => h.2.1 a j ha (by simpa using hj)⟩
theorem SFr.mst {f v : Int} : SFr (fun a j => a = M ∧ j = f) m (mst m M f v) := ⟨⟨fun h => h, Int.le_refl _, fun _ _ => ⟨rfl, rfl⟩⟩, fun a j _ hj => by rw [vl_mst, if_neg hj]⟩
theorem SFr.wf (h : WF M m m1) : SFr (fun a j => a = vl m M 15 ∨ (a = M ∧ (j = 16 ∨ j = 17))) m m1 := ⟨⟨fun hz a ha => by rw [(h.2.2.1 a).1]; exact hz a (by rw [h.1] at ha; exact ha), by rw [h.1]; exact Int.le_refl _, fun a _ => h.2.2.1 a⟩, fun a j _ hj => h.2.2.2 a j (fun z => hj (Or.inl z)) (fun z => hj (Or.inr z))⟩
theorem SFr.nc {S : Int → Prop} (h : NC S m m1) : SFr (fun a _ => S a) m m1 := ⟨⟨fun hz a ha => by rw [(h.2.2.1 a).1]; exact hz a (by rw [h.1] at ha; exact ha), by rw [h.1]; exact Int.le_refl _, fun a _ => h.2.2.1 a⟩, fun a j _ hj => h.2.2.2 a j hj⟩
theorem SFr.mal {t n : Int} : SFr (fun _ _ => False) m (mal m t n) := ⟨(UT.mal (ts := [])).1, fun a j ha _ => by rw [vl_mal, if_neg (by omega)]⟩
theorem SFr.t {a t : Int} (h : SFr S m m1) (hz : TZ m) (ht : tg m a = t) (h0 : t ≠ 0) : tg m1 a = t := by rw [(h.1.2.2 a (tz_lt hz (by rw [ht]; exact h0))).1, ht]
theorem SFr.l {a t n : Int} (h : SFr S m m1) (hz : TZ m) (ht : tg m a = t ∧ ln m a = n) (h0 : t ≠ 0) : tg m1 a = t ∧ ln m1 a = n := ⟨h.t hz ht.1 h0, by rw [(h.1.2.2 a (tz_lt hz (by rw [ht.1]; exact h0))).2, ht.2]⟩
theorem SFr.v {a j : Int} (h : SFr S m m1) (hz : TZ m) (h0 : tg m a ≠ 0) (hS : ¬ S a j) : vl m1 a j = vl m a j := h.2 a j (tz_lt hz h0) hS
theorem SFr.ok (h : SFr S m m1) (ok : OK m) : OK m1 := ⟨h.1.1 ok.1, by rw [(h.1.2.2 0 (by have := ok.2.2; omega)).1]; exact ok.2.1, by have := h.1.2.1; have := ok.2.2; omega⟩
end
/-- the twin's objects, at the places of B -/
def YP (m : Mem) (M : Int) (B : Int → Int) : Prop := tg m M = 11 ∧ (∀ f, qf f → vl m M f = B f) ∧ ((tg m (B 0) = 186103 ∧ ln m (B 0) = 16384) ∧ (tg m (B 2) = 186103 ∧ ln m (B 2) = 32768) ∧ (tg m (B 15) = 186103 ∧ ln m (B 15) = 32776) ∧ (tg m (B 20) = 186103 ∧ ln m (B 20) = 480)) ∧ ((tg m (B 22) = 186101 ∧ ln m (B 22) = 16385) ∧ (tg m (B 23) = 186101 ∧ ln m (B 23) = 16385) ∧ (tg m (B 32) = 186101 ∧ ln m (B 32) = 20100) ∧ B 22 ≠ B 23) ∧ ((tg m (B 9) = 186117 ∧ ln m (B 9) = 8) ∧ (tg m (B 10) = 186118 ∧ ln m (B 10) = 4)) ∧ (B 18 ≠ B 19 ∧ B 18 ≠ B 25 ∧ B 18 ≠ B 30 ∧ B 18 ≠ B 37 ∧ B 19 ≠ B 25 ∧ B 19 ≠ B 30 ∧ B 19 ≠ B 37 ∧ B 25 ≠ B 30 ∧ B 25 ≠ B 37 ∧ B 30 ≠ B 37)
/-- the tape, the answer, the flags -/
def TPY (m : Mem) (M : Int) (B : Int → Int) (tp : List Int) : Prop := vl m M 1 = tp.length ∧ (tp.length : Int) ≤ 1280 ∧ ∀ j : Int, 0 ≤ j → j < tp.length → vl m (B 0) j = gi tp j
def RSY (m : Mem) (M : Int) (B : Int → Int) (res : List Int) : Prop := vl m M 3 = res.length ∧ (res.length : Int) ≤ 32768 ∧ (∀ b ∈ res, -128 ≤ b ∧ b < 128) ∧ ∀ j : Int, 0 ≤ j → j < res.length → vl m (B 2) j = gi res j
def FLY (m : Mem) (M : Int) (dk : Bool) (ct pl : Int) : Prop := vl m M 6 = b2i dk ∧ vl m M 7 = ct ∧ vl m M 5 = pl
/-- a tree at a field, its room told -/
def TRw (m : Mem) (t c bC bU : Int) : Prop := ∃ n us C, TW m t n us C ∧ c = tC m t C ∧ C ≤ bC ∧ uC m t ≤ bU
/-- the trees: document, told, names, said; values -/
def TRY (m : Mem) (B : Int → Int) (c : Int → Int) : Prop := (TRw m (B 18) (c 18) 10000 20000 ∧ TRw m (B 19) (c 19) 2600 2600 ∧ TRw m (B 25) (c 25) 256 10000 ∧ TRw m (B 30) (c 30) 256 80000) ∧ ∃ C, TW m (B 37) 0 [] C ∧ c 37 = tC m (B 37) C ∧ C ≤ 31000 ∧ uC m (B 37) ≤ 80000
/-- a version's store; readers stand at B 100 .. -/
abbrev vB (B : Int → Int) (k : Int) : Int := if k < 0 then B 8 else B (100 + k)
/-- the stores -/
def SVY (m : Mem) (B : Int → Int) (now : DC) (rd : Int → Option DC) : Prop := SVs m (B 8) (prtD now) ∧ (∀ k, 0 ≤ k → k < 8 → vl m (B 9) k = B (100 + k) ∧ vl m (B (100 + k)) 4 = b2i (rd k).isSome ∧ ∃ L, SVs m (B (100 + k)) L ∧ ∀ D, rd k = some D → L = prtD D) ∧ ∀ j k, -1 ≤ j → j < 8 → -1 ≤ k → k < 8 → j ≠ k → DJ m (vB B j) (vB B k)
/-- the texts of the indexes -/
def IXY (m : Mem) (B : Int → Int) (ix : Int → Option Fo) : Prop := ∀ k, 0 ≤ k → k < 4 → (ix k = none → vl m (B 10) k = 0) ∧ ∀ Q, ix k = some Q → ∃ tx : List Int, (tg m (vl m (B 10) k) = 276103 ∧ ln m (vl m (B 10) k) = tx.length) ∧ (tx.length : Int) ≤ 1280 ∧ (∀ b ∈ tx, -128 ≤ b ∧ b < 128) ∧ (∀ j : Int, 0 ≤ j → j < tx.length → vl m (vl m (B 10) k) j = gi tx j) ∧ sQuT tx = some (.inr Q) ∧ sgF Q = true
def BTm (m : Mem) : Prop := OK m ∧ TI m ∧ LB m ∧ STRm m
/-- the twin at rest -/
def TWt (m : Mem) (M : Int) (B : Int → Int) (s : St) (c : Int → Int) (K : Int) : Prop := BTm m ∧ YP m M B ∧ TPY m M B s.tp ∧ RSY m M B s.res ∧ FLY m M s.dk s.ct s.pl ∧ TRY m B c ∧ (∃ k, QA m M k K) ∧ SVY m B s.now s.rd ∧ IXY m B s.ix
section
variable {S : Int → Int → Prop} {m m1 : Mem} {M : Int} {B : Int → Int} {tp res : List Int} {s : St} {c : Int → Int} {K : Int}
theorem YP.tm (h : YP m M B) : tg m M = 11 := h.1
theorem YP.f (h : YP m M B) {f : Int} (hf : qf f) : vl m M f = B f := h.2.1 f hf
theorem YP.b0 (h : YP m M B) : tg m (B 0) = 186103 ∧ ln m (B 0) = 16384 := h.2.2.1.1
theorem YP.b2 (h : YP m M B) : tg m (B 2) = 186103 ∧ ln m (B 2) = 32768 := h.2.2.1.2.1
theorem YP.b15 (h : YP m M B) : tg m (B 15) = 186103 ∧ ln m (B 15) = 32776 := h.2.2.1.2.2.1
theorem YP.b20 (h : YP m M B) : tg m (B 20) = 186103 ∧ ln m (B 20) = 480 := h.2.2.1.2.2.2
theorem YP.b22 (h : YP m M B) : tg m (B 22) = 186101 ∧ ln m (B 22) = 16385 := h.2.2.2.1.1
theorem YP.b23 (h : YP m M B) : tg m (B 23) = 186101 ∧ ln m (B 23) = 16385 := h.2.2.2.1.2.1
theorem YP.b32 (h : YP m M B) : tg m (B 32) = 186101 ∧ ln m (B 32) = 20100 := h.2.2.2.1.2.2.1
theorem YP.n22 (h : YP m M B) : B 22 ≠ B 23 := h.2.2.2.1.2.2.2
theorem YP.b9 (h : YP m M B) : tg m (B 9) = 186117 ∧ ln m (B 9) = 8 := h.2.2.2.2.1.1
theorem YP.b10 (h : YP m M B) : tg m (B 10) = 186118 ∧ ln m (B 10) = 4 := h.2.2.2.2.1.2
theorem YP.ne (h : YP m M B) : B 18 ≠ B 19 ∧ B 18 ≠ B 25 ∧ B 18 ≠ B 30 ∧ B 18 ≠ B 37 ∧ B 19 ≠ B 25 ∧ B 19 ≠ B 30 ∧ B 19 ≠ B 37 ∧ B 25 ≠ B 30 ∧ B 25 ≠ B 37 ∧ B 30 ≠ B 37 := h.2.2.2.2.2
/-- the byte arrays stand apart, and so from the twin -/
theorem YP.ba (h : YP m M B) : (B 0 ≠ B 2 ∧ B 0 ≠ B 15 ∧ B 0 ≠ B 20 ∧ B 2 ≠ B 15 ∧ B 2 ≠ B 20 ∧ B 15 ≠ B 20) ∧ (B 0 ≠ M ∧ B 2 ≠ M ∧ B 15 ≠ M ∧ B 20 ≠ M ∧ B 9 ≠ M ∧ B 10 ≠ M) := by
  have h0 := h.b0
  have h2 := h.b2
  have h15 := h.b15
  have h20 := h.b20
  have h9 := h.b9
  have h10 := h.b10
  have hm := h.1
  refine ⟨⟨?_, ?_, ?_, ?_, ?_, ?_⟩, ?_, ?_, ?_, ?_, ?_, ?_⟩ <;> intro z <;> have e1 := congrArg (ln m) z <;> have e2 := congrArg (tg m) z <;> omega
theorem YP.sf (h : YP m M B) (k : SFr S m m1) (hz : TZ m) (hS : ∀ f, qf f → ¬ S M f) : YP m1 M B := by
  obtain ⟨a1, a2, ⟨b1, b2, b3, b4⟩, ⟨c1, c2, c3, c4⟩, ⟨d1, d2⟩, e⟩ := h
  exact ⟨k.t hz a1 (by decide), fun f hf => by rw [k.v hz (by omega) (hS f hf)]; exact a2 f hf, ⟨k.l hz b1 (by decide), k.l hz b2 (by decide), k.l hz b3 (by decide), k.l hz b4 (by decide)⟩, ⟨k.l hz c1 (by decide), k.l hz c2 (by decide), k.l hz c3 (by decide), c4⟩, ⟨k.l hz d1 (by decide), k.l hz d2 (by decide)⟩, e⟩
theorem TPY.sf (h : TPY m M B tp) (hY : YP m M B) (k : SFr S m m1) (hz : TZ m) (h1 : ¬ S M 1) (h2 : ∀ j, ¬ S (B 0) j) : TPY m1 M B tp := ⟨by rw [k.v hz (by have := hY.1; omega) h1]; exact h.1, h.2.1, fun j j0 j1 => by rw [k.v hz (by have := hY.b0; omega) (h2 j)]; exact h.2.2 j j0 j1⟩
theorem RSY.sf (h : RSY m M B res) (hY : YP m M B) (k : SFr S m m1) (hz : TZ m) (h1 : ¬ S M 3) (h2 : ∀ j, ¬ S (B 2) j) : RSY m1 M B res := ⟨by rw [k.v hz (by have := hY.1; omega) h1]; exact h.1, h.2.1, h.2.2.1, fun j j0 j1 => by rw [k.v hz (by have := hY.b2; omega) (h2 j)]; exact h.2.2.2 j j0 j1⟩
theorem FLY.sf {dk : Bool} {ct pl : Int} (h : FLY m M dk ct pl) (hY : YP m M B) (k : SFr S m m1) (hz : TZ m) (h1 : ¬ S M 5 ∧ ¬ S M 6 ∧ ¬ S M 7) : FLY m1 M dk ct pl := by
  have h0 : tg m M ≠ 0 := by have := hY.1; omega
  exact ⟨by rw [k.v hz h0 h1.2.1]; exact h.1, by rw [k.v hz h0 h1.2.2]; exact h.2.1, by rw [k.v hz h0 h1.1]; exact h.2.2⟩
/-- arrays of trees -/
abbrev trA (t : Int) : Prop := t = 284101 ∨ t = 287101 ∨ t = 284102 ∨ t = 286102 ∨ t = 284104 ∨ t = 288104
theorem TW.sf {t n C : Int} {us : List Int} (h : TW m t n us C) (k : SFr S m m1) (hz : TZ m) (hS : (∀ f, 0 ≤ f → f < 13 → ¬ S t f) ∧ ∀ a j, trA (tg m a) → ¬ S a j) : TW m1 t n us C ∧ (∀ f j, 0 ≤ f → f ≤ 9 → nv m1 t f j = nv m t f j) ∧ uC m1 t = uC m t := by
  obtain ⟨a1, a2, a3, a4, a5, a6, a7, a8, a9⟩ := h
  have g : ∀ f, 0 ≤ f → f < 13 → vl m1 t f = vl m t f := fun f f0 f1 => k.v hz (by omega) (hS.1 f f0 f1)
  have tA : ∀ f, 0 ≤ f → f ≤ 9 → trA (tg m (vl m t f)) := fun f f0 f1 => by
    by_cases q : f = 1
    · rw [q]; have := a3.1; unfold trA; omega
    · have := (a2 f f0 f1 q).1; unfold trA; omega
  have t0 : ∀ a, trA (tg m a) → tg m a ≠ 0 := fun a ha => by unfold trA at ha; omega
  have tl : ∀ a, trA (tg m a) → tg m1 a = tg m a ∧ ln m1 a = ln m a := fun a ha => k.l hz ⟨rfl, rfl⟩ (t0 a ha)
  have t11 : trA (tg m (vl m t 11)) := by unfold trA; omega
  refine ⟨⟨k.t hz a1 (by decide), fun f f0 f1 fn => ?_, ?_, ?_, by rw [g 10 (by decide) (by decide)]; exact a5, by rw [g 12 (by decide) (by decide)]; exact a6, a7, ?_, fun i i0 i1 => ?_⟩, fun f j f0 f1 => ?_, ?_⟩
  · rw [g f f0 (by omega), (tl _ (tA f f0 f1)).1, (tl _ (tA f f0 f1)).2]; exact a2 f f0 f1 fn
  · rw [g 1 (by decide) (by decide), (tl _ (tA 1 (by decide) (by decide))).1, (tl _ (tA 1 (by decide) (by decide))).2]; exact a3
  · rw [g 11 (by decide) (by decide), (tl _ t11).1]; exact a4
  · rw [g 11 (by decide) (by decide), (tl _ t11).2]; exact a8
  · rw [g 11 (by decide) (by decide), k.v hz (t0 _ t11) (hS.2 _ i t11)]; exact a9 i i0 i1
  · unfold nv
    rw [g f f0 (by omega), k.v hz (t0 _ (tA f f0 f1)) (hS.2 _ j (tA f f0 f1))]
  · unfold uC
    rw [g 11 (by decide) (by decide), (tl _ t11).2]
theorem TRw.sf {t c bC bU : Int} (h : TRw m t c bC bU) (k : SFr S m m1) (hz : TZ m) (hS : (∀ a f, tg m a = 13 → 0 ≤ f → f < 13 → ¬ S a f) ∧ ∀ a j, trA (tg m a) → ¬ S a j) : TRw m1 t c bC bU := by
  obtain ⟨n, us, C, h1, h2, h3, h4⟩ := h
  obtain ⟨k1, -, k3⟩ := h1.sf k hz ⟨fun f f0 f1 => hS.1 t f h1.1 f0 f1, hS.2⟩
  exact ⟨n, us, C, k1, by unfold tC at h2 ⊢; rw [k3]; exact h2, h3, by rw [k3]; exact h4⟩
theorem TRY.sf (h : TRY m B c) (k : SFr S m m1) (hz : TZ m) (hS : (∀ a f, tg m a = 13 → 0 ≤ f → f < 13 → ¬ S a f) ∧ ∀ a j, trA (tg m a) → ¬ S a j) : TRY m1 B c := by
  obtain ⟨⟨a1, a2, a3, a4⟩, C, b1, b2, b3, b4⟩ := h
  obtain ⟨k1, -, k3⟩ := b1.sf k hz ⟨fun f f0 f1 => hS.1 _ f b1.1 f0 f1, hS.2⟩
  exact ⟨⟨a1.sf k hz hS, a2.sf k hz hS, a3.sf k hz hS, a4.sf k hz hS⟩, C, k1, by unfold tC at b2 ⊢; rw [k3]; exact b2, b3, by rw [k3]; exact b4⟩
theorem QA.sf {q : Int} (h : QA m M q K) (k : SFr S m m1) (hz : TZ m) (hS : ¬ S M 27 ∧ ¬ S M 28 ∧ ¬ S M 29 ∧ ¬ S M 32) : QA m1 M q K := by
  obtain ⟨a1, a2, ⟨a3, a4⟩, ⟨a5, a6⟩, a7, a8, a9⟩ := h
  have h0 : tg m M ≠ 0 := by omega
  have e27 := k.v hz h0 hS.1
  have e28 := k.v hz h0 hS.2.1
  have e29 := k.v hz h0 hS.2.2.1
  have e32 := k.v hz h0 hS.2.2.2
  have g1 := k.l hz (a := vl m M 27) ⟨rfl, rfl⟩ (by omega)
  have g2 := k.l hz (a := vl m M 28) ⟨rfl, rfl⟩ (by omega)
  exact ⟨k.t hz a1 (by decide), by rw [e29]; exact a2, by rw [e27, g1.1, g1.2]; exact ⟨a3, a4⟩, by rw [e28, g2.1, g2.2]; exact ⟨a5, a6⟩, a7, by rw [e27, e32]; exact a8, by rw [e32]; exact k.t hz a9 (by decide)⟩
/-- arrays of stores -/
abbrev stA (t : Int) : Prop := t = 278101 ∨ t = 278118 ∨ t = 278103
theorem SA.sf {t : Int} (h : SA m t) (k : SFr S m m1) (hz : TZ m) (hS : (∀ f, 0 ≤ f → f < 3 → ¬ S t f) ∧ ∀ a j, stA (tg m a) → ¬ S a j) : SA m1 t ∧ (∀ f, 0 ≤ f → f < 3 → vl m1 t f = vl m t f) ∧ ∀ i, 0 ≤ i → i < 100 → vl m1 (vl m t 2) i = vl m (vl m t 2) i := by
  obtain ⟨a1, a2, a3, a4, a5, a6⟩ := h
  have g : ∀ f, 0 ≤ f → f < 3 → vl m1 t f = vl m t f := fun f f0 f1 => k.v hz (by omega) (hS.1 f f0 f1)
  have g2 : ∀ i, vl m1 (vl m t 2) i = vl m (vl m t 2) i := fun i => k.v hz (by omega) (hS.2 _ i (by unfold stA; omega))
  have e0 := g 0 (by decide) (by decide)
  have e1 := g 1 (by decide) (by decide)
  have e2 := g 2 (by decide) (by decide)
  refine ⟨⟨k.t hz a1 (by decide), by rw [e0]; exact k.l hz a2 (by decide), by rw [e1]; exact k.l hz a3 (by decide), by rw [e0, e1]; exact a4, by rw [e2]; exact k.l hz a5 (by decide), fun i i0 i1 => ?_⟩, g, fun i _ _ => g2 i⟩
  rw [e2, g2]
  exact ⟨(a6 i i0 i1).1, k.l hz (a6 i i0 i1).2 (by decide)⟩
theorem SVs.sf {t : Int} {L : List (Int × List Int)} (h : SVs m t L) (k : SFr S m m1) (hz : TZ m) (hS : (∀ f, 0 ≤ f → f < 4 → ¬ S t f) ∧ ∀ a j, stA (tg m a) → ¬ S a j) : SVs m1 t L := by
  obtain ⟨b1, b2, b3, b4⟩ := h
  obtain ⟨c1, c2, c3⟩ := b1.sf k hz ⟨fun f f0 f1 => hS.1 f f0 (by omega), hS.2⟩
  have e0 := c2 0 (by decide) (by decide)
  have e1 := c2 1 (by decide) (by decide)
  have e2 := c2 2 (by decide) (by decide)
  refine ⟨c1, by rw [k.v hz (by have := b1.1; omega) (hS.1 3 (by decide) (by decide))]; exact b2, b3, b4.imp fun j x j0 j1 he => ?_⟩
  obtain ⟨f1, f2, f3, f4⟩ := he
  have tj := (b1.2.2.2.2.2 j (by omega) (by omega)).2
  have t0 := b1.2.1
  have t1 := b1.2.2.1
  exact ⟨by rw [e0, k.v hz (by omega) (hS.2 _ _ (by unfold stA; omega))]; exact f1, by rw [e1, k.v hz (by omega) (hS.2 _ _ (by unfold stA; omega))]; exact f2, f3, fun q q0 q1 => by rw [e2, k.v hz (by omega) (hS.2 _ _ (by unfold stA; omega))]; exact f4 q q0 q1⟩
theorem DJ.sf {a b : Int} (h : DJ m a b) (k : SFr S m m1) (hz : TZ m) (ha : tg m a = 12) (hb : tg m b = 12) (hS : ∀ t f, tg m t = 12 → 0 ≤ f → f < 3 → ¬ S t f) : DJ m1 a b := by
  unfold DJ at h ⊢
  rw [k.v hz (by omega) (hS a 0 ha (by decide) (by decide)), k.v hz (by omega) (hS a 1 ha (by decide) (by decide)), k.v hz (by omega) (hS a 2 ha (by decide) (by decide)), k.v hz (by omega) (hS b 0 hb (by decide) (by decide)), k.v hz (by omega) (hS b 1 hb (by decide) (by decide)), k.v hz (by omega) (hS b 2 hb (by decide) (by decide))]
  exact h
theorem SVY.sa {now : DC} {rd : Int → Option DC} (h : SVY m B now rd) {k : Int} (h0 : -1 ≤ k) (h1 : k < 8) : ∃ L, SVs m (vB B k) L := by
  by_cases q : k < 0
  · rw [show vB B k = B 8 from if_pos q]; exact ⟨_, h.1⟩
  · rw [show vB B k = B (100 + k) from if_neg q]
    obtain ⟨L, hL, -⟩ := (h.2.1 k (by omega) h1).2.2
    exact ⟨L, hL⟩
theorem SVY.sf {now : DC} {rd : Int → Option DC} (h : SVY m B now rd) (hY : YP m M B) (k : SFr S m m1) (hz : TZ m) (hS : (∀ a f, tg m a = 12 → 0 ≤ f → f < 5 → ¬ S a f) ∧ (∀ a j, stA (tg m a) → ¬ S a j) ∧ ∀ j, ¬ S (B 9) j) : SVY m1 B now rd := by
  have sv : ∀ t L, SVs m t L → SVs m1 t L := fun t L ht => ht.sf k hz ⟨fun f f0 f1 => hS.1 t f ht.1.1 f0 (by omega), hS.2.1⟩
  refine ⟨sv _ _ h.1, fun q q0 q1 => ?_, fun i j i0 i1 j0 j1 hne => ?_⟩
  · obtain ⟨a1, a2, L, a3, a4⟩ := h.2.1 q q0 q1
    exact ⟨by rw [k.v hz (by have := hY.b9; omega) (hS.2.2 q)]; exact a1, by rw [k.v hz (by have := a3.1.1; omega) (hS.1 _ 4 a3.1.1 (by decide) (by decide))]; exact a2, L, sv _ _ a3, a4⟩
  · obtain ⟨L1, h1⟩ := h.sa i0 i1
    obtain ⟨L2, h2⟩ := h.sa j0 j1
    exact (h.2.2 i j i0 i1 j0 j1 hne).sf k hz h1.1.1 h2.1.1 fun t f ht f0 f1 => hS.1 t f ht f0 (by omega)
theorem IXY.sf {ix : Int → Option Fo} (h : IXY m B ix) (hY : YP m M B) (k : SFr S m m1) (hz : TZ m) (hS : (∀ j, ¬ S (B 10) j) ∧ ∀ a j, tg m a = 276103 → ¬ S a j) : IXY m1 B ix := by
  intro q q0 q1
  have e : vl m1 (B 10) q = vl m (B 10) q := k.v hz (by have := hY.b10; omega) (hS.1 q)
  refine ⟨fun hn => by rw [e]; exact (h q q0 q1).1 hn, fun Q hQ => ?_⟩
  obtain ⟨tx, b1, b2, b3, b4, b5, b6⟩ := (h q q0 q1).2 Q hQ
  exact ⟨tx, by rw [e]; exact k.l hz b1 (by decide), b2, b3, fun j j0 j1 => by rw [e, k.v hz (by omega) (hS.2 _ j b1.1)]; exact b4 j j0 j1, b5, b6⟩
theorem BTm.tz (h : BTm m) : TZ m := h.1.1
theorem SC.sf {a : Int} {cs : List Int} (h : SC m a cs) (k : SFr S m m1) (hz : TZ m) (h1 : ∀ b f, tg m b = 31 → 0 ≤ f → f < 2 → ¬ S b f) (h2 : ∀ b f, tg m b = 103 → ¬ S b f) : SC m1 a cs := by
  obtain ⟨s1, s2, s3, s4, s5, s6, s7⟩ := h
  have e0 := k.v hz (by omega) (h1 _ 0 s1 (by decide) (by decide))
  have e1 := k.v hz (by omega) (h1 _ 1 s1 (by decide) (by decide))
  refine ⟨k.t hz s1 (by decide), k.t hz s2 (by decide), by rw [e0]; exact s3, by rw [e1]; exact s4, by rw [(k.l hz ⟨rfl, rfl⟩ (by omega)).2]; exact s5, s6, fun j j0 j1 => ?_⟩
  rw [k.v hz (by omega) (h2 _ j s2)]
  exact s7 j j0 j1
theorem STRm.sf (h : STRm m) (k : SFr S m m1) (hz : TZ m) (h1 : ∀ b f, tg m b = 31 → 0 ≤ f → f < 2 → ¬ S b f) (h2 : ∀ b f, tg m b = 103 → ¬ S b f) : STRm m1 := fun i hi => (h i hi).sf k hz h1 h2
end
