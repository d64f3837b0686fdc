/-! the twin at rest: its frames -/
set_option maxRecDepth 100000
set_option maxHeartbeats 4000000
/-- fields of the twin that the invariant looks at -/
abbrev uf (f : Int) : Prop := (0 ≤ f ∧ f ≤ 3) ∨ (5 ≤ f ∧ f ≤ 10) ∨ f = 15 ∨ (18 ≤ f ∧ f ≤ 20) ∨ f = 22 ∨ f = 23 ∨ f = 25 ∨ (27 ≤ f ∧ f ≤ 30) ∨ f = 32 ∨ f = 37
/-- arrays that stay -/
abbrev tyA (t : Int) : Prop := stA t ∨ t = 276103 ∨ t = 186117 ∨ t = 186118 ∨ t = 103
abbrev tyFx (t f : Int) : Prop := (t = 12 ∧ 0 ≤ f ∧ f < 5) ∨ (t = 31 ∧ 0 ≤ f ∧ f < 2) ∨ tyA t
abbrev tyT (t f : Int) : Prop := (t = 13 ∧ 0 ≤ f ∧ f < 13) ∨ trA t
section
variable {S : Int → Int → Prop} {m m1 : Mem} {M : Int} {B : Int → Int} {s : St} {c : Int → Int} {K : Int}
theorem TWt.tz (h : TWt m M B s c K) : TZ m := h.1.1.1
theorem TWt.ok (h : TWt m M B s c K) : OK m := h.1.1
theorem TWt.y (h : TWt m M B s c K) : YP m M B := h.2.1
theorem TWt.tp (h : TWt m M B s c K) : TPY m M B s.tp := h.2.2.1
theorem TWt.rs (h : TWt m M B s c K) : RSY m M B s.res := h.2.2.2.1
theorem TWt.fl (h : TWt m M B s c K) : FLY m M s.dk s.ct s.pl := h.2.2.2.2.1
theorem TWt.tr (h : TWt m M B s c K) : TRY m B c := h.2.2.2.2.2.1
theorem TWt.qa (h : TWt m M B s c K) : ∃ k, QA m M k K := h.2.2.2.2.2.2.1
theorem TWt.sv (h : TWt m M B s c K) : SVY m B s.now s.rd := h.2.2.2.2.2.2.2.1
theorem TWt.xy (h : TWt m M B s c K) : IXY m B s.ix := h.2.2.2.2.2.2.2.2
theorem SFr.str (k : SFr S m m1) (h : STRm m) (hz : TZ m) (hS : ∀ a f, tyFx (tg m a) f → ¬ S a f) : STRm m1 := h.sf k hz (fun b f hb f0 f1 => hS b f (Or.inr (Or.inl ⟨hb, f0, f1⟩))) fun b f hb => hS b f (by unfold tyFx tyA; omega)
/-- all but the tape, the answer, the flags, the trees and the rows of queries -/
theorem TWt.gen2 {c' : Int → Int} {K' : Int} {s' : St} (h : TWt m M B s c K) (k : SFr S m m1) (b : BTm m1) (h1 : ∀ f, qf f → ¬ S M f) (h4 : ∀ a f, tyFx (tg m a) f → ¬ S a f) (htp : TPY m1 M B s'.tp) (hrs : RSY m1 M B s'.res) (hfl : FLY m1 M s'.dk s'.ct s'.pl) (ht : TRY m1 B c') (hq : ∃ k, QA m1 M k K') (hs : s'.now = s.now ∧ s'.rd = s.rd ∧ s'.ix = s.ix) : TWt m1 M B s' c' K' := by
  have hz := h.tz
  have y := h.y
  obtain ⟨e1, e2, e3⟩ := hs
  refine ⟨b, y.sf k hz h1, htp, hrs, hfl, ht, hq, ?_, ?_⟩
  · rw [e1, e2]
    exact h.sv.sf y k hz ⟨fun a f ha f0 f1 => h4 a f (Or.inl ⟨ha, f0, f1⟩), fun a j ha => h4 a j (Or.inr (Or.inr (Or.inl ha))), fun j => h4 _ j (Or.inr (Or.inr (Or.inr (Or.inr (Or.inl y.b9.1)))))⟩
  · rw [e3]
    exact h.xy.sf y k hz ⟨fun j => h4 _ j (Or.inr (Or.inr (Or.inr (Or.inr (Or.inr (Or.inl y.b10.1)))))), fun a j ha => h4 a j (Or.inr (Or.inr (Or.inr (Or.inl ha))))⟩
/-- all but the trees and the rows of queries -/
theorem TWt.gen {c' : Int → Int} {K' : Int} (h : TWt m M B s c K) (k : SFr S m m1) (b : BTm m1) (h1 : ∀ f, qf f → ¬ S M f) (h2 : ∀ f, f = 1 ∨ f = 3 ∨ (5 ≤ f ∧ f ≤ 7) → ¬ S M f) (h3 : (∀ j, ¬ S (B 0) j) ∧ ∀ j, ¬ S (B 2) j) (h4 : ∀ a f, tyFx (tg m a) f → ¬ S a f) (ht : TRY m1 B c') (hq : ∃ k, QA m1 M k K') : TWt m1 M B s c' K' := by
  have hz := h.tz
  have y := h.y
  exact h.gen2 k b h1 h4 (h.tp.sf y k hz (h2 1 (by omega)) h3.1) (h.rs.sf y k hz (h2 3 (by omega)) h3.2) (h.fl.sf y k hz ⟨h2 5 (by omega), h2 6 (by omega), h2 7 (by omega)⟩) ht hq ⟨rfl, rfl, rfl⟩
/-- nothing is changed -/
theorem TWt.sf (h : TWt m M B s c K) (k : SFr S m m1) (b : BTm m1) (h1 : ∀ f, uf f → ¬ S M f) (h3 : (∀ j, ¬ S (B 0) j) ∧ ∀ j, ¬ S (B 2) j) (h4 : ∀ a f, tyFx (tg m a) f → ¬ S a f) (h5 : ∀ a f, tyT (tg m a) f → ¬ S a f) : TWt m1 M B s c K := by
  obtain ⟨q, hq⟩ := h.qa
  exact h.gen k b (fun f hf => h1 f (by unfold uf; unfold qf at hf; omega)) (fun f hf => h1 f (by unfold uf; omega)) h3 h4 (h.tr.sf k h.tz ⟨fun a f ha f0 f1 => h5 a f (Or.inl ⟨ha, f0, f1⟩), fun a j ha => h5 a j (Or.inr ha)⟩) ⟨q, hq.sf k h.tz ⟨h1 27 (by unfold uf; omega), h1 28 (by unfold uf; omega), h1 29 (by unfold uf; omega), h1 32 (by unfold uf; omega)⟩⟩
theorem BTm.mst {a f v : Int} (h : BTm m) (h1 : tg m a ≠ 13 ∧ tg m a ≠ 31 ∧ tg m a ≠ 103) : BTm (mst m a f v) := ⟨h.1, h.2.1.mT h1.1, h.2.2.1, h.2.2.2.ut (UT.mst (ts := strT) (by simp; omega)) h.1.1 (by simp) (by simp)⟩
/-- a field that isn't looked at -/
theorem TWt.mf {f v : Int} (h : TWt m M B s c K) (hf : ¬ uf f) : TWt (mst m M f v) M B s c K := by
  have hm := h.y.tm
  have nb := h.y.ba
  exact h.sf SFr.mst (h.1.mst (by omega)) (fun g hg z => hf (by rw [← z.2]; exact hg)) ⟨fun j z => nb.2.1 z.1, fun j z => nb.2.2.1 z.1⟩ (fun a g hg z => by rw [z.1, hm] at hg; unfold tyFx tyA stA at hg; omega) fun a g hg z => by rw [z.1, hm] at hg; unfold tyT trA at hg; omega
/-- the code -/
theorem TWt.cd {v : Int} (h : TWt m M B s c K) : TWt (mst m M 4 v) M B s c K := h.mf (by unfold uf; omega)
/-- flags, the tape's length -/
theorem TWt.mX {f v : Int} {s' : St} (h : TWt m M B s c K) (hf : f = 1 ∨ f = 5 ∨ f = 6 ∨ f = 7) (ht : TPY (mst m M f v) M B s'.tp) (hfl : FLY (mst m M f v) M s'.dk s'.ct s'.pl) (hr : s'.res = s.res ∧ s'.now = s.now ∧ s'.rd = s.rd ∧ s'.ix = s.ix) : TWt (mst m M f v) M B s' c K := by
  obtain ⟨e1, e2, e3, e4⟩ := hr
  have hm := h.y.tm
  have hz := h.tz
  have nb := h.y.ba
  have y := h.y
  obtain ⟨q, hq⟩ := h.qa
  have nt : ∀ a, tg m a ≠ 11 → a ≠ M := fun a ha z => by rw [z] at ha; exact ha hm
  refine ⟨h.1.mst (by omega), y.sf SFr.mst hz (fun g hg z => by unfold qf at hg; omega), ht, by rw [e1]; exact h.rs.sf y SFr.mst hz (fun z => by omega) (fun j z => nb.2.2.1 z.1), hfl, h.tr.sf SFr.mst hz ⟨fun a f ha _ _ z => nt a (by omega) z.1, fun a j ha z => nt a (by unfold trA at ha; omega) z.1⟩, ⟨q, hq.sf SFr.mst hz ⟨fun z => by omega, fun z => by omega, fun z => by omega, fun z => by omega⟩⟩, ?_, ?_⟩
  · rw [e2, e3]
    exact h.sv.sf y SFr.mst hz ⟨fun a f ha _ _ z => nt a (by omega) z.1, fun a j ha z => nt a (by unfold stA at ha; omega) z.1, fun j z => nb.2.2.2.2.2.1 z.1⟩
  · rw [e4]
    exact h.xy.sf y SFr.mst hz ⟨fun j z => nb.2.2.2.2.2.2 z.1, fun a j ha z => nt a (by omega) z.1⟩
theorem TPY.mf {f v : Int} {tp : List Int} (h : TPY m M B tp) (y : YP m M B) (hf : f ≠ 1) : TPY (mst m M f v) M B tp := ⟨by rw [vl_mst, if_neg (fun z => hf z.2.symm)]; exact h.1, h.2.1, fun j j0 j1 => by rw [vl_mst, if_neg (fun z => y.ba.2.1 z.1)]; exact h.2.2 j j0 j1⟩
/-- the tape is cut -/
theorem TWt.tape (h : TWt m M B s c K) (k : Nat) (hk : k ≤ s.tp.length) : TWt (mst m M 1 (k : Int)) M B (s.wtp (s.tp.take k)) c K := by
  have t1 := h.tp
  have fl := h.fl
  have y := h.y
  have hl : (s.tp.take k).length = k := by rw [List.length_take]; omega
  refine h.mX (Or.inl rfl) ⟨?_, ?_, fun j j0 j1 => ?_⟩ ⟨?_, ?_, ?_⟩ ⟨rfl, rfl, rfl, rfl⟩
  · rw [vl_mst, if_pos ⟨rfl, rfl⟩]; show (k : Int) = (s.tp.take k).length; rw [hl]
  · show ((s.tp.take k).length : Int) ≤ 1280; rw [hl]; have := t1.2.1; omega
  · have j1 : j < ((s.tp.take k).length : Int) := j1
    rw [hl] at j1
    rw [vl_mst, if_neg (fun z => y.ba.2.1 z.1), t1.2.2 j j0 (by omega)]
    show gi s.tp j = gi (s.tp.take k) j
    unfold gi
    rw [List.getD_eq_getElem?_getD, List.getD_eq_getElem?_getD, List.getElem?_take_of_lt (by omega)]
  · rw [vl_mst, if_neg (by omega)]; exact fl.1
  · rw [vl_mst, if_neg (by omega)]; exact fl.2.1
  · rw [vl_mst, if_neg (by omega)]; exact fl.2.2
theorem TWt.tape0 (h : TWt m M B s c K) : TWt (mst m M 1 0) M B (s.wtp []) c K := h.tape 0 (Nat.zero_le _)
theorem TWt.place {p : Int} (h : TWt m M B s c K) : TWt (mst m M 5 p) M B (s.wpl p) c K := by
  have fl := h.fl
  exact h.mX (s' := s.wpl p) (Or.inr (Or.inl rfl)) (h.tp.mf h.y (by decide)) ⟨by rw [vl_mst, if_neg (by omega)]; exact fl.1, by rw [vl_mst, if_neg (by omega)]; exact fl.2.1, by rw [vl_mst, if_pos ⟨rfl, rfl⟩]; rfl⟩ ⟨rfl, rfl, rfl, rfl⟩
theorem TWt.cut {p : Int} (h : TWt m M B s c K) : TWt (mst m M 7 p) M B (s.wct p) c K := by
  have fl := h.fl
  exact h.mX (s' := s.wct p) (Or.inr (Or.inr (Or.inr rfl))) (h.tp.mf h.y (by decide)) ⟨by rw [vl_mst, if_neg (by omega)]; exact fl.1, by rw [vl_mst, if_pos ⟨rfl, rfl⟩]; rfl, by rw [vl_mst, if_neg (by omega)]; exact fl.2.2⟩ ⟨rfl, rfl, rfl, rfl⟩
/-- the power -/
def St.wdk (s : St) (b : Bool) : St := (s.tp, s.res, s.pl, b, s.ct, s.now, s.rd, s.ix)
theorem TWt.dark {b : Bool} (h : TWt m M B s c K) : TWt (mst m M 6 (b2i b)) M B (s.wdk b) c K := by
  have fl := h.fl
  exact h.mX (s' := s.wdk b) (Or.inr (Or.inr (Or.inl rfl))) (h.tp.mf h.y (by decide)) ⟨by rw [vl_mst, if_pos ⟨rfl, rfl⟩]; rfl, by rw [vl_mst, if_neg (by omega)]; exact fl.2.1, by rw [vl_mst, if_neg (by omega)]; exact fl.2.2⟩ ⟨rfl, rfl, rfl, rfl⟩
/-- an array of bytes or ints is written -/
theorem TWt.arr {S : Int → Prop} {s' : St} (h : TWt m M B s c K) (k : NC S m m1) (hS : ∀ a, S a → tg m a = 186103 ∨ tg m a = 186101) (htp : TPY m1 M B s'.tp) (hrs : RSY m1 M B s'.res) (hs : (s'.dk = s.dk ∧ s'.ct = s.ct ∧ s'.pl = s.pl) ∧ s'.now = s.now ∧ s'.rd = s.rd ∧ s'.ix = s.ix) : TWt m1 M B s' c K := by
  have hz := h.tz
  have y := h.y
  have hm := y.tm
  obtain ⟨⟨e1, e2, e3⟩, e4⟩ := hs
  have nM : ¬ S M := fun z => by have := hS M z; omega
  have k' := SFr.nc k
  have ty : ∀ a f, tyFx (tg m a) f → ¬ S a := fun a f ha z => by have := hS a z; unfold tyFx tyA stA at ha; omega
  have tr : ∀ a f, tyT (tg m a) f → ¬ S a := fun a f ha z => by have := hS a z; unfold tyT trA at ha; omega
  obtain ⟨q, hq⟩ := h.qa
  have e13 : ∀ a, tg m a = 13 → ∀ f, vl m1 a f = vl m a f := fun a ha f => k.2.2.2 a f fun z => by have := hS a z; omega
  have b1 : BTm m1 := ⟨k'.ok h.ok, ⟨fun t f ht hf => by rw [(k.2.2.1 t).1] at ht; rw [e13 t ht, k.1]; exact h.1.2.1.1 t f ht hf, fun t t' f f' ht ht' hf hf' hne h0 => by
    rw [(k.2.2.1 _).1] at ht ht'
    rw [e13 t ht] at h0
    rw [e13 t ht, e13 t' ht']
    exact h.1.2.1.2 t t' f f' ht ht' hf hf' hne h0⟩, fun a => by rw [(k.2.2.1 a).2]; exact h.1.2.2.1 a, k'.str h.1.2.2.2 hz ty⟩
  exact h.gen2 k' b1 (fun _ _ => nM) ty htp hrs (by rw [e1, e2, e3]; exact h.fl.sf y k' hz ⟨nM, nM, nM⟩) (h.tr.sf k' hz ⟨fun a f ha f0 f1 => tr a f (Or.inl ⟨ha, f0, f1⟩), fun a j ha => tr a j (Or.inr ha)⟩) ⟨q, hq.sf k' hz ⟨nM, nM, nM, nM⟩⟩ e4
/-- printing -/
theorem BTm.wf {ys : List Int} (h : BTm m) (hk : WK m M ys) (w : WF M m m1) : BTm m1 := by
  have h15 := hk.2.1
  have hm := hk.1
  have k := SFr.wf w
  have ok1 := h.1.wf w
  have e : ∀ a, tg m a = 13 → ∀ f, vl m1 a f = vl m a f := fun a ha f => w.2.2.2 a f (fun z => by rw [z, h15] at ha; omega) fun z => by rw [z.1, hm] at ha; omega
  refine ⟨ok1, ⟨fun t f ht hf => ?_, fun t t' f f' ht ht' hf hf' hne h0 => ?_⟩, fun a => by rw [(w.2.2.1 a).2]; exact h.2.2.1 a, k.str h.2.2.2 h.1.1 fun a f ha z => ?_⟩
  · rw [(w.2.2.1 t).1] at ht
    rw [e t ht, w.1]
    exact h.2.1.1 t f ht hf
  · rw [(w.2.2.1 _).1] at ht ht'
    rw [e t ht] at h0
    rw [e t ht, e t' ht']
    exact h.2.1.2 t t' f f' ht ht' hf hf' hne h0
  · rcases z with z | z
    · rw [z, h15] at ha; unfold tyFx tyA stA at ha; omega
    · rw [z.1, hm] at ha; unfold tyFx tyA stA at ha; omega
theorem TWt.wf {ys : List Int} (h : TWt m M B s c K) (hk : WK m M ys) (w : WF M m m1) : TWt m1 M B s c K := by
  have y := h.y
  have e15 : vl m M 15 = B 15 := y.f (by unfold qf; omega)
  have nb := y.ba
  have hm := y.tm
  have h15 := y.b15
  refine h.sf (SFr.wf w) (h.1.wf hk w) (fun f hf z => ?_) ⟨fun j z => ?_, fun j z => ?_⟩ (fun a f ha z => ?_) fun a f ha z => ?_
  · rw [e15] at z
    rcases z with z | z
    · exact nb.2.2.2.1 z.symm
    · unfold uf at hf; omega
  · rw [e15] at z
    rcases z with z | z
    · exact nb.1.2.1 z
    · exact nb.2.1 z.1
  · rw [e15] at z
    rcases z with z | z
    · exact nb.1.2.2.2.1 z
    · exact nb.2.2.1 z.1
  · rw [e15] at z
    rcases z with z | z
    · rw [z, h15.1] at ha; unfold tyFx tyA stA at ha; omega
    · rw [z.1, hm] at ha; unfold tyFx tyA stA at ha; omega
  · rw [e15] at z
    rcases z with z | z
    · rw [z, h15.1] at ha; unfold tyT trA at ha; omega
    · rw [z.1, hm] at ha; unfold tyT trA at ha; omega
/-- a call that writes none of the twin's things but trees and rows -/
def twM (e : Nat) : Bool := ([0, 1, 2, 3, 5, 6, 7, 8, 9, 10, 15, 18, 19, 20, 22, 23, 25, 30, 32, 37] : List Int).all (fun f => !(Nat.testBit e (bix 11 f))) && (List.range 5).all (fun f => !(Nat.testBit e (bix 12 (f : Int)))) && (List.range 2).all (fun f => !(Nat.testBit e (bix 31 (f : Int)))) && ([278101, 278118, 278103, 276103, 186117, 186118, 103, 186103] : List Int).all (fun t => !(Nat.testBit e (bix t 0)))
theorem twM_bit {e : Nat} (h : twM e = true) : (∀ f, qf f ∨ f = 1 ∨ f = 3 ∨ (5 ≤ f ∧ f ≤ 7) → Nat.testBit e (bix 11 f) = false) ∧ (∀ t f, tyFx t f → Nat.testBit e (bix t f) = false) ∧ ∀ f, Nat.testBit e (bix 186103 f) = false := by
  unfold twM at h
  simp only [Bool.and_eq_true] at h
  obtain ⟨⟨⟨h1, h2⟩, h3⟩, h4⟩ := h
  have b4 : ∀ t : Int, t ∈ ([278101, 278118, 278103, 276103, 186117, 186118, 103, 186103] : List Int) → ∀ f, Nat.testBit e (bix t f) = false := fun t ht f => by
    have := List.all_eq_true.mp h4 t ht
    rw [bix_100 (by simp at ht; omega)]
    simpa using this
  refine ⟨fun f hf => ?_, fun t f hf => ?_, b4 _ (by simp)⟩
  · have : f ∈ ([0, 1, 2, 3, 5, 6, 7, 8, 9, 10, 15, 18, 19, 20, 22, 23, 25, 30, 32, 37] : List Int) := by simp; unfold qf at hf; omega
    simpa using List.all_eq_true.mp h1 f this
  · rcases hf with ⟨rfl, f0, f1⟩ | ⟨rfl, f0, f1⟩ | hf
    · have := List.all_eq_true.mp h2 f.toNat (List.mem_range.mpr (by omega))
      rw [Int.toNat_of_nonneg f0] at this
      simpa using this
    · have := List.all_eq_true.mp h3 f.toNat (List.mem_range.mpr (by omega))
      rw [Int.toNat_of_nonneg f0] at this
      simpa using this
    · exact b4 t (by unfold tyA stA at hf; simp; omega) f
theorem BTm.fr {q : Nat} {as : List PV} {r : Rs} {d : Nat} (h : BTm m) (e : cl d q as m = some (r, m1)) (hT : TI m1) (hb : utN (eM q) strT = true) : BTm m1 := ⟨h.1.fr (cl_FRM e), hT, cl_LB e h.2.2.1, h.2.2.2.ut (ut_cl e hb) h.1.1 (by simp) (by simp)⟩
theorem TWt.call {q : Nat} {as : List PV} {r : Rs} {d : Nat} {c' : Int → Int} {K' : Int} (h : TWt m M B s c K) (e : cl d q as m = some (r, m1)) (hN : twM (eM q) = true) (hu : utN (eM q) strT = true) (hT : TI m1) (ht : TRY m1 B c') (hq : ∃ k, QA m1 M k K') : TWt m1 M B s c' K' := by
  obtain ⟨b1, b2, b3⟩ := twM_bit hN
  have y := h.y
  have fls : ∀ {x : Bool}, x = false → ¬ (x = true) := fun h z => by rw [h] at z; cases z
  exact h.gen (SFr.fr (cl_FRM e)) (h.1.fr e hT hu) (fun f hf => by show ¬ _ = true; rw [y.tm]; exact fls (b1 f (Or.inl hf))) (fun f hf => by show ¬ _ = true; rw [y.tm]; exact fls (b1 f (Or.inr hf))) ⟨fun j => by show ¬ _ = true; rw [y.b0.1]; exact fls (b3 j), fun j => by show ¬ _ = true; rw [y.b2.1]; exact fls (b3 j)⟩ (fun a f ha => fls (b2 _ f ha)) ht hq
/-- a call that has to do with the component alone -/
def twN (e : Nat) : Bool := twM e && trN e && tiN e && utN e strT && ([27, 28, 29] : List Int).all (fun f => !(Nat.testBit e (bix 11 f)))
theorem TWt.oth {q : Nat} {as : List PV} {r : Rs} {d : Nat} (h : TWt m M B s c K) (e : cl d q as m = some (r, m1)) (hN : twN (eM q) = true) : TWt m1 M B s c K := by
  unfold twN at hN
  simp only [Bool.and_eq_true] at hN
  obtain ⟨⟨⟨⟨n1, n2⟩, n3⟩, n4⟩, n5⟩ := hN
  have f := cl_FRM e
  have hz := h.tz
  have ok1 := h.ok.fr f
  have rw' : ∀ t c bC bU, TRw m t c bC bU → TRw m1 t c bC bU := fun t c bC bU ht => by
    obtain ⟨n, us, C, h1, h2, h3, h4⟩ := ht
    obtain ⟨k1, -, k3⟩ := h1.frt f hz n2
    exact ⟨n, us, C, k1, by unfold tC at h2 ⊢; rw [k3]; exact h2, h3, by rw [k3]; exact h4⟩
  obtain ⟨⟨a1, a2, a3, a4⟩, C, d1, d2, d3, d4⟩ := h.tr
  obtain ⟨k1, -, k3⟩ := d1.frt f hz n2
  obtain ⟨k, hk⟩ := h.qa
  have b5 : ∀ g : Int, g ∈ ([27, 28, 29] : List Int) → ¬ Nat.testBit (eM q) (bix (tg m M) g) = true := fun g hg => by
    rw [h.y.tm]
    simpa using List.all_eq_true.mp n5 g hg
  have b32 : ¬ Nat.testBit (eM q) (bix (tg m M) 32) = true := by
    rw [h.y.tm, (twM_bit n1).1 32 (Or.inl (by unfold qf; omega))]
    decide
  exact h.call e n1 n4 (h.1.2.1.fr f (cl_NZ e) hz n3 (by have := ok1.2.2; omega)) ⟨⟨rw' _ _ _ _ a1, rw' _ _ _ _ a2, rw' _ _ _ _ a3, rw' _ _ _ _ a4⟩, C, k1, by unfold tC at d2 ⊢; rw [k3]; exact d2, d3, by rw [k3]; exact d4⟩ ⟨k, hk.sf (SFr.fr f) hz ⟨b5 27 (by simp), b5 28 (by simp), b5 29 (by simp), b32⟩⟩
end
