/-! queries read by the twin: what is kept -/
set_option maxRecDepth 100000
set_option maxHeartbeats 4000000
theorem trN_bit {e : Nat} (h : trN e = true) : (∀ f : Int, 0 ≤ f → f ≤ 12 → Nat.testBit e (bix 13 f) = false) ∧ (∀ k, k = 284101 ∨ k = 287101 ∨ k = 284102 ∨ k = 286102 ∨ k = 284104 ∨ k = 288104 → ∀ j : Int, Nat.testBit e (bix k j) = false) := by
  unfold trN at h
  simp only [Bool.and_eq_true, Bool.not_eq_true'] at h
  obtain ⟨⟨⟨⟨⟨⟨h0, h1⟩, h2⟩, h3⟩, h4⟩, h5⟩, h6⟩ := h
  refine ⟨fun f f0 f1 => ?_, fun k hk j => ?_⟩
  · have := List.all_eq_true.mp h0 f.toNat (List.mem_range.mpr (by omega))
    have e1 : ((f.toNat : Nat) : Int) = f := by omega
    rw [e1] at this
    cases hb : Nat.testBit e (bix 13 f)
    · rfl
    · rw [hb] at this; cases this
  · rw [bix_arr (by omega)]
    rcases hk with q | q | q | q | q | q <;> subst q <;> assumption
theorem TW.frt {q : Nat} {m m' : Mem} {t n C : Int} {us : List Int} (h : TW m t n us C) (hf : FRM (eM q) m m') (hz : TZ m) (hb : trN (eM q) = true) : TW m' t n us C ∧ (∀ f j, 0 ≤ f → f ≤ 9 → nv m' t f j = nv m t f j) ∧ uC m' t = uC m t := by
  obtain ⟨b1, b2⟩ := trN_bit hb
  obtain ⟨a1, a2, a3, a4, a5, a6, a7, a8, a9⟩ := h
  have tt : tg m' t = 13 := by rw [tg_of hf hz (by omega)]; exact a1
  have fv : ∀ f, 0 ≤ f → f ≤ 12 → vl m' t f = vl m t f := fun f f0 f1 => vl_of hf hz a1 (by decide) (b1 f f0 f1)
  have av : ∀ a, (tg m a = 284101 ∨ tg m a = 287101 ∨ tg m a = 284102 ∨ tg m a = 286102 ∨ tg m a = 284104 ∨ tg m a = 288104) → tg m' a = tg m a ∧ ln m' a = ln m a ∧ ∀ j, vl m' a j = vl m a j := fun a ha => by
    have h0 : tg m a ≠ 0 := by omega
    exact ⟨tg_of hf hz h0, ln_of hf hz h0, fun j => vl_of hf hz rfl h0 (b2 _ ha j)⟩
  have v11 := av (vl m t 11) (by omega)
  have v1 := av (vl m t 1) (by omega)
  have vo : ∀ f, 0 ≤ f → f ≤ 9 → tg m' (vl m t f) = tg m (vl m t f) ∧ ln m' (vl m t f) = ln m (vl m t f) ∧ ∀ j, vl m' (vl m t f) j = vl m (vl m t f) j := fun f f0 f1 => by
    by_cases z : f = 1
    · rw [z]; exact v1
    · have := (a2 f f0 f1 z).1
      exact av _ (by omega)
  refine ⟨⟨tt, fun f f0 f1 f2 => ?_, ?_, ?_, by rw [fv 10 (by omega) (by omega)]; exact a5, by rw [fv 12 (by omega) (by omega)]; exact a6, a7, ?_, fun i i0 i1 => ?_⟩, fun f j f0 f1 => ?_, ?_⟩
  · rw [fv f f0 (by omega), (vo f f0 f1).1, (vo f f0 f1).2.1]; exact a2 f f0 f1 f2
  · rw [fv 1 (by omega) (by omega), v1.1, v1.2.1]; exact a3
  · rw [fv 11 (by omega) (by omega), v11.1]; exact a4
  · rw [fv 11 (by omega) (by omega), v11.2.1]; exact a8
  · rw [fv 11 (by omega) (by omega), v11.2.2]; exact a9 i i0 i1
  · unfold nv; rw [fv f f0 (by omega), (vo f f0 f1).2.2]
  · unfold uC; rw [fv 11 (by omega) (by omega), v11.2.1]
theorem TU.frc {d q : Nat} {as : List PV} {r : Rs} {m m' : Mem} {t : Int} (hT : TI m) (ok : OK m) (e : cl d q as m = some (r, m')) (hb : trN (eM q) = true) (hb2 : tiN (eM q) = true) : TU t m m' := by
  have f := cl_FRM e
  have hI : TI m' := hT.fr f (cl_NZ e) ok.1 hb2 (by have := ok.2.2; have := f.1.2.1; omega)
  exact ⟨hI, fun t' _ n us C h => ⟨(h.frt f ok.1 hb).1, (h.frt f ok.1 hb).2.2⟩, fun t' f' j n us C h f0 f1 => (h.frt f ok.1 hb).2.1 f' j f0 f1⟩
theorem TU.tr2 {t n C : Int} {us us1 : List Int} {m m1 m2 : Mem} (h : TU t m m1) (h' : TU t m1 m2) (hw : TW m t n us C) (hw1 : TW m1 t n us1 C) : TU t m m2 := h.trans h' hw hw1
/-- the rows and the longs beside them -/
def rv (m : Mem) (M : Int) : RF := fun x f => vl m (vl m M 27) (8 * x + f)
def ev (m : Mem) (M : Int) : RF := fun x f => vl m (vl m M 28) (3 * x + f)
def SYQ (m : Mem) : Prop := STY m ∧ SC m 84 cLen ∧ SC m 86 cCnt ∧ SC m 72 cVal ∧ SC m 80 [61, 61] ∧ SC m 82 [33, 61] ∧ SC m 90 [124, 124] ∧ SC m 88 [38, 38]
theorem SYQ.fr {k : Nat} {m m' : Mem} (h : SYQ m) (hf : FRM (eM k) m m') (hz : TZ m) (hn : scN (eM k) = true) : SYQ m' := ⟨h.1.fr hf hz hn, h.2.1.fr hf hz hn, h.2.2.1.fr hf hz hn, h.2.2.2.1.fr hf hz hn, h.2.2.2.2.1.fr hf hz hn, h.2.2.2.2.2.1.fr hf hz hn, h.2.2.2.2.2.2.1.fr hf hz hn, h.2.2.2.2.2.2.2.fr hf hz hn⟩
theorem SYQ.mT {m : Mem} {T f v : Int} (h : SYQ m) (hT : tg m T ≠ 31 ∧ tg m T ≠ 103) : SYQ (mst m T f v) := ⟨h.1.mT hT, h.2.1.mT hT, h.2.2.1.mT hT, h.2.2.2.1.mT hT, h.2.2.2.2.1.mT hT, h.2.2.2.2.2.1.mT hT, h.2.2.2.2.2.2.1.mT hT, h.2.2.2.2.2.2.2.mT hT⟩
abbrev tq (k : Int) : Prop := k = 186101 ∨ k = 246101
abbrev tl (k : Int) : Prop := k = 186102 ∨ k = 246102
/-- the rows' arrays -/
def QA (m : Mem) (M k K : Int) : Prop := tg m M = 11 ∧ vl m M 29 = k ∧ (tq (tg m (vl m M 27)) ∧ ln m (vl m M 27) = 8 * K) ∧ (tl (tg m (vl m M 28)) ∧ ln m (vl m M 28) = 3 * K) ∧ (0 ≤ k ∧ k ≤ K ∧ 64 ≤ K ∧ K ≤ 40000) ∧ vl m M 27 ≠ vl m M 32 ∧ tg m (vl m M 32) = 186101
/-- the rows and the tree of what was said -/
def Qr (m : Mem) (M S k : Int) (us : List Int) (C K : Int) : Prop := OK m ∧ TI m ∧ QA m M k K ∧ vl m M 30 = S ∧ TW m S 0 us C ∧ wfU us
/-- the twin reads a query -/
def QT (m : Mem) (M tp e i : Int) (t : Int → Int) (op : Nat) (S k : Int) (us : List Int) (C K : Int) : Prop := Qr m M S k us C K ∧ YX m M tp e i t ∧ SYQ m ∧ vl m M 31 = op
/-- what was read and what it costs; rows below b are as they were -/
def QP (b : Int) (m : Mem) (M S k : Int) (us : List Int) (K : Int) (m' : Mem) (k' : Int) (us' : List Int) (K' : Int) : Prop :=
  TU S m m' ∧ AG (fun x => 0 ≤ x ∧ x < b) (rv m M) (ev m M) (rv m' M) (ev m' M) ∧ (∃ vs, us' = us ++ vs) ∧ k ≤ k' ∧ (nx m ≤ nx m' ∧ nx m' - nx m ≤ (uC m' S - uC m S) / 16 + (K' - K) / 16 ∧ sl m' - sl m ≤ 2 * (uC m' S - uC m S) + 22 * (K' - K)) ∧ (uC m S ≤ uC m' S ∧ uC m' S ≤ max (uC m S) (2 * us'.length)) ∧ (K ≤ K' ∧ K' ≤ max K (2 * k'))
section
variable {m m1 m2 : Mem} {M S k C K : Int} {us : List Int}
theorem QP.refl {b : Int} (hT : TI m) : QP b m M S k us K m k us K := ⟨TU.refl hT, AG.refl, ⟨[], by rw [List.append_nil]⟩, Int.le_refl _, ⟨Int.le_refl _, by omega, by omega⟩, by omega, by omega⟩
theorem QP.trans {b b1 k1 k2 K1 K2 n : Int} {us1 us2 : List Int} (h : QP b m M S k us K m1 k1 us1 K1) (h' : QP b1 m1 M S k1 us1 K1 m2 k2 us2 K2) (hb : b ≤ b1) (hw : TW m S n us C) (hw1 : TW m1 S n us1 C) : QP b m M S k us K m2 k2 us2 K2 := by
  obtain ⟨a1, a2, ⟨vs, a3⟩, a4, a5, a6, a7⟩ := h
  obtain ⟨b1, b2, ⟨ws, b3⟩, b4, b5, b6, b7⟩ := h'
  refine ⟨a1.tr2 b1 hw hw1, a2.trans (b2.imp (fun x hx => ⟨hx.1, by omega⟩)), ⟨vs ++ ws, by rw [b3, a3, List.append_assoc]⟩, by omega, ⟨by omega, by omega, by omega⟩, ⟨by omega, ?_⟩, by omega, by omega⟩
  have : us1.length ≤ us2.length := by rw [b3, List.length_append]; omega
  omega
theorem QP.mono {b b' k1 K1 : Int} {us1 : List Int} (h : QP b m M S k us K m1 k1 us1 K1) (hb : b' ≤ b) : QP b' m M S k us K m1 k1 us1 K1 := ⟨h.1, h.2.1.imp (fun x hx => ⟨hx.1, by omega⟩), h.2.2⟩
/-- bits of a call that leaves the rows alone -/
def rqN (e : Nat) : Bool := !(Nat.testBit e (bix 11 27)) && !(Nat.testBit e (bix 11 28)) && !(Nat.testBit e (bix 11 29)) && !(Nat.testBit e (bix 11 30)) && !(Nat.testBit e (bix 11 32)) && !(Nat.testBit e (bix 186101 0)) && !(Nat.testBit e (bix 246101 0)) && !(Nat.testBit e (bix 186102 0)) && !(Nat.testBit e (bix 246102 0))
theorem QA.fr {q : Nat} (h : QA m M k K) (hf : FRM (eM q) m m1) (hz : TZ m) (hb : rqN (eM q) = true) : QA m1 M k K ∧ rv m1 M = rv m M ∧ ev m1 M = ev m M ∧ vl m1 M 30 = vl m M 30 := by
  unfold rqN at hb
  simp only [Bool.and_eq_true, Bool.not_eq_true'] at hb
  obtain ⟨⟨⟨⟨⟨⟨⟨⟨n1, n2⟩, n3⟩, n4⟩, n5⟩, n6⟩, n7⟩, n8⟩, n9⟩ := hb
  obtain ⟨a1, a2, ⟨a3, a4⟩, ⟨a5, a6⟩, a7, a8, a9⟩ := h
  have e27 := vl_of hf hz a1 (by decide) n1
  have e28 := vl_of hf hz a1 (by decide) n2
  have e29 := vl_of hf hz a1 (by decide) n3
  have e30 := vl_of hf hz a1 (by decide) n4
  have e32 := vl_of hf hz a1 (by decide) n5
  have g1 : ∀ j, vl m1 (vl m M 27) j = vl m (vl m M 27) j := fun j => by
    rcases a3 with z | z
    · exact vl_of hf hz z (by decide) (by rw [bix_arr (by decide)]; exact n6)
    · exact vl_of hf hz z (by decide) (by rw [bix_arr (by decide)]; exact n7)
  have g2 : ∀ j, vl m1 (vl m M 28) j = vl m (vl m M 28) j := fun j => by
    rcases a5 with z | z
    · exact vl_of hf hz z (by decide) (by rw [bix_arr (by decide)]; exact n8)
    · exact vl_of hf hz z (by decide) (by rw [bix_arr (by decide)]; exact n9)
  have z27 : tg m (vl m M 27) ≠ 0 := by omega
  have z28 : tg m (vl m M 28) ≠ 0 := by omega
  refine ⟨⟨by rw [tg_of hf hz (by omega)]; exact a1, by rw [e29]; exact a2, ⟨by rw [e27, tg_of hf hz z27]; exact a3, by rw [e27, ln_of hf hz z27]; exact a4⟩, ⟨by rw [e28, tg_of hf hz z28]; exact a5, by rw [e28, ln_of hf hz z28]; exact a6⟩, a7, by rw [e27, e32]; exact a8, by rw [e32, tg_of hf hz (by omega)]; exact a9⟩, ?_, ?_, e30⟩
  · funext x f; unfold rv; rw [e27, g1]
  · funext x f; unfold ev; rw [e28, g2]
/-- a field of the twin that isn't the rows' -/
theorem QA.mM {f v : Int} (h : QA m M k K) (hf : f ≠ 27 ∧ f ≠ 28 ∧ f ≠ 29 ∧ f ≠ 32) : QA (mst m M f v) M k K ∧ rv (mst m M f v) M = rv m M ∧ ev (mst m M f v) M = ev m M := by
  obtain ⟨a1, a2, ⟨a3, a4⟩, ⟨a5, a6⟩, a7, a8, a9⟩ := h
  have e27 : vl (mst m M f v) M 27 = vl m M 27 := by rw [vl_mst, if_neg (fun z => hf.1 z.2.symm)]
  have e28 : vl (mst m M f v) M 28 = vl m M 28 := by rw [vl_mst, if_neg (fun z => hf.2.1 z.2.symm)]
  have e29 : vl (mst m M f v) M 29 = vl m M 29 := by rw [vl_mst, if_neg (fun z => hf.2.2.1 z.2.symm)]
  have e32 : vl (mst m M f v) M 32 = vl m M 32 := by rw [vl_mst, if_neg (fun z => hf.2.2.2 z.2.symm)]
  have n27 : vl m M 27 ≠ M := by intro z; rw [z] at a3; omega
  have n28 : vl m M 28 ≠ M := by intro z; rw [z] at a5; omega
  refine ⟨⟨a1, by rw [e29]; exact a2, ⟨by rw [e27]; exact a3, by rw [e27]; exact a4⟩, ⟨by rw [e28]; exact a5, by rw [e28]; exact a6⟩, a7, by rw [e27, e32]; exact a8, by rw [e32]; exact a9⟩, ?_, ?_⟩
  · funext x g; unfold rv; rw [e27, vl_mst, if_neg (fun z => n27 z.1)]
  · funext x g; unfold ev; rw [e28, vl_mst, if_neg (fun z => n28 z.1)]
theorem Qr.mM {f v : Int} (h : Qr m M S k us C K) (hf : f ≠ 27 ∧ f ≠ 28 ∧ f ≠ 29 ∧ f ≠ 32 ∧ f ≠ 30) : Qr (mst m M f v) M S k us C K ∧ (∀ b, QP b m M S k us K (mst m M f v) k us K) ∧ rv (mst m M f v) M = rv m M ∧ ev (mst m M f v) M = ev m M := by
  obtain ⟨a1, a2, a3, a4, a5, a6⟩ := h
  have hM := a3.1
  obtain ⟨b1, b2, b3⟩ := a3.mM (v := v) (f := f) ⟨hf.1, hf.2.1, hf.2.2.1, hf.2.2.2.1⟩
  have tu : TU S m (mst m M f v) := TU.mT (by omega) a2
  have hu : uC (mst m M f v) S = uC m S := uC_mT (by omega) a5
  refine ⟨⟨a1, a2.mT (by omega), b1, by rw [vl_mst, if_neg (fun z => hf.2.2.2.2 z.2.symm)]; exact a4, a5.mT (by omega), a6⟩, fun b => ⟨tu, by rw [b2, b3]; exact AG.refl, ⟨[], by rw [List.append_nil]⟩, Int.le_refl _, ⟨Int.le_refl _, by rw [hu]; show nx m - nx m ≤ _; omega, by rw [hu]; show sl m - sl m ≤ _; omega⟩, by rw [hu]; omega, by omega⟩, b2, b3⟩
theorem QT.at {tp e i j : Int} {t : Int → Int} {op : Nat} (h : QT m M tp e i t op S k us C K) (h0 : 0 ≤ j) (h1 : j ≤ e) : QT (mst m M 12 j) M tp e j t op S k us C K := by
  obtain ⟨a1, a2, a3, a4⟩ := h
  have hM := a2.1
  exact ⟨(a1.mM (by omega)).1, a2.at h0 h1, a3.mT (by omega), by rw [vl_mst, if_neg (by omega)]; exact a4⟩
theorem QT.rng {tp e i : Int} {t : Int → Int} {op : Nat} (h : QT m M tp e i t op S k us C K) : 0 ≤ i ∧ i ≤ e ∧ e ≤ 16384 := by
  have := h.2.1.2.2.2.2.2.2.1; omega
theorem QT.sb {tp e i : Int} {t : Int → Int} {op : Nat} (h : QT m M tp e i t op S k us C K) : QT (mst m M 12 (sB t e i)) M tp e (sB t e i) t op S k us C K := by
  have hr := h.rng
  have := sB_rng t (e := e) (i := i) hr.2.1
  exact h.at (by omega) this.2
end
