/-! the patcher: all steps -/
set_option maxRecDepth 100000
set_option maxHeartbeats 4000000
/-- a patch: the value, or the number of the step that fails, or too big -/
def pRn : Fo → Vl → Nat → Vl ⊕ Option Nat
  | .leaf, v, _ => .inl v
  | .inner _ od _ ol r, v, n => match pSt (0, noN od, ol) v with
    | none => .inr (some n)
    | some v' => if 32 < dpV v'.2.1 v'.2.2 then .inr none else if 480 < (prV v'.2.1 v'.2.2).length then .inr none else pRn r v' (n + 1)
def skN (e : Nat) : Bool := !(Nat.testBit e (bix 2 0)) && !(Nat.testBit e (bix 2 1)) && !(Nat.testBit e (bix 52103 0))
theorem SK.fr {k : Nat} {m m' : Mem} {s cap : Int} {ys : List Int} (h : SK m s ys cap) (hf : FRM (eM k) m m') (hz : TZ m) (hn : skN (eM k) = true) : SK m' s ys cap := by
  obtain ⟨h1, h2, h3, h4, h5, h6, h7⟩ := h
  unfold skN at hn
  simp only [Bool.and_eq_true, Bool.not_eq_true'] at hn
  obtain ⟨⟨n1, n2⟩, n3⟩ := hn
  have e0 : vl m' s 0 = vl m s 0 := vl_of hf hz h1 (by decide) n1
  have e1 : vl m' s 1 = vl m s 1 := vl_of hf hz h1 (by decide) n2
  refine ⟨by rw [tg_of hf hz (by omega)]; exact h1, by rw [e0, tg_of hf hz (by omega)]; exact h2, by rw [e0, ln_of hf hz (by omega)]; exact h3, by rw [e1]; exact h4, h5, h6, fun i i0 i1 => ?_⟩
  rw [e0, vl_of hf hz h2 (by decide) (by rw [bix_arr (by decide)]; exact n3)]
  exact h7 i i0 i1
theorem SK.mo {m : Mem} {T f v s cap : Int} {ys : List Int} (h : SK m s ys cap) (hT : tg m T ≠ 2 ∧ tg m T < 100) : SK (mst m T f v) s ys cap := by
  obtain ⟨h1, h2, h3, h4, h5, h6, h7⟩ := h
  have n1 : s ≠ T := by intro q; rw [q] at h1; omega
  have n2 : vl m s 0 ≠ T := by intro q; rw [q] at h2; omega
  have e0 : vl (mst m T f v) s 0 = vl m s 0 := by rw [vl_mst, if_neg (by omega)]
  refine ⟨h1, by rw [e0]; exact h2, by rw [e0]; exact h3, by rw [vl_mst, if_neg (by omega)]; exact h4, h5, h6, fun i i0 i1 => ?_⟩
  rw [e0, vl_mst, if_neg (by omega)]
  exact h7 i i0 i1
theorem PRE.frq {q : Nat} {m m' : Mem} (h : PRE m) (hf : FRM (eM q) m m') (hs : scN (eM q) = true) : PRE m' := ⟨h.1.fr hf, h.2.1.fr hf h.1.1 hs, h.2.2.1.fr hf h.1.1 hs, h.2.2.2.fr hf h.1.1 hs⟩
theorem PSC.frq {q : Nat} {m m' : Mem} (h : PSC m) (hf : FRM (eM q) m m') (hz : TZ m) (hs : scN (eM q) = true) : PSC m' := ⟨h.1.fr hf hz hs, h.2.1.fr hf hz hs, h.2.2.1.fr hf hz hs, h.2.2.2.1.fr hf hz hs, h.2.2.2.2.1.fr hf hz hs, h.2.2.2.2.2.fr hf hz hs⟩
section
variable {d : Nat} {m m' : Mem} {P k r c : Int} {L xs : List Int} {Ho : Option (List Int)} {To : Option (List (List Int))}
theorem PB.frq {q : Nat} (h : PB m P L none none k) (hf : FRM (eM q) m m') (hz : NZ (eM q) m m') (hA : pbA (eM q) = true) (hB : pbB (eM q) = true) (hR : rwN (eM q) = true) : PB m' P L none none k ∧ (∀ r ys c, RW m r ys c → RW m' r ys c) ∧ ∀ r, pRw m' P r ↔ pRw m P r := by
  obtain ⟨rd, ro, rh, rm, rt, sa, aa, rw, cd, co, ch, cm', ct, cw, os, hs, ms', ts, h1, h2, h3, ⟨e5, e6, e7, e8, e9, e10, e12, e0⟩, h5, h6, ⟨w1, w2, w3, w4, w5, w6⟩, h8, h9, h10, h11, h12⟩ := h
  obtain ⟨p3, ⟨p7, p8, p9, p10, p12, p0⟩, p5, p6⟩ := PBF hf hA h1 h3 ⟨e7, e8, e9, e10, e12, e0⟩ h5 h6
  obtain ⟨q5, q6⟩ := PBG hf hB h1 h3 ⟨e5, e6⟩
  have hr : ∀ r ys c, RW m r ys c → RW m' r ys c := fun r ys c hw => hw.fr hf h1.1 hR
  have h0 := h1.fr hf
  have hb8 : Nat.testBit (eM q) (bix 8 0) = false := by
    unfold rwN at hR
    simp only [Bool.and_eq_true, Bool.not_eq_true'] at hR
    exact hR.1.1.1
  refine ⟨⟨rd, ro, rh, rm, rt, sa, aa, rw, cd, co, ch, cm', ct, cw, os, hs, ms', ts, h0, h2.fr2 hf hz h1.1 (by have := h1.2.2; omega) hb8 (by have := h0.2.2; omega), p3, ⟨q5, q6, p7, p8, p9, p10, p12, p0⟩, p5, p6, ⟨hr _ _ _ w1, hr _ _ _ w2, hr _ _ _ w3, hr _ _ _ w4, hr _ _ _ w5, hr _ _ _ w6⟩, h8, h9, h10, h11, fun _ q => (by cases q)⟩, hr, fun r => ?_⟩
  unfold pRw; rw [q5, q6, p7, p8, p9, e5, e6, e7, e8, e9]
theorem PB.m16 {x : Int} (h : PB m P L none none k) : PB (mst m P 16 x) P L none none k ∧ PX m P k (mst m P 16 x) k 0 := by
  obtain ⟨rd, ro, rh, rm, rt, sa, aa, rw, cd, co, ch, cm', ct, cw, os, hs, ms', ts, h1, h2, h3, h4, h5, h6, ⟨w1, w2, w3, w4, w5, w6⟩, h8, h9, h10, h11, h12⟩ := h
  have hv : ∀ f, f ≠ 16 → vl (mst m P 16 x) P f = vl m P f := fun f hf => by rw [vl_mst, if_neg (by omega)]
  have h8' : tg m P ≠ 8 ∧ tg m P < 100 := by omega
  refine ⟨⟨rd, ro, rh, rm, rt, sa, aa, rw, cd, co, ch, cm', ct, cw, os, hs, ms', ts, h1, h2.mT h8'.1, h3, ?_, ?_, h6, ⟨w1.mT h8', w2.mT h8', w3.mT h8', w4.mT h8', w5.mT h8', w6.mT h8'⟩, h8, h9, h10, h11, fun _ q => (by cases q)⟩, fun r _ ys c hw => hw.mT h8', fun r => ?_, Int.le_refl _, ?_, ?_⟩
  · rw [hv 5 (by omega), hv 6 (by omega), hv 7 (by omega), hv 8 (by omega), hv 9 (by omega), hv 10 (by omega), hv 12 (by omega), hv 0 (by omega)]; exact h4
  · rw [hv 1 (by omega), hv 2 (by omega), hv 3 (by omega), hv 4 (by omega)]; exact h5
  · unfold pRw; rw [hv 5 (by omega), hv 6 (by omega), hv 7 (by omega), hv 8 (by omega), hv 9 (by omega)]
  · show nx m - nx m ≤ _; omega
  · show sl m - sl m ≤ _; omega
theorem dpS {o v v' : Vl} (hv : GV v) (ho : GV o) (hd : dpV v.2.1 v.2.2 ≤ 32) (hdo : dpF o.2.2 ≤ 32) (h : pSt o v = some v') : dpV v'.2.1 v'.2.2 ≤ 66 ∧ GV v' := by
  by_cases h6 : o.2.1.1 = 6
  · cases h1 : strM o.2.2 wOp with
    | none => unfold pSt at h; rw [if_neg (by omega), h1] at h; cases h
    | some op =>
      cases h2 : strM o.2.2 wPath with
      | none => unfold pSt at h; rw [if_neg (by omega), h1, h2] at h; cases h
      | some path =>
        rw [pSt_eq h6 h1 h2] at h
        have hkF : wfF o.2.2 ∧ cnF (o.2.1.1 == 6) o.2.2 := (show GV (o.1, o.2.1, o.2.2) from ho).kid.1
        obtain ⟨pd, pl, pf1, pf2, pf3⟩ := strM_some h2
        have spa : sur path ∧ wfU path := by rw [pf3]; exact (fnd_wf hkF.1 hkF.2 pf1).2
        have ts : ∀ tks, ptr path = some tks → ∀ tk, tk ∈ tks → wfU tk ∧ sur tk := fun tks hp => ptr_sur spa.2 spa.1 hp
        split at h
        · split at h
          · cases h
          · rename_i d l hf
            split at h
            · cases h
            · rename_i tks hp
              have g := (fnd_wf hkF.1 hkF.2 hf).1
              exact ⟨dp_adZ hv hd (by have := fnd_dp hf; have e : dpV (noN d) l = dpV d l := rfl; show dpV (noN d) l ≤ 32; omega) h, GV_adZ hv g (ts tks hp) h⟩
        · split at h
          · split at h
            · cases h
            · have := GV_rmZ hv h; exact ⟨by omega, this.1⟩
          · split at h
            · split at h
              · cases h
              · rename_i d l hf
                split at h
                · cases h
                · rename_i tks hp
                  have g := (fnd_wf hkF.1 hkF.2 hf).1
                  exact ⟨dp_rpZ hv hd (by have := fnd_dp hf; have e : dpV (noN d) l = dpV d l := rfl; show dpV (noN d) l ≤ 32; omega) h, GV_rpZ hv g h⟩
            · split at h
              · split at h
                · cases h
                · split at h
                  · cases h
                  · split at h
                    · cases h
                    · split at h
                      · cases h; exact ⟨by omega, hv⟩
                      · cases h
              · split at h
                · split at h
                  · cases h
                  · rename_i fr hf
                    unfold trS at h
                    split at h
                    · cases h
                    · rename_i tks hp
                      split at h
                      · cases h
                      · rename_i ftk hpf
                        split at h
                        · cases h
                        · rename_i kz w hgo
                          have gw := (GV_go hv hgo).2.2.1
                          have hok := goZ_ok ftk [] v _ _ (fun f hf => absurd hf (by simp)) hgo
                          have dw := dp_ge _ w hok
                          rw [(GV_go hv hgo).1] at dw
                          split at h
                          · exact ⟨dp_adZ hv hd (by omega) h, GV_adZ hv gw (ts tks hp) h⟩
                          · split at h
                            · cases h; exact ⟨by omega, hv⟩
                            · split at h
                              · cases h
                              · split at h
                                · cases h
                                · rename_i v1 hrm
                                  have g1 := GV_rmZ hv hrm
                                  exact ⟨dp_adZ g1.1 (by omega) (by omega) h, GV_adZ g1.1 gw (ts tks hp) h⟩
                · cases h
  · unfold pSt at h; rw [if_pos h6] at h; cases h
/-- the patcher, ready for a step -/
def RNS (m : Mem) (P : Int) (L : List Int) (k n : Int) : Prop := PB m P L none none k ∧ PRE m ∧ SI m ∧ PSC m ∧ (∃ ys, SK m (vl m P 15) ys 480) ∧ vl m P 16 = n
theorem RNS.fr {q : Nat} {n k' : Int} {L' : List Int} (h : RNS m P L k n) (hf : FRM (eM q) m m') (hz : NZ (eM q) m m') (hp : PB m' P L' none none k') (h1 : scN (eM q) = true) (h2 : Nat.testBit (eM q) (bix 2 0) = false) (h3 : skN (eM q) = true) (h4 : Nat.testBit (eM q) (bix 7 15) = false) (h5 : Nat.testBit (eM q) (bix 7 16) = false) : RNS m' P L' k' n := by
  obtain ⟨a1, a2, a3, a4, ⟨ys, a5⟩, a6⟩ := h
  have ok := a2.1
  have hP := a1.ok.2.2.1
  refine ⟨hp, a2.frq hf h1, a3.fr hf hz ok.1 h2, a4.frq hf ok.1 h1, ⟨ys, ?_⟩, ?_⟩
  · rw [vl_of hf ok.1 hP (by decide) h4]; exact a5.fr hf ok.1 h3
  · rw [vl_of hf ok.1 hP (by decide) h5]; exact a6
/-- the patcher's sink stands where it stood, other sinks stay -/
def SKO (m : Mem) (P : Int) (m' : Mem) : Prop := vl m' P 15 = vl m P 15 ∧ ∀ s, s ≠ vl m P 15 → ∀ ys cap, SK m s ys cap → SK m' s ys cap
theorem SKO.trans {m1 m2 : Mem} (h : SKO m P m1) (h' : SKO m1 P m2) : SKO m P m2 := ⟨h'.1.trans h.1, fun s hs ys cap q => h'.2 s (by rw [h.1]; exact hs) ys cap (h.2 s hs ys cap q)⟩
theorem SKO.frq {q : Nat} (hf : FRM (eM q) m m') (hz : TZ m) (hP : tg m P = 7) (h3 : skN (eM q) = true) (h4 : Nat.testBit (eM q) (bix 7 15) = false) : SKO m P m' := ⟨vl_of hf hz hP (by decide) h4, fun _ _ _ _ h => h.fr hf hz h3⟩
theorem SKO.m16 {x : Int} (hP : tg m P = 7) : SKO m P (mst m P 16 x) := ⟨by rw [vl_mst, if_neg (by omega)], fun _ _ _ _ h => h.mo (by omega)⟩
/-- how long it is, printed -/
theorem t128 {v : Vl} {n : Int} (hd : 150 ≤ d) (h : RNS m P (enV v.2.1 v.2.2) k n) (hv : GV v) (hdp : dpV v.2.1 v.2.2 ≤ 66) :
    ((prV v.2.1 v.2.2).length ≤ 480 → ∃ m', cl d 128 [pR P] m = some (.inl (some (pI (prV v.2.1 v.2.2).length)), m') ∧ RNS m' P (enV v.2.1 v.2.2) k n ∧ PX m P k m' k 0 ∧ SKO m P m') ∧
    (480 < (prV v.2.1 v.2.2).length → ∃ m', cl d 128 [pR P] m = some (.inr 201, m') ∧ RNS m' P (enV v.2.1 v.2.2) k n ∧ PX m P k m' k 1 ∧ SKO m P m') := by
  obtain ⟨a1, a2, a3, a4, ⟨ys, a5⟩, a6⟩ := h
  obtain ⟨okm, hI, hP, cd, hRd, hcd⟩ := a1.ok
  have hcl := hRd.2.2.2.2.1
  have hl : dpF v.2.2 ≤ 66 := by
    rcases Nat.lt_or_ge v.2.1.1 5 with q | q
    · rw [hv.2.2.1.2.2.1 q]; show 0 ≤ 66; omega
    · unfold dpV at hdp; rw [if_neg (by omega)] at hdp; omega
  have h128 := c128 (d := d) (P := P) (l := v.2.2) (nd := v.2.1) (by omega) hP a2 a3 a5 hRd (by omega) At.self hv.2.2.1
  have fin : ∀ {m1 : Mem} {rr : Rs} {ws : List Int} {x : Int}, cl d 128 [pR P] m = some (rr, m1) → SKS (vl m P 15) m m1 ws 480 x → RNS m1 P (enV v.2.1 v.2.2) k n ∧ PX m P k m1 k x ∧ SKO m P m1 := by
    intro m1 rr ws x e hs
    have hf := cl_FRM e
    obtain ⟨b1, b2, b3⟩ := a1.frq hf (cl_NZ e) (by rfl) (by rfl) (by rfl)
    have e15 : vl m1 P 15 = vl m P 15 := vl_of hf okm.1 hP (by decide) (by rfl)
    refine ⟨⟨b1, a2.frq hf (by rfl), hs.2.1.1, a4.frq hf okm.1 (by rfl), ⟨ws, by rw [e15]; exact hs.1⟩, by rw [vl_of hf okm.1 hP (by decide) (by rfl)]; exact a6⟩, ⟨fun r _ ys c hw => b2 r ys c hw, b3, Int.le_refl _, ?_, ?_⟩, e15, hs.2.1.2⟩
    · have := hs.2.2.2.1; omega
    · have := hs.2.2.2.2; omega
  refine ⟨fun hq => ?_, fun hq => ?_⟩
  · obtain ⟨m1, e1, s1⟩ := h128.1 hq
    exact ⟨m1, e1, fin e1 s1⟩
  · obtain ⟨m1, ws, e1, s1⟩ := h128.2 hq
    exact ⟨m1, e1, fin e1 s1⟩
/-- what a patch comes to -/
def PRS (X : RM) (m : Mem) (P r c : Int) (xs : List Int) (k : Int) (o : Vl ⊕ Option Nat) : Prop := match o with
  | .inl v' => GV v' ∧ dpV v'.2.1 v'.2.2 ≤ 32 ∧ (prV v'.2.1 v'.2.2).length ≤ 480 ∧ ∃ m' k', X = some (.inl (some (pI (prV v'.2.1 v'.2.2).length)), m') ∧ (∃ n, RNS m' P (enV v'.2.1 v'.2.2) k' n) ∧ PX m P k m' k' 0 ∧ SKO m P m'
  | .inr (some n) => ∃ m' k' L', X = some (.inr 206, m') ∧ RNS m' P L' k' n ∧ PX m P k m' k' 1 ∧ SKO m P m'
  | .inr none => ∃ m' k' L' n, X = some (.inr 201, m') ∧ RNS m' P L' k' n ∧ PX m P k m' k' 1 ∧ SKO m P m'
theorem PRS.pre {X Y : RM} {m1 : Mem} {k1 c1 : Int} {o : Vl ⊕ Option Nat} (h : PRS X m1 P r c xs k1 o) (hp : PX m P k m1 k1 0) (ho : SKO m P m1) (hXY : ∀ Q, X = some Q → Y = some Q) : PRS Y m P r c1 xs k o := by
  match o, h with
  | .inl v', ⟨a1, a2, a3, m', k', a4, a5, a6, a7⟩ => exact ⟨a1, a2, a3, m', k', hXY _ a4, a5, hp.tr0 a6, ho.trans a7⟩
  | .inr (some n), ⟨m', k', L', a4, a5, a6, a7⟩ => exact ⟨m', k', L', hXY _ a4, a5, hp.tr0 a6, ho.trans a7⟩
  | .inr none, ⟨m', k', L', n, a4, a5, a6, a7⟩ => exact ⟨m', k', L', n, hXY _ a4, a5, hp.tr0 a6, ho.trans a7⟩
theorem c113_16 {a2 en : Int} (hd : 160 ≤ d) (hx : xs.length < 60000) : ∀ (F : Fo) (v : Vl) (n : Nat) (m : Mem) (k a : Int), GV v → dpV v.2.1 v.2.2 ≤ 32 → (prV v.2.1 v.2.2).length ≤ 480 → wfF F → cnF false F → dpF F ≤ 32 → (prF false false F).length ≤ 1291 → (n : Int) + cntF F < 60000 → RNS m P (enV v.2.1 v.2.2) k n → ¬ pRw m P r → RW m r xs c → At xs a (enF false F) → a + (enF false F).length = en → PRS (rn d 113 16 [pR P, pR r, pI a2, pI en, pI a] [] m) m P r c xs k (pRn F v n) := by
  intro F
  induction F with
  | leaf =>
    intro v n m k a hv hdp hpv _ _ _ _ _ hN hr hR hA he
    obtain ⟨m1, e1, n1, x1⟩ := (t128 (d := d - 1) (by omega) hN hv (by omega)).1 hpv
    have hP := hN.1.ok.2.2.1
    have he : a + (0 : Int) = en := by simpa [enF] using he
    refine ⟨hv, hdp, hpv, m1, k, q113_16 (by omega) hN.2.1.1.1 _ ?_, ⟨n, n1⟩, x1⟩
    rw [if_neg (by omega), gd_of hP, bI_eq e1]
  | inner i od u ol R _ ih =>
    intro v n m k a hv hdp hpv hw hc hdF hpl hn hN hr hR hA he
    rw [enF_inner, if_neg (by decide), List.nil_append] at hA he
    obtain ⟨w1, w2, w3, w4, w5, w6⟩ := hw
    obtain ⟨c1, ⟨c2, c3, c4, c5⟩, c6, c7⟩ := hc
    rw [prF_inner] at hpl
    simp only [List.length_append] at hpl
    have hP := hN.1.ok.2.2.1
    have okm := hN.2.1.1
    have hAo := hA.app.1
    have hAr := hA.app.2
    have ho : GV (0, noN od, ol) := ⟨rfl, rfl, ⟨⟨w1.1, w1.2.1, w1.2.2.1, w1.2.2.2.1, fun u hu => absurd hu (by simp)⟩, w2, w3, w4, w5, trivial⟩, rfl, ⟨c2, c3, fun _ => rfl, trivial⟩, c6, trivial⟩
    have hd2 : dpV od ol ≤ 32 ∧ dpF R ≤ 32 := by
      have hdF : max (dpV od ol) (dpF R) ≤ 32 := hdF
      omega
    have hdo : dpF ol ≤ 32 := by
      have := hd2.1
      rcases Nat.lt_or_ge od.1 5 with q | q
      · rw [w3 q]; show 0 ≤ 32; omega
      · unfold dpV at this; rw [if_neg (by omega)] at this; omega
    have hlen : (enV v.2.1 v.2.2).length ≤ 750 := by
      have := en_pr hv.2.2.1; omega
    have hpo : (prV (noN od) ol).length ≤ 1290 := by
      have e : prV (noN od) ol = prV od ol := rfl
      rw [e]
      simp at hpl; omega
    have ap := enV_pos od ol
    have h114 := c114 (d := d - 1) (o := (0, noN od, ol)) (v := v) (a := a) (by omega) rfl hlen hv hdp hN.1 hr hR hx (by rw [enV_no2]; exact hAo) ho hpo hN.2.2.2.1
    show PRS _ m P r c xs k (match pSt (0, noN od, ol) v with
      | none => .inr (some n)
      | some v' => if 32 < dpV v'.2.1 v'.2.2 then .inr none else if 480 < (prV v'.2.1 v'.2.2).length then .inr none else pRn R v' (n + 1))
    rw [List.length_append] at he
    cases hs : pSt (0, noN od, ol) v with
    | none =>
      obtain ⟨m1, k1, L1, e1, p1, x1⟩ := h114.2 hs
      refine ⟨m1, k1, L1, q113_16 (by omega) okm.1 _ ?_, hN.fr (cl_FRM e1) (cl_NZ e1) p1 (by rfl) (by rfl) (by rfl) (by rfl) (by rfl), x1, SKO.frq (cl_FRM e1) okm.1 hP (by rfl) (by rfl)⟩
      rw [if_pos (by omega), gd_of hP, bV_xq e1]
    | some v' =>
      obtain ⟨m1, k1, e1, p1, x1⟩ := h114.1 v' hs
      obtain ⟨dv', gv'⟩ := dpS hv ho hdp hdo hs
      have o1 : SKO m P m1 := SKO.frq (cl_FRM e1) okm.1 hP (by rfl) (by rfl)
      have hN1 : RNS m1 P (enV v'.2.1 v'.2.2) k1 n := hN.fr (cl_FRM e1) (cl_NZ e1) p1 (by rfl) (by rfl) (by rfl) (by rfl) (by rfl)
      obtain ⟨ok1, hI1, hP1, cd1, hRd1, hcd1⟩ := p1.ok
      have hcl1 := hRd1.2.2.2.2.1
      have hl' : dpF v'.2.2 ≤ 66 := by
        rcases Nat.lt_or_ge v'.2.1.1 5 with q | q
        · rw [gv'.2.2.1.2.2.1 q]; show 0 ≤ 66; omega
        · unfold dpV at dv'; rw [if_neg (by omega)] at dv'; omega
      have h149 := c149 (d := d - 1) (by omega) ok1.1 hRd1 (by omega) gv'.2.2.1 (At.self (xs := enV v'.2.1 v'.2.2))
      dsimp only
      by_cases hdd : 32 < dpV v'.2.1 v'.2.2
      · rw [if_pos hdd]
        refine ⟨mal m1 201 6, k1, enV v'.2.1 v'.2.2, n, q113_16 (by omega) okm.1 _ ?_, ?_, ?_⟩
        · rw [if_pos (by omega), gd_of hP, bV_eq e1, nm_eq, gd_of hRd1.1, bI_eq h149, if_pos (by omega)]
        · exact hN1.fr (q := 114) (fr_mal (by rfl)) nz_mal (PB.thrT (by decide) p1).1 (by rfl) (by rfl) (by rfl) (by rfl) (by rfl)
        · exact ⟨x1.tr0 (PB.thrT (by decide) p1).2, o1.trans (SKO.frq (q := 114) (fr_mal (by rfl)) ok1.1 hP1 (by rfl) (by rfl))⟩
      · rw [if_neg hdd]
        have h128 := t128 (d := d - 1) (by omega) hN1 gv' (by omega)
        by_cases h480 : 480 < (prV v'.2.1 v'.2.2).length
        · rw [if_pos h480]
          obtain ⟨m2, e2, n2, x2, o2⟩ := h128.2 h480
          refine ⟨m2, k1, enV v'.2.1 v'.2.2, n, q113_16 (by omega) okm.1 _ ?_, n2, x1.tr0 x2, o1.trans o2⟩
          rw [if_pos (by omega), gd_of hP, bV_eq e1, nm_eq, gd_of hRd1.1, bI_eq h149, if_neg (by omega), bI_xq e2]
        · rw [if_neg h480]
          obtain ⟨m2, e2, n2, x2, o2⟩ := h128.1 (by omega)
          have x02 := x1.tr0 x2
          have hR2 := x02.1 r hr xs c hR
          have v16 := n2.2.2.2.2.2
          have hP2 := n2.1.ok.2.2.1
          obtain ⟨p3, x3⟩ := n2.1.m16 (x := (n : Int) + 1)
          have x03 := x02.tr0 x3
          have hr3 : ¬ pRw (mst m2 P 16 ((n : Int) + 1)) P r := fun q => hr ((x03.2.1 r).mp q)
          have hR3 := x03.1 r hr xs c hR
          have hN3 : RNS (mst m2 P 16 ((n : Int) + 1)) P (enV v'.2.1 v'.2.2) k1 ((n + 1 : Nat) : Int) := by
            obtain ⟨b1, b2, b3, b4, ⟨ys, b5⟩, b6⟩ := n2
            have f : FRM (eM 113) m2 (mst m2 P 16 ((n : Int) + 1)) := frm_mst (by rw [hP2]; rfl)
            have e15 : vl (mst m2 P 16 ((n : Int) + 1)) P 15 = vl m2 P 15 := by rw [vl_mst, if_neg (by omega)]
            exact ⟨p3, b2.frq f (by rfl), b3.fr f (NZ.same rfl) b2.1.1 (by rfl), b4.frq f b2.1.1 (by rfl), ⟨ys, by rw [e15]; exact b5.mo (by omega)⟩, by rw [vl_mst, if_pos ⟨rfl, rfl⟩]; omega⟩
          have h137 := c137 (d := d - 1) (by omega) hN3.2.1.1.1 hR3 hAo w1 (by have := hAo.2.1; have := hAo.1; omega)
          have hcnt : cntF (Std.DTreeMap.Internal.Impl.inner i od u ol R : Fo) = cntF R + 1 := rfl
          refine PRS.pre (ih v' (n + 1) _ k1 (a + (enV od ol).length) gv' (by omega) (by omega) w6 c7 hd2.2 (by omega) (by push_cast; omega) hN3 hr3 hR3 hAr (by push_cast at he ⊢; omega)) x03 ((o1.trans o2).trans (SKO.m16 hP2)) (fun Q hQ => q113_16 (by omega) okm.1 _ ?_)
          rw [if_pos (by omega), gd_of hP, bV_eq e1, nm_eq, gd_of hRd1.1, bI_eq h149, if_neg (by omega), bI_eq e2, gd_of hR2.1, v16, (w32_of (by omega) (by omega) : w32 ((n : Int) + 1) = (n : Int) + 1), bI_eq h137]
          exact hQ
/-- a whole patch -/
theorem c113 {a : Int} {pd : ND} {pl : Fo} {v : Vl} {n0 : Int} (hd : 161 ≤ d) (hx : xs.length < 60000) (hv : GV v) (hdp : dpV v.2.1 v.2.2 ≤ 32) (hpv : (prV v.2.1 v.2.2).length ≤ 480) (hp : GV (0, pd, pl)) (h5 : pd.1 = 5) (hdF : dpF pl ≤ 32) (hpl : (prV pd pl).length ≤ 1290) (hN : RNS m P (enV v.2.1 v.2.2) k n0) (hr : ¬ pRw m P r) (hR : RW m r xs c) (hA : At xs a (enV pd pl)) : PRS (cl d 113 [pR P, pR r, pI a] m) m P r c xs k (pRn pl v 0) := by
  have hP := hN.1.ok.2.2.1
  have okm := hN.2.1.1
  obtain ⟨p1, x1⟩ := hN.1.m16 (x := 0)
  have hN1 : RNS (mst m P 16 0) P (enV v.2.1 v.2.2) k ((0 : Nat) : Int) := by
    obtain ⟨b1, b2, b3, b4, ⟨ys, b5⟩, b6⟩ := hN
    have f : FRM (eM 113) m (mst m P 16 0) := frm_mst (by rw [hP]; rfl)
    have e15 : vl (mst m P 16 0) P 15 = vl m P 15 := by rw [vl_mst, if_neg (by omega)]
    exact ⟨p1, b2.frq f (by rfl), b3.fr f (NZ.same rfl) b2.1.1 (by rfl), b4.frq f b2.1.1 (by rfl), ⟨ys, by rw [e15]; exact b5.mo (by omega)⟩, by rw [vl_mst, if_pos ⟨rfl, rfl⟩]; rfl⟩
  have hr1 : ¬ pRw (mst m P 16 0) P r := fun q => hr ((x1.2.1 r).mp q)
  have hR1 := x1.1 r hr xs c hR
  have a0 := hA.1
  have a1 := hA.2.1
  have h137 := c137 (d := d - 1) (by omega) hN1.2.1.1.1 hR1 hA hp.2.2.1.1 (by omega)
  have e5 : (pd.1 == 6) = false := by rw [h5]; rfl
  have el := en_len56 (d := pd) (l := pl) (Or.inl h5)
  rw [e5] at el
  have hA2 : At xs (a + 3) (enF false pl) := by
    obtain ⟨e, hg, hb, hl, h2⟩ := enV_many hA (by omega)
    rw [e5] at hb; exact hb
  have epr : prV pd pl = 91 :: (prF false true pl ++ [93]) := by
    unfold prV prD
    rw [if_neg (by omega), if_neg (by omega), if_neg (by omega), if_neg (by omega), if_neg (by omega), if_pos h5, e5]
  have hp2 : (prF false false pl).length ≤ 1291 := by
    have := prF_fst false pl
    rw [epr] at hpl
    simp at hpl; omega
  have hcl := hR.2.2.2.2.1
  have hk := (hp.kid).1
  try dsimp only at hk
  rw [e5] at hk
  have hc2 : cntF pl < 60000 := by have := cnt_en false pl; omega
  refine PRS.pre (c113_16 (d := d) (a2 := a) (en := a + (enV pd pl).length) (by omega) hx pl v 0 _ k (a + 3) hv hdp hpv hk.1 hk.2 hdF hp2 (by push_cast; omega) hN1 hr1 hR1 hA2 (by omega)) x1 (SKO.m16 hP) (fun Q hQ => q113 (by omega) okm.1 _ ?_)
  rw [gd_of hP, gd_of hR.1, bI_eq h137, (w32_of (by omega) (by omega) : w32 (a + 3) = a + 3)]
  exact hQ
end
