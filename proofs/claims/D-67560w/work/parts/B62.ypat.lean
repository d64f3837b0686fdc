/-! the twin: a document is patched: parts -/
set_option maxRecDepth 100000
set_option maxHeartbeats 4000000
theorem hI_dq {nd : ND} {l : Fo} (hw : wfF (foC nd l foN)) : hI l ≤ dpV nd l + 3 := by
  have h1 := hI_dp hw.2.2.2.2.1
  rcases Nat.lt_or_ge nd.1 5 with q | q
  · rw [hw.2.2.1 q]; show 1 ≤ _; omega
  · unfold dpV; rw [if_neg (by omega)]; omega
/-- what stands between the brackets is no longer than the whole -/
theorem prF_prV {d : ND} {l : Fo} (hw : wfF (foC d l foN)) : (prF (d.1 == 6) true l).length ≤ (prV d l).length := by
  rcases Nat.lt_or_ge d.1 5 with q | q
  · rw [hw.2.2.1 q, prF_leaf]; exact Nat.zero_le _
  · unfold prV prD
    rw [if_neg (by omega), if_neg (by omega), if_neg (by omega), if_neg (by omega), if_neg (by omega)]
    split
    · simp only [List.length_cons, List.length_append]; omega
    · simp only [List.length_cons, List.length_append]; omega
theorem STRm.osc {m : Mem} (h : STRm m) : OSC m := ⟨⟨h 29 (by decide), h 30 (by decide), h 31 (by decide), h 32 (by decide), h 33 (by decide)⟩, ⟨h 34 (by decide), h 35 (by decide), h 36 (by decide), h 37 (by decide), h 38 (by decide)⟩⟩
/-- a document's text is in the work array -/
def WRK (m : Mem) (M : Int) (B : Int → Int) (ys : List Int) : Prop := vl m M 21 = ys.length ∧ (ys.length : Int) ≤ 480 ∧ ∀ j : Int, 0 ≤ j → j < ys.length → vl m (B 20) j = gi ys j
/-- the tree of what is told stays -/
def TLD (m : Mem) (t n C : Int) (us : List Int) (g : RF) : Prop := TW m t n us C ∧ ∀ f j, 0 ≤ f → f ≤ 9 → nv m t f j = g f j
section
variable {d n : Nat} {m m1 : Mem} {M : Int} {B : Int → Int} {s : St} {c : Int → Int} {K : Int} {f : Int → Option PV}
theorem TLD.sf {S : Int → Int → Prop} {t n C : Int} {us : List Int} {g : RF} (h : TLD m t n C us g) (k : SFr S m m1) (hz : TZ m) (hS : (∀ f, 0 ≤ f → f < 13 → ¬ S t f) ∧ ∀ a j, trA (tg m a) → ¬ S a j) : TLD m1 t n C us g := by
  obtain ⟨w1, w2, -⟩ := h.1.sf k hz hS
  exact ⟨w1, fun f j f0 f1 => by rw [w2 f j f0 f1]; exact h.2 f j f0 f1⟩
/-- a field of the twin doesn't matter -/
theorem TLD.mf {f v t n C : Int} {us : List Int} {g : RF} (h : TLD m t n C us g) (hM : tg m M = 11) (hz : TZ m) : TLD (mst m M f v) t n C us g := h.sf SFr.mst hz ⟨fun f _ _ z => by have := h.1.1; rw [z.1, hM] at this; omega, fun a j ha z => by rw [z.1, hM] at ha; unfold trA at ha; omega⟩
theorem TLD.nc {S : Int → Prop} {t n C : Int} {us : List Int} {g : RF} (h : TLD m t n C us g) (k : NC S m m1) (hz : TZ m) (hS : ∀ a, S a → tg m a = 186103) : TLD m1 t n C us g := h.sf (SFr.nc k) hz ⟨fun f _ _ z => by have := hS _ z; have := h.1.1; omega, fun a j ha z => by have := hS _ z; unfold trA at ha; omega⟩
theorem TLD.wf {ys : List Int} {t n C : Int} {us : List Int} {g : RF} (h : TLD m t n C us g) (hk : WK m M ys) (w : WF M m m1) : TLD m1 t n C us g := ⟨(h.1.wf hk w).1, fun f j f0 f1 => by rw [(h.1.wf hk w).2 f j f0 f1]; exact h.2 f j f0 f1⟩
theorem TLD.tv {t t' k n C : Int} {us : List Int} {g : RF} (h : TLD m t n C us g) (v : TV t' k m m1) (hne : t ≠ t') : TLD m1 t n C us g := ⟨(v.2.1 t hne n us C h.1).1, fun f j f0 f1 => by rw [(v.2.1 t hne n us C h.1).2.1 f j f0 f1]; exact h.2 f j f0 f1⟩
/-- the work array through what doesn't write it -/
theorem WRK.sf {S : Int → Int → Prop} {ys : List Int} (h : WRK m M B ys) (y : YP m M B) (k : SFr S m m1) (hz : TZ m) (hS : ¬ S M 21 ∧ ∀ j, ¬ S (B 20) j) : WRK m1 M B ys := ⟨by rw [k.v hz (by have := y.tm; omega) hS.1]; exact h.1, h.2.1, fun j j0 j1 => by rw [k.v hz (by have := y.b20.1; omega) (hS.2 j)]; exact h.2.2 j j0 j1⟩
theorem WRK.mf {f v : Int} {ys : List Int} (h : WRK m M B ys) (y : YP m M B) (hz : TZ m) (hf : f ≠ 21) : WRK (mst m M f v) M B ys := h.sf y SFr.mst hz ⟨fun z => hf z.2.symm, fun j z => y.ba.2.2.2.2.1 z.1⟩
theorem WRK.wf {ys : List Int} (h : WRK m M B ys) (y : YP m M B) (hz : TZ m) (w : WF M m m1) : WRK m1 M B ys := h.sf y (SFr.wf w) hz ⟨fun z => by
  rcases z with z | z
  · rw [y.f (by unfold qf; omega)] at z; exact y.ba.2.2.2.1 z.symm
  · omega, fun j z => by
  rcases z with z | z
  · rw [y.f (by unfold qf; omega)] at z; exact y.ba.1.2.2.2.2.2 z.symm
  · exact y.ba.2.2.2.2.1 z.1⟩
/-- a call that leaves the work array -/
def wkN (e : Nat) : Bool := !(Nat.testBit e (bix 11 21)) && !(Nat.testBit e (bix 186103 0))
theorem WRK.cl {q : Nat} {as : List PV} {r : Rs} {ys : List Int} (h : WRK m M B ys) (y : YP m M B) (hz : TZ m) (e : cl d q as m = some (r, m1)) (hN : wkN (eM q) = true) : WRK m1 M B ys := by
  unfold wkN at hN
  simp only [Bool.and_eq_true, Bool.not_eq_true'] at hN
  exact h.sf y (SFr.fr (cl_FRM e)) hz ⟨by show ¬ _ = true; rw [y.tm, hN.1]; decide, fun j => by show ¬ _ = true; rw [y.b20.1, bix_100 (by decide), hN.2]; decide⟩
/-- a stored text is copied to be worked on -/
theorem c226_152 {a1 a2 a3 a4 : Int} {x : Int × List Int} {t n C : Int} {us : List Int} {g : RF} (hx : 0 ≤ a4 ∧ a4 < 100) (h3 : 0 ≤ a3 ∧ a3 < n) (hx' : (x.2.length : Int) ≤ 480) : ∀ (N : Nat) (m : Mem) (k : Int), ((x.2.length : Int) - k).toNat = N → 0 ≤ k → k ≤ x.2.length → TZ m → YP m M B → SA m (B 8) → EnS m (B 8) a4 x → vl m M 21 = x.2.length → TLD m (B 19) n C us g → ∃ m', (∀ {Z : Rs × Mem}, rn d 226 201 [pR M, pI a1, pI a2, pI a3, pI a4, pI 0, pI (g 4 a3), pU] [] m' = some Z → rn d 226 152 [pR M, pI a1, pI a2, pI a3, pI a4, pI k, pU, pU] [] m = some Z) ∧ NC (· = B 20) m m' ∧ (∀ j, k ≤ j → j < x.2.length → vl m' (B 20) j = gi x.2 j) ∧ ∀ j, j < k → vl m' (B 20) j = vl m (B 20) j := by
  intro N
  induction N with
  | zero =>
    intro m k hN k0 k1 hz y hA he h21 hT
    refine ⟨m, fun hZ => q226_152 hz _ ?_, NC.refl, fun j j0 j1 => by omega, fun _ _ => rfl⟩
    have l4 := hT.1.ld (f := 4) ⟨by decide, by decide⟩ (by decide)
    have hc := hT.1.2.2.2.2.2.2.1
    rw [gd_of y.tm, h21, if_neg (by omega), nm_eq, y.f (by unfold qf; omega), gd_of hT.1.1, nm_eq, gd_of l4.1, gd_of ⟨h3.1, by rw [l4.2]; omega⟩]
    have e4 := hT.2 4 a3 (by decide) (by decide)
    unfold nv at e4
    rw [e4]
    exact hZ
  | succ N ih =>
    intro m k hN k0 k1 hz y hA he h21 hT
    have hl := he.2.2.1.1
    have hb := he.2.2.1.2 (gi x.2 k) (by
      unfold gi
      rw [List.getD_eq_getElem?_getD, List.getElem?_eq_getElem (show k.toNat < x.2.length by omega)]
      exact List.getElem_mem _)
    have hv := he.2.2.2 k k0 (by omega)
    have k' : NC (· = B 20) m (mst m (B 20) k (gi x.2 k)) := NC.set rfl
    have S2 := SFr.nc k'
    have t2 := y.b20.1
    have nst : ∀ a, stA (tg m a) → a ≠ B 20 := fun a ha z => by rw [z] at ha; unfold stA at ha; omega
    have n12 : B 8 ≠ B 20 := fun z => by have := hA.1; rw [z] at this; omega
    have y' := y.sf S2 hz fun f _ => y.ba.2.2.2.2.1.symm
    have hA' := (hA.sf S2 hz ⟨fun f _ _ => n12, fun a _ ha => nst a ha⟩).1
    have he' := he.sf hA hx S2 hz ⟨fun f _ _ => n12, fun a _ ha => nst a ha⟩
    obtain ⟨m', e1, e2, e3, e4⟩ := ih _ (k + 1) (by omega) (by omega) (by omega) (k'.tz hz) y' hA' he' (by rw [vl_mst, if_neg (fun z => y.ba.2.2.2.2.1 z.1.symm)]; exact h21) (hT.nc k' hz fun a z => by rw [z]; exact t2)
    obtain ⟨a1', a2', a3', a4', a5', a6'⟩ := hA
    refine ⟨m', fun hZ => q226_152 hz _ ?_, k'.trans e2, fun j j0 j1 => ?_, fun j j0 => ?_⟩
    · rw [gd_of y.tm, h21, if_pos (by omega), nm_eq, y.f (by unfold qf; omega), nm_eq, y.f (by unfold qf; omega), gd_of a1', nm_eq, gd_of a5'.1, gd_of ⟨hx.1, by rw [a5'.2]; exact hx.2⟩, nm_eq, (a6' a4 hx.1 hx.2).1, gd_of (a6' a4 hx.1 hx.2).2.1, gd_of ⟨k0, by rw [(a6' a4 hx.1 hx.2).2.2]; omega⟩, gd_of y.b20.1, gd_of ⟨k0, by rw [y.b20.2]; omega⟩, hv, w8_of hb.1 hb.2, (w32_of (by omega) (by omega) : w32 (k + 1) = k + 1)]
      exact e1 hZ
    · by_cases z : j = k
      · rw [z, e4 k (by omega), vl_mst, if_pos ⟨rfl, rfl⟩]
      · exact e3 j (by omega) j1
    · rw [e4 j (by omega), vl_mst, if_neg (fun z => by omega)]
/-- what was printed is copied to be worked on -/
theorem c226_340 {a1 a2 a3 a4 a5 a6 : Int} {ys : List Int} {t n C : Int} {us : List Int} {g : RF} (h6 : 0 ≤ a6 ∧ a6 < n) (hl : (ys.length : Int) ≤ 480) (hb : ∀ b ∈ ys, -128 ≤ b ∧ b < 128) (h5 : 0 ≤ a5 ∧ a5 ≤ 100000) : ∀ (N : Nat) (m : Mem) (k : Int), ((ys.length : Int) - k).toNat = N → 0 ≤ k → k ≤ ys.length → TZ m → YP m M B → vl m M 16 = ys.length → (∀ j, k ≤ j → j < ys.length → vl m (B 15) j = gi ys j) → TLD m (B 19) n C us g → ∃ m' z7, cat z7 = 1 ∧ (∀ {Z : Rs × Mem}, rn d 226 201 [pR M, pI a1, pI a2, pI a3, pI a4, pI (a5 + 1), pI (g 5 a6), z7] [] m' = some Z → rn d 226 340 [pR M, pI a1, pI a2, pI a3, pI a4, pI a5, pI a6, pI k] [] m = some Z) ∧ NC (· = B 20) m m' ∧ (∀ j, k ≤ j → j < ys.length → vl m' (B 20) j = gi ys j) ∧ ∀ j, j < k → vl m' (B 20) j = vl m (B 20) j := by
  intro N
  induction N with
  | zero =>
    intro m k hN k0 k1 hz y h16 hv hT
    refine ⟨m, pI k, rfl, fun hZ => q226_340 hz _ ?_, NC.refl, fun j j0 j1 => by omega, fun _ _ => rfl⟩
    have l5 := hT.1.ld (f := 5) ⟨by decide, by decide⟩ (by decide)
    have hc := hT.1.2.2.2.2.2.2.1
    rw [gd_of y.tm, h16, if_neg (by omega), nm_eq, y.f (by unfold qf; omega), gd_of hT.1.1, nm_eq, gd_of l5.1, gd_of ⟨h6.1, by rw [l5.2]; omega⟩, (w32_of (by omega) (by omega) : w32 (a5 + 1) = a5 + 1)]
    have e5 := hT.2 5 a6 (by decide) (by decide)
    unfold nv at e5
    rw [e5]
    exact hZ
  | succ N ih =>
    intro m k hN k0 k1 hz y h16 hv hT
    have hb' := hb (gi ys k) (by
      unfold gi
      rw [List.getD_eq_getElem?_getD, List.getElem?_eq_getElem (show k.toNat < ys.length by omega)]
      exact List.getElem_mem _)
    have k' : NC (· = B 20) m (mst m (B 20) k (gi ys k)) := NC.set rfl
    have S2 := SFr.nc k'
    have t2 := y.b20.1
    have nb := y.ba
    have y' := y.sf S2 hz fun f _ => nb.2.2.2.2.1.symm
    obtain ⟨m', z7, hc7, e1, e2, e3, e4⟩ := ih _ (k + 1) (by omega) (by omega) (by omega) (k'.tz hz) y' (by rw [vl_mst, if_neg (fun z => nb.2.2.2.2.1 z.1.symm)]; exact h16) (fun j j0 j1 => by rw [vl_mst, if_neg (fun z => nb.1.2.2.2.2.2 z.1)]; exact hv j (by omega) j1) (hT.nc k' hz fun a z => by rw [z]; exact t2)
    refine ⟨m', z7, hc7, fun hZ => q226_340 hz _ ?_, k'.trans e2, fun j j0 j1 => ?_, fun j j0 => ?_⟩
    · rw [gd_of y.tm, h16, if_pos (by omega), nm_eq, y.f (by unfold qf; omega), nm_eq, y.f (by unfold qf; omega), gd_of y.b15.1, gd_of ⟨k0, by rw [y.b15.2]; omega⟩, gd_of y.b20.1, gd_of ⟨k0, by rw [y.b20.2]; omega⟩, hv k (by omega) (by omega), w8_of hb'.1 hb'.2, (w32_of (by omega) (by omega) : w32 (k + 1) = k + 1)]
      exact e1 hZ
    · by_cases z : j = k
      · rw [z, e4 k (by omega), vl_mst, if_pos ⟨rfl, rfl⟩]
      · exact e3 j (by omega) j1
    · rw [e4 j (by omega), vl_mst, if_neg (fun z => by omega)]
/-- the work array has been written -/
theorem TWt.wrk (h : TWt m M B s c K) (k : NC (· = B 20) m m1) : TWt m1 M B s c K := by
  have y := h.y
  have nb := y.ba
  have tp := h.tp
  have rs := h.rs
  exact h.arr k (fun a z => by rw [z]; exact Or.inl y.b20.1) (tp.sf y (SFr.nc k) h.tz (fun z => nb.2.2.2.2.1 z.symm) fun j => nb.1.2.2.1) (rs.sf y (SFr.nc k) h.tz (fun z => nb.2.2.2.2.1 z.symm) fun j => nb.1.2.2.2.2.1) ⟨⟨rfl, rfl, rfl⟩, rfl, rfl, rfl⟩
/-- a step of a patch has changed the document's tree and the names -/
theorem TWt.ox {a : Int} {r : Rs} {nn n' CN C' : Int} {un us' : List Int} (h : TWt m M B s c K) (e : cl d 227 [pR M, pI a] m = some (r, m1)) {C : Int} (hc : c 18 = tC m (B 18) C ∧ C ≤ 10000 ∧ uC m (B 18) ≤ 20000) (hw : TW m (B 25) nn un CN) (hcn : c 25 = tC m (B 25) CN ∧ CN ≤ 256 ∧ uC m (B 25) ≤ 10000) (ox : OX (B 18) (B 25) CN m C m1 C') (hw' : TW m1 (B 18) n' us' C') : ∃ c', TWt m1 M B s c' K ∧ GR m m1 (pcT c K) (pcT c' K) := by
  obtain ⟨o1, o2, o3, ⟨nn', un', o4⟩, ⟨g1, g2, g3⟩, o6, o7, o8⟩ := ox
  obtain ⟨⟨a1, a2, a3, a4⟩, C3, b1, b2, b3, b4⟩ := h.tr
  obtain ⟨n1, n2, n3, n4, n5, n6, n7, n8, n9, n10⟩ := h.y.ne
  have oth : ∀ {t c0 bC bU : Int}, TRw m t c0 bC bU → t ≠ B 18 → t ≠ B 25 → TRw m1 t c0 bC bU := fun ht h1 h2 => by
    obtain ⟨p, us, C0, q1, q2, q3, q4⟩ := ht
    obtain ⟨r1, r2, r3⟩ := o3 _ h1 h2 p us C0 q1
    exact ⟨p, us, C0, r1, by unfold tC at q2 ⊢; rw [r3]; exact q2, q3, by rw [r3]; exact q4⟩
  obtain ⟨r1, r2, r3⟩ := o3 (B 37) n4.symm n9.symm 0 [] C3 b1
  have tr : TRY m1 B (upc (upc c 18 (tC m1 (B 18) C')) 25 (tC m1 (B 25) CN)) := by
    refine ⟨⟨?_, ?_, ?_, ?_⟩, C3, r1, ?_, b3, by rw [r3]; exact b4⟩
    · rw [upc_n (by decide), upc_s]; exact ⟨n', us', C', hw', rfl, by omega, by omega⟩
    · rw [upc_n (by decide), upc_n (by decide)]; exact oth a2 n1.symm n5
    · rw [upc_s]; exact ⟨nn', un', CN, o4, rfl, hcn.2.1, by omega⟩
    · rw [upc_n (by decide), upc_n (by decide)]; exact oth a4 n3.symm n8.symm
    · rw [upc_n (by decide), upc_n (by decide)]; unfold tC at b2 ⊢; rw [r3]; exact b2
  refine ⟨_, h.cal2 e (by decide +kernel) (by decide +kernel) (by decide +kernel) o2 tr, ?_⟩
  rw [pcT_upc (by omega), pcT_upc (by omega), upc_n (by decide)]
  have e1 := hc.1
  have e2 := hcn.1
  unfold tC at e1 e2 g1 g2 g3
  unfold GR tC
  omega
end
