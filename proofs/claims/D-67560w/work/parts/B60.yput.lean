/-! the twin: a text is read, a document put -/
set_option maxRecDepth 100000
set_option maxHeartbeats 4000000
section
variable {d n : Nat} {m m1 : Mem} {M : Int} {B : Int → Int} {s : St} {c : Int → Int} {K : Int} {f : Int → Option PV}
theorem TRw.tv {t t' c0 k bC bU : Int} (h : TRw m t' c0 bC bU) (v : TV t k m m1) (hne : t' ≠ t) : TRw m1 t' c0 bC bU := by
  obtain ⟨n, us, C, h1, h2, h3, h4⟩ := h
  obtain ⟨w1, w2, w3⟩ := v.2.1 t' hne n us C h1
  exact ⟨n, us, C, w1, by unfold tC at h2 ⊢; rw [w3]; exact h2, h3, by rw [w3]; exact h4⟩
def upc (c : Int → Int) (f v : Int) : Int → Int := fun g => if g = f then v else c g
theorem upc_s {c : Int → Int} {f v : Int} : upc c f v f = v := if_pos rfl
theorem upc_n {c : Int → Int} {f v g : Int} (h : g ≠ f) : upc c f v g = c g := if_neg h
/-- the room of a tree has grown -/
theorem pcT_upc {f v : Int} (hf : f = 18 ∨ f = 19 ∨ f = 25 ∨ f = 30 ∨ f = 37) : pcT (upc c f v) K = pcT c K + (v - c f) := by
  unfold pcT
  rcases hf with rfl | rfl | rfl | rfl | rfl
  · rw [upc_s, upc_n (by decide), upc_n (by decide), upc_n (by decide), upc_n (by decide)]; omega
  · rw [upc_s, upc_n (by decide), upc_n (by decide), upc_n (by decide), upc_n (by decide)]; omega
  · rw [upc_s, upc_n (by decide), upc_n (by decide), upc_n (by decide), upc_n (by decide)]; omega
  · rw [upc_s, upc_n (by decide), upc_n (by decide), upc_n (by decide), upc_n (by decide)]; omega
  · rw [upc_s, upc_n (by decide), upc_n (by decide), upc_n (by decide), upc_n (by decide)]; omega
/-- a tree of the twin: document or told -/
def bCf (f : Int) : Int := if f = 18 then 10000 else 2600
def bUf (f : Int) : Int := if f = 18 then 20000 else 2600
theorem bf_rng (f : Int) : (2600 ≤ bCf f ∧ bCf f ≤ 10000) ∧ 2600 ≤ bUf f := by unfold bCf bUf; split <;> omega
theorem TRY.t {f : Int} (h : TRY m B c) (hf : f = 18 ∨ f = 19) : TRw m (B f) (c f) (bCf f) (bUf f) := by
  rcases hf with rfl | rfl
  · exact h.1.1
  · exact h.1.2.1
/-- one tree is another -/
theorem TRY.tv {f c0 k : Int} (h : TRY m B c) (y : YP m M B) (hf : f = 18 ∨ f = 19) (v : TV (B f) k m m1) (ht : TRw m1 (B f) c0 (bCf f) (bUf f)) : TRY m1 B (upc c f c0) := by
  obtain ⟨⟨a1, a2, a3, a4⟩, C, b1, b2, b3, b4⟩ := h
  obtain ⟨n1, n2, n3, n4, n5, n6, n7, n8, n9, n10⟩ := y.ne
  rcases hf with rfl | rfl
  · obtain ⟨w1, w2, w3⟩ := v.2.1 (B 37) n4.symm 0 [] C b1
    exact ⟨⟨by rw [upc_s]; exact ht, by rw [upc_n (by decide)]; exact a2.tv v n1.symm, by rw [upc_n (by decide)]; exact a3.tv v n2.symm, by rw [upc_n (by decide)]; exact a4.tv v n3.symm⟩, C, w1, by rw [upc_n (by decide)]; unfold tC at b2 ⊢; rw [w3]; exact b2, b3, by rw [w3]; exact b4⟩
  · obtain ⟨w1, w2, w3⟩ := v.2.1 (B 37) n7.symm 0 [] C b1
    exact ⟨⟨by rw [upc_n (by decide)]; exact a1.tv v n1, by rw [upc_s]; exact ht, by rw [upc_n (by decide)]; exact a3.tv v n5.symm, by rw [upc_n (by decide)]; exact a4.tv v n6.symm⟩, C, w1, by rw [upc_n (by decide)]; unfold tC at b2 ⊢; rw [w3]; exact b2, b3, by rw [w3]; exact b4⟩
/-- a call that leaves the rows of queries -/
def qaN (e : Nat) : Bool := ([27, 28, 29, 32] : List Int).all (fun f => !(Nat.testBit e (bix 11 f)))
theorem TWt.cal2 {q : Nat} {as : List PV} {r : Rs} {c' : Int → Int} (h : TWt m M B s c K) (e : cl d q as m = some (r, m1)) (hN : twM (eM q) = true) (hu : utN (eM q) strT = true) (hq : qaN (eM q) = true) (hT : TI m1) (ht : TRY m1 B c') : TWt m1 M B s c' K := by
  obtain ⟨k, hk⟩ := h.qa
  have b : ∀ g : Int, g ∈ ([27, 28, 29, 32] : List Int) → ¬ Nat.testBit (eM q) (bix (tg m M) g) = true := fun g hg => by
    rw [h.y.tm]
    simpa using List.all_eq_true.mp hq g hg
  exact h.call e hN hu hT ht ⟨k, hk.sf (SFr.fr (cl_FRM e)) h.tz ⟨b 27 (by simp), b 28 (by simp), b 29 (by simp), b 32 (by simp)⟩⟩
/-- a tree that holds a value at its node 0 -/
def THo (m : Mem) (t : Int) (nd : ND) (l : Fo) (k : Int) : Prop := ∃ (n : Nat) (us : List Int) (C : Int), TW m t n us C ∧ TN (nv m t) us n 0 nd l ∧ (idF l).Nodup ∧ (∀ x, x ∈ idF l → 0 < x) ∧ ((n : Int) ≤ k ∧ (us.length : Int) ≤ k) ∧ nv m t 8 0 = -1 ∧ wfU us ∧ C ≤ 10000
/-- a text is read -/
theorem yrd {f a e : Int} {t : Int → Int} {N : Nat} (hf : f = 18 ∨ f = 19) (hd : 76 ≤ d) (h : TWt m M B s c K) (ha : tg m a = 186103 ∨ tg m a = 276103 ∨ tg m a = 278103) (he : 0 ≤ e ∧ e ≤ ln m a ∧ ln m a ≤ 16384) (he2 : e ≤ 1290) (hv : ∀ j, 0 ≤ j → j < e → vl m a j = t j) (hB : tB t e) :
    (∀ F, sRd t e N = some (.inr F) → ∃ nd l, F = foC nd (erF l) foN ∧ ∃ m' c', cl d 196 [pR M, pR a, pI e, pR (B f)] m = some (.inl (some (pI 0)), m') ∧ TWt m' M B s c' K ∧ THo m' (B f) nd l e ∧ TV (B f) 0 m m' ∧ GR m m' (pcT c K) (pcT c' K)) ∧
    (∀ p, sRd t e N = some (.inl p) → ∃ m' c', cl d 196 [pR M, pR a, pI e, pR (B f)] m = some (.inl (some (pI (-1))), m') ∧ vl m' M 14 = p ∧ TWt m' M B s c' K ∧ TV (B f) 0 m m' ∧ GR m m' (pcT c K) (pcT c' K)) := by
  obtain ⟨n0, us0, C, tw, tc, tb, tu⟩ := h.tr.t hf
  have hf5 : f = 18 ∨ f = 19 ∨ f = 25 ∨ f = 30 ∨ f = 37 := by omega
  have bf := bf_rng f
  obtain ⟨k1, k2⟩ := c196 (d := d) (N := N) hd hB h.ok h.y.tm ha he hv h.1.2.2.2.sty tw h.1.2.1
  refine ⟨fun F hF => ?_, fun p hp => ?_⟩
  · obtain ⟨nd, l, e1, m', e2, n', us', C', r1, r2, r3, r4, r5, r6, r7, r8, r9, r10, r11, r12⟩ := k1 F hF
    have tr' : TRw m' (B f) (tC m' (B f) C') (bCf f) (bUf f) := ⟨n', us', C', r1, rfl, by omega, by omega⟩
    exact ⟨nd, l, e1, m', upc c f (tC m' (B f) C'), e2, h.cal2 e2 (by decide +kernel) (by decide +kernel) (by decide +kernel) r2.1 (h.tr.tv h.y hf r2 tr'), ⟨n', us', C', r1, r7, r8, r9, ⟨r10, r11⟩, r12, r6, by omega⟩, r2, by
      obtain ⟨g1, g2, g3⟩ := r3
      rw [pcT_upc hf5]
      unfold GR; omega⟩
  · obtain ⟨m', e2, e3, n', us', C', r1, r2, r3, r4, r5, r6, r7, r8⟩ := k2 p hp
    have tr' : TRw m' (B f) (tC m' (B f) C') (bCf f) (bUf f) := ⟨n', us', C', r1, rfl, by omega, by omega⟩
    exact ⟨m', upc c f (tC m' (B f) C'), e2, e3, h.cal2 e2 (by decide +kernel) (by decide +kernel) (by decide +kernel) r2.1 (h.tr.tv h.y hf r2 tr'), r2, by
      obtain ⟨g1, g2, g3⟩ := r3
      rw [pcT_upc hf5]
      unfold GR; omega⟩
theorem TWt.wps {t n C : Int} {us : List Int} (h : TWt m M B s c K) (tw : TW m t n us C) : WPS m t n us C := ⟨h.ok, tw, h.1.2.2.2.wps.1, h.1.2.2.2.wps.2⟩
/-- printing begins -/
theorem TWt.beg (h : TWt m M B s c K) : cl d 209 [pR M] m = some (.inl none, mst (mst m M 16 0) M 17 0) ∧ WK (mst (mst m M 16 0) M 17 0) M [] ∧ WF M m (mst (mst m M 16 0) M 17 0) ∧ TWt (mst (mst m M 16 0) M 17 0) M B s c K := by
  have e15 : vl m M 15 = B 15 := h.y.f (by unfold qf; omega)
  obtain ⟨k1, k2, k3⟩ := c209 (d := d) h.tz h.y.tm (by rw [e15]; exact h.y.b15.1) (by rw [e15]; exact h.y.b15.2)
  exact ⟨k1, k2, k3, (h.mf (by unfold uf; omega)).mf (by unfold uf; omega)⟩
/-- what is printed is of its length -/
theorem WK.len {ys : List Int} (h : WK m M ys) (hl : (ys.length : Int) ≤ 32768) : vl m M 17 = 0 ∧ vl m M 16 = ys.length ∧ ∀ i : Int, 0 ≤ i → i < ys.length → vl m (vl m M 15) i = gi ys i := ⟨by rw [h.2.2.2.2.1, if_neg (by omega)], by rw [h.2.2.2.1]; omega, fun i i0 i1 => h.2.2.2.2.2 i i0 i1 (by omega)⟩
theorem WK.ovr {ys : List Int} (h : WK m M ys) (hl : 32768 < (ys.length : Int)) : vl m M 17 = 1 := by rw [h.2.2.2.2.1, if_pos hl]
theorem WF.tr {m2 : Mem} (h : WF M m m1) (e : vl m1 M 15 = vl m M 15) (h' : WF M m1 m2) : WF M m m2 := ⟨by rw [h'.1, h.1], by rw [h'.2.1, h.2.1], fun a => ⟨by rw [(h'.2.2.1 a).1, (h.2.2.1 a).1], by rw [(h'.2.2.1 a).2, (h.2.2.1 a).2]⟩, fun a k ha hk => by rw [h'.2.2.2 a k (by rw [e]; exact ha) hk, h.2.2.2 a k ha hk]⟩
/-- a tree is not touched by printing -/
theorem TW.beg {t n C : Int} {us : List Int} (h : TWt m M B s c K) (tw : TW m t n us C) : TW (mst (mst m M 16 0) M 17 0) t n us C ∧ ∀ f j, 0 ≤ f → f ≤ 9 → nv (mst (mst m M 16 0) M 17 0) t f j = nv m t f j := by
  have nM : t ≠ M := fun z => by have := tw.1; rw [z, h.y.tm] at this; omega
  have na : ∀ a, trA (tg m a) → a ≠ M := fun a ha z => by rw [z, h.y.tm] at ha; unfold trA at ha; omega
  have S : SFr (fun a j => (a = M ∧ j = 16) ∨ (a = M ∧ j = 17)) m (mst (mst m M 16 0) M 17 0) := SFr.mst.trans SFr.mst
  obtain ⟨w1, w2, -⟩ := tw.sf S h.tz ⟨fun f _ _ z => z.elim (fun z => nM z.1) fun z => nM z.1, fun a j ha z => z.elim (fun z => na a ha z.1) fun z => na a ha z.1⟩
  exact ⟨w1, w2⟩
/-- a whole value, from its tree -/
theorem ypr {t k : Int} {nd : ND} {l : Fo} (hd : 60 ≤ d) (h : TWt m M B s c K) (ho : THo m t nd l k) (hw : wfF (foC nd l foN)) (hdp : dpV nd l ≤ 32) : ∃ mb m', cl d 209 [pR M] m = some (.inl none, mb) ∧ TWt mb M B s c K ∧ cl d 210 [pR M, pR t, pI 0] mb = some (.inl none, m') ∧ WK m' M (prV nd l) ∧ TWt m' M B s c K ∧ WF M m m' := by
  obtain ⟨n, us, C, tw, tn, nl, -⟩ := ho
  obtain ⟨b1, b2, b3, b4⟩ := h.beg (d := d)
  obtain ⟨w1, w2⟩ := TW.beg h tw
  have tn' : TN (nv (mst (mst m M 16 0) M 17 0) t) us n 0 nd l := tn.keep0 (fun f j f0 f1 _ => w2 f j f0 f1) (fun f f0 f1 => w2 f _ f0 (by omega))
  have hI := hI_dv hw hdp
  obtain ⟨m', e1, e2, e3⟩ := c210 (d := d) (M := M) (x := 0) (by omega) hw (b4.wps w1) b2 tn' nl
  rw [List.nil_append] at e2
  exact ⟨_, m', b1, b4, e1, e2, b4.wf b2 e3, b3.tr (by rw [vl_mst, if_neg (by omega), vl_mst, if_neg (by omega)]) e3⟩
/-- what is read into a tree -/
theorem rd_ok {t : Int → Int} {e : Int} {n : Nat} {nd : ND} {l : Fo} (h : sRd t e n = some (.inr (foC nd (erF l) foN))) : wfF (foC nd l foN) ∧ dpV nd l ≤ 32 ∧ nd.2.2.2 = [] ∧ cnF false (foC nd (erF l) foN) := by
  obtain ⟨nd', l', e1, e2, e3, e4⟩ := sRd_cn h
  cases e1
  exact ⟨wfV_er.mp (sRd_wf h), by rw [dpV_er] at e4; exact e4, e2, e3⟩
/-- a document is put -/
theorem c193 {id : Int} (hd : 80 ≤ d) (h : TWt m M B s c K) (hq : STq n s) (hn : n ≤ 64) : TWi m M B c K (cl d 193 [pR M, pI id] m) (oPut s id) vI := by
  have hz := h.tz
  have y := h.y
  have h0 := h.cd (v := 0)
  have y0 := h0.y
  have e194 := c194 (d := d - 1) (id := id) hz
  unfold oPut
  by_cases q : 0 ≤ id ∧ id < 10000
  · rw [if_neg (fun z => z q)]
    rw [if_pos q] at e194
    have h1 := h0.tape0
    have y1 := h1.y
    have st : ∀ Z, (if b2i s.dk = 0 then (rn d 193 32 [pR M, pI id, pI s.tp.length, pU] [pI 1, pR M] (mst (mst m M 4 0) M 1 0)) else rn d 193 32 [pR M, pI id, pI s.tp.length, pU] [pI 0, pR M] (mst (mst m M 4 0) M 1 0)) = some Z → cl d 193 [pR M, pI id] m = some Z := fun Z hZ => by
      refine q193 (by omega) hz _ ?_
      rw [bI_eq e194, gd_of y.tm, bI_eq (c188_1 hz y.tm), if_neg (by decide), bI_eq (c195 h0), h1.fl.1]
      exact hZ
    cases hdk : s.dk with
    | true =>
      rw [if_pos rfl]
      refine TWi.no (v := 0) h1 (st _ ?_) (by decide) ⟨rfl, rfl⟩
      rw [hdk, if_neg (by decide)]
      exact q193_32 (by omega) h1.tz _ (by rw [gd_of y1.tm, bI_eq (c188_0 h1.tz y1.tm), if_pos rfl])
    | false =>
      rw [if_neg (by decide)]
      have h2 := (h1.cd (v := 0)).place (p := -1)
      have y2 := h2.y
      have hz2 := h2.tz
      have f0 : vl (mst (mst (mst m M 4 0) M 1 0) M 4 0) M 0 = B 0 := (h1.cd (v := 0)).y.f (Or.inl rfl)
      have f19 : vl (mst (mst (mst m M 4 0) M 1 0) M 4 0) M 19 = B 19 := (h1.cd (v := 0)).y.f (by unfold qf; omega)
      have tv : ∀ j, 0 ≤ j → j < (s.tp.length : Int) → vl (mst (mst (mst (mst m M 4 0) M 1 0) M 4 0) M 5 (-1)) (B 0) j = gtp s.tp j := fun j j0 j1 => by
        have nb := y.ba.2.1
        rw [vl_mst, if_neg (fun z => nb z.1), vl_mst, if_neg (fun z => nb z.1), vl_mst, if_neg (fun z => nb z.1), vl_mst, if_neg (fun z => nb z.1)]
        exact h.tp.2.2 j j0 j1
      have t2 := h.tp.2.1
      have tb : tB (gtp s.tp) s.tp.length := fun j j0 j1 => hq.1.2 _ (by
        unfold gtp gi
        rw [List.getD_eq_getElem?_getD, List.getElem?_eq_getElem (show j.toNat < s.tp.length by omega)]
        exact List.getElem_mem _)
      obtain ⟨k1, k2⟩ := yrd (d := d - 1) (f := 19) (a := B 0) (e := s.tp.length) (t := gtp s.tp) (N := 2 * s.tp.length + 10) (Or.inr rfl) (by omega) h2 (Or.inl y2.b0.1) ⟨by omega, by rw [y2.b0.2]; omega, by rw [y2.b0.2]; decide⟩ (by omega) tv tb
      have st2 : ∀ Z, (bI (cl (d - 1) 196 [pR M, pR (B 0), pI s.tp.length, pR (B 19)] (mst (mst (mst (mst m M 4 0) M 1 0) M 4 0) M 5 (-1))) fun v2 m2 => if v2 < 0 then (some (.inl (some (pI 0)), (mst (mst m2 M 5 (vl m2 M 14)) M 4 3))) else bV (cl (d - 1) 209 [pR M] m2) fun m3 => bV (cl (d - 1) 210 [pR M, pR (vl m3 M 19), pI v2] m3) fun m4 => if (vl m4 M 17) = 0 then (if 480 < (vl m4 M 16) then (rn d 193 138 [pR M, pI id, pI s.tp.length, pI v2] [pI 0, pR M] m4) else nm (vl m4 M 8) fun v6 => gd (tg m4 v6 = 12) <| bI (cl (d - 1) 278 [pR v6, pI id] m4) fun v5 m5 => if v5 < 0 then (nm (vl m5 M 8) fun v7 => gd (tg m5 v7 = 12) <| if (vl m5 v7 3) < 100 then (rn d 193 138 [pR M, pI id, pI s.tp.length, pI v2] [pI 1, pR M] m5) else rn d 193 138 [pR M, pI id, pI s.tp.length, pI v2] [pI 0, pR M] m5) else rn d 193 138 [pR M, pI id, pI s.tp.length, pI v2] [pI 1, pR M] m5) else rn d 193 138 [pR M, pI id, pI s.tp.length, pI v2] [pI 0, pR M] m4) = some Z → cl d 193 [pR M, pI id] m = some Z := fun Z hZ => st _ (by
        rw [hdk, if_pos (show b2i false = 0 from rfl)]
        refine q193_32 (by omega) h1.tz _ ?_
        rw [gd_of y1.tm, bI_eq (c188_1 h1.tz y1.tm), if_neg (by decide), gd_of (h1.cd (v := 0)).y.tm, f0, f19]
        exact hZ)
      cases hR : sRdT s.tp with
      | none => exact absurd hR (sRdT_some _)
      | some r =>
        cases r with
        | inl p =>
          obtain ⟨m3, c3, e1, e2, e3, -, e5⟩ := k2 p hR
          refine ⟨mst (mst m3 M 5 p) M 4 3, c3, K, 0, st2 _ (by rw [bI_eq e1, if_pos (by decide), e2]), by rw [vl_mst, if_pos ⟨rfl, rfl⟩], fun z => absurd z (by simp), (e3.place (p := p)).cd, ?_⟩
          unfold CTT; unfold GR at e5
          exact ⟨e5.1, by show nx m3 - nx m ≤ _; have := e5.2.1; have : nx (mst (mst (mst (mst m M 4 0) M 1 0) M 4 0) M 5 (-1)) = nx m := rfl; omega, by show sl m3 - sl m ≤ _; have := e5.2.2; have : sl (mst (mst (mst (mst m M 4 0) M 1 0) M 4 0) M 5 (-1)) = sl m := rfl; omega⟩
        | inr F =>
          obtain ⟨nd, l, rfl, m3, c3, e1, e3, e4, -, e5⟩ := k1 F hR
          obtain ⟨hw, hdp, -⟩ := rd_ok (t := gtp s.tp) (e := s.tp.length) (n := 2 * s.tp.length + 10) hR
          obtain ⟨mb, m4, p1, p2, p3, p4, p5, p6⟩ := ypr (d := d - 1) (by omega) e3 e4 hw hdp
          have epr : prV (hdV (foC nd (erF l) foN)).1 (hdV (foC nd (erF l) foN)).2 = prV nd l := prV_er nd l
          have yb := p2.y
          have y4 := p5.y
          have n4 : nx m4 = nx m3 ∧ sl m4 = sl m3 := ⟨p6.1, p6.2.1⟩
          have n2 : nx (mst (mst (mst (mst m M 4 0) M 1 0) M 4 0) M 5 (-1)) = nx m ∧ sl (mst (mst (mst (mst m M 4 0) M 1 0) M 4 0) M 5 (-1)) = sl m := ⟨rfl, rfl⟩
          have ctt : ∀ m5, nx m5 = nx m4 ∧ sl m5 = sl m4 → CTT m (pcT c K) m5 (pcT c3 K) := fun m5 h5 => by
            unfold CTT; unfold GR at e5; omega
          have st3 : ∀ Z, (if (vl m4 M 17) = 0 then (if 480 < (vl m4 M 16) then (rn d 193 138 [pR M, pI id, pI s.tp.length, pI 0] [pI 0, pR M] m4) else rn d 193 138 [pR M, pI id, pI s.tp.length, pI 0] [pI 1, pR M] m4) else rn d 193 138 [pR M, pI id, pI s.tp.length, pI 0] [pI 0, pR M] m4) = some Z → cl d 193 [pR M, pI id] m = some Z := fun Z hZ => st2 _ (by
            rw [bI_eq e1, if_neg (by decide), bV_eq p1, yb.f (by unfold qf; omega), bV_eq p3]
            by_cases z1 : vl m4 M 17 = 0
            · rw [if_pos z1] at hZ ⊢
              by_cases z2 : 480 < vl m4 M 16
              · rw [if_pos z2] at hZ ⊢; exact hZ
              · rw [if_neg z2] at hZ ⊢
                have sv4 := p5.sv.1
                have f8 : vl m4 M 8 = B 8 := y4.f (by unfold qf; omega)
                obtain ⟨g1, g2⟩ := c278_D (d := d - 1) (id := id) p5.tz sv4
                rw [nm_eq, f8, gd_of sv4.1.1]
                cases hl : lkL id s.now with
                | none =>
                  have dl := hq.2.2.2.1.2.1
                  rw [bI_eq (g1 hl), if_pos (by decide), nm_eq, f8, gd_of sv4.1.1, sv4.2.1, prtD_len, if_pos (show ((((s.wtp []).wpl (-1)).now.length : Nat) : Int) < 100 by show (s.now.length : Int) < 100; omega)]
                  exact hZ
                | some v =>
                  obtain ⟨Ah, C, -, -, g5⟩ := g2 v hl
                  rw [bI_eq g5, if_neg (by omega)]
                  exact hZ
            · rw [if_neg z1] at hZ ⊢; exact hZ)
          have no : ∀ {Z : Rs × Mem}, Z = (.inl (some (pI 0)), mst m4 M 4 4) → rn d 193 138 [pR M, pI id, pI s.tp.length, pI 0] [pI 0, pR M] m4 = some Z := fun hZ => by
            rw [hZ]
            exact q193_138 (by omega) p5.tz _ (by rw [gd_of y4.tm, bI_eq (c188_0 p5.tz y4.tm), if_pos rfl])
          show TWi m M B c K _ (if 480 < (prV (hdV (foC nd (erF l) foN)).1 (hdV (foC nd (erF l) foN)).2).length then _ else _) vI
          rw [epr]
          by_cases hL : 480 < (prV nd l).length
          · rw [if_pos hL]
            refine ⟨mst m4 M 4 4, c3, K, 0, st3 _ ?_, by rw [vl_mst, if_pos ⟨rfl, rfl⟩], fun z => absurd z (by simp), p5.cd, ctt _ ⟨rfl, rfl⟩⟩
            by_cases ho : 32768 < ((prV nd l).length : Int)
            · rw [p4.ovr ho, if_neg (by decide)]; exact no rfl
            · obtain ⟨w1, w2, -⟩ := p4.len (by omega)
              rw [w1, if_pos rfl, w2, if_pos (by omega)]; exact no rfl
          · rw [if_neg hL]
            obtain ⟨w1, w2, w3⟩ := p4.len (by omega)
            have h5 := p5.cd (v := 0)
            have y5 := h5.y
            have sv5 := h5.sv.1
            have f8 : vl (mst m4 M 4 0) M 8 = B 8 := y5.f (by unfold qf; omega)
            have f15 : vl (mst m4 M 4 0) M 15 = B 15 := y5.f (by unfold qf; omega)
            have f15' : vl m4 M 15 = B 15 := y4.f (by unfold qf; omega)
            have f16 : vl (mst m4 M 4 0) M 16 = (prV nd l).length := by rw [vl_mst, if_neg (by omega)]; exact w2
            have n15 : B 15 ≠ M := y5.ba.2.2.2.1
            have ins : prtD (insL id (nd, erF l) s.now) = insL id (prV nd l) (prtD s.now) := by
              have : prtD (insL id (nd, erF l) s.now) = insL id (prV nd (erF l)) (prtD s.now) := insL_mp
              rw [this, prV_er]
            have st4 : ∀ Z, (if (if s.ct < 0 ∨ s.ct = 3 then (1 : Int) else 0) = 0 then (rn d 193 170 [pR M, pI id, pI s.tp.length, pI 0] [] (mst m4 M 4 0)) else bV (cl (d - 1) 279 [pR (B 8), pI id, pR (B 15), pI (prV nd l).length] (mst m4 M 4 0)) fun m3 => rn d 193 170 [pR M, pI id, pI s.tp.length, pI 0] [] m3) = some Z → cl d 193 [pR M, pI id] m = some Z := fun Z hZ => st3 _ (by
              rw [w1, if_pos rfl, w2, if_neg (by omega)]
              refine q193_138 (by omega) p5.tz _ ?_
              rw [gd_of y4.tm, bI_eq (c188_1 p5.tz y4.tm), if_neg (by decide), gd_of y5.tm, bI_eq (c215 h5), nm_eq, f8, gd_of sv5.1.1, f15, f16]
              exact hZ)
            obtain ⟨m6, k1', k2', k3'⟩ : ∃ m6, (∀ Z : Rs × Mem, rn d 193 170 [pR M, pI id, pI s.tp.length, pI 0] [] m6 = some Z → cl d 193 [pR M, pI id] m = some Z) ∧ TWt m6 M B (((s.wtp []).wpl (-1)).tp, s.res, -1, s.dk, s.ct, (if s.ct < 0 ∨ s.ct = 3 then insL id (nd, erF l) s.now else s.now), s.rd, s.ix) c3 K ∧ nx m6 = nx m4 ∧ sl m6 = sl m4 := by
              by_cases z : s.ct < 0 ∨ s.ct = 3
              · have dl := hq.2.2.2.1.2.1
                obtain ⟨m6, x1, x2, x3, x4⟩ := c279 (d := d - 1) (id := id) (arr := B 15) (ys := prV nd l) (by omega) h5.tz sv5 (srt_mp.mpr hq.2.2.2.1.1) (by omega) (prV_asc hw).by ⟨Or.inl y5.b15.1, by rw [y5.b15.2]; omega⟩ (fun j j0 j1 => by rw [vl_mst, if_neg (fun z => n15 z.1), ← f15']; exact w3 j j0 j1) (fun z => by have := stS_tg sv5.1 _ z; rw [y5.b15.1] at this; unfold stA at this; omega) (fun _ => by rw [prtD_len]; show (s.now.length : Int) < 100; omega)
                refine ⟨m6, fun Z hZ => st4 Z (by rw [if_pos z, if_neg (by decide), bV_eq x1]; exact hZ), ?_, x2.1, x2.2.1⟩
                rw [if_pos z]
                exact h5.nowc (D' := insL id (nd, erF l) s.now) x2 x3 (by rw [ins]; exact x4) rfl
              · exact ⟨mst m4 M 4 0, fun Z hZ => st4 Z (by rw [if_neg z, if_pos rfl]; exact hZ), by rw [if_neg z]; exact h5, rfl, rfl⟩
            obtain ⟨m7, z1, z2, z3, z4, z5⟩ := c216 (d := d - 1) (s := (s.wtp []).wpl (-1)) (D := insL id (nd, erF l) s.now) (by omega) k2'
            have y6 := k2'.y
            have y7 := z2.y
            have sv7 := z2.sv.1
            show TWi m M B c K _ (if s.ct < 0 then _ else _) vI
            by_cases hc : s.ct < 0
            · rw [if_pos (show ((s.wtp []).wpl (-1)).ct < 0 from hc)] at z1 z3
              rw [if_pos hc]
              have en : (((s.wtp []).wpl (-1)).com (insL id (nd, erF l) s.now)).now = insL id (nd, erF l) s.now := by show (if s.ct < 0 ∨ s.ct = 3 then insL id (nd, erF l) s.now else s.now) = _; rw [if_pos (Or.inl hc)]
              refine ⟨m7, c3, K, _, k1' _ (q193_170 (by omega) k2'.tz _ ?_), z3, fun _ => rfl, z2, ctt _ ⟨by rw [z4, k3'.1], by rw [z5, k3'.2]⟩⟩
              rw [gd_of y6.tm, bI_eq z1, if_neg (by decide), nm_eq, y7.f (by unfold qf; omega), gd_of sv7.1.1, sv7.2.1, prtD_len, en]
              rfl
            · rw [if_neg (show ¬ ((s.wtp []).wpl (-1)).ct < 0 from hc)] at z1 z3
              rw [if_neg hc]
              exact ⟨m7, c3, K, 0, k1' _ (q193_170 (by omega) k2'.tz _ (by rw [gd_of y6.tm, bI_eq z1, if_pos rfl])), z3, fun z => absurd z (by simp), z2, ctt _ ⟨by rw [z4, k3'.1], by rw [z5, k3'.2]⟩⟩
  · rw [if_pos q]
    rw [if_neg q] at e194
    exact TWi.no (v := 0) h (q193 (by omega) hz _ (by rw [bI_eq e194, gd_of y.tm, bI_eq (c188_0 hz y.tm), if_pos rfl])) (by decide) ⟨rfl, rfl⟩
end
