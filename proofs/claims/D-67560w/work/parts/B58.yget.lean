/-! the twin: opening, closing, getting, taking out -/
set_option maxRecDepth 100000
set_option maxHeartbeats 4000000
/-- a store holds one list alone -/
theorem EnL.uniq {m : Mem} {t : Int} : ∀ {L L' : List (Int × List Int)} {i : Int}, EnL m t i L → EnL m t i L' → L.length = L'.length → L = L' := by
  intro L
  induction L with
  | nil =>
    intro L' i _ _ hl
    cases L' with
    | nil => rfl
    | cons x L' => cases hl
  | cons x L ih =>
    intro L' i h h' hl
    cases L' with
    | nil => cases hl
    | cons x' L' =>
      have ex : x = x' := by
        obtain ⟨a1, a2, a3, a4⟩ := h.1
        obtain ⟨b1, b2, b3, b4⟩ := h'.1
        have hl2 : x.2.length = x'.2.length := by omega
        refine Prod.ext (a1.symm.trans b1) (List.ext_getElem hl2 fun j j0 j1 => ?_)
        have p := a4 j (by omega) (by omega)
        have q := b4 j (by omega) (by omega)
        rw [p] at q
        unfold gi at q
        rw [Int.toNat_natCast, List.getD_eq_getElem?_getD, List.getD_eq_getElem?_getD, List.getElem?_eq_getElem j0, List.getElem?_eq_getElem j1] at q
        exact q
      rw [ex, ih h.2 h'.2 (by simpa using hl)]
theorem SVs.uniq {m : Mem} {t : Int} {L L' : List (Int × List Int)} (h : SVs m t L) (h' : SVs m t L') : L = L' := EnL.uniq h.2.2.2 h'.2.2.2 (by have := h.2.1; have := h'.2.1; omega)
section
variable {d n : Nat} {m m1 : Mem} {M : Int} {B : Int → Int} {s : St} {c : Int → Int} {K : Int} {f : Int → Option PV}
theorem TWi.pre {X Y : RM} {an : Ans} (h : TWi m M B c K X an f) (hXY : ∀ Z, X = some Z → Y = some Z) : TWi m M B c K Y an f := by
  obtain ⟨m', c', K', v, e, r⟩ := h
  exact ⟨m', c', K', v, hXY _ e, r⟩
/-- nothing was made before -/
theorem TWi.at {Q : RM} {an : Ans} (h : TWi m1 M B c K Q an f) (hm : nx m1 = nx m ∧ sl m1 = sl m) : TWi m M B c K Q an f := by
  obtain ⟨m', c', K', v, e, r1, r2, r3, r4⟩ := h
  exact ⟨m', c', K', v, e, r1, r2, r3, by unfold CTT at *; omega⟩
/-- a version: it isn't there -/
theorem c219_n {r : Int} (hd : 1 ≤ d) (h : TWt m M B s c K) (hr : -1 ≤ r ∧ r < 8) (hn : s.dk = true ∨ s.ver r = none) : cl d 219 [pR M, pI r] m = some (.inl (some (pR 0)), mst m M 4 2) := by
  have hz := h.tz
  have y := h.y
  have st : rn d 219 29 [pR M, pI r] [pI 0, pR M] m = some (.inl (some (pR 0)), mst m M 4 2) := by
    refine q219_29 (by omega) hz _ ?_
    rw [gd_of y.tm, bI_eq (c188_0 hz y.tm), if_pos rfl]
  refine q219 hz _ ?_
  rw [gd_of y.tm, h.fl.1]
  cases hdk : s.dk with
  | true => rw [if_neg (by decide), st]
  | false =>
    rw [if_pos (show b2i false = 0 from rfl)]
    rcases hn with hn | hn
    · rw [hdk] at hn; cases hn
    · unfold St.ver at hn
      by_cases q : r < 0
      · rw [if_pos q] at hn; cases hn
      · rw [if_neg q] at hn
        obtain ⟨b1, b2, L, b3, -⟩ := h.sv.2.1 r (by omega) hr.2
        rw [if_neg q, nm_eq, y.f (by unfold qf; omega), gd_of y.b9.1, gd_of ⟨by omega, by rw [y.b9.2]; omega⟩, nm_eq, b1, gd_of b3.1.1, b2, hn, if_pos (show b2i (none : Option DC).isSome = 0 from rfl), st]
/-- a version -/
theorem c219_s {r : Int} {D : DC} (hd : 1 ≤ d) (h : TWt m M B s c K) (hr : -1 ≤ r ∧ r < 8) (hk : s.dk = false) (hs : s.ver r = some D) : cl d 219 [pR M, pI r] m = some (.inl (some (pR (vB B r))), mst m M 4 0) ∧ SVs m (vB B r) (prtD D) ∧ vB B r ≠ 0 := by
  have hz := h.tz
  have y := h.y
  have y0 := (h.cd (v := 0)).y
  have tz0 : ∀ a, tg m a = 12 → a ≠ 0 := fun a ha z => by rw [z] at ha; have := h.ok.2.1; omega
  unfold St.ver at hs
  by_cases q : r < 0
  · rw [if_pos q] at hs
    cases hs
    rw [vB_n q]
    refine ⟨q219 hz _ ?_, h.sv.1, tz0 _ h.sv.1.1.1⟩
    rw [gd_of y.tm, h.fl.1, hk, if_pos (show b2i false = 0 from rfl), if_pos q]
    refine q219_29 (by omega) hz _ ?_
    rw [gd_of y.tm, bI_eq (c188_1 hz y.tm), if_neg (by decide), if_pos q, gd_of y0.tm, y0.f (by unfold qf; omega)]
  · rw [if_neg q] at hs
    obtain ⟨b1, b2, L, b3, b4⟩ := h.sv.2.1 r (by omega) hr.2
    obtain ⟨w1, -, -, -⟩ := (h.cd (v := 0)).sv.2.1 r (by omega) hr.2
    rw [vB_p (by omega)]
    refine ⟨q219 hz _ ?_, b4 D hs ▸ b3, tz0 _ b3.1.1⟩
    rw [gd_of y.tm, h.fl.1, hk, if_pos (show b2i false = 0 from rfl), if_neg q, nm_eq, y.f (by unfold qf; omega), gd_of y.b9.1, gd_of ⟨by omega, by rw [y.b9.2]; omega⟩, nm_eq, b1, gd_of b3.1.1, b2, hs, if_neg (show ¬ b2i (some D).isSome = 0 from (by decide : ¬ b2i true = 0))]
    refine q219_29 (by omega) hz _ ?_
    rw [gd_of y.tm, bI_eq (c188_1 hz y.tm), if_neg (by decide), if_neg q, gd_of y0.tm, nm_eq, y0.f (by unfold qf; omega), gd_of y0.b9.1, gd_of ⟨by omega, by rw [y0.b9.2]; omega⟩, w1]
theorem EnS.sf {S : Int → Int → Prop} {t i : Int} {x : Int × List Int} (he : EnS m t i x) (hA : SA m t) (hi : 0 ≤ i ∧ i < 100) (k : SFr S m m1) (hz : TZ m) (hS : (∀ f, 0 ≤ f → f < 3 → ¬ S t f) ∧ ∀ a j, stA (tg m a) → ¬ S a j) : EnS m1 t i x := by
  obtain ⟨f1, f2, f3, f4⟩ := he
  have g : ∀ f, 0 ≤ f → f < 3 → vl m1 t f = vl m t f := fun f f0 f1 => k.v hz (by have := hA.1; omega) (hS.1 f f0 f1)
  have tj := (hA.2.2.2.2.2 i hi.1 hi.2).2
  have t0 := hA.2.1
  have t1 := hA.2.2.1
  exact ⟨by rw [g 0 (by decide) (by decide), k.v hz (by omega) (hS.2 _ _ (by unfold stA; omega))]; exact f1, by rw [g 1 (by decide) (by decide), k.v hz (by omega) (hS.2 _ _ (by unfold stA; omega))]; exact f2, f3, fun q q0 q1 => by rw [g 2 (by decide) (by decide), k.v hz (by omega) (hS.2 _ _ (by unfold stA; omega))]; exact f4 q q0 q1⟩
/-- an answer's bytes are copied -/
theorem c218_86 {a1 a2 a4 t : Int} {x : Int × List Int} (hx : 0 ≤ a4 ∧ a4 < 100) : ∀ (N : Nat) (m : Mem) (k : Int), ((x.2.length : Int) - k).toNat = N → 0 ≤ k → k ≤ x.2.length → TZ m → YP m M B → SA m t → EnS m t a4 x → vl m M 3 = x.2.length → ∃ m', rn d 218 86 [pR M, pI a1, pI a2, pR t, pI a4, pI k] [] m = some (.inl (some (pI x.2.length)), m') ∧ NC (· = B 2) m m' ∧ (∀ j, k ≤ j → j < x.2.length → vl m' (B 2) j = gi x.2 j) ∧ ∀ j, j < k → vl m' (B 2) j = vl m (B 2) j := by
  intro N
  induction N with
  | zero =>
    intro m k hN k0 k1 hz y hA he h3
    refine ⟨m, q218_86 hz _ ?_, NC.refl, fun j j0 j1 => by omega, fun _ _ => rfl⟩
    rw [gd_of y.tm, nm_eq, h3, if_neg (by omega)]
  | succ N ih =>
    intro m k hN k0 k1 hz y hA he h3
    have hl := he.2.2.1.1
    have hb := he.2.2.1.2 (gi x.2 k) (by
      unfold gi
      rw [List.getD_eq_getElem?_getD, List.getElem?_eq_getElem (show k.toNat < x.2.length by omega)]
      exact List.getElem_mem _)
    have hv := he.2.2.2 k k0 (by omega)
    have k' : NC (· = B 2) m (mst m (B 2) k (gi x.2 k)) := NC.set rfl
    have S2 := SFr.nc k'
    have t2 := y.b2.1
    have nst : ∀ a, stA (tg m a) → a ≠ B 2 := fun a ha z => by rw [z] at ha; unfold stA at ha; omega
    have n12 : t ≠ B 2 := fun z => by have := hA.1; rw [z] at this; omega
    have y' := y.sf S2 hz fun f _ => y.ba.2.2.1.symm
    have hA' := (hA.sf S2 hz ⟨fun f _ _ => n12, fun a _ ha => nst a ha⟩).1
    have he' := he.sf hA hx S2 hz ⟨fun f _ _ => n12, fun a _ ha => nst a ha⟩
    obtain ⟨m', e1, e2, e3, e4⟩ := ih _ (k + 1) (by omega) (by omega) (by omega) (k'.tz hz) y' hA' he' (by rw [vl_mst, if_neg (fun z => y.ba.2.2.1 z.1.symm)]; exact h3)
    obtain ⟨a1', a2', a3', a4', a5', a6'⟩ := hA
    refine ⟨m', q218_86 hz _ ?_, k'.trans e2, fun j j0 j1 => ?_, fun j j0 => ?_⟩
    · rw [gd_of y.tm, nm_eq, h3, if_pos (by omega), nm_eq, y.f (by unfold qf; omega), gd_of a1', nm_eq, gd_of a5'.1, gd_of ⟨hx.1, by rw [a5'.2]; exact hx.2⟩, nm_eq, (a6' a4 hx.1 hx.2).1, gd_of (a6' a4 hx.1 hx.2).2.1, gd_of ⟨k0, by rw [(a6' a4 hx.1 hx.2).2.2]; omega⟩, gd_of y.b2.1, gd_of ⟨k0, by rw [y.b2.2]; omega⟩, hv, w8_of hb.1 hb.2, (w32_of (by omega) (by omega) : w32 (k + 1) = k + 1)]
      exact e1
    · by_cases z : j = k
      · rw [z, e4 k (by omega), vl_mst, if_pos ⟨rfl, rfl⟩]
      · exact e3 j (by omega) j1
    · rw [e4 j (by omega), vl_mst, if_neg (fun z => by omega)]
theorem SFr.trans {S S' : Int → Int → Prop} {m2 : Mem} (h : SFr S m m1) (h' : SFr S' m1 m2) : SFr (fun a j => S a j ∨ S' a j) m m2 := ⟨h.1.trans h'.1, fun a j ha hj => by rw [h'.2 a j (Int.lt_of_lt_of_le ha h.1.2.1) (fun z => hj (Or.inr z)), h.2 a j ha (fun z => hj (Or.inl z))]⟩
/-- the answer is another -/
theorem TWt.res {res : List Int} {w : Int} (h : TWt m M B s c K) (k : NC (· = B 2) (mst m M 3 w) m1) (hw : w = res.length) (hl : (res.length : Int) ≤ 32768) (hb : ∀ b ∈ res, -128 ≤ b ∧ b < 128) (hv : ∀ j : Int, 0 ≤ j → j < res.length → vl m1 (B 2) j = gi res j) : TWt m1 M B (s.wres res) c K := by
  have y := h.y
  have hz := h.tz
  have hm := y.tm
  have t2 := y.b2.1
  have nb := y.ba
  obtain ⟨q, hq⟩ := h.qa
  have S1 : SFr (fun a j => a = M ∧ j = 3) m (mst m M 3 w) := SFr.mst
  have S2 := S1.trans (SFr.nc k)
  have b0 : BTm (mst m M 3 w) := h.1.mst (by omega)
  have e13 : ∀ a, tg m a = 13 → ∀ f, vl m1 a f = vl (mst m M 3 w) a f := fun a ha f => k.2.2.2 a f fun z => by rw [z] at ha; omega
  have no : ∀ (a f : Int), (tg m a ≠ 11 ∧ tg m a ≠ 186103) → ¬ ((a = M ∧ f = 3) ∨ a = B 2) := fun a f ha z => by
    rcases z with z | z
    · rw [z.1] at ha; exact ha.1 hm
    · rw [z] at ha; exact ha.2 t2
  have b1 : BTm m1 := ⟨(SFr.nc k).ok b0.1, ⟨fun t f ht hf => by rw [(k.2.2.1 t).1] at ht; rw [e13 t ht, k.1]; exact b0.2.1.1 t f ht hf, fun t t' f f' ht ht' hf hf' hne h0 => by
    rw [(k.2.2.1 _).1] at ht ht'
    rw [e13 t ht] at h0
    rw [e13 t ht, e13 t' ht']
    exact b0.2.1.2 t t' f f' ht ht' hf hf' hne h0⟩, fun a => by rw [(k.2.2.1 a).2]; exact b0.2.2.1 a, S2.str h.1.2.2.2 hz fun a f ha => no a f (by unfold tyFx tyA stA at ha; omega)⟩
  have nM : ∀ f : Int, f ≠ 3 → ¬ ((M = M ∧ f = 3) ∨ M = B 2) := fun f hf z => by
    rcases z with z | z
    · exact hf z.2
    · exact nb.2.2.1 z.symm
  refine h.gen2 (s' := s.wres res) S2 b1 (fun f hf => nM f (by unfold qf at hf; omega)) (fun a f ha => no a f (by unfold tyFx tyA stA at ha; omega)) (h.tp.sf y S2 hz (nM 1 (by decide)) fun j z => ?_) ⟨?_, hl, hb, hv⟩ (h.fl.sf y S2 hz ⟨nM 5 (by decide), nM 6 (by decide), nM 7 (by decide)⟩) (h.tr.sf S2 hz ⟨fun a f ha _ _ => no a f (by omega), fun a j ha => no a j (by unfold trA at ha; omega)⟩) ⟨q, hq.sf S2 hz ⟨nM 27 (by decide), nM 28 (by decide), nM 29 (by decide), nM 32 (by decide)⟩⟩ ⟨rfl, rfl, rfl⟩
  · rcases z with z | z
    · exact nb.2.1 z.1
    · exact nb.1.1 z
  · show vl m1 M 3 = res.length
    rw [k.2.2.2 M 3 (fun z => nb.2.2.1 z.symm), vl_mst, if_pos ⟨rfl, rfl⟩, hw]
theorem rmL_spl {α : Type} {id : Int} {b : α} {A C : List (Int × α)} (h : ∀ x ∈ A, x.1 ≠ id) : rmL id (A ++ (id, b) :: C) = A ++ C := by
  rw [rmL_mid h]
  show A ++ (if id = id then C else _) = _
  rw [if_pos rfl]
/-- what stands in a store -/
theorem c278_D {id t : Int} {D : DC} (hz : TZ m) (h : SVs m t (prtD D)) : (lkL id D = none → cl d 278 [pR t, pI id] m = some (.inl (some (pI (-1))), m)) ∧ ∀ v, lkL id D = some v → ∃ A C, prtD D = A ++ (id, prV v.1 v.2) :: C ∧ (∀ x ∈ A, x.1 ≠ id) ∧ cl d 278 [pR t, pI id] m = some (.inl (some (pI A.length)), m) := by
  refine ⟨fun hn => c278_n hz h ?_, fun v hv => ?_⟩
  · refine lkL_none.mp ?_
    unfold prtD
    rw [lkL_mp, hn]; rfl
  · have e : lkL id (prtD D) = some (prV v.1 v.2) := by unfold prtD; rw [lkL_mp, hv]; rfl
    obtain ⟨A, C, hD, hA⟩ := lkL_spl e
    refine ⟨A, C, hD, hA, ?_⟩
    rw [hD] at h
    exact c278_s hz h rfl hA
/-- a document is got -/
theorem c218 {r id : Int} (hd : 2 ≤ d) (h : TWt m M B s c K) (hq : STq n s) : TWi m M B c K (cl d 218 [pR M, pI r, pI id] m) (oGet s r id) vI := by
  have hz := h.tz
  have y := h.y
  have h0 := h.cd (v := 0)
  have y0 := h0.y
  have no : ∀ w, ¬ ((-1 ≤ r ∧ r < 8) ∧ 0 ≤ id ∧ id < 10000) → TWi m M B c K w (1, 0, s) vI → TWi m M B c K w (oGet s r id) vI := fun w hn hw => by unfold oGet; rw [if_pos hn]; exact hw
  have n0 : TWi m M B c K (rn d 218 24 [pR M, pI r, pI id, pU, pU, pU] [pI 0, pR M] m) (1, 0, s) vI := TWi.no (v := 0) h (q218_24 (by omega) hz _ (by rw [gd_of y.tm, bI_eq (c188_0 hz y.tm), if_pos rfl])) (by decide) ⟨rfl, rfl⟩
  by_cases q1 : r < -1
  · exact no _ (by omega) (n0.pre fun Z hZ => q218 (by omega) hz _ (by rw [if_pos q1]; exact hZ))
  by_cases q2 : 7 < r
  · exact no _ (by omega) (n0.pre fun Z hZ => q218 (by omega) hz _ (by rw [if_neg q1, if_pos q2]; exact hZ))
  by_cases q3 : 0 ≤ id ∧ id < 10000
  · have e194 := c194 (d := d - 1) (id := id) hz
    rw [if_pos q3] at e194
    have st : ∀ Z, (bR (cl (d - 1) 219 [pR M, pI r] (mst m M 4 0)) fun v2 m2 => if v2 = 0 then (some (.inl (some (pI 0)), m2)) else gd (tg m2 v2 = 12) <| bI (cl (d - 1) 278 [pR v2, pI id] m2) fun v3 m3 => if v3 < 0 then (rn d 218 63 [pR M, pI r, pI id, pR v2, pI v3, pU] [pI 0, pR M] m3) else rn d 218 63 [pR M, pI r, pI id, pR v2, pI v3, pU] [pI 1, pR M] m3) = some Z → cl d 218 [pR M, pI r, pI id] m = some Z := fun Z hZ => by
      refine q218 (by omega) hz _ ?_
      rw [if_neg q1, if_neg q2, bI_eq e194, if_neg (by decide)]
      refine q218_24 (by omega) hz _ ?_
      rw [gd_of y.tm, bI_eq (c188_1 hz y.tm), if_neg (by decide), gd_of y0.tm]
      exact hZ
    unfold oGet
    rw [if_neg (fun z => z ⟨⟨by omega, by omega⟩, q3⟩)]
    have dead : s.dk = true ∨ s.ver r = none → TWi m M B c K (cl d 218 [pR M, pI r, pI id] m) (2, 0, s) vI := fun hn => TWi.no (v := 0) h0 (st _ (by rw [bR_eq (c219_n (by omega) h0 ⟨by omega, by omega⟩ hn), if_pos rfl])) (by decide) ⟨rfl, rfl⟩
    cases hdk : s.dk with
    | true => rw [if_pos rfl]; exact dead (Or.inl hdk)
    | false =>
      rw [if_neg (by decide)]
      cases hv : s.ver r with
      | none => exact dead (Or.inr hv)
      | some D =>
        obtain ⟨g1, g2, g3⟩ := c219_s (d := d - 1) (by omega) h0 ⟨by omega, by omega⟩ hdk hv
        have h1 := h0.cd (v := 0)
        have y1 := h1.y
        have g2' : SVs (mst (mst m M 4 0) M 4 0) (vB B r) (prtD D) := g2.sf (SFr.mst (M := M) (f := 4) (v := 0)) h0.tz ⟨fun f _ _ z => by omega, fun a j ha z => by rw [z.1, y0.tm] at ha; unfold stA at ha; omega⟩
        obtain ⟨f1, f2⟩ := c278_D (d := d - 1) (id := id) h1.tz g2'
        have hD : DCK n D := by
          unfold St.ver at hv
          split at hv
          · cases hv; exact hq.2.2.2.1
          · exact hq.2.2.2.2.1 r D hv
        dsimp only
        cases hl : lkL id D with
        | none =>
          dsimp only
          refine TWi.no (v := 0) h1 (st _ ?_) (by decide) ⟨rfl, rfl⟩
          rw [bR_eq g1, if_neg g3, gd_of g2'.1.1, bI_eq (f1 hl), if_pos (by decide)]
          refine q218_63 (by omega) h1.tz _ ?_
          rw [gd_of y1.tm, bI_eq (c188_0 h1.tz y1.tm), if_pos rfl]
        | some v =>
          obtain ⟨Ah, C, e1, e2, e3⟩ := f2 v hl
          have h2 := h1.cd (v := 0)
          have y2 := h2.y
          have g2'' : SVs (mst (mst (mst m M 4 0) M 4 0) M 4 0) (vB B r) (prtD D) := g2'.sf (SFr.mst (M := M) (f := 4) (v := 0)) h1.tz ⟨fun f _ _ z => by omega, fun a j ha z => by rw [z.1, y1.tm] at ha; unfold stA at ha; omega⟩
          rw [e1] at g2''
          obtain ⟨A1, A2, A3, A4⟩ := g2''
          have en := (EnL.app.mp A4).2
          rw [Int.zero_add] at en
          have en := en.1
          rw [List.length_append, List.length_cons] at A3
          push_cast at A3
          have ai : 0 ≤ (Ah.length : Int) ∧ (Ah.length : Int) < 100 := by omega
          have k1 : SFr (fun a j => a = M ∧ j = 3) (mst (mst (mst m M 4 0) M 4 0) M 4 0) (mst (mst (mst (mst m M 4 0) M 4 0) M 4 0) M 3 (prV v.1 v.2).length) := SFr.mst
          have nst : ∀ a, stA (tg (mst (mst (mst m M 4 0) M 4 0) M 4 0) a) → a ≠ M := fun a ha z => by rw [z, y2.tm] at ha; unfold stA at ha; omega
          have n12 : vB B r ≠ M := fun z => by have := A1.1; rw [z, y2.tm] at this; omega
          obtain ⟨m', p1, p2, p3, -⟩ := c218_86 (d := d) (M := M) (B := B) (a1 := r) (a2 := id) (x := (id, prV v.1 v.2)) ai (prV v.1 v.2).length (mst (mst (mst (mst m M 4 0) M 4 0) M 4 0) M 3 (prV v.1 v.2).length) 0 (by show ((((prV v.1 v.2).length : Nat) : Int) - 0).toNat = _; omega) (by decide) (by show (0 : Int) ≤ ((prV v.1 v.2).length : Nat); omega) h2.tz (y2.sf k1 h2.tz fun f hf z => by unfold qf at hf; omega) ((A1.sf k1 h2.tz ⟨fun f _ _ z => n12 z.1, fun a _ ha z => nst a ha z.1⟩).1) (en.sf A1 ai k1 h2.tz ⟨fun f _ _ z => n12 z.1, fun a _ ha z => nst a ha z.1⟩) (by rw [vl_mst, if_pos ⟨rfl, rfl⟩])
          have hk := hD.lk hl
          have h3 := h2.res (res := prV v.1 v.2) p2 rfl (by have := hk.2.2; omega) (prV_asc hk.1.1.2.2.1).by fun j j0 j1 => p3 j j0 j1
          dsimp only
          refine TWi.ok (m := m) h3 (st _ ?_) ?_ ⟨p2.1, p2.2.1⟩
          · rw [bR_eq g1, if_neg g3, gd_of g2'.1.1, bI_eq e3, if_neg (by omega)]
            refine q218_63 (by omega) h1.tz _ ?_
            rw [gd_of y1.tm, bI_eq (c188_1 h1.tz y1.tm), if_neg (by decide), gd_of A1.1, nm_eq, gd_of A1.2.2.1.1, gd_of ⟨ai.1, by rw [A1.2.2.1.2]; exact ai.2⟩, gd_of y2.tm, en.2.1]
            exact p1
          · rw [p2.2.2.2 M 4 (fun z => y2.ba.2.2.1 z.symm), vl_mst, if_neg (by omega), vl_mst, if_pos ⟨rfl, rfl⟩]
  · have e194 := c194 (d := d - 1) (id := id) hz
    rw [if_neg q3] at e194
    exact no _ (by omega) (n0.pre fun Z hZ => q218 (by omega) hz _ (by rw [if_neg q1, if_neg q2, bI_eq e194, if_pos rfl]; exact hZ))
/-- a version is opened -/
theorem c222 {r : Int} (hd : 2 ≤ d) (h : TWt m M B s c K) : TWi m M B c K (cl d 222 [pR M, pI r] m) (oOpen s r) vN := by
  have hz := h.tz
  have y := h.y
  have h0 := h.cd (v := 0)
  have y0 := h0.y
  have n0 : TWi m M B c K (rn d 222 16 [pR M, pI r] [pI 0, pR M] m) (1, 0, s) vN := TWi.no (v := 0) h (q222_16 (by omega) hz _ (by rw [gd_of y.tm, bI_eq (c188_0 hz y.tm), if_pos rfl])) (by decide) ⟨rfl, rfl⟩
  unfold oOpen
  by_cases q : 0 ≤ r ∧ r < 8
  · rw [if_neg (fun z => z q)]
    obtain ⟨b1, b2, L, b3, b4⟩ := h0.sv.2.1 r q.1 q.2
    have st : ∀ Z, (if b2i s.dk = 0 then (if b2i (s.rd r).isSome = 0 then (rn d 222 48 [pR M, pI r] [pI 1, pR M] (mst m M 4 0)) else rn d 222 48 [pR M, pI r] [pI 0, pR M] (mst m M 4 0)) else rn d 222 48 [pR M, pI r] [pI 0, pR M] (mst m M 4 0)) = some Z → cl d 222 [pR M, pI r] m = some Z := fun Z hZ => by
      refine q222 hz _ ?_
      rw [if_neg (by omega), if_neg (by omega)]
      refine q222_16 (by omega) hz _ ?_
      rw [gd_of y.tm, bI_eq (c188_1 hz y.tm), if_neg (by decide), gd_of y0.tm, h0.fl.1]
      by_cases z : b2i s.dk = 0
      · rw [if_pos z] at hZ ⊢
        rw [nm_eq, y0.f (by unfold qf; omega), gd_of y0.b9.1, gd_of ⟨q.1, by rw [y0.b9.2]; exact q.2⟩, nm_eq, b1, gd_of b3.1.1, b2]
        exact hZ
      · rw [if_neg z] at hZ ⊢
        exact hZ
    have n2 : rn d 222 48 [pR M, pI r] [pI 0, pR M] (mst m M 4 0) = some (.inl none, mst (mst m M 4 0) M 4 2) := q222_48 (by omega) h0.tz _ (by rw [gd_of y0.tm, bI_eq (c188_0 h0.tz y0.tm), if_pos rfl])
    cases hdk : s.dk with
    | true =>
      rw [if_pos (Or.inl rfl)]
      exact TWi.no (v := 0) h0 (st _ (by rw [hdk, if_neg (by decide)]; exact n2)) (by decide) ⟨rfl, rfl⟩
    | false =>
      cases hr : s.rd r with
      | some D0 =>
        rw [if_pos (show (false = true ∨ (some D0).isSome = true) from Or.inr rfl)]
        exact TWi.no (v := 0) h0 (st _ (by rw [hdk, if_pos (show b2i false = 0 from rfl), hr, if_neg (show ¬ b2i (some D0).isSome = 0 from (by decide : ¬ b2i true = 0))]; exact n2)) (by decide) ⟨rfl, rfl⟩
      | none =>
        rw [if_neg (by simp)]
        have h1 := h0.cd (v := 0)
        have y1 := h1.y
        have sv1 := h1.sv
        obtain ⟨w1, w2, L', w3, w4⟩ := sv1.2.1 r q.1 q.2
        have dj := sv1.2.2 r (-1) (by omega) q.2 (by decide) (by decide) (by omega)
        rw [vB_p q.1, vB_n (by decide)] at dj
        obtain ⟨m2, e1, e2, e3, e4⟩ := c282 (d := d - 1) (by omega) h1.tz w3 sv1.1 dj
        have u := sv1.upd (m1 := m2) (j0 := r) y1 (by omega) q.2 (by rw [vB_p q.1]; exact e2) (by rw [vB_p q.1]; exact e3)
        obtain ⟨u1, u2, u3, u4⟩ := u
        have sv2 : SVY m2 B s.now s.rd := by
          refine ⟨?_, fun k k0 k1 => ?_, u3⟩
          · have := u1 (-1) (by decide) (by decide) (by omega) (prtD s.now) (by rw [vB_n (by decide)]; exact sv1.1)
            rw [vB_n (by decide)] at this
            exact this
          · obtain ⟨x1, x2, L2, x3, x4⟩ := sv1.2.1 k k0 k1
            have f4 := u2 k (by omega) k1 4 (by decide)
            rw [vB_p k0] at f4
            refine ⟨by rw [u4]; exact x1, by rw [f4]; exact x2, ?_⟩
            by_cases z : k = r
            · rw [z]; exact ⟨_, e4, fun D hD => by rw [hr] at hD; cases hD⟩
            · have := u1 k (by omega) k1 z L2 (by rw [vB_p k0]; exact x3)
              rw [vB_p k0] at this
              exact ⟨L2, this, x4⟩
        have h2 : TWt m2 M B s c K := h1.sto (SFr.nc e2) e2.1 (fun a => (e2.2.2.1 a).2) (fun a => (e2.2.2.1 a).1) (fun a f z => stS_tg w3.1 a z) sv2 ⟨rfl, rfl, ⟨rfl, rfl, rfl⟩, rfl⟩
        have y2 := h2.y
        have h3 := h2.opn (k := r) (v := 1) (rd' := fun k => if k = r then some s.now else s.rd k) q.1 q.2 (by (try dsimp only); rw [if_pos rfl]; rfl) (fun L3 hL3 _ D hD => by
          try dsimp only at hD
          rw [if_pos rfl] at hD
          cases hD
          -- the store holds what is there now
          have a3 := hL3.2.1
          have a4 := e4.2.1
          exact SVs.uniq hL3 e4) (fun j _ _ hj => if_neg hj)
        refine TWi.ok (v := 0) h3 (st _ ?_) ?_ ⟨e2.1, e2.2.1⟩
        · rw [hdk, if_pos (show b2i false = 0 from rfl), hr, if_pos (show b2i (none : Option DC).isSome = 0 from rfl)]
          refine q222_48 (by omega) h0.tz _ ?_
          rw [gd_of y0.tm, bI_eq (c188_1 h0.tz y0.tm), if_neg (by decide), gd_of y1.tm, nm_eq, y1.f (by unfold qf; omega), gd_of y1.b9.1, gd_of ⟨q.1, by rw [y1.b9.2]; exact q.2⟩, nm_eq, w1, gd_of w3.1.1, y1.f (by unfold qf; omega), bV_eq e1, nm_eq, y2.f (by unfold qf; omega), gd_of y2.b9.1, gd_of ⟨q.1, by rw [y2.b9.2]; exact q.2⟩, nm_eq, u4, w1, gd_of e4.1.1]
        · have nM : M ≠ B (100 + r) := fun z => by have := e4.1.1; rw [← z, y2.tm] at this; omega
          have nS : ¬ stS (mst (mst m M 4 0) M 4 0) (B (100 + r)) M := fun z => by have := stS_tg w3.1 _ z; rw [y1.tm] at this; unfold stA at this; omega
          rw [vl_mst, if_neg (fun z => nM z.1), e2.2.2.2 M 4 nS, vl_mst, if_pos ⟨rfl, rfl⟩]
  · rw [if_pos q]
    refine n0.pre fun Z hZ => q222 hz _ ?_
    by_cases q0 : r < 0
    · rw [if_pos q0]; exact hZ
    · rw [if_neg q0, if_pos (by omega)]; exact hZ
/-- a version is closed -/
theorem c223 {r : Int} (hd : 2 ≤ d) (h : TWt m M B s c K) : TWi m M B c K (cl d 223 [pR M, pI r] m) (oClose s r) vN := by
  have hz := h.tz
  have y := h.y
  have h0 := h.cd (v := 0)
  have y0 := h0.y
  have n0 : TWi m M B c K (rn d 223 16 [pR M, pI r] [pI 0, pR M] m) (1, 0, s) vN := TWi.no (v := 0) h (q223_16 (by omega) hz _ (by rw [gd_of y.tm, bI_eq (c188_0 hz y.tm), if_pos rfl])) (by decide) ⟨rfl, rfl⟩
  unfold oClose
  by_cases q : 0 ≤ r ∧ r < 8
  · rw [if_neg (fun z => z q)]
    obtain ⟨b1, b2, L, b3, b4⟩ := h0.sv.2.1 r q.1 q.2
    have st : ∀ Z, (if b2i s.dk = 0 then (if b2i (s.rd r).isSome = 0 then (rn d 223 48 [pR M, pI r] [pI 0, pR M] (mst m M 4 0)) else rn d 223 48 [pR M, pI r] [pI 1, pR M] (mst m M 4 0)) else rn d 223 48 [pR M, pI r] [pI 0, pR M] (mst m M 4 0)) = some Z → cl d 223 [pR M, pI r] m = some Z := fun Z hZ => by
      refine q223 hz _ ?_
      rw [if_neg (by omega), if_neg (by omega)]
      refine q223_16 (by omega) hz _ ?_
      rw [gd_of y.tm, bI_eq (c188_1 hz y.tm), if_neg (by decide), gd_of y0.tm, h0.fl.1]
      by_cases z : b2i s.dk = 0
      · rw [if_pos z] at hZ ⊢
        rw [nm_eq, y0.f (by unfold qf; omega), gd_of y0.b9.1, gd_of ⟨q.1, by rw [y0.b9.2]; exact q.2⟩, nm_eq, b1, gd_of b3.1.1, b2]
        exact hZ
      · rw [if_neg z] at hZ ⊢
        exact hZ
    have n2 : rn d 223 48 [pR M, pI r] [pI 0, pR M] (mst m M 4 0) = some (.inl none, mst (mst m M 4 0) M 4 2) := q223_48 (by omega) h0.tz _ (by rw [gd_of y0.tm, bI_eq (c188_0 h0.tz y0.tm), if_pos rfl])
    cases hdk : s.dk with
    | true =>
      rw [if_pos (Or.inl rfl)]
      exact TWi.no (v := 0) h0 (st _ (by rw [hdk, if_neg (by decide)]; exact n2)) (by decide) ⟨rfl, rfl⟩
    | false =>
      cases hr : s.rd r with
      | none =>
        rw [if_pos (show (false = true ∨ (none : Option DC).isSome = false) from Or.inr rfl)]
        exact TWi.no (v := 0) h0 (st _ (by rw [hdk, if_pos (show b2i false = 0 from rfl), hr, if_pos (show b2i (none : Option DC).isSome = 0 from rfl)]; exact n2)) (by decide) ⟨rfl, rfl⟩
      | some D0 =>
        rw [if_neg (by simp)]
        have h1 := h0.cd (v := 0)
        have y1 := h1.y
        obtain ⟨w1, w2, L', w3, w4⟩ := h1.sv.2.1 r q.1 q.2
        have h3 := h1.opn (k := r) (v := 0) (rd' := fun k => if k = r then none else s.rd k) q.1 q.2 (by (try dsimp only); rw [if_pos rfl]; rfl) (fun L3 hL3 _ D hD => by (try dsimp only at hD); rw [if_pos rfl] at hD; cases hD) (fun j _ _ hj => if_neg hj)
        refine TWi.ok (v := 0) h3 (st _ ?_) ?_ ⟨rfl, rfl⟩
        · rw [hdk, if_pos (show b2i false = 0 from rfl), hr, if_neg (show ¬ b2i (some D0).isSome = 0 from (by decide : ¬ b2i true = 0))]
          refine q223_48 (by omega) h0.tz _ ?_
          rw [gd_of y0.tm, bI_eq (c188_1 h0.tz y0.tm), if_neg (by decide), gd_of y1.tm, nm_eq, y1.f (by unfold qf; omega), gd_of y1.b9.1, gd_of ⟨q.1, by rw [y1.b9.2]; exact q.2⟩, nm_eq, w1, gd_of w3.1.1]
        · have nM : M ≠ B (100 + r) := fun z => by have := w3.1.1; rw [← z, y1.tm] at this; omega
          rw [vl_mst, if_neg (fun z => nM z.1), vl_mst, if_pos ⟨rfl, rfl⟩]
  · rw [if_pos q]
    refine n0.pre fun Z hZ => q223 hz _ ?_
    by_cases q0 : r < 0
    · rw [if_pos q0]; exact hZ
    · rw [if_neg q0, if_pos (by omega)]; exact hZ
/-- a document is taken out -/
theorem c220 {id : Int} (hd : 2 ≤ d) (h : TWt m M B s c K) : TWi m M B c K (cl d 220 [pR M, pI id] m) (oOut s id) vI := by
  have hz := h.tz
  have y := h.y
  have h0 := h.cd (v := 0)
  have y0 := h0.y
  have e194 := c194 (d := d - 1) (id := id) hz
  unfold oOut
  by_cases q : 0 ≤ id ∧ id < 10000
  · rw [if_neg (fun z => z q)]
    rw [if_pos q] at e194
    have st : ∀ Z, (if b2i s.dk = 0 then (rn d 220 25 [pR M, pI id, pU] [pI 1, pR M] (mst m M 4 0)) else rn d 220 25 [pR M, pI id, pU] [pI 0, pR M] (mst m M 4 0)) = some Z → cl d 220 [pR M, pI id] m = some Z := fun Z hZ => by
      refine q220 (by omega) hz _ ?_
      rw [bI_eq e194, gd_of y.tm, bI_eq (c188_1 hz y.tm), if_neg (by decide), h0.fl.1]
      exact hZ
    cases hdk : s.dk with
    | true =>
      rw [if_pos rfl]
      refine TWi.no (v := 0) h0 (st _ ?_) (by decide) ⟨rfl, rfl⟩
      rw [hdk, if_neg (by decide)]
      exact q220_25 (by omega) h0.tz _ (by rw [gd_of y0.tm, bI_eq (c188_0 h0.tz y0.tm), if_pos rfl])
    | false =>
      rw [if_neg (by decide)]
      have h1 := h0.cd (v := 0)
      have y1 := h1.y
      have sv1 := h1.sv.1
      have f8 : vl (mst (mst m M 4 0) M 4 0) M 8 = B 8 := y1.f (by unfold qf; omega)
      obtain ⟨f1, f2⟩ := c278_D (d := d - 1) (id := id) h1.tz sv1
      have st2 : ∀ Z, (bI (cl (d - 1) 278 [pR (B 8), pI id] (mst (mst m M 4 0) M 4 0)) fun v2 m2 => if v2 < 0 then (rn d 220 53 [pR M, pI id, pI v2] [pI 0, pR M] m2) else rn d 220 53 [pR M, pI id, pI v2] [pI 1, pR M] m2) = some Z → cl d 220 [pR M, pI id] m = some Z := fun Z hZ => st _ (by
        rw [hdk, if_pos (show b2i false = 0 from rfl)]
        refine q220_25 (by omega) h0.tz _ ?_
        rw [gd_of y0.tm, bI_eq (c188_1 h0.tz y0.tm), if_neg (by decide), gd_of y1.tm, nm_eq, f8, gd_of sv1.1.1]
        exact hZ)
      cases hl : lkL id s.now with
      | none =>
        refine TWi.no (v := 0) h1 (st2 _ ?_) (by decide) ⟨rfl, rfl⟩
        rw [bI_eq (f1 hl), if_pos (by decide)]
        exact q220_53 (by omega) h1.tz _ (by rw [gd_of y1.tm, bI_eq (c188_0 h1.tz y1.tm), if_pos rfl])
      | some v =>
        obtain ⟨Ah, C, e1, e2, e3⟩ := f2 v hl
        have h2 := h1.cd (v := 0)
        have y2 := h2.y
        have sv2 := h2.sv.1
        have f8' : vl (mst (mst (mst m M 4 0) M 4 0) M 4 0) M 8 = B 8 := y2.f (by unfold qf; omega)
        have er : prtD (rmL id s.now) = Ah ++ C := by
          have : prtD (rmL id s.now) = rmL id (prtD s.now) := rmL_mp
          rw [this, e1, rmL_spl e2]
        have st3 : ∀ Z, (if (if s.ct < 0 ∨ s.ct = 3 then (1 : Int) else 0) = 0 then (rn d 220 77 [pR M, pI id, pI Ah.length] [] (mst (mst (mst m M 4 0) M 4 0) M 4 0)) else bV (cl (d - 1) 281 [pR (B 8), pI Ah.length] (mst (mst (mst m M 4 0) M 4 0) M 4 0)) fun m3 => rn d 220 77 [pR M, pI id, pI Ah.length] [] m3) = some Z → cl d 220 [pR M, pI id] m = some Z := fun Z hZ => st2 _ (by
          rw [bI_eq e3, if_neg (by omega)]
          refine q220_53 (by omega) h1.tz _ ?_
          rw [gd_of y1.tm, bI_eq (c188_1 h1.tz y1.tm), if_neg (by decide), gd_of y2.tm, bI_eq (c215 h2), nm_eq, f8', gd_of sv2.1.1]
          exact hZ)
        obtain ⟨m3, k1, k2, k3⟩ : ∃ m3, (∀ Z : Rs × Mem, rn d 220 77 [pR M, pI id, pI Ah.length] [] m3 = some Z → cl d 220 [pR M, pI id] m = some Z) ∧ TWt m3 M B (s.tp, s.res, s.pl, s.dk, s.ct, (if s.ct < 0 ∨ s.ct = 3 then rmL id s.now else s.now), s.rd, s.ix) c K ∧ nx m3 = nx m ∧ sl m3 = sl m := by
          by_cases z : s.ct < 0 ∨ s.ct = 3
          · rw [e1] at sv2
            obtain ⟨m3, p1, p2, p3, p4⟩ := c281 (d := d - 1) (by omega) h2.tz sv2
            refine ⟨m3, fun Z hZ => st3 Z (by rw [if_pos z, if_neg (by decide), bV_eq p1]; exact hZ), ?_, p2.1, p2.2.1⟩
            rw [if_pos z]
            exact h2.nowc (D' := rmL id s.now) p2 p3 (by rw [er]; exact p4) rfl
          · exact ⟨mst (mst (mst m M 4 0) M 4 0) M 4 0, fun Z hZ => st3 Z (by rw [if_neg z, if_pos rfl]; exact hZ), by rw [if_neg z]; exact h2, rfl, rfl⟩
        obtain ⟨m4, p1, p2, p3, p4, p5⟩ := c216 (d := d - 1) (D := rmL id s.now) (by omega) k2
        have y3 := k2.y
        have y4 := p2.y
        have sv4 := p2.sv.1
        by_cases hc : s.ct < 0
        · rw [if_pos hc] at p1 p3
          rw [if_pos hc]
          refine TWi.ok p2 (k1 _ (q220_77 (by omega) k2.tz _ ?_)) p3 ⟨by rw [p4, k3.1], by rw [p5, k3.2]⟩
          have en : (s.com (rmL id s.now)).now = rmL id s.now := by show (if s.ct < 0 ∨ s.ct = 3 then rmL id s.now else s.now) = _; rw [if_pos (Or.inl hc)]
          rw [gd_of y3.tm, bI_eq p1, if_neg (by decide), nm_eq, y4.f (by unfold qf; omega), gd_of sv4.1.1, sv4.2.1, prtD_len, en]
        · rw [if_neg hc] at p1 p3
          rw [if_neg hc]
          exact ⟨m4, c, K, 0, k1 _ (q220_77 (by omega) k2.tz _ (by rw [gd_of y3.tm, bI_eq p1, if_pos rfl])), p3, fun z => absurd z (by simp), p2, CTT.same ⟨by rw [p4, k3.1], by rw [p5, k3.2]⟩⟩
  · rw [if_pos q]
    rw [if_neg q] at e194
    exact TWi.no (v := 0) h (q220 (by omega) hz _ (by rw [bI_eq e194, gd_of y.tm, bI_eq (c188_0 hz y.tm), if_pos rfl])) (by decide) ⟨rfl, rfl⟩
end
