/-! the twin: an index is made -/
set_option maxRecDepth 100000
set_option maxHeartbeats 4000000
section
variable {d n : Nat} {m m1 : Mem} {M : Int} {B : Int → Int} {s : St} {c : Int → Int} {K : Int} {f : Int → Option PV}
/-- a new text stands at an index's place -/
theorem TWt.ixt {k : Int} {tp : List Int} {Q : Fo} (h : TWt m M B s c K) (hk : 0 ≤ k ∧ k < 4) (hl : (tp.length : Int) ≤ 1280) (hb : ∀ b ∈ tp, -128 ≤ b ∧ b < 128) (hn : NC (· = nx m) (mst (mal m 276103 tp.length) (B 10) k (nx m)) m1) (hv : ∀ j : Int, 0 ≤ j → j < tp.length → vl m1 (nx m) j = gi tp j) (hQ : sQuT tp = some (.inr Q)) (hs : sgF Q = true) : TWt m1 M B (s.wix fun j => if j = k then some Q else s.ix j) c K := by
  have hz := h.tz
  have y := h.y
  have ok := h.ok
  have lt : ∀ a, tg m a ≠ 0 → a < nx m := fun a ha => tz_lt hz ha
  have n10 : B 10 ≠ nx m := fun z => by have := lt (B 10) (by have := y.b10.1; omega); omega
  -- what is old is as it was but for the place
  have S : SFr (fun a j => a = B 10 ∧ j = k) m m1 := by
    have s1 : SFr (fun _ _ => False) m (mal m 276103 tp.length) := SFr.mal
    have s2 := (s1.trans (SFr.mst (M := B 10) (f := k) (v := nx m))).trans (SFr.nc hn)
    exact ⟨s2.1, fun a j ha hj => s2.2 a j ha fun z => by
      rcases z with (z | z) | z
      · exact z
      · exact hj z
      · omega⟩
  have no : ∀ a f, tg m a ≠ 186118 → ¬ (a = B 10 ∧ f = k) := fun a f ha z => by rw [z.1] at ha; exact ha y.b10.1
  have nM : ∀ f, ¬ (M = B 10 ∧ f = k) := fun f => no M f (by rw [y.tm]; decide)
  have tb : ∀ a, tg (mst (mal m 276103 tp.length) (B 10) k (nx m)) a = if a = nx m then 276103 else tg m a := fun a => by
    show tg (mal m 276103 tp.length) a = _
    rw [tg_mal]
  have ti : TI m1 := TWt.ti_nc ((TI_mal h.1.2.1 hz (by decide)).mT (T := B 10) (f := k) (v := nx m) (by rw [tg_mal, if_neg n10, y.b10.1]; decide)) hn (by rw [tb, if_pos rfl]; decide)
  have lb : LB m1 := fun a => by
    rw [(hn.2.2.1 a).2]
    exact lb_mal (t := 276103) (n := tp.length) h.1.2.2.1 (by omega) a
  have b1 : BTm m1 := ⟨S.ok ok, ti, lb, h.1.2.2.2.sf S hz (fun b f hb _ _ => no b f (by omega)) fun b f hb => no b f (by omega)⟩
  obtain ⟨q, hq⟩ := h.qa
  refine ⟨b1, y.sf S hz fun f _ => nM f, h.tp.sf y S hz (nM 1) fun j => no _ j (by rw [y.b0.1]; decide), h.rs.sf y S hz (nM 3) fun j => no _ j (by rw [y.b2.1]; decide), h.fl.sf y S hz ⟨nM 5, nM 6, nM 7⟩, h.tr.sf S hz ⟨fun a f ha _ _ => no a f (by omega), fun a j ha => no a j (by unfold trA at ha; omega)⟩, ⟨q, hq.sf S hz ⟨nM 27, nM 28, nM 29, nM 32⟩⟩, h.sv.sf y S hz ⟨fun a f ha _ _ => no a f (by omega), fun a j ha => no a j (by unfold stA at ha; omega), fun j => no _ j (by rw [y.b9.1]; decide)⟩, fun q q0 q1 => ?_⟩
  have e0 : vl m1 (B 10) q = if q = k then nx m else vl m (B 10) q := by
    rw [hn.2.2.2 (B 10) q n10, vl_mst]
    by_cases z : q = k
    · rw [if_pos ⟨rfl, z⟩, if_pos z]
    · rw [if_neg (fun w => z w.2), if_neg z, vl_mal, if_neg n10]
  show ((if q = k then some Q else s.ix q) = none → _) ∧ ∀ Q', (if q = k then some Q else s.ix q) = some Q' → _
  rw [e0]
  by_cases z : q = k
  · rw [if_pos z, if_pos z]
    refine ⟨fun hn => (by cases hn), fun Q' hQ' => ?_⟩
    cases hQ'
    have t1 : tg m1 (nx m) = 276103 := by rw [(hn.2.2.1 _).1, tb, if_pos rfl]
    have l1 : ln m1 (nx m) = tp.length := by
      rw [(hn.2.2.1 _).2]
      show ln (mal m 276103 tp.length) (nx m) = _
      rw [ln_mal, if_pos rfl]
    exact ⟨tp, ⟨t1, l1⟩, hl, hb, hv, hQ, hs⟩
  · rw [if_neg z, if_neg z]
    refine ⟨fun hn => (h.xy q q0 q1).1 hn, fun Q' hQ' => ?_⟩
    obtain ⟨tx, b1, b2, b3, b4, b5, b6⟩ := (h.xy q q0 q1).2 Q' hQ'
    exact ⟨tx, S.l hz b1 (by decide), b2, b3, fun j j0 j1 => by rw [S.v hz (by omega) (no _ j (by omega))]; exact b4 j j0 j1, b5, b6⟩
/-- an index is made -/
theorem c275 {k : Int} (hd : 510 ≤ d) (h : TWt m M B s c K) (hq : STq n s) : TWi m M B c K (cl d 275 [pR M, pI k] m) (oIndex s k) vN := by
  have hz := h.tz
  have y := h.y
  have h0 := h.cd (v := 0)
  have y0 := h0.y
  have n0 : TWi m M B c K (rn d 275 15 [pR M, pI k, pU, pU, pU] [pI 0, pR M] m) (1, 0, s) vN := TWi.no (v := 0) h (q275_15 (by omega) hz _ (by rw [gd_of y.tm, bI_eq (c188_0 hz y.tm), if_pos rfl])) (by decide) ⟨rfl, rfl⟩
  unfold oIndex
  by_cases q : 0 ≤ k ∧ k < 4
  · rw [if_neg (fun z => z q)]
    have h1 := h0.tape0
    have y1 := h1.y
    have st : ∀ Z, (if b2i s.dk = 0 then (rn d 275 41 [pR M, pI k, pI s.tp.length, pU, pU] [pI 1, pR M] (mst (mst m M 4 0) M 1 0)) else rn d 275 41 [pR M, pI k, pI s.tp.length, pU, pU] [pI 0, pR M] (mst (mst m M 4 0) M 1 0)) = some Z → cl d 275 [pR M, pI k] m = some Z := fun Z hZ => by
      refine q275 hz _ ?_
      rw [if_neg (by omega), if_neg (by omega)]
      refine q275_15 (by omega) hz _ ?_
      rw [gd_of y.tm, bI_eq (c188_1 hz y.tm), if_neg (by decide), gd_of y0.tm, bI_eq (c195 h0), h1.fl.1]
      exact hZ
    cases hdk : s.dk with
    | true =>
      rw [if_pos rfl]
      refine TWi.no (v := 0) h1 (st _ ?_) (by decide) ⟨rfl, rfl⟩
      rw [hdk, if_neg (by decide)]
      exact q275_41 (by omega) h1.tz _ (by rw [gd_of y1.tm, bI_eq (c188_0 h1.tz y1.tm), if_pos rfl])
    | false =>
      rw [if_neg (by decide)]
      have h2 := (h1.cd (v := 0)).place (p := -1)
      have f0 : vl (mst (mst (mst m M 4 0) M 1 0) M 4 0) M 0 = B 0 := (h1.cd (v := 0)).y.f (Or.inl rfl)
      have tv : ∀ j : Int, 0 ≤ j → j < (s.tp.length : Int) → vl (mst (mst (mst (mst m M 4 0) M 1 0) M 4 0) M 5 (-1)) (B 0) j = gi s.tp j := fun j j0 j1 => by
        have nb := y.ba.2.1
        rw [vl_mst, if_neg (fun z => nb z.1), vl_mst, if_neg (fun z => nb z.1), vl_mst, if_neg (fun z => nb z.1), vl_mst, if_neg (fun z => nb z.1)]
        exact h.tp.2.2 j j0 j1
      obtain ⟨k1, k2⟩ := ytq (d := d - 1) (by omega) h2 h.tp.2.1 hq.1.2 tv
      have n2 : nx (mst (mst (mst (mst m M 4 0) M 1 0) M 4 0) M 5 (-1)) = nx m ∧ sl (mst (mst (mst (mst m M 4 0) M 1 0) M 4 0) M 5 (-1)) = sl m := ⟨rfl, rfl⟩
      have st2 : ∀ Z, (bI (cl (d - 1) 243 [pR M, pR (B 0), pI s.tp.length] (mst (mst (mst (mst m M 4 0) M 1 0) M 4 0) M 5 (-1))) fun v2 m2 => if v2 < 0 then (rn d 275 77 [pR M, pI k, pI s.tp.length, pI v2, pU] [] m2) else bI (cl (d - 1) 251 [pR M, pI v2, pI 3] m2) fun v3 m3 => if v3 = 0 then (rn d 275 77 [pR M, pI k, pI s.tp.length, pI v2, pU] [] m3) else nm (vl m3 M 10) fun v5 => gd ((0 : Int) ≤ (s.tp.length : Int) ∧ (s.tp.length : Int) ≤ 2000000) <| nw (nx m3) (mal m3 276103 s.tp.length) fun o4 m4 => gd (tg m4 v5 = 186118) <| gd ((0 : Int) ≤ k ∧ k < ln m4 v5) <| gd (aOk (tg m4 v5 % 1000) (tg m4 o4) = true) <| rn d 275 111 [pR M, pI k, pI s.tp.length, pI v2, pI 0] [] (mst m4 v5 k o4)) = some Z → cl d 275 [pR M, pI k] m = some Z := fun Z hZ => st _ (by
        rw [hdk, if_pos (show b2i false = 0 from rfl)]
        refine q275_41 (by omega) h1.tz _ ?_
        rw [gd_of y1.tm, bI_eq (c188_1 h1.tz y1.tm), if_neg (by decide), gd_of (h1.cd (v := 0)).y.tm, f0]
        exact hZ)
      have h3tp := h.tp.2.1
      cases hR : sQuT s.tp with
      | none => exact absurd hR (sQuT_some _)
      | some rr =>
        cases rr with
        | inl p =>
          obtain ⟨m3, c3, K3, e1, e2, e3, e5⟩ := k2 p hR
          refine ⟨mst (mst m3 M 5 p) M 4 3, c3, K3, 0, st2 _ ?_, by rw [vl_mst, if_pos ⟨rfl, rfl⟩], fun z => absurd z (by simp), (e3.place (p := p)).cd, ?_⟩
          · rw [bI_eq e1, if_pos (by decide)]
            exact q275_77 e3.tz _ (by rw [if_pos (by decide), gd_of e3.y.tm, e2])
          · have e6 : nx (mst (mst m3 M 5 p) M 4 3) = nx m3 ∧ sl (mst (mst m3 M 5 p) M 4 3) = sl m3 := ⟨rfl, rfl⟩
            unfold CTT; unfold GR at e5; omega
        | inr L =>
          obtain ⟨m3, c3, K3, cc, us, kk, CS, e1, e2, h3, hL3, -, e5⟩ := k1 L hR
          have y3 := h3.y
          have hz3 := h3.tz
          have c3f : rv m3 M cc 3 = b2i (sgF L) := by
            have g1 := hL3.2.2.2.1.2.1
            rw [unw_o (k := 20) (by omega)] at g1
            exact (g1.2.2.2.2.1 rfl).2.1
          have e251 := c251q (d := d - 1) (f := 3) hz3 hL3.1 hL3.2.2.2.2.1 (by decide)
          rw [c3f] at e251
          dsimp only
          cases hsg : sgF L with
          | false =>
            rw [if_neg (by decide)]
            rw [hsg] at e251
            refine ⟨mst (mst m3 M 5 s.tp.length) M 4 3, c3, K3, 0, st2 _ ?_, by rw [vl_mst, if_pos ⟨rfl, rfl⟩], fun z => absurd z (by simp), (h3.place (p := s.tp.length)).cd, ?_⟩
            · rw [bI_eq e1, if_neg (by omega), bI_eq e251, if_pos (show b2i false = 0 from rfl)]
              exact q275_77 hz3 _ (by rw [if_neg (by omega), gd_of y3.tm])
            · have e6 : nx (mst (mst m3 M 5 s.tp.length) M 4 3) = nx m3 ∧ sl (mst (mst m3 M 5 s.tp.length) M 4 3) = sl m3 := ⟨rfl, rfl⟩
              unfold CTT; unfold GR at e5; omega
          | true =>
            rw [if_pos rfl]
            rw [hsg] at e251
            have f10 : vl m3 M 10 = B 10 := y3.f (by unfold qf; omega)
            have lt : ∀ a, tg m3 a ≠ 0 → a < nx m3 := fun a ha => tz_lt hz3 ha
            have n10 : B 10 ≠ nx m3 := fun z => by have := lt (B 10) (by have := y3.b10.1; omega); omega
            have nM : M ≠ nx m3 := fun z => by have := lt M (by have := y3.tm; omega); omega
            have n0' : B 0 ≠ nx m3 := fun z => by have := lt (B 0) (by have := y3.b0.1; omega); omega
            have t4 : tg (mal m3 276103 s.tp.length) (B 10) = 186118 ∧ ln (mal m3 276103 s.tp.length) (B 10) = 4 := by rw [tg_mal, ln_mal, if_neg n10, if_neg n10]; exact y3.b10
            have to : tg (mal m3 276103 s.tp.length) (nx m3) = 276103 ∧ ln (mal m3 276103 s.tp.length) (nx m3) = s.tp.length := by rw [tg_mal, ln_mal, if_pos rfl, if_pos rfl]; exact ⟨rfl, rfl⟩
            have S4 : SFr (fun a j => False ∨ (a = B 10 ∧ j = k)) m3 (mst (mal m3 276103 s.tp.length) (B 10) k (nx m3)) := SFr.mal.trans SFr.mst
            have hz4 := S4.1.1 hz3
            have y4 : YP (mst (mal m3 276103 s.tp.length) (B 10) k (nx m3)) M B := y3.sf S4 hz3 fun f _ z => by
              rcases z with z | z
              · exact z
              · exact y3.ba.2.2.2.2.2.2 z.1.symm
            have tp3 := h3.tp
            obtain ⟨m5, p1, p2, p3, -⟩ := c275_111 (d := d) (a1 := k) (o := nx m3) (tp := s.tp) (a3 := cc) q h3tp hq.1.2 _ (mst (mal m3 276103 s.tp.length) (B 10) k (nx m3)) 0 rfl (by decide) (by omega) hz4 y4 (by rw [vl_mst, if_pos ⟨rfl, rfl⟩]) to (fun j j0 j1 => by
              have n1 : B 0 ≠ B 10 := fun z => by have := y3.b0.1; rw [z, y3.b10.1] at this; omega
              rw [vl_mst, if_neg (fun z => n1 z.1), vl_mal, if_neg n0', vl_of (cl_FRM e1) h2.tz h2.y.b0.1 (by decide) (by rw [bix_100 (by decide)]; decide +kernel)]
              exact tv j j0 j1)
            have h5 := h3.ixt (Q := L) q h3tp hq.1.2 p2 (fun j j0 j1 => p3 j j0 j1) hR hsg
            refine ⟨mst m5 M 4 0, c3, K3, 0, st2 _ ?_, by rw [vl_mst, if_pos ⟨rfl, rfl⟩], fun _ => rfl, h5.cd, ?_⟩
            · rw [bI_eq e1, if_neg (by omega), bI_eq e251, if_neg (by decide), nm_eq, f10, gd_of ⟨by omega, by omega⟩]
              show (gd (tg (mal m3 276103 s.tp.length) (B 10) = 186118) <| gd ((0 : Int) ≤ k ∧ k < ln (mal m3 276103 s.tp.length) (B 10)) <| gd (aOk (tg (mal m3 276103 s.tp.length) (B 10) % 1000) (tg (mal m3 276103 s.tp.length) (nx m3)) = true) <| rn d 275 111 [pR M, pI k, pI s.tp.length, pI cc, pI 0] [] (mst (mal m3 276103 s.tp.length) (B 10) k (nx m3))) = _
              rw [gd_of t4.1, gd_of ⟨q.1, by rw [t4.2]; exact q.2⟩, gd_of (by rw [t4.1, to.1]; decide)]
              exact p1
            · have e6 : nx (mst m5 M 4 0) = nx m3 + 1 := p2.1
              have e7 : sl (mst m5 M 4 0) = sl (mal m3 276103 s.tp.length) := p2.2.1
              have e8 : sl (mal m3 276103 s.tp.length) ≤ sl m3 + 1400 := by
                show sl m3 + _ ≤ _
                omega
              unfold CTT; unfold GR at e5; omega
  · rw [if_pos q]
    refine n0.pre fun Z hZ => q275 hz _ ?_
    by_cases q0 : k < 0
    · rw [if_pos q0]; exact hZ
    · rw [if_neg q0, if_pos (by omega)]; exact hZ
end
