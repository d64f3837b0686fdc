/-! the twin: a query is read, run over all documents, answered -/
set_option maxRecDepth 100000
set_option maxHeartbeats 4000000
section
variable {d n : Nat} {m m1 : Mem} {M : Int} {B : Int → Int} {s : St} {c : Int → Int} {K : Int} {f : Int → Option PV}
/-- what is printed becomes the answer -/
theorem c274_10 {out : List Int} (hl : (out.length : Int) ≤ 32768) (as : asc out) : ∀ (N : Nat) (m : Mem) (k : Int), ((out.length : Int) - k).toNat = N → 0 ≤ k → k ≤ out.length → TZ m → YP m M B → vl m M 16 = out.length → (∀ j : Int, k ≤ j → j < out.length → vl m (B 15) j = gi out j) → ∃ m', rn d 274 10 [pR M, pI k] [] m = some (.inl none, m') ∧ NC (· = B 2) m m' ∧ (∀ j, k ≤ j → j < out.length → vl m' (B 2) j = gi out j) ∧ ∀ j, j < k → vl m' (B 2) j = vl m (B 2) j := by
  intro N
  induction N with
  | zero =>
    intro m k hN k0 k1 hz y h16 hv
    refine ⟨m, q274_10 hz _ ?_, NC.refl, fun j j0 j1 => by omega, fun _ _ => rfl⟩
    rw [gd_of y.tm, h16, if_neg (by omega)]
  | succ N ih =>
    intro m k hN k0 k1 hz y h16 hv
    have hb := as.by (gi out k) (by
      unfold gi
      rw [List.getD_eq_getElem?_getD, List.getElem?_eq_getElem (show k.toNat < out.length by omega)]
      exact List.getElem_mem _)
    have k' : NC (· = B 2) m (mst m (B 2) k (gi out k)) := NC.set rfl
    have nb := y.ba
    have y' := y.sf (SFr.nc k') hz fun f _ => nb.2.2.1.symm
    obtain ⟨m', e1, e2, e3, e4⟩ := ih _ (k + 1) (by omega) (by omega) (by omega) (k'.tz hz) y' (by rw [vl_mst, if_neg (fun z => nb.2.2.1 z.1.symm)]; exact h16) (fun j j0 j1 => by rw [vl_mst, if_neg (fun z => nb.1.2.2.2.1 z.1.symm)]; exact hv j (by omega) j1)
    refine ⟨m', q274_10 hz _ ?_, k'.trans e2, fun j j0 j1 => ?_, fun j j0 => ?_⟩
    · rw [gd_of y.tm, h16, if_pos (by omega), nm_eq, y.f (by unfold qf; omega), nm_eq, y.f (by unfold qf; omega), gd_of y.b15.1, gd_of ⟨k0, by rw [y.b15.2]; omega⟩, gd_of y.b2.1, gd_of ⟨k0, by rw [y.b2.2]; omega⟩, hv k (by omega) (by omega), w8_of hb.1 hb.2, (w32_of (by omega) (by omega) : w32 (k + 1) = k + 1)]
      exact e1
    · by_cases z : j = k
      · rw [z, e4 k (by omega), vl_mst, if_pos ⟨rfl, rfl⟩]
      · exact e3 j (by omega) j1
    · rw [e4 j (by omega), vl_mst, if_neg (fun z => by omega)]
theorem c274 {out : List Int} (h : TWt m M B s c K) (k : WK m M out) (as : asc out) (hl : (out.length : Int) ≤ 32768) : ∃ m', cl d 274 [pR M] m = some (.inl none, m') ∧ TWt m' M B (s.wres out) c K ∧ nx m' = nx m ∧ sl m' = sl m := by
  have y := h.y
  have nb := y.ba
  obtain ⟨u1, u2, u3⟩ := k.len hl
  have f15 : vl m M 15 = B 15 := y.f (by unfold qf; omega)
  obtain ⟨m', e1, e2, e3, -⟩ := c274_10 (d := d) (M := M) (B := B) hl as out.length (mst m M 3 out.length) 0 (by omega) (by decide) (by omega) h.tz (y.sf SFr.mst h.tz fun f hf z => by unfold qf at hf; omega) (by rw [vl_mst, if_neg (by omega)]; exact u2) (fun j j0 j1 => by rw [vl_mst, if_neg (fun z => nb.2.2.2.1 z.1), ← f15]; exact u3 j j0 j1)
  refine ⟨m', q274 h.tz _ ?_, h.res e2 rfl hl as.by (fun j j0 j1 => e3 j j0 j1), e2.1, e2.2.1⟩
  rw [gd_of y.tm, u2]
  exact e1
/-- a query is read -/
theorem yqr {a e : Int} {t : Int → Int} {N : Nat} (hd : 500 ≤ d) (h : TWt m M B s c K) (ha : tg m a = 186103 ∨ tg m a = 276103) (he : 0 ≤ e ∧ e ≤ ln m a ∧ ln m a ≤ 16384) (he2 : e ≤ 1280) (hv : ∀ j, 0 ≤ j → j < e → vl m a j = t j) (hB : tB t e) :
    (∀ L, sQu t e N = some (.inr L) → ∃ m' c' K' cc us k CS, cl d 243 [pR M, pR a, pI e] m = some (.inl (some (pI cc)), m') ∧ 0 ≤ cc ∧ TWt m' M B s c' K' ∧ QLD m' M B (rv m' M) (ev m' M) us k K' CS cc L ∧ TU (B 30) m m' ∧ GR m m' (pcT c K) (pcT c' K')) ∧
    (∀ p, sQu t e N = some (.inl p) → ∃ m' c' K', cl d 243 [pR M, pR a, pI e] m = some (.inl (some (pI (-1))), m') ∧ vl m' M 14 = p ∧ TWt m' M B s c' K' ∧ GR m m' (pcT c K) (pcT c' K')) := by
  have y := h.y
  obtain ⟨n1, n2, n3, n4, n5, n6, n7, n8, n9, n10⟩ := y.ne
  obtain ⟨k0, qa⟩ := h.qa
  obtain ⟨⟨r1, r2, r3, r4⟩, C7, b1, b2, b3, b4⟩ := h.tr
  obtain ⟨n0, us0, C, tw, tc, tb, tu⟩ := r4
  obtain ⟨k1, k2⟩ := c243 (d := d) (n := N) hd h.ok h.1.2.1 h.1.2.2.2.syq qa (y.f (by unfold qf; omega)) tw (by omega) he hv hB (by omega)
  have oth : ∀ {m' : Mem} {t' c0 bC bU : Int}, TU (B 30) m m' → TRw m t' c0 bC bU → t' ≠ B 30 → TRw m' t' c0 bC bU := fun tv ht hne => by
    obtain ⟨p, us, C0, q1, q2, q3, q4⟩ := ht
    obtain ⟨s1, s3⟩ := tv.2.1 _ hne p us C0 q1
    exact ⟨p, us, C0, s1, by unfold tC at q2 ⊢; rw [s3]; exact q2, q3, by rw [s3]; exact q4⟩
  have main : ∀ {m' : Mem} {r : Rs} {k' K' : Int} {us' : List Int}, cl d 243 [pR M, pR a, pI e] m = some (r, m') → Qr m' M (B 30) k' us' C K' → QP 0 m M (B 30) 0 [] K m' k' us' K' → (us'.length : Int) ≤ 39950 → ∃ c', TWt m' M B s c' K' ∧ GR m m' (pcT c K) (pcT c' K') := fun {m' r k' K' us'} e1 hQr hQP hu => by
    obtain ⟨q1, q2, q3, q4, q5, q6⟩ := hQr
    obtain ⟨p1, -, -, -, ⟨p2, p3, p4⟩, ⟨p5, p6⟩, p7, p8⟩ := hQP
    obtain ⟨s1, s3⟩ := p1.2.1 _ n10.symm _ _ _ b1
    have tr : TRY m' B (upc c 30 (tC m' (B 30) C)) := ⟨⟨by rw [upc_n (by decide)]; exact oth p1 r1 n3, by rw [upc_n (by decide)]; exact oth p1 r2 n6, by rw [upc_n (by decide)]; exact oth p1 r3 n8, by rw [upc_s]; exact ⟨0, us', C, q5, rfl, tb, by omega⟩⟩, C7, s1, by rw [upc_n (by decide)]; unfold tC at b2 ⊢; rw [s3]; exact b2, b3, by rw [s3]; exact b4⟩
    refine ⟨_, h.call e1 (by decide +kernel) (by decide +kernel) q2 tr ⟨k', q3⟩, ?_⟩
    have e5 : pcT (upc c 30 (tC m' (B 30) C)) K' = pcT c K + (uC m' (B 30) - uC m (B 30)) + 11 * (K' - K) := by
      have := pcT_upc (c := c) (K := K') (f := 30) (v := tC m' (B 30) C) (by omega)
      rw [this]
      unfold pcT
      rw [tc]
      unfold tC
      omega
    rw [e5]
    unfold GR
    omega
  refine ⟨fun L hL => ?_, fun p hp => ?_⟩
  · obtain ⟨m', k', us', K', cc, e1, -, q1, q2, q3, q4, q5, q6⟩ := k1 L hL
    obtain ⟨c', h', gr⟩ := main e1 q1 q2 (by omega)
    have ok := sQu_ok hL
    exact ⟨m', c', K', cc, us', k', C, e1, q5.1, h', ⟨q1.2.2.1, ⟨rfl, rfl⟩, ⟨q1.2.2.2.2.1, q1.2.2.2.2.2⟩, q6, q5, by omega, ok.1, ok.2⟩, q2.1, gr⟩
  · obtain ⟨m', k', us', K', e1, e14, q1, q2, q3, q4⟩ := k2 p hp
    obtain ⟨c', h', gr⟩ := main e1 q1 q2 q4
    exact ⟨m', c', K', e1, e14, h', gr⟩
/-- the tape, read as a query -/
theorem ytq (hd : 500 ≤ d) (h : TWt m M B s c K) {tp : List Int} (hl : (tp.length : Int) ≤ 1280) (hb : ∀ b ∈ tp, -128 ≤ b ∧ b < 128) (ht : ∀ j : Int, 0 ≤ j → j < tp.length → vl m (B 0) j = gi tp j) :
    (∀ L, sQuT tp = some (.inr L) → ∃ m' c' K' cc us k CS, cl d 243 [pR M, pR (B 0), pI tp.length] m = some (.inl (some (pI cc)), m') ∧ 0 ≤ cc ∧ TWt m' M B s c' K' ∧ QLD m' M B (rv m' M) (ev m' M) us k K' CS cc L ∧ TU (B 30) m m' ∧ GR m m' (pcT c K) (pcT c' K')) ∧
    (∀ p, sQuT tp = some (.inl p) → ∃ m' c' K', cl d 243 [pR M, pR (B 0), pI tp.length] m = some (.inl (some (pI (-1))), m') ∧ vl m' M 14 = p ∧ TWt m' M B s c' K' ∧ GR m m' (pcT c K) (pcT c' K')) := by
  have y := h.y
  exact yqr (d := d) (a := B 0) (e := tp.length) (t := gtp tp) (N := 8 * tp.length + 10) hd h (Or.inl y.b0.1) ⟨by omega, by rw [y.b0.2]; omega, by rw [y.b0.2]; decide⟩ hl (fun j j0 j1 => ht j j0 j1) (fun j j0 j1 => hb _ (by
    unfold gtp gi
    rw [List.getD_eq_getElem?_getD, List.getElem?_eq_getElem (show j.toNat < tp.length by omega)]
    exact List.getElem_mem _))
/-- documents of a version -/
theorem STq.ver {r : Int} {D : DC} (h : STq n s) (hv : s.ver r = some D) : DCK n D := by
  unfold St.ver at hv
  split at hv
  · cases hv; exact h.2.2.2.1
  · exact h.2.2.2.2.1 r D hv
/-- a query -/
theorem c242 {r : Int} (hd : 1920 ≤ d) (h : TWt m M B s c K) (hq : STq n s) (hn : n ≤ 64) : TWi m M B c K (cl d 242 [pR M, pI r] m) (oQuery s r) vI := by
  have hz := h.tz
  have y := h.y
  have h0 := h.cd (v := 0)
  have y0 := h0.y
  have n0 : TWi m M B c K (rn d 242 17 [pR M, pI r, pU, pU, pU, pU, pU, pU, pU] [pI 0, pR M] m) (1, 0, s) vI := TWi.no (v := 0) h (q242_17 (by omega) hz _ (by rw [gd_of y.tm, bI_eq (c188_0 hz y.tm), if_pos rfl])) (by decide) ⟨rfl, rfl⟩
  unfold oQuery
  by_cases q : -1 ≤ r ∧ r < 8
  · rw [if_neg (fun z => z q)]
    have h1 := h0.tape0
    have y1 := h1.y
    have st : ∀ Z, (bR (cl (d - 1) 219 [pR M, pI r] (mst (mst m M 4 0) M 1 0)) fun v3 m3 => if v3 = 0 then (some (.inl (some (pI 0)), m3)) else bI (cl (d - 1) 243 [pR M, pR (vl m3 M 0), pI s.tp.length] (mst m3 M 5 (-1))) fun v4 m4 => if v4 < 0 then (some (.inl (some (pI 0)), (mst (mst m4 M 5 (vl m4 M 14)) M 4 3))) else bV (cl (d - 1) 209 [pR M] m4) fun m5 => rn d 242 99 [pR M, pI r, pI s.tp.length, pR v3, pI v4, pI 0, pI 0, pU, pU] [] (mst (mst m5 M 34 0) M 35 0)) = some Z → cl d 242 [pR M, pI r] m = some Z := fun Z hZ => by
      refine q242 hz _ ?_
      rw [if_neg (by omega), if_neg (by omega)]
      refine q242_17 (by omega) hz _ ?_
      rw [gd_of y.tm, bI_eq (c188_1 hz y.tm), if_neg (by decide), gd_of y0.tm, bI_eq (c195 h0)]
      exact hZ
    have dead : s.dk = true ∨ (s.wtp []).ver r = none → TWi m M B c K (cl d 242 [pR M, pI r] m) (2, 0, s.wtp []) vI := fun hh => TWi.no (v := 0) h1 (st _ (by rw [bR_eq (c219_n (by omega) h1 q hh), if_pos rfl])) (by decide) ⟨rfl, rfl⟩
    cases hdk : s.dk with
    | true => rw [if_pos rfl]; exact dead (Or.inl hdk)
    | false =>
      rw [if_neg (by decide)]
      cases hv : s.ver r with
      | none => exact dead (Or.inr hv)
      | some D =>
        obtain ⟨g1, g2, g3⟩ := c219_s (d := d - 1) (by omega) h1 q hdk hv
        have h2 := (h1.cd (v := 0)).place (p := -1)
        have f0 : vl (mst (mst (mst m M 4 0) M 1 0) M 4 0) M 0 = B 0 := (h1.cd (v := 0)).y.f (Or.inl rfl)
        obtain ⟨k1, k2⟩ := ytq (d := d - 1) (by omega) h2 h.tp.2.1 hq.1.2 (fun j j0 j1 => by
          have nb := y.ba.2.1
          rw [vl_mst, if_neg (fun z => nb z.1), vl_mst, if_neg (fun z => nb z.1), vl_mst, if_neg (fun z => nb z.1), vl_mst, if_neg (fun z => nb z.1)]
          exact h.tp.2.2 j j0 j1)
        have n2 : nx (mst (mst (mst (mst m M 4 0) M 1 0) M 4 0) M 5 (-1)) = nx m ∧ sl (mst (mst (mst (mst m M 4 0) M 1 0) M 4 0) M 5 (-1)) = sl m := ⟨rfl, rfl⟩
        have st2 : ∀ Z, (bI (cl (d - 1) 243 [pR M, pR (B 0), pI s.tp.length] (mst (mst (mst (mst m M 4 0) M 1 0) M 4 0) M 5 (-1))) fun v4 m4 => if v4 < 0 then (some (.inl (some (pI 0)), (mst (mst m4 M 5 (vl m4 M 14)) M 4 3))) else bV (cl (d - 1) 209 [pR M] m4) fun m5 => rn d 242 99 [pR M, pI r, pI s.tp.length, pR (vB B r), pI v4, pI 0, pI 0, pU, pU] [] (mst (mst m5 M 34 0) M 35 0)) = some Z → cl d 242 [pR M, pI r] m = some Z := fun Z hZ => st _ (by
          rw [bR_eq g1, if_neg g3, f0]
          exact hZ)
        dsimp only
        cases hR : sQuT s.tp with
        | none => exact absurd hR (sQuT_some _)
        | some rr =>
          cases rr with
          | inl p =>
            obtain ⟨m3, c3, K3, e1, e2, e3, e5⟩ := k2 p hR
            refine ⟨mst (mst m3 M 5 p) M 4 3, c3, K3, 0, st2 _ (by rw [bI_eq e1, if_pos (by decide), e2]), by rw [vl_mst, if_pos ⟨rfl, rfl⟩], fun z => absurd z (by simp), (e3.place (p := p)).cd, ?_⟩
            have e6 : nx (mst (mst m3 M 5 p) M 4 3) = nx m3 ∧ sl (mst (mst m3 M 5 p) M 4 3) = sl m3 := ⟨rfl, rfl⟩
            unfold CTT; unfold GR at e5; omega
          | inr L =>
            obtain ⟨m3, c3, K3, cc, us, k, CS, e1, e2, h3, hL3, -, e5⟩ := k1 L hR
            have y3 := h3.y
            obtain ⟨b1, b2, b3, b4⟩ := h3.beg (d := d - 1)
            have h5 : TWt (mst (mst (mst (mst m3 M 16 0) M 17 0) M 34 0) M 35 0) M B ((s.wtp []).wpl (-1)) c3 K3 := (b4.mf (by unfold uf; omega)).mf (by unfold uf; omega)
            have k5 := (b2.mf (f := 34) (v := 0) ⟨by decide, by decide, by decide⟩).mf (f := 35) (v := 0) ⟨by decide, by decide, by decide⟩
            have hL5 := (((hL3.mf (f := 16) (v := 0) h3.tz ⟨by decide, by decide, by decide, by decide⟩).mf (f := 17) (v := 0) h3.tz ⟨by decide, by decide, by decide, by decide⟩).mf (f := 34) (v := 0) h3.tz ⟨by decide, by decide, by decide, by decide⟩).mf (f := 35) (v := 0) h3.tz ⟨by decide, by decide, by decide, by decide⟩
            have st3 : ∀ {Z : Rs × Mem}, rn d 242 99 [pR M, pI r, pI s.tp.length, pR (vB B r), pI cc, pI 0, pI 0, pU, pU] [] (mst (mst (mst (mst m3 M 16 0) M 17 0) M 34 0) M 35 0) = some Z → cl d 242 [pR M, pI r] m = some Z := fun {Z} hZ => st2 _ (by
              rw [bI_eq e1, if_neg (by omega), bV_eq b1]
              exact hZ)
            have hDC := hq.ver hv
            have lp := c242_99 (d := d) (r := r) (n0 := s.tp.length) (by omega) q (s := (s.wtp []).wpl (-1)) hv hDC hn D [] _ c3 0 [] 0 pU pU rfl rfl rfl h5 hL5 k5 asc_nil (by simp) (by rw [vl_mst, if_neg (by omega), vl_mst, if_pos ⟨rfl, rfl⟩]) (by rw [vl_mst, if_pos ⟨rfl, rfl⟩]) (by decide) (by decide) (by simp)
            revert lp
            dsimp only
            show (match qAll L D 0 [] 0 with | none => _ | some (out', k') => _) → _
            cases qAll L D 0 [] 0 with
            | none =>
              rintro ⟨m', c', r1, r2, r3, r4⟩
              refine ⟨m', c', K3, 0, st3 r1, r3, fun z => absurd z (by simp), r2, ?_⟩
              have e6 : nx (mst (mst (mst (mst m3 M 16 0) M 17 0) M 34 0) M 35 0) = nx m3 ∧ sl (mst (mst (mst (mst m3 M 16 0) M 17 0) M 34 0) M 35 0) = sl m3 := ⟨rfl, rfl⟩
              unfold CTT; unfold GR at e5 r4; omega
            | some o =>
              obtain ⟨out', k'⟩ := o
              rintro ⟨m', c', z7', z8', r1, r2, r3, r4, r5, ⟨r6, r7⟩, r8⟩
              obtain ⟨m7, x1, x2, x3, x4⟩ := c274 (d := d - 1) r4 r5 r6 r7
              have y4 := r4.y
              have sv4 := r4.ver (r := r) q (s := (s.wtp []).wpl (-1)) hv
              refine ⟨mst m7 M 4 0, c', K3, k', st3 (r3 (q242_99 (by omega) r4.tz r1 r2 _ ?_)), by rw [vl_mst, if_pos ⟨rfl, rfl⟩], fun _ => rfl, x2.cd, ?_⟩
              · rw [gd_of sv4.1.1, sv4.2.1, prtD_len, if_neg (by omega), gd_of y4.tm, bV_eq x1]
              · have e6 : nx (mst (mst (mst (mst m3 M 16 0) M 17 0) M 34 0) M 35 0) = nx m3 ∧ sl (mst (mst (mst (mst m3 M 16 0) M 17 0) M 34 0) M 35 0) = sl m3 := ⟨rfl, rfl⟩
                have e7 : nx (mst m7 M 4 0) = nx m7 ∧ sl (mst m7 M 4 0) = sl m7 := ⟨rfl, rfl⟩
                unfold CTT; unfold GR at e5 r8; omega
  · rw [if_pos q]
    refine n0.pre fun Z hZ => q242 hz _ ?_
    by_cases q0 : r < -1
    · rw [if_pos q0]; exact hZ
    · rw [if_neg q0, if_pos (by omega)]; exact hZ
end
