/-! the twin's patches: one operation, with a value -/
set_option maxRecDepth 100000
set_option maxHeartbeats 4000000
/-- what an operation comes to -/
def OPR (X : RM) (m : Mem) (M D NT CN C : Int) (r : Option Vl) : Prop := match r with
  | some v' => ∃ m' v'' n' us' C', X = some (.inl (some (pI 1)), m') ∧ erV v'' = v' ∧ DS m' M D v'' n' us' C' ∧ OX D NT CN m C m' C'
  | none => ∃ m' n' us' C', X = some (.inl (some (pI 0)), m') ∧ TW m' D n' us' C' ∧ OX D NT CN m C m' C'
theorem OPR.pre {X Y : RM} {m m1 : Mem} {M D NT CN C C1 : Int} {r : Option Vl} (h : OPR X m1 M D NT CN C1 r) (x : OX D NT CN m C m1 C1) (hXY : ∀ Q, X = some Q → Y = some Q) : OPR Y m M D NT CN C r := by
  cases r with
  | some v' =>
    obtain ⟨m', v'', n', us', C', a1, a2, a3, a4⟩ := h
    exact ⟨m', v'', n', us', C', hXY _ a1, a2, a3, x.trans a4⟩
  | none =>
    obtain ⟨m', n', us', C', a1, a2, a3⟩ := h
    exact ⟨m', n', us', C', hXY _ a1, a2, x.trans a3⟩
theorem wf_sub : ∀ (kz : List Fr) (w : Vl), okN kz → w.2.1.2.2.2 = [] → wfF (foC (plug kz w).2.1 (plug kz w).2.2 foN) → wfF (foC w.2.1 w.2.2 foN) := by
  intro kz
  induction kz with
  | nil => intro w _ _ h; exact h
  | cons f k ih =>
    intro w hk hw h
    have h1 := ih (f.1, f.2.1, amg f.2.2.1 w f.2.2.2.1 f.2.2.2.2) (fun f' hf' => hk f' (List.mem_cons_of_mem _ hf')) (hk f List.mem_cons_self) h
    have h2 := (wf_mid (A := f.2.2.1) (i := w.1) (d := wiN w.2.1 f.2.2.2.1) (l := w.2.2) (B := f.2.2.2.2) h1.2.2.2.2.1).1
    obtain ⟨i, ⟨d1, d2, d3, d4⟩, l⟩ := w
    have hw : d4 = [] := hw
    subst hw
    exact h2
section
variable {d : Nat} {m : Mem} {M D T NT nT CT CN C : Int} {us uT : List Int} {o v : Vl} {n : Nat} {tks : List (List Int)}
/-- a value copied into the document's tree -/
theorem t292 {t' : Int} {x' : Nat} {nd : ND} {l : Fo} (hd : 3 + hI l ≤ d) (ok : OK m) (h : DS m M D v n us C) (hwf : wfF (foC nd l foN)) (hS : SN m D t' us n x' nd l) (hlt : t' = D → x' < n ∧ ∀ j, j ∈ idF l → j < n) (b1 : n + 1 + szF l ≤ 5000) (b2 : us.length + nd.2.2.1.length + unF (nd.1 == 6) l ≤ 10000) :
    ∃ m' lD, ∃ (n' : Nat) (us' : List Int) (C' : Int), cl d 292 [pR D, pR t', pI x'] m = some (.inl (some (pI n)), m') ∧ DS m' M D v n' us' C' ∧ DX D m us C m' us' C' ∧ erF lD = erF l ∧ TNv (nv m' D) us' n' (n, noN nd, lD) ∧ (idV (n, noN nd, lD)).Nodup ∧ (∀ j, j ∈ idV (n, noN nd, lD) → j ∉ idV v) ∧ n' = n + 1 + szF l ∧ us'.length = us.length + nd.2.2.1.length + unF (nd.1 == 6) l := by
  obtain ⟨hI, hM, h18, hTW, hU, hN, ndv, h26⟩ := h
  obtain ⟨m', lD, n', us', C', e1, y1, e2, hN1, nl, rl, e3, e4⟩ := c292 (d := d) (x' := x') hd hTW hI ok hU hwf hS hlt (by omega) (by omega)
  have f1 := cl_FRM e1
  have ltn : ∀ j, j ∈ idV v → j < n := fun j hj => by
    have : j = v.1 ∨ j ∈ idF v.2.2 := by simpa [idV] using hj
    rcases this with q | q
    · have := hN.1; omega
    · have := hN.lt j q; omega
  refine ⟨m', lD, n', us', C', e1, ⟨y1.2.1.1, by rw [tg_of f1 ok.1 (by omega)]; exact hM, by rw [vl_of f1 ok.1 hM (by decide) (by rfl)]; exact h18, y1.1, y1.2.2.2.2.2.2.2, ?_, ndv, by rw [vl_of f1 ok.1 hM (by decide) (by rfl)]; exact h26⟩, DX.yt (ok.fr f1) y1 (by omega) (by omega), e2, hN1, ?_, ?_, e3, e4⟩
  · exact TN.yt y1 hN (by have := ltn v.1 (by unfold idV; simp); omega) (fun j hj => by have := ltn j (by unfold idV; simp [hj]); omega)
  · exact List.nodup_cons.mpr ⟨fun q => by have := rl n q; omega, nl⟩
  · intro j hj q
    have h1 := ltn j q
    have : j = n ∨ j ∈ idF lD := by simpa [idV] using hj
    rcases this with q2 | q2
    · omega
    · have := rl j q2; omega
theorem ADD.opr {X : RM} {w : Vl} (h : ADD X M D m n us C (adZ tks w v)) (hne : D ≠ NT) (hNT : ∃ nn un, TW m NT nn un CN) (hTI : TI m) : OPR X m M D NT CN C ((adZ tks w v).map erV) := by
  obtain ⟨nn, un, hN⟩ := hNT
  cases hr : adZ tks w v with
  | some v' =>
    rw [hr] at h
    obtain ⟨m', us', a1, a2, a3⟩ := h
    exact ⟨m', v', n, us', C, a1, rfl, a2, OX.dx a3 a2.1 hne hN⟩
  | none =>
    rw [hr] at h
    obtain ⟨m', us', a1, a2, a3, a4⟩ := h
    exact ⟨m', n, us', C, a1, a3, OX.dx a4 a2 hne hN⟩
/-- nodes and units of a value -/
def szV (v : Vl) : Nat := 1 + szF v.2.2 + v.2.1.2.2.1.length + unF (v.2.1.1 == 6) v.2.2
theorem unF_fapp (ob : Bool) : ∀ (A B : Fo), unF ob (fapp A B) = unF ob A + unF ob B := by
  intro A
  induction A with
  | leaf => intro B; show unF ob B = 0 + unF ob B; omega
  | inner n d u l r _ ih =>
    intro B
    show d.2.2.1.length + (if ob then d.2.2.2.length else 0) + unF (d.1 == 6) l + unF ob (fapp r B) = d.2.2.1.length + (if ob then d.2.2.2.length else 0) + unF (d.1 == 6) l + unF ob r + unF ob B
    rw [ih]; omega
theorem szV_plug : ∀ (kz : List Fr) (w : Vl), szV w ≤ szV (plug kz w) := by
  intro kz
  induction kz with
  | nil => intro w; exact Nat.le_refl _
  | cons f k ih =>
    intro w
    have h1 := ih (f.1, f.2.1, amg f.2.2.1 w f.2.2.2.1 f.2.2.2.2)
    have h2 : szV w ≤ szV (f.1, f.2.1, amg f.2.2.1 w f.2.2.2.1 f.2.2.2.2) := by
      unfold szV
      have e1 := sz_amg f.2.2.1 w f.2.2.2.1 f.2.2.2.2
      have e2 : unF (f.2.1.1 == 6) (amg f.2.2.1 w f.2.2.2.1 f.2.2.2.2) = unF (f.2.1.1 == 6) f.2.2.1 + unF (f.2.1.1 == 6) (.inner w.1 (wiN w.2.1 f.2.2.2.1) () w.2.2 f.2.2.2.2) := unF_fapp (f.2.1.1 == 6) f.2.2.1 (.inner w.1 (wiN w.2.1 f.2.2.2.1) () w.2.2 f.2.2.2.2)
      have e3 : unF (f.2.1.1 == 6) (.inner w.1 (wiN w.2.1 f.2.2.2.1) () w.2.2 f.2.2.2.2) = w.2.1.2.2.1.length + (if (f.2.1.1 == 6) then f.2.2.2.1.length else 0) + unF (w.2.1.1 == 6) w.2.2 + unF (f.2.1.1 == 6) f.2.2.2.2 := rfl
      dsimp only
      omega
    show szV w ≤ szV (plug k (f.1, f.2.1, amg f.2.2.1 w f.2.2.2.1 f.2.2.2.2))
    omega
theorem sz_mono : ∀ (k : List Fr) (u u' : Vl), szF u'.2.2 ≤ szF u.2.2 → szF (plug k u').2.2 ≤ szF (plug k u).2.2 := by
  intro k
  induction k with
  | nil => intro u u' h; exact h
  | cons f k ih =>
    intro u u' h
    refine ih _ _ ?_
    have e1 := sz_amg f.2.2.1 u f.2.2.2.1 f.2.2.2.2
    have e2 := sz_amg f.2.2.1 u' f.2.2.2.1 f.2.2.2.2
    dsimp only
    omega
/-- all that an operation starts from -/
def OPS (m : Mem) (M D T NT nT CT CN : Int) (uT : List Int) (o v : Vl) (n : Nat) (us : List Int) (C : Int) (tks : List (List Int)) : Prop := OT m M T nT CT uT o ∧ DS m M D v n us C ∧ TKS m M NT tks ∧ (∃ nn un, TW m NT nn un CN) ∧ (D ≠ T ∧ D ≠ NT ∧ T ≠ NT) ∧ (n ≤ 2000 ∧ us.length ≤ 4000 ∧ szF v.2.2 ≤ 3000 ∧ szV v ≤ 3000) ∧ (∀ tk, tk ∈ tks → tk.length ≤ 3000) ∧ dpV v.2.1 v.2.2 ≤ 32 ∧ wfF (foC v.2.1 v.2.2 foN) ∧ v.2.1.2.2.2 = []
/-- the member that is the value -/
theorem opv (hd : 40 ≤ d) (h : OPS m M D T NT nT CT CN uT o v n us C tks) (h6 : o.2.1.1 = 6) (hw : wfF o.2.2) (hdp : dpF o.2.2 ≤ 32) (hpr : szF o.2.2 + unF true o.2.2 ≤ 1300) :
    (fndF o.2.2 wVal = none ∧ ∃ i, i < 0 ∧ cl d 229 [pR M, pI o.1, pR 72] m = some (.inl (some (pI i)), m)) ∨
    ∃ (i : Nat) (d' : ND) (l' : Fo), fndF o.2.2 wVal = some (d', l') ∧ cl d 229 [pR M, pI o.1, pR 72] m = some (.inl (some (pI i)), m) ∧ TN (nv m T) uT nT i d' l' ∧ wfF (foC d' l' foN) ∧ dpV d' l' ≤ 32 ∧ 1 + szF l' + d'.2.2.1.length + unF (d'.1 == 6) l' ≤ 1301 := by
  obtain ⟨⟨ok, hM, h19, hTW, hN, hS⟩, -⟩ := h
  have e229 := c229 (d := d) (a := 72) (cs := wVal) (by omega) hM h19 ok hTW hN h6 hS.2.2.1
  have e6 : (o.2.1.1 == 6) = true := by rw [h6]; rfl
  have hF := hN.2.2.2.2.2
  rw [e6] at hF
  rcases TF.fnd wVal hF hw with ⟨a1, a2⟩ | ⟨i, d', l', a1, a2, a3, a4, a5⟩
  · exact Or.inl ⟨a1, _, a2, e229⟩
  · rw [a2] at e229
    refine Or.inr ⟨i, d', l', a1, e229, a3, a4, ?_, ?_⟩
    · have := fnd_dp a1; omega
    · have key : ∀ {F : Fo}, fndF F wVal = some (d', l') → 1 + szF l' + d'.2.2.1.length + unF (d'.1 == 6) l' ≤ szF F + unF true F := by
        intro F
        induction F with
        | leaf => intro h; cases h
        | inner n0 d0 u0 l0 r0 _ ih =>
          intro h
          unfold fndF at h
          show _ ≤ 1 + szF l0 + szF r0 + (d0.2.2.1.length + (if true then d0.2.2.2.length else 0) + unF (d0.1 == 6) l0 + unF true r0)
          split at h
          · cases h; omega
          · have := ih h; omega
      have := key a1; omega
theorem hI_dv {nd : ND} {l : Fo} (hw : wfF (foC nd l foN)) (h : dpV nd l ≤ 32) : hI l ≤ 34 := by
  have h1 := hI_dp hw.2.2.2.2.1
  rcases Nat.lt_or_ge nd.1 5 with q | q
  · rw [hw.2.2.1 q]; show 1 ≤ 34; omega
  · unfold dpV at h; rw [if_neg (by omega)] at h; omega
/-- adding -/
theorem op_add {a2 a3 a7 : Int} (hd : 60 ≤ d) (h : OPS m M D T NT nT CT CN uT o v n us C tks) (h6 : o.2.1.1 = 6) (hw : wfF o.2.2) (hdp : dpF o.2.2 ≤ 32) (hpr : szF o.2.2 + unF true o.2.2 ≤ 1300) : OPR (rn d 227 107 [pR M, pI o.1, pI a2, pI a3, pI 1, pI 0, pI 0, pI a7, pU, pU, pU] [] m) m M D NT CN C (match fndF (erF o.2.2) wVal with
    | none => none
    | some (d', l') => adZ tks (0, noN d', l') (erV v)) := by
  have hv := opv (d := d - 1) (by omega) h h6 hw hdp hpr
  obtain ⟨⟨ok, hM, h19, hTW, hN, hS⟩, hDS, hTK, hNT, ⟨n1, n2, n3⟩, ⟨b1, b2, b3⟩, hL, hdv, hwv, hvn⟩ := h
  rw [fndF_er]
  rcases hv with ⟨a1, i, i0, e229⟩ | ⟨i, d', l', a1, e229, hNi, hwi, hdi, hsi⟩
  · rw [a1]
    refine ⟨m, n, us, C, q227_107 (by omega) ok.1 _ (by rw [gd_of hM, bI_eq e229, if_pos i0]), hDS.2.2.2.1, OX.dx (DX.refl (us := us) ok) hDS.1 n2 hNT.choose_spec.choose_spec⟩
  · rw [a1]
    dsimp only [Option.map_some]
    obtain ⟨m1, lD, n', us', C', e292, hDS1, x1, el, hN1, nd1, dis1, en, eu⟩ := t292 (d := d - 1) (t' := T) (x' := i) (by have := hI_dv hwi hdi; omega) ok hDS hwi (Or.inl ⟨Ne.symm n1, _, _, _, hTW, hNi⟩) (fun q => absurd q.symm n1) (by omega) (by omega)
    have f1 := cl_FRM e292
    have ok1 := x1.1
    have hTK1 : TKS m1 M NT tks := hTK.step ok f1 (by rfl) (by rfl) (by rfl) (fun n us C h => (x1.2.1 NT (Ne.symm n2) n us C h).1)
    obtain ⟨nn, un, hNTw⟩ := hNT
    have hNT1 : ∃ nn un, TW m1 NT nn un CN := ⟨nn, un, (x1.2.1 NT (Ne.symm n2) nn un CN hNTw).1⟩
    have hA := c238 (d := d - 1) (w := (n, noN d', lD)) (by omega) ok1 hTK1 n2 hDS1 (by omega) (by omega) hN1 nd1 dis1 (fun tk ht => by have := hL tk ht; omega)
    have e0 : adZ tks (0, noN d', erF l') (erV v) = (adZ tks (n, noN d', lD) v).map erV := by
      rw [← adZ_er]
      show adZ tks (0, noN d', erF l') (erV v) = adZ tks (0, noN d', erF lD) (erV v)
      rw [el]
    rw [e0]
    refine OPR.pre (hA.opr n2 hNT1 hDS1.1) (OX.dx x1 hDS1.1 n2 hNTw) (fun Q hQ => ?_)
    refine q227_107 (by omega) ok.1 _ ?_
    rw [gd_of hM, bI_eq e229, if_neg (by omega), if_neg (by decide), if_neg (by decide)]
    refine q227_159 (by omega) ok.1 _ ?_
    rw [if_pos rfl, gd_of hM, nm_eq, hDS.2.2.1, gd_of hDS.2.2.2.1.1, h19, bI_eq e292, if_neg (by decide)]
    have hQ1 : ∃ z m2, Q = (.inl (some (pI z)), m2) ∧ (z = 0 ∨ z = 1) := by
      cases hr : adZ tks (n, noN d', lD) v with
      | some v' =>
        rw [hr] at hA
        obtain ⟨m', us', a1, -⟩ := hA
        rw [show (((n, noN d', lD) : Vl).1 : Int) = (n : Int) from rfl] at a1
        rw [hQ] at a1; cases a1; exact ⟨1, _, rfl, Or.inr rfl⟩
      | none =>
        rw [hr] at hA
        obtain ⟨m', us', a1, -⟩ := hA
        rw [show (((n, noN d', lD) : Vl).1 : Int) = (n : Int) from rfl] at a1
        rw [hQ] at a1; cases a1; exact ⟨0, _, rfl, Or.inl rfl⟩
    obtain ⟨z, m2, rfl, hz⟩ := hQ1
    rw [bI_eq hQ, gd_of hz]
/-- testing -/
theorem op_tst {a2 a3 a7 : Int} (hd : 60 ≤ d) (h : OPS m M D T NT nT CT CN uT o v n us C tks) (h6 : o.2.1.1 = 6) (hw : wfF o.2.2) (hdp : dpF o.2.2 ≤ 32) (hpr : szF o.2.2 + unF true o.2.2 ≤ 1300) : OPR (rn d 227 107 [pR M, pI o.1, pI a2, pI a3, pI 0, pI 0, pI 1, pI a7, pU, pU, pU] [] m) m M D NT CN C (match fndF (erF o.2.2) wVal with
    | none => none
    | some (d', l') => match goZ tks [] (erV v) with
      | none => none
      | some (_, w) => if smV w.2.1 w.2.2 d' l' then some (erV v) else none) := by
  have hv := opv (d := d - 1) (by omega) h h6 hw hdp hpr
  obtain ⟨⟨ok, hM, h19, hTW, hN, hS⟩, hDS, hTK, hNT, ⟨n1, n2, n3⟩, ⟨b1, b2, b3⟩, hL, hdv, hwv, hvn⟩ := h
  obtain ⟨nn, un, hNTw⟩ := hNT
  have hDS0 := hDS
  obtain ⟨hI, -, h18, hDW, hU, hNv, ndv, h26⟩ := hDS
  have x0 : OX D NT CN m C m C := OX.dx (DX.refl (us := us) ok) hI n2 hNTw
  rw [fndF_er]
  rcases hv with ⟨a1, i, i0, e229⟩ | ⟨i, d', l', a1, e229, hNi, hwi, hdi, hsi⟩
  · rw [a1]
    exact ⟨m, n, us, C, q227_107 (by omega) ok.1 _ (by rw [gd_of hM, bI_eq e229, if_pos i0]), hDW, x0⟩
  · rw [a1]
    dsimp only [Option.map_some]
    have e232 := c232 (d := d - 1) (nn := tks.length) (by omega) ok hTK h18 hDW (by omega) (Nat.le_refl _) hNv (by omega)
    rw [List.take_length] at e232
    have h24 : vl m M 24 = tks.length := hTK.2.2.2.2.1
    have eg := goZ_er tks [] v
    have eg : goZ tks [] (erV v) = (goZ tks [] v).map (fun p => (p.1.map erFr, erV p.2)) := eg
    rw [eg]
    cases hz : goZ tks [] v with
    | none =>
      rw [hz] at e232
      refine ⟨m, n, us, C, q227_107 (by omega) ok.1 _ (by rw [gd_of hM, bI_eq e229, if_neg (by omega), if_pos rfl, h26, h24, bI_eq e232, if_pos rfl, if_pos (by decide)]), hDW, x0⟩
    | some p =>
      obtain ⟨kz, w⟩ := p
      rw [hz] at e232
      have e232 : cl (d - 1) 232 [pR M, pI v.1, pI tks.length] m = some (.inl (some (pI (w.1 : Int))), m) := e232
      dsimp only [Option.map_some]
      have hp : plug kz w = v := goZ_plug tks [] v kz w hz
      have hNw : TNv (nv m D) us n w := TNv.sub kz w (by rw [hp]; exact hNv)
      obtain ⟨kn, wn⟩ := goZ_nm tks [] v kz w (fun f hf => absurd hf (by simp)) hvn hz
      have hww : wfF (foC w.2.1 w.2.2 foN) := wf_sub kz w kn wn (by rw [hp]; exact hwv)
      have hsw : szF w.2.2 ≤ 100000 := by have := sz_plug kz w; rw [hp] at this; omega
      have e235 := c235 (d := d - 1) (t := T) (t' := D) (x := i) (y := w.1) (by have := hI_dv hwi hdi; omega) ok hTW hDW hNi hNw hwi hww (by omega) hsw
      have es : smV (erV w).2.1 (erV w).2.2 d' (erF l') = smV d' l' w.2.1 w.2.2 := by
        show smV w.2.1 (erF w.2.2) d' (erF l') = _
        rw [smV_er, smV_sym hww hwi]
      have run : ∀ Q, (bI (cl (d - 1) 235 [pR T, pI i, pR D, pI w.1] m) fun v4 m4 => gd (v4 = 0 ∨ v4 = 1) <| some (.inl (some (pI v4)), m4)) = some Q → rn d 227 107 [pR M, pI o.1, pI a2, pI a3, pI 0, pI 0, pI 1, pI a7, pU, pU, pU] [] m = some Q := by
        intro Q hQ
        refine q227_107 (by omega) ok.1 _ ?_
        rw [gd_of hM, bI_eq e229, if_neg (by omega), if_pos rfl, h26, h24, bI_eq e232, if_pos rfl, if_neg (by omega)]
        refine q227_159 (by omega) ok.1 _ ?_
        rw [if_neg (by decide), gd_of hM, h19, h18]
        exact hQ
      rw [es]
      by_cases hs : smV d' l' w.2.1 w.2.2 = true
      · rw [if_pos hs]
        rw [hs] at e235
        exact ⟨m, v, n, us, C, run _ (by rw [bI_eq e235, gd_of (show b2i true = 0 ∨ b2i true = 1 from Or.inr rfl)]; rfl), rfl, hDS0, x0⟩
      · rw [if_neg hs]
        have hs : smV d' l' w.2.1 w.2.2 = false := by simpa using hs
        rw [hs] at e235
        exact ⟨m, n, us, C, run _ (by rw [bI_eq e235, gd_of (show b2i false = 0 ∨ b2i false = 1 from Or.inl rfl)]; rfl), hDW, x0⟩
end
