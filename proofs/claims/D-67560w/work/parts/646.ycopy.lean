/-! the twin's trees: copies -/
set_option maxRecDepth 100000
set_option maxHeartbeats 4000000
def szF : Fo → Nat
  | .leaf => 0
  | .inner _ _ _ l r => 1 + szF l + szF r
def unF : Bool → Fo → Nat
  | _, .leaf => 0
  | ob, .inner _ d _ l r => d.2.2.1.length + (if ob then d.2.2.2.length else 0) + unF (d.1 == 6) l + unF ob r
/-- a node of tree t' (which may be t itself) -/
def SN (m : Mem) (t t' : Int) (us : List Int) (n : Int) (x : Nat) (nd : ND) (l : Fo) : Prop := (t' ≠ t ∧ ∃ n' us' C', TW m t' n' us' C' ∧ TN (nv m t') us' n' x nd l) ∨ (t' = t ∧ TN (nv m t) us n x nd l)
/-- nodes side by side in tree t', below a node x of kind K -/
def SF (m : Mem) (t t' : Int) (us : List Int) (n : Int) (x : Nat) (K p : Int) (ob : Bool) (F : Fo) : Prop := (t' ≠ t ∧ ∃ n' us' C', TW m t' n' us' C' ∧ (x : Int) < n' ∧ nv m t' 0 x = K ∧ TF (nv m t') us' n' p ob F) ∨ (t' = t ∧ (x : Int) < n ∧ nv m t 0 x = K ∧ TF (nv m t) us n p ob F)
section
variable {d : Nat} {m : Mem} {t t' n C : Int} {us : List Int}
theorem SN.get {x : Nat} {nd : ND} {l : Fo} (h : SN m t t' us n x nd l) (hw : TW m t n us C) : ∃ n' us' C', TW m t' n' us' C' ∧ TN (nv m t') us' n' x nd l := by
  rcases h with ⟨-, h⟩ | ⟨rfl, h⟩
  · exact h
  · exact ⟨n, us, C, hw, h⟩
theorem SF.get {x : Nat} {K p : Int} {ob : Bool} {F : Fo} (h : SF m t t' us n x K p ob F) (hw : TW m t n us C) : ∃ n' us' C', TW m t' n' us' C' ∧ (x : Int) < n' ∧ nv m t' 0 x = K ∧ TF (nv m t') us' n' p ob F := by
  rcases h with ⟨-, h⟩ | ⟨rfl, h⟩
  · exact h
  · exact ⟨n, us, C, hw, h⟩
theorem SN.yt {x : Nat} {nd : ND} {l : Fo} {b n1 C1 : Int} {m1 : Mem} {us1 : List Int} (h : SN m t t' us n x nd l) (y : YT t b m n us C m1 n1 us1 C1) (hb : t' = t → (x : Int) < b ∧ ∀ j, j ∈ idF l → (j : Int) < b) : SN m1 t t' us1 n1 x nd l := by
  rcases h with ⟨h1, n', us', C', h2, h3⟩ | ⟨h1, h2⟩
  · obtain ⟨k1, k2, -⟩ := y.2.1.2.1 t' h1 n' us' C' h2
    exact Or.inl ⟨h1, n', us', C', k1, h3.keep0 (fun f j f0 f1 _ => k2 f j f0 f1) (fun f f0 f1 => k2 f x f0 (by omega))⟩
  · exact Or.inr ⟨h1, h2.yt y (hb h1).1 (hb h1).2⟩
theorem SF.yt {x : Nat} {K p : Int} {ob : Bool} {F : Fo} {b n1 C1 : Int} {m1 : Mem} {us1 : List Int} (h : SF m t t' us n x K p ob F) (y : YT t b m n us C m1 n1 us1 C1) (hb : t' = t → (x : Int) < b ∧ ∀ j, j ∈ idF F → (j : Int) < b) : SF m1 t t' us1 n1 x K p ob F := by
  rcases h with ⟨h1, n', us', C', h2, h3, h4, h5⟩ | ⟨h1, h2, h3, h4⟩
  · obtain ⟨k1, k2, -⟩ := y.2.1.2.1 t' h1 n' us' C' h2
    exact Or.inl ⟨h1, n', us', C', k1, h3, by rw [k2 0 x (by decide) (by decide)]; exact h4, h5.keep0 (fun f j f0 f1 _ => k2 f j f0 f1)⟩
  · obtain ⟨y1, y2, y3, y4, y5, y6, ⟨vs, rfl⟩, y8⟩ := y
    obtain ⟨b1, b2⟩ := hb h1
    exact Or.inr ⟨h1, by omega, by rw [y2.2.2 0 x (by decide) (by decide) (by omega) b1]; exact h3, TF.keep y6 h4 (fun f j f0 f1 hj => y2.2.2 f j f0 f1 (by omega) (b2 j hj))⟩
/-- units of a node of the other tree -/
theorem c292_60 {x' x a5 : Int} {ks : List Int} (hd : 1 ≤ d) : ∀ (rest pre : List Int) (m : Mem) (us : List Int), ks = pre ++ rest → TW m t n us C → TI m → OK m → wfU us → wfU ks → (us.length : Int) + rest.length ≤ 40000 → SRC m t t' us a5 ks → ∃ m', YQ t n C m (us ++ rest) m' ∧ OK m' ∧ ∀ Q, (gd (tg m' t' = 13) <| nm (vl m' t' 4) fun v4 => gd (tg m' v4 = 284101 ∨ tg m' v4 = 287101) <| gd ((0 : Int) ≤ x' ∧ x' < ln m' v4) <| rn d 292 98 [pR t, pR t', pI x', pI x, pI ks.length, pI a5, pI (-1), pI (vl m' v4 x'), pU] [] m') = some Q → rn d 292 60 [pR t, pR t', pI x', pI x, pI ks.length, pI a5, pI pre.length, pU, pU] [] m = some Q := by
  intro rest
  induction rest with
  | nil =>
    intro pre m us hks hw hT ok hU hK hL hS
    rw [List.append_nil] at hks
    refine ⟨m, by rw [List.append_nil]; exact ⟨hw, TU.refl hT, GR.refl, by omega, hU⟩, ok, fun Q hQ => q292_60 (by omega) ok.1 _ ?_⟩
    rw [if_neg (by rw [hks]; omega)]; exact hQ
  | cons u rest ih =>
    intro pre m us hks hw hT ok hU hK hL hS
    have hl : (ks.length : Int) = pre.length + 1 + rest.length := by rw [hks]; simp; omega
    obtain ⟨a1, a2, a3, a4, a5', a6⟩ := hS.ld hw (j := pre.length) ⟨by omega, by omega⟩
    have hg : gi ks pre.length = u := by rw [hks, gi_app_r (by omega), Int.sub_self]; rfl
    rw [hg] at a6
    have hu := hK u (by rw [hks]; simp)
    simp only [List.length_cons] at hL
    obtain ⟨m1, e1, y1⟩ := YQ.unit (d := d - 1) (u := u) hw hT ok hU (by omega) hu
    obtain ⟨m2, y2, ok2, e2⟩ := ih (pre ++ [u]) m1 (us ++ [u]) (by simp [hks]) y1.1 y1.2.1.1 (ok.fr (cl_FRM e1)) y1.2.2.2.2 hK (by simp; omega) (hS.yq y1)
    refine ⟨m2, ?_, ok2, fun Q hQ => ?_⟩
    · have := y1.trans hw y2 (by simp)
      simpa using this
    · refine q292_60 (by omega) ok.1 _ ?_
      have e3 : ((pre ++ [u]).length : Int) = pre.length + 1 := by simp
      rw [if_pos (by omega), gd_of a1, nm_eq, nm_eq, w32_of (z := a5 + pre.length) (by omega) (by omega), gd_of a2, gd_of ⟨by omega, by omega⟩, a6, gd_of hw.1, bV_eq e1, w32_of (by omega) (by omega), ← e3]; exact e2 Q hQ
def PC (t t' : Int) (F : Fo) : Prop := ∀ (d : Nat) (m : Mem) (n : Nat) (us : List Int) (C : Int) (x x' : Nat) (K p a4 a5 : Int) (ob : Bool) (A : Fo) (nd' : ND) (z : PV), 3 + hI F ≤ d → cat z = 1 → TW m t n us C → TI m → OK m → wfU us → wfF F → SF m t t' us n x' K p ob F → (K = 6 ↔ ob = true) → (nd'.1 == 6) = ob → TN (nv m t) us n x nd' A → (idF A).Nodup → (∀ j, j ∈ idF A → x < j) → (t' = t → x' < x ∧ ∀ j, j ∈ idF F → j < x) → (n : Int) + szF F < 20000 → (us.length : Int) + unF ob F ≤ 40000 →
  ∃ m' FD, ∃ (n' : Nat) (us' : List Int) (C' : Int), rn d 292 98 [pR t, pR t', pI x', pI x, pI a4, pI a5, pI (lsI (-1) A), pI (hdI F), z] [] m = some (.inl (some (pI x)), m') ∧ OK m' ∧ YT t x m n us C m' n' us' C' ∧ erF FD = erF F ∧ TN (nv m' t) us' n' x nd' (fapp A FD) ∧ (idF (fapp A FD)).Nodup ∧ (∀ j, j ∈ idF (fapp A FD) → x < j) ∧ n' = n + szF F ∧ us'.length = us.length + unF ob F
theorem c292_of {x' : Nat} {nd : ND} {l : Fo} {n : Nat} (hF : PC t t' l) (hd : 3 + hI l ≤ d) (hw : TW m t n us C) (hT : TI m) (ok : OK m) (hU : wfU us) (hwf : wfF (foC nd l foN)) (hS : SN m t t' us n x' nd l) (hlt : t' = t → x' < n ∧ ∀ j, j ∈ idF l → j < n) (hn : (n : Int) + 1 + szF l < 20000) (hL : (us.length : Int) + nd.2.2.1.length + unF (nd.1 == 6) l ≤ 40000) :
    ∃ m' lD, ∃ (n' : Nat) (us' : List Int) (C' : Int), cl d 292 [pR t, pR t', pI x'] m = some (.inl (some (pI n)), m') ∧ YT t n m n us C m' n' us' C' ∧ erF lD = erF l ∧ TN (nv m' t) us' n' n nd lD ∧ (idF lD).Nodup ∧ (∀ j, j ∈ idF lD → n < j) ∧ n' = n + 1 + szF l ∧ us'.length = us.length + nd.2.2.1.length + unF (nd.1 == 6) l := by
  obtain ⟨⟨w1, w2, w3, w4, w5⟩, w6, w7, w8', w9, -⟩ := hwf
  obtain ⟨n0, us0, C0, s1, s2⟩ := hS.get hw
  have l0 := s1.ld (f := 0) ⟨by decide, by decide⟩ (by decide)
  have hc0 := s1.2.2.2.2.2.2.1
  have hx0 := s2.1
  have e0 : vl m (vl m t' 0) x' = kT nd.1 := s2.2.1
  obtain ⟨m1, C1, e1, y1, f0, f4, f5, f8, f6, f3, f2⟩ := YT.add (d := d - 1) (k := kT nd.1) (by omega) hw hT ok (by omega) hU
  have ok1 := ok.fr (cl_FRM e1)
  have hS1 := hS.yt y1 (fun q => ⟨by have := (hlt q).1; omega, fun j hj => by have := (hlt q).2 j hj; omega⟩)
  obtain ⟨n2, us2, C2, t1, t2⟩ := hS1.get y1.1
  have hc1 := y1.1.2.2.2.2.2.2.1
  have hc2 := t1.2.2.2.2.2.2.1
  have hx2 := t2.1
  have k1 := y1.1.2.2.1
  have k2 := y1.1.ld (f := 2) ⟨by decide, by decide⟩ (by decide)
  have k3 := y1.1.ld (f := 3) ⟨by decide, by decide⟩ (by decide)
  have r1 := t1.2.2.1
  have r2 := t1.ld (f := 2) ⟨by decide, by decide⟩ (by decide)
  have r3 := t1.ld (f := 3) ⟨by decide, by decide⟩ (by decide)
  obtain ⟨a1, a2, a3, a4⟩ := y1.1.put (f := 1) (i := n) (v := vl m1 (vl m1 t' 1) x') (TG.refl y1.2.1.1 ok1) ⟨by decide, by decide⟩ rfl
  obtain ⟨b1, b2, b3, b4⟩ := a1.put (f := 2) (i := n) (v := us.length) a2 ⟨by decide, by decide⟩ (a4 2).symm
  obtain ⟨c1, c2, c3, c4⟩ := b1.put (f := 3) (i := n) (v := nd.2.2.1.length) b2 ⟨by decide, by decide⟩ (by rw [b4, a4] : vl m1 t 3 = _)
  have y2 : YT t n m1 ((n + 1 : Nat) : Int) us C1 (mst (mst (mst m1 (vl m1 t 1) n (vl m1 (vl m1 t' 1) x')) (vl m1 t 2) n us.length) (vl m1 t 3) n nd.2.2.1.length) ((n + 1 : Nat) : Int) us C1 := YT.tg c1 c2 (fun f j f0 f1 j0 j1 => by rw [up_ne _ _ _ _ _ _ (by omega), up_ne _ _ _ _ _ _ (by omega), up_ne _ _ _ _ _ _ (by omega)]) (by rw [c3, b3, a3]) rfl rfl hU
  have ok2 : OK (mst (mst (mst m1 (vl m1 t 1) n (vl m1 (vl m1 t' 1) x')) (vl m1 t 2) n us.length) (vl m1 t 3) n nd.2.2.1.length) := ok1
  have step1 : ∀ Q, rn d 292 60 [pR t, pR t', pI x', pI n, pI nd.2.2.1.length, pI (vl m1 (vl m1 t' 2) x'), pI 0, pU, pU] [] (mst (mst (mst m1 (vl m1 t 1) n (vl m1 (vl m1 t' 1) x')) (vl m1 t 2) n us.length) (vl m1 t 3) n nd.2.2.1.length) = some Q → cl d 292 [pR t, pR t', pI x'] m = some Q := by
    intro Q hQ
    have g3 : vl m1 (vl m1 t' 3) x' = nd.2.2.1.length := t2.2.2.2.1.1
    refine q292 (by omega) ok.1 _ ?_
    rw [gd_of s1.1, nm_eq, gd_of l0.1, gd_of ⟨by omega, by omega⟩, gd_of hw.1, e0, bI_eq e1, nm_eq, nm_eq, gd_of r1.1, gd_of ⟨by omega, by omega⟩, gd_of k1.1, gd_of ⟨by omega, by omega⟩, nm_eq, gd_of r3.1, gd_of ⟨by omega, by omega⟩, nm_eq, g3, nm_eq, gd_of r2.1, gd_of ⟨by omega, by omega⟩, nm_eq, gd_of k2.1, gd_of ⟨by omega, by omega⟩, nm_eq, gd_of k3.1, gd_of ⟨by omega, by omega⟩, y1.1.2.2.2.2.2.1]; exact hQ
  have hid : ∀ j, t' = t → j ∈ idF l → j < n := fun j q hj => (hlt q).2 j hj
  have hS2 := hS1.yt y2 (fun q => ⟨by have := (hlt q).1; omega, fun j hj => by have := hid j q hj; omega⟩)
  generalize hm2 : (mst (mst (mst m1 (vl m1 t 1) n (vl m1 (vl m1 t' 1) x')) (vl m1 t 2) n us.length) (vl m1 t 3) n nd.2.2.1.length) = m2 at *
  have gv : ∀ f, 0 ≤ f → f ≤ 9 → f ≠ 1 → f ≠ 2 → f ≠ 3 → nv m2 t f n = nv m1 t f n := fun f f0 f1 g1 g2 g3 => by rw [c2.2.2.2 f n f0 f1, up_ne _ _ _ _ _ _ (by omega), up_ne _ _ _ _ _ _ (by omega), up_ne _ _ _ _ _ _ (by omega)]
  have g1 : nv m2 t 1 n = vl m1 (vl m1 t' 1) x' := by rw [c2.2.2.2 1 n (by decide) (by decide), up_ne _ _ _ _ _ _ (by omega), up_ne _ _ _ _ _ _ (by omega), up_eq]
  have g2 : nv m2 t 2 n = us.length := by rw [c2.2.2.2 2 n (by decide) (by decide), up_ne _ _ _ _ _ _ (by omega), up_eq]
  have g3 : nv m2 t 3 n = nd.2.2.1.length := by rw [c2.2.2.2 3 n (by decide) (by decide), up_eq]
  have e2s : vl m1 (vl m1 t' 2) x' = nv m1 t' 2 x' := rfl
  -- where the units stand
  have hR2 : SRC m2 t t' us (nv m1 t' 2 x') nd.2.2.1 := by
    rcases hS1 with ⟨q, n3, us3, C3, q1, q2⟩ | ⟨q, q2⟩
    · exact Or.inl ⟨q, n3, us3, C3, (y2.2.1.2.1 t' q _ _ _ q1).1, q2.2.2.2.1.2⟩
    · subst q; exact Or.inr ⟨rfl, q2.2.2.2.1.2⟩
  obtain ⟨m3, y3, ok3, st3⟩ := c292_60 (d := d) (x' := x') (x := n) (a5 := nv m1 t' 2 x') (ks := nd.2.2.1) (by omega) nd.2.2.1 [] m2 us rfl y2.1 y2.2.1.1 ok2 hU w4 (by omega) hR2
  have y3' : YT t n m2 ((n + 1 : Nat) : Int) us C1 m3 ((n + 1 : Nat) : Int) (us ++ nd.2.2.1) C1 := (YT.of y3 y2.1 ⟨_, rfl⟩).mono (by omega)
  have hN3 : TN (nv m3 t) (us ++ nd.2.2.1) ((n + 1 : Nat) : Int) n nd .leaf := by
    have kv : ∀ f, 0 ≤ f → f ≤ 9 → nv m3 t f n = nv m2 t f n := fun f f0 f1 => y3.2.1.2.2 t f n _ _ _ y2.1 f0 f1
    refine ⟨by omega, by rw [kv 0 (by decide) (by decide), gv 0 (by decide) (by decide) (by decide) (by decide) (by decide)]; exact f0, fun q => by rw [kv 1 (by decide) (by decide), g1]; exact t2.2.2.1 q, ⟨by rw [kv 3 (by decide) (by decide)]; exact g3, by rw [kv 2 (by decide) (by decide), g2]; exact At.end⟩, by rw [kv 4 (by decide) (by decide), gv 4 (by decide) (by decide) (by decide) (by decide) (by decide)]; exact f4, trivial⟩
  have hS3 := hS2.yt y3' (fun q => ⟨by have := (hlt q).1; omega, fun j hj => by have := hid j q hj; omega⟩)
  obtain ⟨n4, us4, C4, u1, u2⟩ := hS3.get y3.1
  have hc4 := u1.2.2.2.2.2.2.1
  have hx4 := u2.1
  have u4 := u1.ld (f := 4) ⟨by decide, by decide⟩ (by decide)
  have e4 : vl m3 (vl m3 t' 4) x' = hdI l := u2.2.2.2.2.1
  have hSF : SF m3 t t' (us ++ nd.2.2.1) ((n + 1 : Nat) : Int) x' (kT nd.1) x' (nd.1 == 6) l := by
    rcases hS3 with ⟨q, n5, us5, C5, q1, q2⟩ | ⟨q, q2⟩
    · exact Or.inl ⟨q, n5, us5, C5, q1, q2.1, q2.2.1, q2.2.2.2.2.2⟩
    · exact Or.inr ⟨q, q2.1, q2.2.1, q2.2.2.2.2.2⟩
  have hK6 : kT nd.1 = 6 ↔ (nd.1 == 6) = true := by
    rw [beq_iff_eq]
    unfold kT
    split
    · omega
    · split <;> omega
  obtain ⟨m5, FD, n5, us5, C5, e5, ok5, y5, er5, hN5, nd5, rg5, hn5, hu5⟩ := hF d m3 (n + 1) (us ++ nd.2.2.1) C1 n x' (kT nd.1) x' nd.2.2.1.length (nv m1 t' 2 x') (nd.1 == 6) .leaf nd pU (by omega) rfl y3.1 y3.2.1.1 ok3 y3.2.2.2.2 w9 hSF hK6 rfl hN3 (by simp [idF]) (fun j hj => absurd hj (by simp [idF])) (fun q => ⟨(hlt q).1, fun j hj => hid j q hj⟩) (by omega) (by rw [List.length_append]; omega)
  refine ⟨m5, FD, n5, us5, C5, step1 _ ?_, ((y1.trans y2 (Int.le_refl _)).trans y3' (Int.le_refl _)).trans y5 (Int.le_refl _), er5, hN5, nd5, rg5, by omega, by rw [hu5, List.length_append]⟩
  rw [e2s]
  refine st3 _ ?_
  rw [gd_of u1.1, nm_eq, gd_of u4.1, gd_of ⟨by omega, by omega⟩, e4]
  exact e5
theorem PC_all : ∀ F : Fo, PC t t' F := by
  intro F
  induction F with
  | leaf =>
    intro d m n us C x x' K p a4 a5 ob A nd' z hd hz hw hT ok hU hwf hS hK hob hN nA rA hlt hn hL
    refine ⟨m, .leaf, n, us, C, ?_, ok, ⟨hw, ((TU.refl hT).tv hw).mono (by have := hN.1; omega), GR.refl, by omega, by omega, by omega, ⟨[], by rw [List.append_nil]⟩, hU⟩, rfl, by rw [fapp_nil]; exact hN, by rw [fapp_nil]; exact nA, by rw [fapp_nil]; exact rA, rfl, rfl⟩
    refine q292_98 (by omega) ok.1 hz _ ?_
    rw [if_pos (show hdI .leaf < 0 by decide)]
  | inner i nd u l r ihl ihr =>
    intro d m n us C x x' K p a4 a5 ob A nd' z hd hz hw hT ok hU hwf hS hK hob hN nA rA hlt hn hL
    obtain ⟨w1, w2, w3, w4, w5, w6⟩ := hwf
    have hh : max (1 + hI l) (hI r) + 3 ≤ d := by have : hI (.inner i nd u l r) = max (1 + hI l) (hI r) := rfl; omega
    have hsz : szF (.inner i nd u l r) = 1 + szF l + szF r := rfl
    have hun : unF ob (.inner i nd u l r) = nd.2.2.1.length + (if ob then nd.2.2.2.length else 0) + unF (nd.1 == 6) l + unF ob r := rfl
    rw [hsz] at hn ⊢
    rw [hun] at hL ⊢
    have hxn : (x : Int) < n := hN.1
    have hidl : ∀ j, j ∈ idF l → j ∈ idF (.inner i nd u l r) := fun j hj => by simp [idF]; exact Or.inr (Or.inl hj)
    have hidr : ∀ j, j ∈ idF r → j ∈ idF (.inner i nd u l r) := fun j hj => by simp [idF]; exact Or.inr (Or.inr hj)
    have hidi : i ∈ idF (.inner i nd u l r) := by simp [idF]
    have hSi : SN m t t' us n i nd l := by
      rcases hS with ⟨q, n1, us1, C1, q1, q2, q3, q4⟩ | ⟨q, q2, q3, q4⟩
      · exact Or.inl ⟨q, n1, us1, C1, q1, q4.1, q4.2.1, q4.2.2.1, q4.2.2.2.1, q4.2.2.2.2.2.2.1, q4.2.2.2.2.2.2.2.2.1⟩
      · exact Or.inr ⟨q, q4.1, q4.2.1, q4.2.2.1, q4.2.2.2.1, q4.2.2.2.2.2.2.1, q4.2.2.2.2.2.2.2.2.1⟩
    obtain ⟨m1, lD, n1, us1, C1, e1, y1, er1, hN1, nd1, rg1, hn1, hu1⟩ := c292_of (d := d - 1) ihl (by omega) hw hT ok hU ⟨w1, w2, w3, w4, w5, trivial⟩ hSi (fun q => ⟨by have := (hlt q).2 i hidi; omega, fun j hj => by have := (hlt q).2 j (hidl j hj); omega⟩) (by omega) (by omega)
    have ok1 := ok.fr (cl_FRM e1)
    have hc1 := y1.1.2.2.2.2.2.2.1
    -- no name yet
    obtain ⟨a1, a2, a3, a4'⟩ := y1.1.put (f := 6) (i := n) (v := -1) (TG.refl y1.2.1.1 ok1) ⟨by decide, by decide⟩ rfl
    have k6 := y1.1.ld (f := 6) ⟨by decide, by decide⟩ (by decide)
    have y2 : YT t n m1 n1 us1 C1 (mst m1 (vl m1 t 6) n (-1)) n1 us1 C1 := YT.tg a1 a2 (fun f j f0 f1 j0 j1 => up_ne _ _ _ _ _ _ (by omega)) a3 rfl rfl y1.2.2.2.2.2.2.2
    have ok2 : OK (mst m1 (vl m1 t 6) n (-1)) := ok1
    have hset := y1.1.setv (f := 6) (i := n) (v := -1) ok1 ⟨by decide, by decide⟩
    have hblt : t' = t → (x' : Int) < n ∧ ∀ j, j ∈ idF (.inner i nd u l r) → (j : Int) < n := fun q => ⟨by have := (hlt q).1; omega, fun j hj => by have := (hlt q).2 j hj; omega⟩
    have hS1 := hS.yt y1 hblt
    have hS2 := hS1.yt y2 hblt
    obtain ⟨n0, us0, C0, s1, s2, s3, s4⟩ := hS1.get y1.1
    have hc0 := s1.2.2.2.2.2.2.1
    have q0 := s1.ld (f := 0) ⟨by decide, by decide⟩ (by decide)
    have q6 := s1.ld (f := 6) ⟨by decide, by decide⟩ (by decide)
    have q7 := s1.ld (f := 7) ⟨by decide, by decide⟩ (by decide)
    have hi0 : (i : Int) < n0 := s4.1
    obtain ⟨n0', us0', C0', s1', s2', s3', s4'⟩ := hS2.get y2.1
    have ev : ∀ f, vl (mst m1 (vl m1 t 6) n (-1)) t' f = vl m1 t' f := fun f => hset t' s1.1 f
    have eK : vl (mst m1 (vl m1 t 6) n (-1)) (vl m1 t' 0) x' = K := by rw [← ev 0]; exact s3'
    have hN2 : TN (nv (mst m1 (vl m1 t 6) n (-1)) t) us1 n1 n nd lD := hN1.keep0 (fun f j f0 f1 hj => by rw [a2.2.2.2 f j f0 f1, up_ne _ _ _ _ _ _ (by have := rg1 j hj; omega)]) (fun f f0 f1 => by rw [a2.2.2.2 f n f0 (by omega), up_ne _ _ _ _ _ _ (by omega)])
    have step1 : ∀ Q, (if K = 6 then (nm (vl m1 t' 6) fun v5 => gd (tg m1 v5 = 284101 ∨ tg m1 v5 = 287101) <| gd ((0 : Int) ≤ i ∧ (i : Int) < ln m1 v5) <| nm (vl m1 t' 7) fun v6 => gd (tg m1 v6 = 284101 ∨ tg m1 v6 = 287101) <| gd ((0 : Int) ≤ i ∧ (i : Int) < ln m1 v6) <| bV (cl (d - 1) 293 [pR t, pI n, pR t', pI (vl (mst m1 (vl m1 t 6) n (-1)) v5 i), pI (vl (mst m1 (vl m1 t 6) n (-1)) v6 i)] (mst m1 (vl m1 t 6) n (-1))) fun m2 => rn d 292 152 [pR t, pR t', pI x', pI x, pI a4, pI a5, pI (lsI (-1) A), pI i, pI n] [] m2) else rn d 292 152 [pR t, pR t', pI x', pI x, pI a4, pI a5, pI (lsI (-1) A), pI i, pI n] [] (mst m1 (vl m1 t 6) n (-1))) = some Q → rn d 292 98 [pR t, pR t', pI x', pI x, pI a4, pI a5, pI (lsI (-1) A), pI (hdI (.inner i nd u l r)), z] [] m = some Q := by
      intro Q hQ
      refine q292_98 (by omega) ok.1 hz _ ?_
      rw [show hdI (.inner i nd u l r) = (i : Int) from rfl, if_neg (by omega), gd_of hw.1, bI_eq e1, nm_eq, gd_of k6.1, gd_of ⟨by omega, by omega⟩, gd_of s1.1, nm_eq, gd_of q0.1, gd_of ⟨by omega, by omega⟩, eK]; exact hQ
    -- the name
    obtain ⟨m3, us3, ok3, y3, hN3, hnm3, hu3, step2⟩ : ∃ (m3 : Mem) (us3 : List Int), OK m3 ∧ YT t n m n us C m3 n1 us3 C1 ∧ TN (nv m3 t) us3 n1 n nd lD ∧ (ob = true → nv m3 t 7 n = nd.2.2.2.length ∧ At us3 (nv m3 t 6 n) nd.2.2.2) ∧ us3.length = us1.length + (if ob then nd.2.2.2.length else 0) ∧ ∀ Q, rn d 292 152 [pR t, pR t', pI x', pI x, pI a4, pI a5, pI (lsI (-1) A), pI i, pI n] [] m3 = some Q → rn d 292 98 [pR t, pR t', pI x', pI x, pI a4, pI a5, pI (lsI (-1) A), pI (hdI (.inner i nd u l r)), z] [] m = some Q := by
      cases hobb : ob with
      | false =>
        refine ⟨mst m1 (vl m1 t 6) n (-1), us1, ok2, y1.trans y2 (Int.le_refl _), hN2, fun q => (by cases q), by simp, fun Q hQ => step1 Q ?_⟩
        rw [if_neg (fun q => by rw [hobb] at hK; exact absurd (hK.mp q) (by decide))]; exact hQ
      | true =>
        rw [hobb] at hK s4' hL
        rw [if_pos rfl] at hL
        obtain ⟨g7, g6⟩ := s4'.2.2.2.2.1 rfl
        have e6 : vl (mst m1 (vl m1 t 6) n (-1)) (vl m1 t' 6) i = nv (mst m1 (vl m1 t 6) n (-1)) t' 6 i := by unfold nv; rw [ev 6]
        have e7 : vl (mst m1 (vl m1 t 6) n (-1)) (vl m1 t' 7) i = nd.2.2.2.length := by rw [← ev 7]; exact g7
        have hR2 : SRC (mst m1 (vl m1 t 6) n (-1)) t t' us1 (nv (mst m1 (vl m1 t 6) n (-1)) t' 6 i) nd.2.2.2 := by
          rcases hS2 with ⟨q, n3, us3, C3, q1, q2, q3, q4⟩ | ⟨q, q2, q3, q4⟩
          · rw [hobb] at q4
            exact Or.inl ⟨q, n3, us3, C3, q1, (q4.2.2.2.2.1 rfl).2⟩
          · rw [hobb] at q4
            subst q; exact Or.inr ⟨rfl, (q4.2.2.2.2.1 rfl).2⟩
        obtain ⟨m3, e3, y3, g3⟩ := c293 (d := d - 1) (x := n) (t' := t') (by omega) ⟨by omega, by omega⟩ y2.1 y2.2.1.1 ok2 y2.2.2.2.2.2.2.2 w1.2.2.2.2 (by omega) hR2
        refine ⟨m3, us1 ++ nd.2.2.2, ok2.fr (cl_FRM e3), (y1.trans y2 (Int.le_refl _)).trans y3 (Int.le_refl _), ?_, fun _ => ⟨?_, ?_⟩, by rw [List.length_append, if_pos rfl], fun Q hQ => step1 Q ?_⟩
        · exact TN.keep (Int.le_refl _) hN2 (fun f j f0 f1 hj => by rw [g3 f j f0 f1, up_ne _ _ _ _ _ _ (by have := rg1 j hj; omega), up_ne _ _ _ _ _ _ (by have := rg1 j hj; omega)]) (fun f f0 f1 => by rw [g3 f n f0 (by omega), up_ne _ _ _ _ _ _ (by omega), up_ne _ _ _ _ _ _ (by omega)])
        · rw [g3 7 n (by decide) (by decide), up_eq]
        · rw [g3 6 n (by decide) (by decide), up_ne _ _ _ _ _ _ (by omega), up_eq]; exact At.end
        · rw [if_pos (hK.mpr rfl), nm_eq, gd_of q6.1, gd_of ⟨by omega, by omega⟩, nm_eq, gd_of q7.1, gd_of ⟨by omega, by omega⟩, e6, e7, bV_eq e3]; exact hQ
    have hc3 := y3.1.2.2.2.2.2.2.1
    have hP3 : TN (nv m3 t) us3 n1 x nd' A := hN.yt y3 hxn hN.lt
    obtain ⟨m4, e4, y4, hP4, nA4, rA4, -⟩ := c208_ins (d := d - 1) (nm := nd.2.2.2) (ob := ob) (pd := nd') hob ok3 y3.1 y3.2.1.1 y3.2.2.2.2.2.2.2 hN3 nd1 rg1 hnm3 hP3 nA (fun j hj => ⟨rA j hj, by have := hN.lt j hj; omega⟩) (by omega)
    have ok4 := ok3.fr (cl_FRM e4)
    have yA : YT t x m n us C m4 n1 us3 C1 := (y3.mono (by omega)).trans y4 (Int.le_refl _)
    have hblt2 : t' = t → (x' : Int) < x ∧ ∀ j, j ∈ idF (.inner i nd u l r) → (j : Int) < x := fun q => ⟨by have := (hlt q).1; omega, fun j hj => by have := (hlt q).2 j hj; omega⟩
    have hS4 := hS.yt yA hblt2
    obtain ⟨n6, us6, C6, v1, v2, v3, v4⟩ := hS4.get y4.1
    have hc6 := v1.2.2.2.2.2.2.1
    have q5 := v1.ld (f := 5) ⟨by decide, by decide⟩ (by decide)
    have e5 : vl m4 (vl m4 t' 5) i = hdI r := v4.2.2.2.2.2.2.2.1
    have hi6 : (i : Int) < n6 := v4.1
    have hSr : SF m4 t t' us3 n1 x' K p ob r := by
      rcases hS4 with ⟨q, n3, us3, C3, q1, q2, q3, q4⟩ | ⟨q, q2, q3, q4⟩
      · exact Or.inl ⟨q, n3, us3, C3, q1, q2, q3, q4.2.2.2.2.2.2.2.2.2⟩
      · exact Or.inr ⟨q, q2, q3, q4.2.2.2.2.2.2.2.2.2⟩
    obtain ⟨m5, FD, n5, us5, C5, e7, ok5, y5, er5, hN5, nd5, rg5, hn5, hu5⟩ := ihr d m4 n1 us3 C1 x x' K p a4 a5 ob (fapp A (.inner n (nd.1, nd.2.1, nd.2.2.1, nd.2.2.2) () lD .leaf)) nd' (pI n) (by omega) rfl y4.1 y4.2.1.1 ok4 y4.2.2.2.2.2.2.2 w6 hSr hK hob hP4 nA4 rA4 (fun q => ⟨(hlt q).1, fun j hj => (hlt q).2 j (hidr j hj)⟩) (by omega) (by omega)
    rw [lsI_app] at e7
    have eA : fapp (fapp A (.inner n (nd.1, nd.2.1, nd.2.2.1, nd.2.2.2) () lD .leaf)) FD = fapp A (.inner n nd () lD FD) := by rw [fapp_assoc]; rfl
    rw [eA] at hN5 nd5 rg5
    refine ⟨m5, .inner n nd () lD FD, n5, us5, C5, step2 _ (q292_152 (by omega) ok3.1 _ ?_), ok5, yA.trans y5 (Int.le_refl _), by simp only [erF, er1, er5], hN5, nd5, rg5, by omega, by omega⟩
    rw [gd_of y3.1.1, bV_eq e4, gd_of v1.1, nm_eq, gd_of q5.1, gd_of ⟨by omega, by omega⟩, e5]; exact e7
/-- a copy of a node, in another tree or in the same one -/
theorem c292 {x' : Nat} {nd : ND} {l : Fo} {n : Nat} (hd : 3 + hI l ≤ d) (hw : TW m t n us C) (hT : TI m) (ok : OK m) (hU : wfU us) (hwf : wfF (foC nd l foN)) (hS : SN m t t' us n x' nd l) (hlt : t' = t → x' < n ∧ ∀ j, j ∈ idF l → j < n) (hn : (n : Int) + 1 + szF l < 20000) (hL : (us.length : Int) + nd.2.2.1.length + unF (nd.1 == 6) l ≤ 40000) :
    ∃ m' lD, ∃ (n' : Nat) (us' : List Int) (C' : Int), cl d 292 [pR t, pR t', pI x'] m = some (.inl (some (pI n)), m') ∧ YT t n m n us C m' n' us' C' ∧ erF lD = erF l ∧ TN (nv m' t) us' n' n nd lD ∧ (idF lD).Nodup ∧ (∀ j, j ∈ idF lD → n < j) ∧ n' = n + 1 + szF l ∧ us'.length = us.length + nd.2.2.1.length + unF (nd.1 == 6) l := c292_of (PC_all l) hd hw hT ok hU hwf hS hlt hn hL
end
