/-! the twin's texts: values into trees, all of them -/
set_option maxRecDepth 100000
set_option maxHeartbeats 4000000
section
variable {d dep N : Nat} {m : Mem} {M tp e tr i C : Int} {t : Int → Int} {n : Nat} {us : List Int}
theorem PYv_fin {m2 : Mem} {j C2 : Int} {n2 : Nat} {us2 : List Int} {nd : ND} {l : Fo} (hd : 2 ≤ d) (h2 : YS m2 M tp e j t) (y : YT tr n m n us C m2 n2 us2 C2) (hN : TN (nv m2 tr) us2 n2 n nd l) (nl : (idF l).Nodup) (rl : ∀ x, x ∈ idF l → n < x) (h8 : nv m2 tr 8 n = -1) (b1 : (n2 : Int) - n ≤ j - i) (b2 : (us2.length : Int) - us.length ≤ j - i) (step : ∀ Q, (bV (cl (d - 1) 198 [pR M] m2) fun m7 => some (.inl (some (pI n)), m7)) = some Q → cl d 197 [pR M, pR tr, pI dep] m = some Q) : ∃ m', cl d 197 [pR M, pR tr, pI dep] m = some (.inl (some (pI n)), m') ∧ YX m' M tp e (sB t e j) t ∧ YV tr m n us C (j - i) nd l m' := by
  have hM2 := h2.2.1.1
  have b6 := h2.2.1.2.2.2.2.2.2.1
  have hs := sB_rng t (i := j) (e := e) (by omega)
  have hn2 := hN.1
  have e198 := c198 (d := d - 1) (by omega) h2.1.1 h2.2.1
  exact ⟨mst m2 M 12 (sB t e j), step _ (by rw [bV_eq e198]), (h2.at (by omega) hs.2).2.1, n2, us2, C2, y.trans (YT.mT (by omega) y.2.1.1 y.1 y.2.2.2.2.2.2.2) (by omega), hN.mT (by omega) y.1, nl, rl, b1, b2, (nv_mT (by omega) y.1 (Or.inl ⟨by decide, by decide⟩)).trans h8⟩
theorem PYv_word {m1 : Mem} {s a kk x : Int} {cs : List Int} {k : Nat} (hk : k < 3) (hkk : kT k = kk) (hd : 6 ≤ d) (h1 : YS m1 M tp e s t) (hs : i ≤ s) (y1 : YT tr n m n us C m1 n us C) (hSC : SC m1 a cs) (hcs : 1 ≤ cs.length) (hn : (n : Int) + (e - i) < 20000) (hse : s < e)
    (hstep : ∀ X : RM, (bI (cl (d - 1) 200 [pR M, pR a] m1) fun v1 m2 => if v1 = 0 then (some (.inl (some (pI (-1))), m2)) else rn d 197 82 [pR M, pR tr, pI dep, pI x, pU] [pI kk, pR tr] m2) = X → ∀ Q, X = some Q → cl d 197 [pR M, pR tr, pI dep] m = some Q) :
    (∀ F j, (some (sWd t e cs k s) : Option (Int ⊕ (Fo × Int))) = some (.inr (F, j)) → ∃ nd l, F = foC nd (erF l) foN ∧ i < j ∧ j ≤ e ∧ ∃ m', cl d 197 [pR M, pR tr, pI dep] m = some (.inl (some (pI n)), m') ∧ YX m' M tp e (sB t e j) t ∧ YV tr m n us C (j - i) nd l m') ∧
    (∀ p, (some (sWd t e cs k s) : Option (Int ⊕ (Fo × Int))) = some (.inl p) → ∃ m', cl d 197 [pR M, pR tr, pI dep] m = some (.inl (some (pI (-1))), m') ∧ vl m' M 14 = p ∧ YF tr n m n us C (e - i) m') := by
  have hw := c200 (d := d - 1) (by omega) h1.1.1 h1.2.1 hSC
  have hM1 := h1.2.1.1
  have b6 := h1.2.1.2.2.2.2.2.2.1
  have hM13 : tg m1 M ≠ 13 ∧ tg m1 M < 100 := by omega
  unfold sWd
  cases hs : sW t e cs s with
  | inl p0 =>
    refine ⟨fun F j hF => (by cases hF), fun p hp => ?_⟩
    cases hp
    obtain ⟨j, j0, j1, e1⟩ := hw.2 p0 hs
    have y2 : YT tr n m n us C (mst m1 M 12 j) n us C := y1.trans (YT.mT hM13 y1.2.1.1 y1.1 y1.2.2.2.2.2.2.2) (by omega)
    exact ⟨_, hstep _ (by rw [bI_eq e1, if_pos rfl]) _ rfl, by rw [vl_mst, if_pos ⟨rfl, rfl⟩], n, us, C, y2.trans (YT.mT hM13 y2.2.1.1 y2.1 y2.2.2.2.2.2.2.2) (by omega), by omega, by omega⟩
  | inr j =>
    refine ⟨fun F j hF => ?_, fun p hp => (by cases hp)⟩
    cases hF
    obtain ⟨a1, a2, a3, e1⟩ := hw.1 j hs
    have h2 := h1.at (j := j) (by omega) a2
    have y2 : YT tr n m n us C (mst m1 M 12 j) n us C := y1.trans (YT.mT hM13 y1.2.1.1 y1.1 y1.2.2.2.2.2.2.2) (by omega)
    obtain ⟨m3, C3, e3, y3, f0, f4, f5, f8, f6, f3, f2⟩ := YT.add (d := d - 1) (k := kk) (by omega) y2.1 y2.2.1.1 h2.1 (by omega) y2.2.2.2.2.2.2.2
    have h3 := h2.fr (cl_FRM e3) (by rfl) (by rfl)
    have hw2 : tg (mst m1 M 12 j) tr = 13 := y2.1.1
    refine ⟨(k, 0, [], []), .leaf, rfl, by omega, a2, PYv_fin (by omega) h3 (y2.trans y3 (by omega)) ⟨by omega, by rw [f0, ← hkk], fun q => absurd q (by show ¬ k = 3; omega), ⟨f3, by rw [f2]; exact At.nil (by omega) (by omega)⟩, f4, trivial⟩ (by simp [idF]) (fun x hx => absurd hx (by simp [idF])) f8 (by omega) (by omega) (fun Q hQ => ?_)⟩
    refine hstep _ ?_ _ hQ
    rw [bI_eq e1, if_neg (by decide)]
    rw [hQ]
    refine q197_82 (by omega) h2.1.1 _ ?_
    rw [gd_of hw2, bI_eq e3, gd_of h3.2.1.1]; exact hQ
/-- between brackets -/
theorem PYv_in {m1 : Mem} {s : Int} {ob1 : Bool} (hPE : PYe M tp e tr t N) (hd : 10 + 2 * (32 - dep) ≤ d) (hdep : dep < 32) (h1 : YS m1 M tp e s t) (hs : i ≤ s) (y1 : YT tr n m n us C m1 n us C) (hn : (n : Int) + (e - i) < 20000) (hL : (us.length : Int) + (e - i) ≤ 40000) (hse : s < e)
    (hstep : ∀ X : RM, (bI (cl (d - 1) 285 [pR tr, pI (kdB ob1)] m1) fun v1 m2 => bI (cl (d - 1) 208 [pR M, pR tr, pI v1, pI dep, pI (clo ob1)] m2) fun v2 m3 => if v2 = 0 then (some (.inl (some (pI (-1))), m3)) else gd (tg m3 M = 11) <| bV (cl (d - 1) 198 [pR M] m3) fun m4 => some (.inl (some (pI v1)), m4)) = X → ∀ Q, X = some Q → cl d 197 [pR M, pR tr, pI dep] m = some Q) :
    (∀ F j, (if pk t e (sB t e (s + 1)) = clo ob1 then some (.inr (foC (kdB ob1, 0, [], []) foN foN, sB t e (s + 1) + 1)) else
      match sP t e N true (dep + 1) ob1 [] (sB t e (s + 1)) with
      | none => none
      | some (.inl p) => some (.inl p)
      | some (.inr (l, j)) => some (.inr (foC (kdB ob1, 0, [], []) l foN, j)) : Option (Int ⊕ (Fo × Int))) = some (.inr (F, j)) → ∃ nd l, F = foC nd (erF l) foN ∧ i < j ∧ j ≤ e ∧ ∃ m', cl d 197 [pR M, pR tr, pI dep] m = some (.inl (some (pI n)), m') ∧ YX m' M tp e (sB t e j) t ∧ YV tr m n us C (j - i) nd l m') ∧
    (∀ p, (if pk t e (sB t e (s + 1)) = clo ob1 then some (.inr (foC (kdB ob1, 0, [], []) foN foN, sB t e (s + 1) + 1)) else
      match sP t e N true (dep + 1) ob1 [] (sB t e (s + 1)) with
      | none => none
      | some (.inl p) => some (.inl p)
      | some (.inr (l, j)) => some (.inr (foC (kdB ob1, 0, [], []) l foN, j)) : Option (Int ⊕ (Fo × Int))) = some (.inl p) → ∃ m', cl d 197 [pR M, pR tr, pI dep] m = some (.inl (some (pI (-1))), m') ∧ vl m' M 14 = p ∧ YF tr n m n us C (e - i) m') := by
  have b6 := h1.2.1.2.2.2.2.2.2.1
  obtain ⟨m2, C2, e2, y2, f0, f4, f5, f8, f6, f3, f2⟩ := YT.add (d := d - 1) (k := kdB ob1) (by omega) y1.1 y1.2.1.1 h1.1 (by omega) y1.2.2.2.2.2.2.2
  have h2 := h1.fr (cl_FRM e2) (by rfl) (by rfl)
  have hM2 := h2.2.1.1
  have hM132 : tg m2 M ≠ 13 ∧ tg m2 M < 100 := by omega
  have y12 := y1.trans y2 (by omega)
  have v12 := h2.2.1.2.2.2.1
  have h3 := h2.at (j := s + 1) (by omega) (by omega)
  have hb := sB_rng t (i := s + 1) (e := e) (by omega)
  have e198 := c198 (d := d - 1 - 1) (by omega) h3.1.1 h3.2.1
  rw [mst_mst] at e198
  have h4 := h2.at (j := sB t e (s + 1)) (by omega) hb.2
  have hM4 := h4.2.1.1
  have y4 : YT tr n m n us C (mst m2 M 12 (sB t e (s + 1))) ((n + 1 : Nat) : Int) us C2 := y12.trans (YT.mT hM132 y12.2.1.1 y12.1 y12.2.2.2.2.2.2.2) (by omega)
  have h199 := c199 (d := d - 1 - 1) h4.1.1 h4.2.1
  have w12 := h4.2.1.2.2.2.1
  have n84 : nv (mst m2 M 12 (sB t e (s + 1))) tr 8 n = -1 := (nv_mT hM132 y12.1 (Or.inl ⟨by decide, by decide⟩)).trans f8
  have hob : kT (kdB ob1) = ((kdB ob1 : Nat) : Int) := by cases ob1 <;> rfl
  have hk3 : kdB ob1 ≠ 3 := by cases ob1 <;> decide
  have hN2 : TN (nv m2 tr) us ((n + 1 : Nat) : Int) n (kdB ob1, 0, [], []) .leaf := ⟨by omega, by rw [f0, hob], fun q => absurd q hk3, ⟨f3, by rw [f2]; exact At.nil (by omega) (by omega)⟩, f4, trivial⟩
  have hN4 := hN2.mT (f := 12) (v := sB t e (s + 1)) hM132 y12.1
  have s2 : ∀ X : RM, (if pk t e (sB t e (s + 1)) = clo ob1 then (some (.inl (some (pI 1)), (mst (mst m2 M 12 (sB t e (s + 1))) M 12 (sB t e (s + 1) + 1)))) else rn (d - 1) 208 38 [pR M, pR tr, pI n, pI dep, pI (clo ob1), pI (-1), pU, pU, pU] [] (mst m2 M 12 (sB t e (s + 1)))) = X → ∀ v m', X = some (.inl (some (pI v)), m') → cl (d - 1) 208 [pR M, pR tr, pI n, pI dep, pI (clo ob1)] m2 = some (.inl (some (pI v)), m') := by
    intro X hX v m' hQ
    refine q208 (by omega) h2.1.1 _ ?_
    rw [gd_of hM2, v12, w32_of (by omega) (by omega), bV_eq e198, bI_eq h199, w12]
    by_cases hc : pk t e (sB t e (s + 1)) = clo ob1
    · rw [if_pos hc] at hX ⊢
      have hlt : sB t e (s + 1) < e := pkf_lt (t := t) (by rw [hc]; cases ob1 <;> decide)
      rw [w32_of (by omega) (by omega), hX]; exact hQ
    · rw [if_neg hc] at hX ⊢
      rw [hX]; exact hQ
  by_cases hc : pk t e (sB t e (s + 1)) = clo ob1
  · rw [if_pos hc]
    refine ⟨fun F j hF => ?_, fun p hp => (by cases hp)⟩
    cases hF
    have hlt : sB t e (s + 1) < e := pkf_lt (t := t) (by rw [hc]; cases ob1 <;> decide)
    have e5 := s2 _ (by rw [if_pos hc]) 1 _ rfl
    have h5 := h4.at (j := sB t e (s + 1) + 1) (by omega) (by omega)
    refine ⟨(kdB ob1, 0, [], []), .leaf, rfl, by omega, by omega, PYv_fin (by omega) h5 (y4.trans (YT.mT (by omega) y4.2.1.1 y4.1 y4.2.2.2.2.2.2.2) (by omega)) (hN4.mT (by omega) y4.1) (by simp [idF]) (fun x hx => absurd hx (by simp [idF])) ((nv_mT (by omega) y4.1 (Or.inl ⟨by decide, by decide⟩)).trans n84) (by omega) (by omega) (fun Q hQ => ?_)⟩
    refine hstep _ ?_ _ hQ
    rw [bI_eq e2, bI_eq e5, if_neg (by decide), gd_of h5.2.1.1]
  · rw [if_neg hc]
    have hE := hPE (d - 1) (dep + 1) (mst m2 M 12 (sB t e (s + 1))) (sB t e (s + 1)) (n + 1) us C2 n .leaf ob1 pU pU pU (by omega) (by omega) (by omega) h4 y4.1 y4.2.1.1 y4.2.2.2.2.2.2.2 (by omega) (by omega) hN4 (by simp [idF]) (fun x hx => absurd hx (by simp [idF])) rfl rfl rfl
    rw [sB_idem, show ((dep + 1 : Nat) : Int) - 1 = dep by omega] at hE
    change (∀ F j, sP t e N true (dep + 1) ob1 [] (sB t e (s + 1)) = some (.inr (F, j)) → _) ∧ (∀ q, sP t e N true (dep + 1) ob1 [] (sB t e (s + 1)) = some (.inl q) → _) at hE
    cases hr : sP t e N true (dep + 1) ob1 [] (sB t e (s + 1)) with
    | none => exact ⟨fun F j hF => (by cases hF), fun p hp => (by cases hp)⟩
    | some w =>
      cases w with
      | inl p0 =>
        refine ⟨fun F j hF => (by cases hF), fun q hq => ?_⟩
        cases hq
        obtain ⟨m', r1, r2, n', us', C', r3, r4, r5⟩ := hE.2 p0 hr
        have e5 := s2 _ (by rw [if_neg hc]; exact r1) 0 _ rfl
        exact ⟨m', hstep _ (by rw [bI_eq e2, bI_eq e5, if_pos rfl]) _ rfl, r2, n', us', C', y4.trans r3 (by omega), by omega, by omega⟩
      | inr w =>
        obtain ⟨l, j⟩ := w
        refine ⟨fun F j hF => ?_, fun p hp => (by cases hp)⟩
        cases hF
        obtain ⟨r1, r2, FD, rfl, m', r3, r4, n', us', C', r5, r6, r7, r8, r9, r10, r11⟩ := hE.1 l j hr
        have e5 := s2 _ (by rw [if_neg hc]; exact r3) 1 _ rfl
        have h5 : YS m' M tp e j t := h2.fr2 (cl_FRM e5) r4 (by rfl)
        refine ⟨(kdB ob1, 0, [], []), FD, rfl, by omega, r2, PYv_fin (by omega) h5 (y4.trans r5 (by omega)) r6 r7 r8 (r11.trans n84) (by omega) (by omega) (fun Q hQ => ?_)⟩
        refine hstep _ ?_ _ hQ
        rw [bI_eq e2, bI_eq e5, if_neg (by decide), gd_of h5.2.1.1]
theorem PYv_succ (hB : tB t e) (hPE : PYe M tp e tr t N) : PYv M tp e tr t (N + 1) := by
  intro d dep m i n us C ob seen hd hdep h hw hT hU hn hL
  have hM := h.2.1.1
  have b6 := h.2.1.2.2.2.2.2.2.1
  have hM13 : tg m M ≠ 13 ∧ tg m M < 100 := by omega
  have hs := sB_rng t (i := i) (e := e) (by omega)
  have e198 := c198 (d := d - 1) (by omega) h.1.1 h.2.1
  have h1 := h.at (j := sB t e i) (by omega) hs.2
  have y1 : YT tr n m n us C (mst m M 12 (sB t e i)) n us C := YT.mT hM13 hT hw hU
  have h199 := c199 (d := d - 1) h1.1.1 h1.2.1
  have h206 := c206 (d := d - 1) (m := mst m M 12 (sB t e i)) (x := pk t e (sB t e i)) h1.1.1
  have hM1 : tg (mst m M 12 (sB t e i)) M = 11 := hM
  have hw1 : tg (mst m M 12 (sB t e i)) tr = 13 := hw.1
  have v12 : vl (mst m M 12 (sB t e i)) M 12 = sB t e i := h1.2.1.2.2.2.1
  have v14 : vl (mst m M 12 (sB t e i)) M 14 = -1 := h1.2.1.2.2.2.2.1
  generalize hsd : sB t e i = s at *
  generalize hm1 : mst m M 12 s = m1 at *
  have hM131 : tg m1 M ≠ 13 ∧ tg m1 M < 100 := by omega
  unfold sP
  by_cases h34 : pk t e s = 34
  · rw [if_pos h34]
    have hse : s < e := pkf_lt (t := t) (by omega)
    obtain ⟨m2, C2, e2, y2, f0, f4, f5, f8, f6, f3, f2⟩ := YT.add (d := d - 1) (k := 4) (by omega) y1.1 y1.2.1.1 h1.1 (by omega) y1.2.2.2.2.2.2.2
    have h2 := h1.fr (cl_FRM e2) (by rfl) (by rfl)
    have y12 := y1.trans y2 (by omega)
    have h203 := c203 (d := d - 1) (q := 34) (by omega) (Or.inl rfl) hB h2.1 y12.2.1.1 h2.2.1 h2.2.2.2.2.2 y12.1 hU (by omega) h34
    have s1 : ∀ X : RM, (bI (cl (d - 1) 203 [pR M, pI 34, pR tr] m2) fun v6 m6 => if v6 = 0 then (some (.inl (some (pI (-1))), m6)) else nm (vl m6 tr 3) fun v8 => nm (vl m6 tr 2) fun v9 => gd (tg m6 v9 = 284101 ∨ tg m6 v9 = 287101) <| gd ((0 : Int) ≤ n ∧ (n : Int) < ln m6 v9) <| gd (tg m6 v8 = 284101 ∨ tg m6 v8 = 287101) <| gd ((0 : Int) ≤ n ∧ (n : Int) < ln m6 v8) <| bV (cl (d - 1) 198 [pR M] (mst m6 v8 n (w32 ((vl m6 tr 12) - (vl m6 v9 n))))) fun m7 => some (.inl (some (pI n)), m7)) = X → ∀ Q, X = some Q → cl d 197 [pR M, pR tr, pI dep] m = some Q := by
      intro X hX Q hQ
      refine q197 (by omega) h.1.1 _ ?_
      rw [gd_of hM, bV_eq e198, bI_eq h199, if_neg (by omega), if_neg (by omega), if_neg (by omega), if_pos h34, gd_of hw1, bI_eq e2]
      exact (by exact hX : _ = X).trans hQ
    cases hss : sS t e 34 (s + 1) with
    | inl p0 =>
      refine ⟨fun F j hF => (by cases hF), fun p hp => ?_⟩
      cases hp
      obtain ⟨m3, vs, r1, r2, r3, r4⟩ := h203.2 p0 hss
      exact ⟨m3, s1 _ (by rw [bI_eq r1, if_pos rfl]) _ rfl, r2, n + 1, us ++ vs, C2, y12.trans (YT.of r3 y12.1 ⟨vs, rfl⟩) (by omega), by omega, by rw [List.length_append]; omega⟩
    | inr w =>
      obtain ⟨vs, j⟩ := w
      refine ⟨fun F j hF => ?_, fun p hp => (by cases hp)⟩
      cases hF
      obtain ⟨j0, j1, j2, m3, e3, hx3, y3⟩ := h203.1 vs j hss
      have h3 : YS m3 M tp e j t := h2.fr2 (cl_FRM e3) hx3 (by rfl)
      have y13 := y12.trans (YT.of y3 y12.1 ⟨vs, rfl⟩) (by omega)
      have l3 := y3.1.ld (f := 3) ⟨by decide, by decide⟩ (by decide)
      have l2' := y3.1.ld (f := 2) ⟨by decide, by decide⟩ (by decide)
      have hc := y3.1.2.2.2.2.2.2.1
      have w12 : vl m3 tr 12 = us.length + vs.length := by rw [y3.1.2.2.2.2.2.1, List.length_append]; omega
      have g2 : vl m3 (vl m3 tr 2) n = us.length := by
        have := y3.2.1.2.2 tr 2 n _ _ _ y12.1 (by decide) (by decide)
        rw [f2] at this; exact this
      have ew : w32 (vl m3 tr 12 - vl m3 (vl m3 tr 2) n) = vs.length := by rw [w12, g2, w32_of (by omega) (by omega)]; omega
      obtain ⟨a1, a2, a3, a4⟩ := y3.1.put (f := 3) (i := n) (v := vs.length) (TG.refl y3.2.1.1 h3.1) ⟨by decide, by decide⟩ rfl
      have y4 : YT tr n m3 ((n + 1 : Nat) : Int) (us ++ vs) C2 (mst m3 (vl m3 tr 3) n vs.length) ((n + 1 : Nat) : Int) (us ++ vs) C2 := YT.tg a1 a2 (fun f j f0 f1 j0 j1 => up_ne _ _ _ _ _ _ (by omega)) a3 rfl rfl y3.2.2.2.2
      have h4 : YS (mst m3 (vl m3 tr 3) n vs.length) M tp e j t := h3.ta y3.1 (f := 3) ⟨by decide, by decide⟩ rfl
      have gv : ∀ f, 0 ≤ f → f ≤ 9 → f ≠ 3 → nv (mst m3 (vl m3 tr 3) n vs.length) tr f n = nv m2 tr f n := by
        intro f f0 f1 f3
        rw [a2.2.2.2 f n f0 f1, up_ne _ _ _ _ _ _ (by omega)]
        exact y3.2.1.2.2 tr f n _ _ _ y12.1 f0 f1
      refine ⟨(4, 0, vs, []), .leaf, rfl, by omega, j1, PYv_fin (by omega) h4 (y13.trans y4 (by omega)) ⟨by omega, by rw [gv 0 (by decide) (by decide) (by decide), f0]; rfl, fun q => absurd q (by show ¬ (4 : Nat) = 3; decide), ⟨by rw [a2.2.2.2 3 n (by decide) (by decide), up_eq], by rw [gv 2 (by decide) (by decide) (by decide), f2]; exact At.end⟩, by rw [gv 4 (by decide) (by decide) (by decide), f4]; rfl, trivial⟩ (by simp [idF]) (fun x hx => absurd hx (by simp [idF])) (by rw [gv 8 (by decide) (by decide) (by decide), f8]) (by omega) (by rw [List.length_append]; omega) (fun Q hQ => ?_)⟩
      refine s1 _ ?_ _ hQ
      rw [bI_eq e3, if_neg (by decide), nm_eq, nm_eq, gd_of l2'.1, gd_of ⟨by omega, by omega⟩, gd_of l3.1, gd_of ⟨by omega, by omega⟩, ew]
  · rw [if_neg h34]
    by_cases hbr : pk t e s = 91 ∨ pk t e s = 123
    · rw [if_pos hbr]
      have hse : s < e := pkf_lt (t := t) (by omega)
      rw [if_neg (by omega)] at h206
      have s1 : ∀ Q, rn d 197 181 [pR M, pR tr, pI dep, pI (pk t e s), pU] [] m1 = some Q → cl d 197 [pR M, pR tr, pI dep] m = some Q := by
        intro Q hQ
        refine q197 (by omega) h.1.1 _ ?_
        rw [gd_of hM, bV_eq e198, bI_eq h199, if_neg (by omega), if_neg (by omega), if_neg (by omega), if_neg h34, if_neg (by omega), bI_eq h206, if_pos rfl]
        rcases hbr with hb | hb
        · rw [if_pos hb]; exact hQ
        · rw [if_neg (by omega), if_pos hb]; exact hQ
      by_cases hd32 : dep < 32
      · rw [if_neg (fun q => q hd32)]
        have hst : ∀ ob1 : Bool, pk t e s = (if ob1 then 123 else 91) → (∀ X : RM, (bI (cl (d - 1) 285 [pR tr, pI (kdB ob1)] m1) fun v1 m2 => bI (cl (d - 1) 208 [pR M, pR tr, pI v1, pI dep, pI (clo ob1)] m2) fun v2 m3 => if v2 = 0 then (some (.inl (some (pI (-1))), m3)) else gd (tg m3 M = 11) <| bV (cl (d - 1) 198 [pR M] m3) fun m4 => some (.inl (some (pI v1)), m4)) = X → ∀ Q, X = some Q → cl d 197 [pR M, pR tr, pI dep] m = some Q) := by
          intro ob1 hp X hX Q hQ
          refine s1 _ (q197_181 (by omega) h1.1.1 _ ?_)
          obtain ⟨m2, C2, e2, y2, -⟩ := YT.add (d := d - 1) (k := kdB ob1) (by omega) y1.1 y1.2.1.1 h1.1 (by omega) y1.2.2.2.2.2.2.2
          have h2 := h1.fr (cl_FRM e2) (by rfl) (by rfl)
          rw [if_neg (by omega)]
          cases ob1 with
          | false =>
            have hp : pk t e s = 91 := hp
            rw [if_pos hp]
            refine q197_211 (by omega) h1.1.1 _ ?_
            rw [gd_of hw1]
            rw [bI_eq e2] at hX
            rw [bI_eq (show cl (d - 1) 285 [pR tr, pI 5] m1 = _ from e2), if_pos hp]
            refine q197_234 (by omega) h2.1.1 _ ?_
            rw [gd_of h2.2.1.1]
            exact (by exact hX : _ = X).trans hQ
          | true =>
            have hp' : ¬ pk t e s = 91 := by rw [hp]; decide
            rw [if_neg hp']
            refine q197_211 (by omega) h1.1.1 _ ?_
            rw [gd_of hw1]
            rw [bI_eq e2] at hX
            rw [bI_eq (show cl (d - 1) 285 [pR tr, pI 6] m1 = _ from e2), if_neg hp']
            refine q197_234 (by omega) h2.1.1 _ ?_
            rw [gd_of h2.2.1.1]
            exact (by exact hX : _ = X).trans hQ
        rcases hbr with hb | hb
        · rw [hb]
          exact PYv_in (ob1 := false) hPE hd hd32 h1 hs.1 y1 hn hL hse (hst false hb)
        · rw [hb]
          exact PYv_in (ob1 := true) hPE hd hd32 h1 hs.1 y1 hn hL hse (hst true hb)
      · rw [if_pos hd32]
        refine ⟨fun F j hF => (by cases hF), fun p hp => ?_⟩
        cases hp
        refine ⟨mst m1 M 14 s, s1 _ (q197_181 (by omega) h1.1.1 _ ?_), by rw [vl_mst, if_pos ⟨rfl, rfl⟩], n, us, C, y1.trans (YT.mT hM131 y1.2.1.1 y1.1 y1.2.2.2.2.2.2.2) (by omega), by omega, by omega⟩
        rw [if_pos (by omega), gd_of hM1, v12, bI_eq (c202 h1.1.1 hM1 v14)]
    · rw [if_neg hbr]
      have wst : ∀ x a kk : Int, pk t e s = x → (x = 102 ∧ a = 50 ∧ kk = 2) ∨ (x = 110 ∧ a = 46 ∧ kk = 0) ∨ (x = 116 ∧ a = 48 ∧ kk = 1) → (∀ X : RM, (bI (cl (d - 1) 200 [pR M, pR a] m1) fun v1 m2 => if v1 = 0 then (some (.inl (some (pI (-1))), m2)) else rn d 197 82 [pR M, pR tr, pI dep, pI x, pU] [pI kk, pR tr] m2) = X → ∀ Q, X = some Q → cl d 197 [pR M, pR tr, pI dep] m = some Q) := by
        intro x a kk hx hxx X hX Q hQ
        refine q197 (by omega) h.1.1 _ ?_
        rw [gd_of hM, bV_eq e198, bI_eq h199, hx]
        rcases hxx with ⟨rfl, rfl, rfl⟩ | ⟨rfl, rfl, rfl⟩ | ⟨rfl, rfl, rfl⟩
        · rw [if_neg (by decide), if_neg (by decide), if_pos rfl]
          refine q197_27 h1.1.1 _ ?_
          rw [if_neg (by decide), if_neg (by decide)]
          refine q197_52 (by omega) h1.1.1 _ ?_
          rw [gd_of hM1]
          exact (by exact hX : _ = X).trans hQ
        · rw [if_pos rfl]
          refine q197_27 h1.1.1 _ ?_
          rw [if_pos rfl]
          refine q197_52 (by omega) h1.1.1 _ ?_
          rw [gd_of hM1]
          exact (by exact hX : _ = X).trans hQ
        · rw [if_neg (by decide), if_pos rfl]
          refine q197_27 h1.1.1 _ ?_
          rw [if_neg (by decide), if_pos rfl]
          refine q197_52 (by omega) h1.1.1 _ ?_
          rw [gd_of hM1]
          exact (by exact hX : _ = X).trans hQ
      by_cases h102 : pk t e s = 102
      · rw [if_pos h102]
        exact PYv_word (by decide) rfl (by omega) h1 hs.1 y1 h1.2.2.2.2.1 (by decide) hn (pkf_lt (t := t) (by omega)) (wst 102 50 2 h102 (by omega))
      rw [if_neg h102]
      by_cases h110 : pk t e s = 110
      · rw [if_pos h110]
        exact PYv_word (by decide) rfl (by omega) h1 hs.1 y1 h1.2.2.1 (by decide) hn (pkf_lt (t := t) (by omega)) (wst 110 46 0 h110 (by omega))
      rw [if_neg h110]
      by_cases h116 : pk t e s = 116
      · rw [if_pos h116]
        exact PYv_word (by decide) rfl (by omega) h1 hs.1 y1 h1.2.2.2.1 (by decide) hn (pkf_lt (t := t) (by omega)) (wst 116 48 1 h116 (by omega))
      rw [if_neg h116]
      by_cases hnu : pk t e s = 45 ∨ (48 ≤ pk t e s ∧ pk t e s ≤ 57)
      · have hse : s < e := pkf_lt (t := t) (by omega)
        obtain ⟨m2, C2, e2, y2, f0, f4, f5, f8, f6, f3, f2⟩ := YT.add (d := d - 1) (k := 3) (by omega) y1.1 y1.2.1.1 h1.1 (by omega) y1.2.2.2.2.2.2.2
        have h2 := h1.fr (cl_FRM e2) (by rfl) (by rfl)
        have hM2 := h2.2.1.1
        have hM132 : tg m2 M ≠ 13 ∧ tg m2 M < 100 := by omega
        have y12 := y1.trans y2 (by omega)
        have h207 := c207 (d := d - 1) (x := n) (by omega) h2.1.1 h2.2.1 y12.1 ⟨by omega, by omega⟩
        have s1 : ∀ X : RM, (bI (cl (d - 1) 207 [pR M, pR tr, pI n] m2) fun v2 m2 => if v2 = 0 then (some (.inl (some (pI (-1))), m2)) else bV (cl (d - 1) 198 [pR M] m2) fun m3 => some (.inl (some (pI n)), m3)) = X → ∀ Q, X = some Q → cl d 197 [pR M, pR tr, pI dep] m = some Q := by
          intro X hX Q hQ
          have r150 : rn d 197 150 [pR M, pR tr, pI dep, pI (pk t e s), pU] [] m1 = some Q := by
            refine q197_150 (by omega) h1.1.1 _ ?_
            rw [gd_of hw1, bI_eq e2, gd_of hM2]
            exact (by exact hX : _ = X).trans hQ
          refine q197 (by omega) h.1.1 _ ?_
          rw [gd_of hM, bV_eq e198, bI_eq h199, if_neg h110, if_neg h116, if_neg h102, if_neg h34]
          by_cases h45 : pk t e s = 45
          · rw [if_pos h45]; exact r150
          · rw [if_pos (by omega)] at h206
            rw [if_neg h45, bI_eq h206, if_neg (by decide)]; exact r150
        cases hss : sNm t e s with
        | inl p0 =>
          refine ⟨fun F j hF => (by cases hF), fun p hp => ?_⟩
          cases hp
          obtain ⟨j, r1⟩ := h207.2 p0 hss
          have y3 : YT tr n m n us C (mst m2 M 12 j) ((n + 1 : Nat) : Int) us C2 := y12.trans (YT.mT hM132 y12.2.1.1 y12.1 y12.2.2.2.2.2.2.2) (by omega)
          exact ⟨_, s1 _ (by rw [bI_eq r1, if_pos rfl]) _ rfl, by rw [vl_mst, if_pos ⟨rfl, rfl⟩], n + 1, us, C2, y3.trans (YT.mT hM132 y3.2.1.1 y3.1 y3.2.2.2.2.2.2.2) (by omega), by omega, by omega⟩
        | inr w =>
          obtain ⟨v, j⟩ := w
          refine ⟨fun F j hF => ?_, fun p hp => (by cases hp)⟩
          cases hF
          obtain ⟨q1, q2, j0, j1, e3⟩ := h207.1 v j hss
          have y3 : YT tr n m n us C (mst m2 M 12 j) ((n + 1 : Nat) : Int) us C2 := y12.trans (YT.mT hM132 y12.2.1.1 y12.1 y12.2.2.2.2.2.2.2) (by omega)
          have h3 := h2.at (j := j) (by omega) j1
          have hne : tr ≠ M := by intro q; have := y12.1.1; rw [q] at this; omega
          have ev1 : vl m2 tr 1 = vl (mst m2 M 12 j) tr 1 := by rw [vl_mst, if_neg (by omega)]
          obtain ⟨a1, a2, a3, a4⟩ := y3.1.put (f := 1) (i := n) (v := v) (TG.refl y3.2.1.1 h3.1) ⟨by decide, by decide⟩ ev1
          have y4 : YT tr n (mst m2 M 12 j) ((n + 1 : Nat) : Int) us C2 (mst (mst m2 M 12 j) (vl m2 tr 1) n v) ((n + 1 : Nat) : Int) us C2 := YT.tg a1 a2 (fun f j f0 f1 j0 j1 => up_ne _ _ _ _ _ _ (by omega)) a3 rfl rfl hU
          have h4 := h3.ta (k := n) (v := v) y3.1 (f := 1) ⟨by decide, by decide⟩ ev1
          have gv : ∀ f, 0 ≤ f → f ≤ 9 → f ≠ 1 → nv (mst (mst m2 M 12 j) (vl m2 tr 1) n v) tr f n = nv m2 tr f n := by
            intro f f0 f1 f3
            rw [a2.2.2.2 f n f0 f1, up_ne _ _ _ _ _ _ (by omega)]
            exact nv_mT hM132 y12.1 (Or.inl ⟨f0, f1⟩)
          refine ⟨(3, v, [], []), .leaf, rfl, by omega, j1, PYv_fin (by omega) h4 (y3.trans y4 (by omega)) ⟨by omega, by rw [gv 0 (by decide) (by decide) (by decide), f0]; rfl, fun _ => by rw [a2.2.2.2 1 n (by decide) (by decide), up_eq], ⟨by rw [gv 3 (by decide) (by decide) (by decide), f3]; rfl, by rw [gv 2 (by decide) (by decide) (by decide), f2]; exact At.nil (by omega) (by omega)⟩, by rw [gv 4 (by decide) (by decide) (by decide), f4]; rfl, trivial⟩ (by simp [idF]) (fun x hx => absurd hx (by simp [idF])) (by rw [gv 8 (by decide) (by decide) (by decide), f8]) (by omega) (by omega) (fun Q hQ => ?_)⟩
          exact s1 _ (by rw [bI_eq e3, if_neg (by decide)]) _ hQ
      · rw [if_neg (by omega)] at h206
        have hsn : sNm t e s = .inl s := by
          have e0 : nI0 t e s = s := by unfold nI0; rw [if_neg (by omega)]
          unfold sNm
          rw [e0, if_pos (show ¬ dg (pk t e s) from fun q => hnu (Or.inr q))]
        rw [hsn]
        refine ⟨fun F j hF => (by cases hF), fun p hp => ?_⟩
        cases hp
        refine ⟨mst m1 M 14 s, ?_, by rw [vl_mst, if_pos ⟨rfl, rfl⟩], n, us, C, y1.trans (YT.mT hM131 y1.2.1.1 y1.1 y1.2.2.2.2.2.2.2) (by omega), by omega, by omega⟩
        refine q197 (by omega) h.1.1 _ ?_
        rw [gd_of hM, bV_eq e198, bI_eq h199, if_neg h110, if_neg h116, if_neg h102, if_neg h34, if_neg (by omega), bI_eq h206, if_pos rfl, if_neg (by omega), if_neg (by omega), v12, bI_eq (c202 h1.1.1 hM1 v14)]
theorem PYv_all (hB : tB t e) : ∀ N, PYv M tp e tr t N ∧ PYe M tp e tr t N := by
  intro N
  induction N with
  | zero =>
    refine ⟨?_, ?_⟩
    · intro d dep m i n us C ob seen _ _ _ _ _ _ _ _
      exact ⟨fun F j hF => (by cases hF), fun p hp => (by cases hp)⟩
    · intro d dep m i n us C p A ob z6 z7 z8 _ _ _ _ _ _ _ _ _ _ _ _ _ _ _
      exact ⟨fun F j hF => (by cases hF), fun p hp => (by cases hp)⟩
  | succ N ih => exact ⟨PYv_succ hB ih.2, PYe_succ hB ih.1 ih.2⟩
end
/-- a whole value in a tree -/
def YR (tr : Int) (m : Mem) (C k : Int) (nd : ND) (l : Fo) (m' : Mem) : Prop := ∃ (n' : Nat) (us' : List Int) (C' : Int), TW m' tr n' us' C' ∧ TV tr 0 m m' ∧ GR m m' (tC m tr C) (tC m' tr C') ∧ C' ≤ max C (2 * n') ∧ uC m' tr ≤ max (uC m tr) (2 * us'.length) ∧ wfU us' ∧ TN (nv m' tr) us' n' 0 nd l ∧ (idF l).Nodup ∧ (∀ x, x ∈ idF l → 0 < x) ∧ (n' : Int) ≤ k ∧ (us'.length : Int) ≤ k ∧ nv m' tr 8 0 = -1
def YB (tr : Int) (m : Mem) (C k : Int) (m' : Mem) : Prop := ∃ (n' : Nat) (us' : List Int) (C' : Int), TW m' tr n' us' C' ∧ TV tr 0 m m' ∧ GR m m' (tC m tr C) (tC m' tr C') ∧ C' ≤ max C (2 * n') ∧ uC m' tr ≤ max (uC m tr) (2 * us'.length) ∧ wfU us' ∧ (n' : Int) ≤ k ∧ (us'.length : Int) ≤ k
section
variable {d N : Nat} {m : Mem} {M tp e tr C : Int} {t : Int → Int} {n : Int} {us : List Int}
/-- a whole text -/
theorem c196 (hd : 76 ≤ d) (hB : tB t e) (ok : OK m) (hM : tg m M = 11) (hp : tg m tp = 186103 ∨ tg m tp = 276103 ∨ tg m tp = 278103) (he : 0 ≤ e ∧ e ≤ ln m tp ∧ ln m tp ≤ 16384) (hv : ∀ j, 0 ≤ j → j < e → vl m tp j = t j) (hS : STY m) (hw : TW m tr n us C) (hT : TI m) :
    (∀ F, sRd t e N = some (.inr F) → ∃ nd l, F = foC nd (erF l) foN ∧ ∃ m', cl d 196 [pR M, pR tp, pI e, pR tr] m = some (.inl (some (pI 0)), m') ∧ YR tr m C e nd l m') ∧
    (∀ p, sRd t e N = some (.inl p) → ∃ m', cl d 196 [pR M, pR tp, pI e, pR tr] m = some (.inl (some (pI (-1))), m') ∧ vl m' M 14 = p ∧ YB tr m C e m') := by
  have hM13 : tg m M ≠ 13 ∧ tg m M < 100 := by omega
  have hM31 : tg m M ≠ 31 ∧ tg m M ≠ 103 := by omega
  have ht13 := hw.1
  have htM : tr ≠ M := by intro q; rw [q] at ht13; omega
  have http : tr ≠ tp := by intro q; rw [q] at ht13; omega
  have htpM : tp ≠ M := by intro q; rw [q] at hp; omega
  obtain ⟨m0, hm0⟩ : ∃ m0, m0 = mst (mst (mst (mst m M 11 tp) M 12 0) M 13 e) M 14 (-1) := ⟨_, rfl⟩
  have w1 : TW (mst m M 11 tp) tr n us C := hw.mT hM13
  have w2 : TW (mst (mst m M 11 tp) M 12 0) tr n us C := TW.mT (m := mst m M 11 tp) hM13 w1
  have w3 : TW (mst (mst (mst m M 11 tp) M 12 0) M 13 e) tr n us C := TW.mT (m := mst (mst m M 11 tp) M 12 0) hM13 w2
  have hw0 : TW m0 tr n us C := by rw [hm0]; exact TW.mT (m := mst (mst (mst m M 11 tp) M 12 0) M 13 e) hM13 w3
  have u1 : TU tr m (mst m M 11 tp) := TU.mT hM13 hT
  have u2 : TU tr m (mst (mst m M 11 tp) M 12 0) := u1.trans (TU.mT (m := mst m M 11 tp) hM13 u1.1) hw w1
  have u3 : TU tr m (mst (mst (mst m M 11 tp) M 12 0) M 13 e) := u2.trans (TU.mT (m := mst (mst m M 11 tp) M 12 0) hM13 u2.1) hw w2
  have u4 : TU tr m m0 := by rw [hm0]; exact u3.trans (TU.mT (m := mst (mst (mst m M 11 tp) M 12 0) M 13 e) hM13 u3.1) hw w3
  have uc0 : uC m0 tr = uC m tr := by
    rw [hm0, uC_mT (m := mst (mst (mst m M 11 tp) M 12 0) M 13 e) hM13.1 w3, uC_mT (m := mst (mst m M 11 tp) M 12 0) hM13.1 w2, uC_mT (m := mst m M 11 tp) hM13.1 w1, uC_mT hM13.1 hw]
  have ok0 : OK m0 := by rw [hm0]; exact ok
  have hx0 : YX m0 M tp e 0 t := by
    rw [hm0]
    refine ⟨hM, ?_, ?_, ?_, ?_, hp, ⟨by omega, by omega, he.2.1, he.2.2⟩, fun j j0 j1 => ?_⟩
    · rw [vl_mst, if_neg (by omega), vl_mst, if_neg (by omega), vl_mst, if_neg (by omega), vl_mst, if_pos ⟨rfl, rfl⟩]
    · rw [vl_mst, if_neg (by omega), vl_mst, if_pos ⟨rfl, rfl⟩]
    · rw [vl_mst, if_neg (by omega), vl_mst, if_neg (by omega), vl_mst, if_pos ⟨rfl, rfl⟩]
    · rw [vl_mst, if_pos ⟨rfl, rfl⟩]
    · rw [vl_mst, if_neg (by omega), vl_mst, if_neg (by omega), vl_mst, if_neg (by omega), vl_mst, if_neg (by omega)]; exact hv j j0 j1
  have hS0 : STY m0 := by rw [hm0]; exact STY.mT (m := mst (mst (mst m M 11 tp) M 12 0) M 13 e) (STY.mT (m := mst (mst m M 11 tp) M 12 0) (STY.mT (m := mst m M 11 tp) (hS.mT hM31) hM31) hM31) hM31
  have hg0 : nx m0 = nx m ∧ sl m0 = sl m ∧ tg m0 M = 11 ∧ tg m0 tr = 13 := by rw [hm0]; exact ⟨rfl, rfl, hM, ht13⟩
  have hcc := hw0.2.2.2.2.2.2.1
  have huu := hw0.2.2.2.2.2.2.2.1
  obtain ⟨a1, a2, a3⟩ := hw0.fld (f := 10) (v := 0) (n' := 0) (us' := us) u4.1 ok0 (Or.inl rfl) (if_pos rfl).symm (Or.inl ⟨rfl, rfl⟩) ⟨by omega, by omega⟩
  have ok1 : OK (mst m0 tr 10 0) := ok0
  obtain ⟨b1, b2, b3⟩ := a1.fld (f := 12) (v := 0) (n' := 0) (us' := []) a2.1 ok1 (Or.inr rfl) (by rw [if_neg (by decide)]) (Or.inr ⟨rfl, rfl, fun i i0 i1 => absurd i1 (by simp; omega), by rw [a3]; unfold uC; simp; omega⟩) ⟨by omega, by omega⟩
  have e284 := c284 (d := d - 1) ok0.1 hw0
  have hS1 : STY (mst (mst m0 tr 10 0) tr 12 0) := (hS0.mT (by omega)).mT (by show tg m0 tr ≠ 31 ∧ tg m0 tr ≠ 103; omega)
  have h1 : YS (mst (mst m0 tr 10 0) tr 12 0) M tp e 0 t := ⟨ok0, (hx0.st ⟨htM, http⟩).st ⟨htM, http⟩, hS1⟩
  have tv1 : TV tr 0 m (mst (mst m0 tr 10 0) tr 12 0) := ((u4.tv hw).mono (b' := 0) (by omega)).trans (((a2.tv hw0).mono (b' := 0) (by omega)).trans (b2.tv a1) (by omega)) (by omega)
  have tc1 : tC (mst (mst m0 tr 10 0) tr 12 0) tr C = tC m tr C := by unfold tC; rw [b3, a3, uc0]
  have gr1 : GR m (mst (mst m0 tr 10 0) tr 12 0) (tC m tr C) (tC (mst (mst m0 tr 10 0) tr 12 0) tr C) := by
    rw [tc1]; exact ⟨by omega, by show nx m0 - nx m ≤ _; omega, by show sl m0 - sl m ≤ _; omega⟩
  have uc1 : uC (mst (mst m0 tr 10 0) tr 12 0) tr = uC m tr := by rw [b3, a3, uc0]
  generalize hm1 : mst (mst m0 tr 10 0) tr 12 0 = m1 at *
  have hV := (PYv_all (M := M) (tp := tp) (tr := tr) hB N).1 (d - 1) 0 m1 0 0 [] C false [] (by omega) (by omega) h1 b1 b2.1 (fun u hu => absurd hu (by simp)) (by simp; omega) (by simp; omega)
  have step : ∀ X : RM, (bI (cl (d - 1) 197 [pR M, pR tr, pI 0] m1) fun v2 m2 => if v2 < 0 then (some (.inl (some (pI v2)), m2)) else nm (vl m2 M 12) fun v4 => if v4 < (vl m2 M 13) then (bI (cl (d - 1) 202 [pR M, pI v4] m2) fun v3 m3 => some (.inl (some (pI (-1))), m3)) else some (.inl (some (pI v2)), m2)) = X → ∀ Q, X = some Q → cl d 196 [pR M, pR tp, pI e, pR tr] m = some Q := by
    intro X hX Q hQ
    refine q196 (by omega) ok.1 _ ?_
    rw [← hm0, gd_of hM, gd_of ht13, bV_eq e284]
    exact (by exact hX : _ = X).trans hQ
  unfold sRd
  cases hs : sP t e N false 0 false [] (sB t e 0) with
  | none => exact ⟨fun F hF => (by cases hF), fun p hp => (by cases hp)⟩
  | some w =>
    cases w with
    | inl p0 =>
      refine ⟨fun F hF => (by cases hF), fun p hp => ?_⟩
      cases hp
      obtain ⟨m', r1, r2, n', us', C', r3, r4, r5⟩ := hV.2 p0 hs
      obtain ⟨y1, y2, y3, y4, y5, y6, y7, y8⟩ := r3
      exact ⟨m', step _ (by rw [bI_eq (show cl (d - 1) 197 [pR M, pR tr, pI 0] m1 = _ from r1), if_pos (by decide)]) _ rfl, r2, n', us', C', y1, tv1.trans y2 (by omega), gr1.trans y3, y4, by omega, y8, by simp at r4; omega, by simp at r5; omega⟩
    | inr w =>
      obtain ⟨F0, j⟩ := w
      obtain ⟨nd, l, rfl, j0, j1, m2, e2, hx2, n', us', C', r3, r4, r5, r6, r7, r8, r9⟩ := hV.1 F0 j hs
      obtain ⟨y1, y2, y3, y4, y5, y6, y7, y8⟩ := r3
      have hb2 := sB_rng t (i := j) (e := e) j1
      have k12 := hx2.2.2.2.1
      have k13 := hx2.2.2.1
      have ok2 := h1.1.fr (cl_FRM e2)
      dsimp only
      by_cases hje : sB t e j = e
      · rw [if_pos hje]
        refine ⟨fun F hF => ?_, fun p hp => (by cases hp)⟩
        cases hF
        refine ⟨nd, l, rfl, m2, step _ ?_ _ rfl, n', us', C', y1, tv1.trans y2 (by omega), gr1.trans y3, y4, by omega, y8, r4, r5, r6, by simp at r7; omega, by simp at r8; omega, r9⟩
        rw [bI_eq (show cl (d - 1) 197 [pR M, pR tr, pI 0] m1 = some (.inl (some (pI 0)), m2) from e2), if_neg (by decide), nm_eq, k12, k13, if_neg (by omega)]
      · rw [if_neg hje]
        refine ⟨fun F hF => (by cases hF), fun p hp => ?_⟩
        cases hp
        have hM2 := hx2.1
        have t3 := TU.mT (tr := tr) (f := 14) (v := sB t e j) (m := m2) (T := M) (by omega) y2.1
        have uc3 := uC_mT (f := 14) (v := sB t e j) (T := M) (by omega) y1
        refine ⟨mst m2 M 14 (sB t e j), step _ ?_ _ rfl, by rw [vl_mst, if_pos ⟨rfl, rfl⟩], n', us', C', y1.mT (by omega), tv1.trans (y2.trans (t3.tv y1) (by omega)) (by omega), ?_, y4, by rw [uc3]; omega, y8, by simp at r7; omega, by simp at r8; omega⟩
        · rw [bI_eq (show cl (d - 1) 197 [pR M, pR tr, pI 0] m1 = some (.inl (some (pI 0)), m2) from e2), if_neg (by decide), nm_eq, k12, k13, if_pos (by omega), bI_eq (c202 ok2.1 hM2 hx2.2.2.2.2.1)]
        · have : tC (mst m2 M 14 (sB t e j)) tr C' = tC m2 tr C' := by unfold tC; rw [uc3]
          rw [this]
          exact gr1.trans y3
end
