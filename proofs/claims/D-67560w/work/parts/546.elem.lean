/-! values out of texts: a member or element -/
set_option maxRecDepth 100000
set_option maxHeartbeats 4000000
def PVs (T tp e r : Int) (t : Int → Int) (n : Nat) : Prop := ∀ (d dep : Nat) (m : Mem) (c i : Int) (xs : List Int) (ob : Bool) (seen : List (List Int)), 12 + 3 * (32 - dep) ≤ d → dep ≤ 32 → OK m → RI m → tg m T = 4 → vl m T 4 = dep → STX m → TX m T tp e i t → RW m r xs c → (xs.length : Int) + 3 * (e - i) ≤ 5900 →
  (∀ F j, sP t e n false dep ob seen i = some (.inr (F, j)) → ∃ nd l, F = foC nd l foN ∧ nd.2.2.2 = [] ∧ wfF F ∧ i < j ∧ j ≤ e ∧ ((enV nd l).length : Int) ≤ 3 * (j - i) ∧ ∃ m' c', cl d 76 [pR T, pR r] m = some (.inl none, m') ∧ TX m' T tp e j t ∧ vl m' T 4 = dep ∧ RG r m c (xs ++ enV nd l) m' c') ∧
  (∀ p, sP t e n false dep ob seen i = some (.inl p) → ∃ m', cl d 76 [pR T, pR r] m = some (.inr 204, m') ∧ BR T r m c p m')
/-- the reader's state -/
def RDS (m : Mem) (T tp e i : Int) (t : Int → Int) (dep : Nat) : Prop := OK m ∧ tg m T = 4 ∧ vl m T 4 = dep ∧ STX m ∧ TX m T tp e i t
theorem RDS.at {m : Mem} {T tp e i j : Int} {t : Int → Int} {dep : Nat} (h : RDS m T tp e i t dep) (h0 : 0 ≤ j) (h1 : j ≤ e) : RDS (mst m T 2 j) T tp e j t dep := by
  obtain ⟨a1, a2, a3, a4, a5⟩ := h
  exact ⟨a1, a2, by rw [vl_mst, if_neg (by omega)]; exact a3, a4.mT a2, a5.at h0 h1⟩
theorem RDS.fr {k : Nat} {m m' : Mem} {T tp e i j : Int} {t : Int → Int} {dep : Nat} (h : RDS m T tp e i t dep) (hf : FRM (eM k) m m') (hx : TX m' T tp e j t) (hn : scN (eM k) = true) (hv : Nat.testBit (eM k) (bix 4 4) = false) : RDS m' T tp e j t dep := by
  obtain ⟨a1, a2, a3, a4, a5⟩ := h
  exact ⟨a1.fr hf, by rw [tg_of hf a1.1 (by omega)]; exact a2, by rw [vl_of hf a1.1 a2 (by decide) hv]; exact a3, a4.fr hf a1.1 hn, hx⟩
theorem RDS.fr2 {k : Nat} {m m' : Mem} {T tp e i j : Int} {t : Int → Int} {dep dep' : Nat} (h : RDS m T tp e i t dep) (hf : FRM (eM k) m m') (hx : TX m' T tp e j t) (hn : scN (eM k) = true) (hv : vl m' T 4 = dep') : RDS m' T tp e j t dep' := by
  obtain ⟨a1, a2, a3, a4, a5⟩ := h
  exact ⟨a1.fr hf, by rw [tg_of hf a1.1 (by omega)]; exact a2, hv, a4.fr hf a1.1 hn, hx⟩
section
variable {d dep n : Nat} {m : Mem} {T tp e i r c k0 : Int} {t : Int → Int} {pre : List Int} {F0 : Fo} {ob : Bool} {seen : List (List Int)}
theorem c78 (hPV : PVs T tp e r t n) (hd : 13 + 3 * (32 - dep) ≤ d) (hdep : dep ≤ 32) (hI : RI m) (h : RDS m T tp e i t dep) (hR : RW m r (pre ++ k0 :: 0 :: 0 :: enF ob F0) c) (hw : wfF F0) (hsn : seen = nmsF F0) (hL : ((pre ++ k0 :: 0 :: 0 :: enF ob F0).length : Int) + 3 * (e - i) ≤ 5900) :
    (∀ p, sKey t e ob seen i = .inl p → ∃ m', cl d 78 [pR T, pR r, pI pre.length, pI (b2i ob)] m = some (.inr 204, m') ∧ BR T r m c p m') ∧
    (∀ nm j, sKey t e ob seen i = .inr (nm, j) →
      (∀ p, sP t e n false dep ob seen j = some (.inl p) → ∃ m', cl d 78 [pR T, pR r, pI pre.length, pI (b2i ob)] m = some (.inr 204, m') ∧ BR T r m c p m') ∧
      (∀ F k, sP t e n false dep ob seen j = some (.inr (F, k)) → ∃ nd l, F = foC nd l foN ∧ wfF F ∧ wfU nm ∧ (ob = true → nm ∉ seen) ∧ i < k ∧ k ≤ e ∧ (((if ob then nmB nm else []) ++ enV nd l).length : Int) ≤ 3 * (k - i) ∧ ∃ m' c', cl d 78 [pR T, pR r, pI pre.length, pI (b2i ob)] m = some (.inl none, m') ∧ RDS m' T tp e (sB t e k) t dep ∧ RG r m c ((pre ++ k0 :: 0 :: 0 :: enF ob F0) ++ ((if ob then nmB nm else []) ++ enV nd l)) m' c')) := by
  obtain ⟨ok, h4, hn4, hS, hX⟩ := h
  have h : RDS m T tp e i t dep := ⟨ok, h4, hn4, hS, hX⟩
  have b6 := hX.2.2.2.2.2.1
  cases ob with
  | false =>
    have hV := hPV (d - 1) dep m c i _ false seen (by omega) hdep ok hI h4 hn4 hS hX hR hL
    refine ⟨fun p hp => (by cases hp), fun nm j hk => ?_⟩
    cases hk
    refine ⟨fun p hp => ?_, fun F k hF => ?_⟩
    · obtain ⟨m1, e1, hb⟩ := hV.2 p hp
      refine ⟨m1, ?_, hb⟩
      refine q78 (by omega) ok.1 _ ?_
      rw [if_pos (show b2i false = 0 from rfl), gd_of h4, bV_xq e1]
    · obtain ⟨nd, l, hF1, -, hF3, hF4, hF5, hF6, m1, c1, e1, hx1, hn1, g1⟩ := hV.1 F k hF
      have h1 := h.fr2 (cl_FRM e1) hx1 (by rfl) hn1
      have hb := sB_rng t (i := k) (e := e) hF5
      have e62 := c62 (d := d - 1) (by omega) h1.1.1 hx1
      refine ⟨nd, l, hF1, hF3, fun u hu => absurd hu (by simp), fun hq => absurd hq (by simp), hF4, hF5, by simpa using hF6, mst m1 T 2 (sB t e k), c1, ?_, h1.at (by omega) hb.2, ?_⟩
      · refine q78 (by omega) ok.1 _ ?_
        rw [if_pos (show b2i false = 0 from rfl), gd_of h4, bV_eq e1, bV_eq e62]
      · have g2 := g1.trans (RG.atR (j := sB t e k) g1.1 hx1.1 g1.2.1.1) (by simp)
        simpa using g2
  | true =>
    have h63 := c63 (d := d - 1) ok.1 hX
    have h66 := c66_1 (d := d - 1) (T := T) (m := m) (by omega) ok.1
    have h660 := c66_0 (d := d - 1) (by omega) ok.1 hX
    have hr8 := hR.1
    have hsz := hR.2.2.2.1
    have b4 := hX.2.2.2.1
    unfold sKey
    rw [if_pos rfl]
    by_cases h34 : pk t e i = 34
    · rw [if_pos h34]
      have hie : i < e := pkf_lt (t := t) (by omega)
      have s1 : ∀ Q, rn d 78 19 [pR T, pR r, pI pre.length, pI (b2i true), pU, pU, pU] [pI 1, pR T] m = some Q → cl d 78 [pR T, pR r, pI pre.length, pI (b2i true)] m = some Q := by
        intro Q hQ
        refine q78 (by omega) ok.1 _ ?_
        rw [if_neg (by decide), gd_of h4, bI_eq h63, if_pos h34]; exact hQ
      have h68 := c68 (d := d - 1) (q := 34) (by omega) (Or.inl rfl) ok hI hX h34 hR (by omega)
      cases hs : sS t e 34 (i + 1) with
      | inl p0 =>
        refine ⟨fun p hp => ?_, fun nm j hk => (by cases hk)⟩
        cases hp
        obtain ⟨m1, e1, hb⟩ := h68.2 p0 hs
        refine ⟨m1, s1 _ (q78_19 (by omega) ok.1 _ ?_), hb⟩
        rw [gd_of h4, bV_eq h66, gd_of h4, gd_of hr8, bV_xq e1]
      | inr w =>
        obtain ⟨nm, j⟩ := w
        obtain ⟨a1, a2, a3, a4, m1, c1, e1, hx1, g1⟩ := h68.1 nm j hs
        have h1 := h.fr (cl_FRM e1) hx1 (by rfl) (by rfl)
        have hl3 : ((pre ++ k0 :: 0 :: 0 :: enF true F0).length : Int) = pre.length + 3 + (enF true F0).length := by simp; omega
        have s2 : ∀ Q, rn d 78 46 [pR T, pR r, pI pre.length, pI (b2i true), pI i, pI (pre ++ k0 :: 0 :: 0 :: enF true F0).length, pI (pre.length + 3)] [] m1 = some Q → cl d 78 [pR T, pR r, pI pre.length, pI (b2i true)] m = some Q := by
          intro Q hQ
          refine s1 _ (q78_19 (by omega) ok.1 _ ?_)
          rw [gd_of h4, bV_eq h66, gd_of h4, gd_of hr8, bV_eq e1, b4, hsz, w32_of (by omega) (by omega)]; exact hQ
        have hA1 : At ((pre ++ k0 :: 0 :: 0 :: enF true F0) ++ nmB nm) (pre ++ k0 :: 0 :: 0 :: enF true F0).length (nmB nm) := At.end
        have hA2 : At ((pre ++ k0 :: 0 :: 0 :: enF true F0) ++ nmB nm) (pre.length + 3) (enF true F0) := by
          apply At.mono
          have : pre ++ k0 :: 0 :: 0 :: enF true F0 = (pre ++ [k0, 0, 0]) ++ enF true F0 := by simp
          rw [this]
          have h2 := At.end (xs := pre ++ [k0, 0, 0]) (ys := enF true F0)
          have e3 : (((pre ++ [k0, 0, 0]).length : Nat) : Int) = (pre.length : Int) + 3 := by simp
          rw [e3] at h2; exact h2
        have hdup := c78_dup (d := d) (st := pre.length) (ob := b2i true) (qt := i) (nm := nm) (by omega) h1.1.1 h1.2.1 g1.1 hA1 a1 (by omega) F0 (pre.length + 3) hw (by omega) hA2 (by omega)
        rw [hsn]
        dsimp only
        by_cases hm : nm ∈ nmsF F0
        · rw [if_pos hm]
          refine ⟨fun p hp => ?_, fun nm j hk => (by cases hk)⟩
          cases hp
          refine ⟨_, s2 _ (hdup.2 hm), (BR.mk (p := i) h1.1.1 hx1.1 g1.2.1.1 g1.1).pre g1 ?_⟩
          have := nmB_len nm
          rw [List.length_append]; omega
        · rw [if_neg hm]
          have s3 := fun Q hQ => s2 Q (hdup.1 hm Q hQ)
          have hbj := sB_rng t (i := j) (e := e) a3
          have e62 := c62 (d := d - 1) (by omega) h1.1.1 hx1
          have h2 := h1.at (j := sB t e j) (by omega) hbj.2
          have hx2 := h2.2.2.2.2
          have g2 := g1.trans (RG.atR (j := sB t e j) g1.1 hx1.1 g1.2.1.1) (by simp)
          have hln : ((pre ++ k0 :: 0 :: 0 :: enF true F0) ++ nmB nm).length ≤ 6000 := by
            have := nmB_len nm
            rw [List.length_append]; omega
          by_cases h58 : pk t e (sB t e j) = 58
          · rw [if_pos h58]
            refine ⟨fun p hp => (by cases hp), fun nm' j' hk => ?_⟩
            cases hk
            have h65 := c65_1 (d := d - 1) (x := 58) (by omega) h2.1.1 hx2 h58 (by decide)
            rw [mst_mst] at h65
            have hle : sB t e j < e := pkf_lt (t := t) (by omega)
            have hbj2 := sB_rng t (i := sB t e j + 1) (e := e) (by omega)
            have h3 := h1.at (j := sB t e j + 1) (by omega) (by omega)
            have e62b := c62 (d := d - 1) (by omega) h3.1.1 h3.2.2.2.2
            rw [mst_mst] at e62b
            have h4' := h1.at (j := sB t e (sB t e j + 1)) (by omega) hbj2.2
            have g4 := g1.trans (RG.atR (j := sB t e (sB t e j + 1)) g1.1 hx1.1 g1.2.1.1) (by simp)
            have hlen2 := nmB_len nm
            have hV := hPV (d - 1) dep (mst m1 T 2 (sB t e (sB t e j + 1))) c1 (sB t e (sB t e j + 1)) _ true (nmsF F0) (by omega) hdep h4'.1 g4.2.1.1 h4'.2.1 h4'.2.2.1 h4'.2.2.2.1 h4'.2.2.2.2 g4.1 (by rw [List.length_append]; omega)
            have s4 : ∀ m5 : Mem, ∀ X : RM, (bV (cl (d - 1) 76 [pR T, pR r] (mst m1 T 2 (sB t e (sB t e j + 1)))) fun m4 => bV (cl (d - 1) 62 [pR T] m4) fun m5 => some (.inl none, m5)) = X → ∀ Q, X = some Q → cl d 78 [pR T, pR r, pI pre.length, pI (b2i true)] m = some Q := by
              intro _ X hX Q hQ
              refine s3 _ (q78_46 (by omega) h1.1.1 _ ?_)
              rw [if_neg (by omega), gd_of h1.2.1, bV_eq e62, bV_eq h65, bV_eq e62b, hX]; exact hQ
            refine ⟨fun p hp => ?_, fun F k hF => ?_⟩
            · obtain ⟨m5, e5, hb⟩ := hV.2 p hp
              refine ⟨m5, s4 m _ (bV_xq e5) _ rfl, hb.pre g4 hln⟩
            · obtain ⟨nd, l, hF1, -, hF3, hF4, hF5, hF6, m5, c5, e5, hx5, hn5, g5⟩ := hV.1 F k hF
              have h5 := h4'.fr2 (cl_FRM e5) hx5 (by rfl) hn5
              have hbk := sB_rng t (i := k) (e := e) hF5
              have e62c := c62 (d := d - 1) (by omega) h5.1.1 hx5
              refine ⟨nd, l, hF1, hF3, a1, fun _ => hm, by omega, hF5, by rw [List.length_append, if_pos rfl]; omega, mst m5 T 2 (sB t e k), c5, s4 m _ (by rw [bV_eq e5, bV_eq e62c]) _ rfl, h5.at (by omega) hbk.2, ?_⟩
              have g6 := (g4.trans g5 (by simp)).trans (RG.atR (j := sB t e k) g5.1 hx5.1 g5.2.1.1) (by simp)
              rw [if_pos rfl, ← List.append_assoc]; exact g6
          · rw [if_neg h58]
            refine ⟨fun p hp => ?_, fun nm j hk => (by cases hk)⟩
            cases hp
            have h65 := c65_0 (d := d - 1) (x := 58) (by omega) h2.1.1 hx2 h58
            refine ⟨_, s3 _ (q78_46 (by omega) h1.1.1 _ ?_), (BR.mk2 (j := sB t e j) (p := sB t e j) h1.1.1 hx1 g1.2.1.1 g1.1).pre g1 hln⟩
            rw [if_neg (by omega), gd_of h1.2.1, bV_eq e62, bV_xq h65]
    · rw [if_neg h34]
      refine ⟨fun p hp => ?_, fun nm j hk => (by cases hk)⟩
      cases hp
      refine ⟨_, ?_, BR.mk (p := i) ok.1 hX.1 hI hR⟩
      refine q78 (by omega) ok.1 _ ?_
      rw [if_neg (by decide), gd_of h4, bI_eq h63, if_neg h34]
      refine q78_19 (by omega) ok.1 _ ?_
      rw [gd_of h4, bV_xq h660]
end
