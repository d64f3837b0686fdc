/-! printing values -/
set_option maxRecDepth 100000
set_option maxHeartbeats 4000000
def prD (d : ND) (body : List Int) : List Int := if d.1 = 0 then cNul else if d.1 = 1 then cFls else if d.1 = 2 then cTru else if d.1 = 3 then prN d.2.1 else if d.1 = 4 then prS 34 d.2.2.1 else if d.1 = 5 then 91 :: (body ++ [93]) else 123 :: (body ++ [125])
def prF : Bool → Bool → Fo → List Int
  | _, _, .leaf => []
  | ob, fst, .inner _ d _ l r => (if fst then [] else [44]) ++ ((if ob then prS 34 d.2.2.2 ++ [58] else []) ++ (prD d (prF (d.1 == 6) true l) ++ prF ob false r))
/-- a value as it is printed -/
def prV (d : ND) (l : Fo) : List Int := prD d (prF (d.1 == 6) true l)
theorem prF_leaf (ob fst : Bool) : prF ob fst foN = [] := by cases ob <;> cases fst <;> rfl
theorem prF_inner (ob fst : Bool) (n : Nat) (d : ND) (u : Unit) (l r : Fo) : prF ob fst (.inner n d u l r) = (if fst then [] else [44]) ++ ((if ob then prS 34 d.2.2.2 ++ [58] else []) ++ (prV d l ++ prF ob false r)) := by cases ob <;> cases fst <;> rfl
def dpF : Fo → Nat
  | .leaf => 0
  | .inner _ d _ l r => max (if d.1 < 5 then 0 else 1 + dpF l) (dpF r)
section
variable {d : Nat} {m : Mem} {s cap r c : Int} {ys xs : List Int}
theorem c140_l {a1 : Int} (hz : TZ m) (hR : RW m r xs c) : ∀ (n : Nat) (u acc k : Int) (sh : Nat), 0 ≤ u → u < 128 ^ (n + 1) → 0 ≤ acc → acc < ((2 ^ sh : Nat) : Int) → sh ≤ 56 → u * ((2 ^ sh : Nat) : Int) + acc < 72057594037927936 → At xs k (vi n u) → rn d 140 8 [pR r, pI a1, pL acc, pU, pI k, pI (sh : Int)] [] m = some (.inl (some (pL (unzz (u * ((2 ^ sh : Nat) : Int) + acc)))), m) := by
  have hR' := hR
  obtain ⟨ht, hb, hc, hs, hl, hcc, hv⟩ := hR
  have fin : ∀ w : Int, 0 ≤ w → w < 4611686018427387904 → qXor (qUshr w 1) (w64 (-(qAnd w 1))) = unzz w := by
    intro w w0 w1
    rw [qUshr_1 w0 (by omega), qAnd_1]
    unfold unzz
    by_cases hp : w % 2 = 0
    · rw [if_pos hp, hp, show w64 (-0) = 0 by decide, qXor_zero _ ⟨by omega, by omega⟩]
    · rw [if_neg hp, show w % 2 = 1 by omega, show w64 (-1) = -1 by decide, qXor_m1 _ ⟨by omega, by omega⟩]
  have lastb : ∀ (u acc k : Int) (sh : Nat), 0 ≤ u → u < 128 → 0 ≤ acc → acc < ((2 ^ sh : Nat) : Int) → sh ≤ 56 → u * ((2 ^ sh : Nat) : Int) + acc < 72057594037927936 → 0 ≤ k → k < xs.length → gi xs k = u → rn d 140 8 [pR r, pI a1, pL acc, pU, pI k, pI (sh : Int)] [] m = some (.inl (some (pL (unzz (u * ((2 ^ sh : Nat) : Int) + acc)))), m) := by
    intro u acc k sh u0 u1 a0 a1' hsh hS k0 k1 hg
    have hm : 0 ≤ u * ((2 ^ sh : Nat) : Int) := Int.mul_nonneg u0 (by omega)
    refine q140_8 hz _ ?_
    rw [gd_of ht, nm_eq, gd_of hb, gd_of ⟨k0, by omega⟩, nm_eq, hv k k0 k1, hg, if_neg (by omega), nm_eq, qShl_mul sh (by omega) u0 (by omega), qOr_add sh u0 a0 a1' (by omega), fin _ (by omega) (by omega)]
  intro n
  induction n with
  | zero =>
    intro u acc k sh u0 u1 a0 a1' hsh hS hA
    simp at u1
    have h1 := hA.cons.1
    rw [w8_of (by omega) (by omega)] at h1
    have hk := hA.2.1
    simp [vi] at hk
    exact lastb u acc k sh u0 u1 a0 a1' hsh hS hA.1 (by omega) h1
  | succ n ih =>
    intro u acc k sh u0 u1 a0 a1' hsh hS hA
    unfold vi at hA
    by_cases hz0 : u / 128 = 0
    · rw [if_pos hz0] at hA
      have h1 := hA.cons.1
      rw [w8_of (by omega) (by omega)] at h1
      have hk := hA.2.1
      simp at hk
      exact lastb u acc k sh u0 (by omega) a0 a1' hsh hS hA.1 (by omega) h1
    · rw [if_neg hz0] at hA
      have h1 := hA.cons.1
      have hk := hA.2.1
      have hk0 := hA.1
      simp at hk
      have hneg : w8 (128 + u % 128) < 0 := by unfold w8; omega
      have hmod : w8 (128 + u % 128) % 128 = u % 128 := by unfold w8; omega
      have hpp : 0 < 2 ^ sh := Nat.pow_pos (by decide)
      have hps : 2 ^ (sh + 7) = 2 ^ sh * 128 := by rw [Nat.pow_add]
      generalize hP : 2 ^ sh = P at *
      have hm : 0 ≤ (u % 128) * (P : Int) := Int.mul_nonneg (by omega) (by omega)
      have hdm : u * (P : Int) = (u / 128) * ((P * 128 : Nat) : Int) + (u % 128) * (P : Int) := by
        have : u = 128 * (u / 128) + u % 128 := by omega
        conv => lhs; rw [this]
        rw [Int.add_mul, Int.natCast_mul, Int.mul_comm (128 : Int), Int.mul_assoc, Int.mul_comm (128 : Int)]; rfl
      have hq0 : 0 ≤ (u / 128) * ((P * 128 : Nat) : Int) := Int.mul_nonneg (by omega) (by omega)
      have hub : (u % 128) * (P : Int) ≤ 127 * (P : Int) := Int.mul_le_mul_of_nonneg_right (by omega) (by omega)
      have hsh2 : sh + 7 ≤ 56 := by
        rcases Nat.lt_or_ge 49 sh with hh | hh
        · exfalso
          have h50 : 2 ^ 50 ≤ 2 ^ sh := Nat.pow_le_pow_right (by decide) hh
          rw [hP] at h50
          have : (1 : Int) * ((P * 128 : Nat) : Int) ≤ (u / 128) * ((P * 128 : Nat) : Int) := Int.mul_le_mul_of_nonneg_right (by omega) (by omega)
          omega
        · omega
      have hI := ih (u / 128) ((u % 128) * (P : Int) + acc) (k + 1) (sh + 7) (by omega) (by rw [Int.pow_succ] at u1; omega) (by omega) (by rw [hps, Int.natCast_mul]; omega) hsh2 (by rw [hps]; omega) hA.cons.2
      rw [hps] at hI
      refine q140_8 hz _ ?_
      have hsm : (u % 128) * ((2 ^ sh : Nat) : Int) < 9223372036854775808 := by rw [hP]; omega
      have hso : (u % 128) * ((2 ^ sh : Nat) : Int) + acc < 9223372036854775808 := by rw [hP]; omega
      rw [gd_of ht, nm_eq, gd_of hb, gd_of ⟨hk0, by omega⟩, nm_eq, hv k hk0 (by omega), h1, if_pos hneg, qAnd_127, hmod, qShl_mul sh (by omega) (by omega) hsm, qOr_add sh (by omega) a0 (by rw [hP]; exact a1') hso, w32_of (z := k + 1) (by omega) (by omega), w32_of (z := (sh : Int) + 7) (by omega) (by omega), hP]
      rw [hdm, Int.add_assoc]
      exact hI
theorem c140 {v a : Int} (hz : TZ m) (hR : RW m r xs c) (hA : At xs a (nuB v)) (h0 : -9007199254740992 < v) (h1 : v < 9007199254740992) : cl d 140 [pR r, pI a] m = some (.inl (some (pL v)), m) := by
  refine q140 hz _ ?_
  have hr := zz_rng h0 h1
  have := c140_l (d := d) (a1 := a) hz hR 9 (zz v) 0 a 0 hr.1 (Int.lt_of_lt_of_le hr.2 (by decide)) (by decide) (by decide) (by decide) (by simp; omega) hA
  simp only [Nat.pow_zero, Int.add_zero] at this
  rw [show zz v * ((1 : Nat) : Int) = zz v by omega, unzz_zz] at this
  exact this
/-- printing what stands side by side in r -/
def PFs (s cap r c : Int) (xs : List Int) (F : Fo) : Prop := ∀ (d : Nat) (m : Mem) (ys : List Int) (k a en : Int) (ob : Bool) (z : PV), 11 + 2 * dpF F ≤ d → cat z = 1 → wfF F → PRE m → SI m → SK m s ys cap → RW m r xs c → xs.length < 60000 → At xs k (enF ob F) → k + (enF ob F).length = en → 0 ≤ a → a + 3 ≤ k → PRC (rn d 59 43 [pR s, pR r, pI a, pI (b2i ob), pI en, pI k, z] [] m) s m ys cap (prF ob (decide (k = a + 3)) F ++ [clo ob])
theorem c52_of {nd : ND} {l : Fo} {a : Int} (hF : PFs s cap r c xs l) (hd : 10 ≤ d) (hd2 : nd.1 < 5 ∨ 12 + 2 * dpF l ≤ d) (hw : wfF (foC nd l foN)) (hP : PRE m) (hI : SI m) (h : SK m s ys cap) (hR : RW m r xs c) (hx : xs.length < 60000) (hA : At xs a (enV nd l)) : PRC (cl d 52 [pR s, pR r, pI a] m) s m ys cap (prV nd l) := by
  obtain ⟨⟨w1, w2, w3, w4, w5⟩, w6, w7, w8', w9, -⟩ := hw
  have ok := hP.1
  have hp := enV_pos nd l
  have ha := hA.1
  have ha2 := hA.2.1
  have hcc := hR.2.2.2.2.2.1
  have hll := hR.2.2.2.2.1
  have h139 := c139 (d := d - 1) (a := a) ok.1 hR ha (by omega)
  have hg : gi xs a = nd.1 := by
    unfold enV enD at hA
    split at hA
    · exact hA.cons.1
    · split at hA
      · rename_i h3; rw [hA.cons.1]; omega
      · split at hA
        · rename_i h4; rw [hA.cons.1]; omega
        · exact hA.cons.1
  rw [hg] at h139
  unfold prV prD
  by_cases k0 : nd.1 = 0
  · rw [if_pos k0]
    refine ((c53 (d := d - 1) (by omega) hP hI h hP.2.1).last).imp (fun Q hQ => q52 (by omega) ok.1 _ ?_)
    rw [gd_of hR.1, bI_eq h139, if_pos (by omega), gd_of h.1]; exact hQ
  · rw [if_neg k0]
    by_cases k1 : nd.1 = 1
    · rw [if_pos k1]
      refine ((c53 (d := d - 1) (by omega) hP hI h hP.2.2.1).last).imp (fun Q hQ => q52 (by omega) ok.1 _ ?_)
      rw [gd_of hR.1, bI_eq h139, if_neg (by omega), if_pos (by omega), gd_of h.1]; exact hQ
    · rw [if_neg k1]
      by_cases k2 : nd.1 = 2
      · rw [if_pos k2]
        refine ((c53 (d := d - 1) (by omega) hP hI h hP.2.2.2).last).imp (fun Q hQ => q52 (by omega) ok.1 _ ?_)
        rw [gd_of hR.1, bI_eq h139, if_neg (by omega), if_neg (by omega), if_pos (by omega), gd_of h.1]; exact hQ
      · rw [if_neg k2]
        by_cases k3 : nd.1 = 3
        · rw [if_pos k3]
          have e : enV nd l = 3 :: nuB nd.2.1 := by unfold enV enD; rw [if_neg (by omega), if_pos k3]
          rw [e] at hA
          have h140 := c140 (d := d - 1) (a := a + 1) ok.1 hR hA.cons.2 w2 w3
          refine ((c55 (d := d - 1) (v := nd.2.1) (by omega) ok hI h (by omega) (by omega)).last).imp (fun Q hQ => q52 (by omega) ok.1 _ ?_)
          rw [gd_of hR.1, bI_eq h139, if_neg (by omega), if_neg (by omega), if_neg (by omega), if_pos (by omega), w32_of (by omega) (by omega), bL_eq h140, gd_of h.1]; exact hQ
        · rw [if_neg k3]
          by_cases k4 : nd.1 = 4
          · rw [if_pos k4]
            have e : enV nd l = 4 :: nmB nd.2.2.1 := by unfold enV enD; rw [if_neg (by omega), if_neg k3, if_pos k4]
            rw [e] at hA ha2
            have hlen := nmB_len nd.2.2.1
            simp only [List.length_cons] at ha2
            have h2 := hA.cons.2
            have t2 := tw_nm h2 (by omega)
            have h134 := c134 (d := d - 1) (a := a + 1) ok.1 hR (by omega) (by omega)
            rw [t2] at h134
            have A2 := h2.app.2
            rw [l2_len] at A2
            have A3 : At xs (a + 3) (uts nd.2.2.1) := by rw [show a + 3 = a + 1 + ((2 : Nat) : Int) by omega]; exact A2
            refine ((c56 (d := d - 1) (q := 34) (by omega) (Or.inl rfl) w4 ok hI h hR A3 rfl).last).imp (fun Q hQ => q52 (by omega) ok.1 _ ?_)
            rw [gd_of hR.1, bI_eq h139, if_neg (by omega), if_neg (by omega), if_neg (by omega), if_neg (by omega), if_pos (by omega), w32_of (z := a + 1) (by omega) (by omega), bI_eq h134, gd_of h.1, w32_of (z := a + 3) (by omega) (by omega)]; exact hQ
          · rw [if_neg k4]
            obtain ⟨ob, hob⟩ : ∃ b : Bool, b = (nd.1 == 6) := ⟨_, rfl⟩
            have e : enV nd l = (nd.1 : Int) :: (l2 (enF ob l).length ++ enF ob l) := by unfold enV enD; rw [if_neg (by omega), if_neg k3, if_neg k4, hob]
            rw [← hob]
            have hob6 : (ob = true ↔ nd.1 = 6) := by rw [hob]; simp
            rw [e] at ha2
            simp only [List.length_cons, List.length_append, l2_len] at ha2
            have hlen : (enV nd l).length = (enF ob l).length + 3 := by rw [e]; simp [l2_len]; omega
            have hA' := hA
            rw [e] at hA
            have A2 := hA.cons.2.app.2
            rw [l2_len] at A2
            have A3 : At xs (a + 3) (enF ob l) := by rw [show a + 3 = a + 1 + ((2 : Nat) : Int) by omega]; exact A2
            have h139b := c139 (d := d - 1 - 1) (a := a) ok.1 hR ha (by omega)
            rw [hg] at h139b
            have opn : ∀ ch : Int, 0 ≤ ch → ch < 128 → PRC (rn (d - 1) 59 28 [pR s, pR r, pI a, pI (b2i ob), pU, pU, pU] [pI ch, pR s] m) s m ys cap (ch :: (prF ob true l ++ [clo ob])) := by
              intro ch hc0 hc1
              have hpp := (c54 (d := d - 1 - 1) (b := ch) ok hI h).bind (f := fun m1 => gd (tg m1 r = 8) <| bI (cl (d - 1 - 1) 137 [pR r, pI a] m1) fun v2 m2 => rn (d - 1) 59 43 [pR s, pR r, pI a, pI (b2i ob), pI v2, pI (w32 (a + 3)), pU] [] m2) (z2 := prF ob true l ++ [clo ob]) (fun m1 g1 => by
                have hP1 := hP.fr g1.2.2.1
                have hR1 := hR.fr g1.2.2.1 ok.1 (by rfl)
                have hb := c137 (d := d - 1 - 1) (a := a) (nd := nd) (l := l) (by omega) hP1.1.1 hR1 hA' ⟨w1, w2, w3, w4, w5⟩ (by omega)
                rw [gd_of hR1.1, bI_eq hb, w32_of (by omega) (by omega)]
                have := hF (d - 1) m1 (ys ++ [w8 ch]) (a + 3) a (a + (enV nd l).length) ob pU (by omega) rfl w9 hP1 g1.2.1.1 g1.1 hR1 hx A3 (by omega) ha (by omega)
                simpa using this)
              rw [w8_of (by omega) hc1] at hpp
              refine (hpp.cast (by rfl)).imp (fun Q hQ => q59_28 (by omega) ok.1 _ ?_)
              rw [gd_of h.1]; exact hQ
            have ent : ∀ zs, PRC (cl (d - 1) 59 [pR s, pR r, pI a] m) s m ys cap zs → PRC (cl d 52 [pR s, pR r, pI a] m) s m ys cap zs := by
              intro zs hz
              refine hz.last.imp (fun Q hQ => q52 (by omega) ok.1 _ ?_)
              rw [gd_of hR.1, bI_eq h139, if_neg (by omega), if_neg (by omega), if_neg (by omega), if_neg (by omega), if_neg (by omega), gd_of h.1]; exact hQ
            by_cases k5 : nd.1 = 5
            · rw [if_pos k5]
              have hobf : ob = false := by rw [hob, k5]; rfl
              subst hobf
              refine ent _ (((opn 91 (by decide) (by decide)).cast (by rfl)).imp (fun Q hQ => q59 (by omega) ok.1 _ ?_))
              rw [gd_of hR.1, bI_eq h139b, if_neg (by omega), if_pos rfl]; exact hQ
            · rw [if_neg k5]
              have hobt : ob = true := hob6.mpr (by omega)
              subst hobt
              refine ent _ (((opn 123 (by decide) (by decide)).cast (by rfl)).imp (fun Q hQ => q59 (by omega) ok.1 _ ?_))
              rw [gd_of hR.1, bI_eq h139b, if_pos (by omega), if_neg (by decide)]; exact hQ
theorem PFs_all : ∀ F, PFs s cap r c xs F := by
  intro F
  induction F with
  | leaf =>
    intro d m ys k a en ob z hd hcz hw hP hI h hR hx hA hen ha hak
    rw [enF_leaf] at hen
    rw [prF_leaf, List.nil_append]
    simp at hen
    have hp := (c54 (d := d - 1) (b := clo ob) hP.1 hI h).last
    have h8 : w8 (clo ob) = clo ob := by cases ob <;> rfl
    rw [h8] at hp
    refine hp.imp (fun Q hQ => q59_43 (by omega) hP.1.1 hcz _ ?_)
    cases ob with
    | false => rw [if_neg (by omega), if_pos (show b2i false = 0 from rfl), gd_of h.1]; exact hQ
    | true => rw [if_neg (by omega), if_neg (show ¬ b2i true = 0 by decide), gd_of h.1]; exact hQ
  | inner n nd u l rr ihl ihr =>
    intro d m ys k a en ob z hd hcz hw hP hI h hR hx hA hen ha hak
    have ok := hP.1
    have hw' := hw
    obtain ⟨w1, w2, w3, w4, w5, w6⟩ := hw
    have hwv : wfF (foC nd l foN) := ⟨w1, w2, w3, w4, w5, trivial⟩
    have hA1 := hA.1
    have hA2 := hA.2.1
    have hcc := hR.2.2.2.2.2.1
    have hll := hR.2.2.2.2.1
    have hdp : (nd.1 < 5 ∨ 1 + dpF l ≤ dpF (.inner n nd u l rr)) ∧ dpF rr ≤ dpF (.inner n nd u l rr) := by
      have ed : dpF (.inner n nd u l rr) = max (if nd.1 < 5 then 0 else 1 + dpF l) (dpF rr) := rfl
      rw [ed]
      by_cases h5 : nd.1 < 5
      · exact ⟨Or.inl h5, by omega⟩
      · rw [if_neg h5]; exact ⟨Or.inr (by omega), by omega⟩
    have hdl : dpF l = 0 ∨ 1 + dpF l ≤ dpF (.inner n nd u l rr) := by
      rcases hdp.1 with h5 | h5
      · left; rw [w3 h5]; rfl
      · exact Or.inr h5
    rw [enF_inner] at hA hen hA2
    simp only [List.length_append] at hen hA2
    obtain ⟨B1, B2⟩ := hA.app
    obtain ⟨B3, B4⟩ := B2.app
    rw [prF_inner]
    -- the value and what is behind it
    have hval : ∀ (m1 : Mem) (ys1 : List Int) (v z6 : Int), v = k + ((if ob then nmB nd.2.2.2 else []).length : Int) → PRE m1 → SI m1 → SK m1 s ys1 cap → RW m1 r xs c → PRC (rn d 59 103 [pR s, pR r, pI a, pI (b2i ob), pI en, pI k, pI v] [] m1) s m1 ys1 cap (prV nd l ++ (prF ob false rr ++ [clo ob])) := by
      intro m1 ys1 v z6 hv hP1 hI1 h1 hR1
      subst hv
      have hp := (c52_of (d := d - 1) ihl (by omega) (by rcases hdp.1 with q | q <;> omega) hwv hP1 hI1 h1 hR1 hx B3).bind (f := fun m1 => gd (tg m1 r = 8) <| bI (cl (d - 1) 137 [pR r, pI (k + ((if ob then nmB nd.2.2.2 else []).length : Int))] m1) fun v2 m2 => rn d 59 43 [pR s, pR r, pI a, pI (b2i ob), pI en, pI v2, pI (k + ((if ob then nmB nd.2.2.2 else []).length : Int))] [] m2) (z2 := prF ob false rr ++ [clo ob]) (fun m2 g2 => by
        have hP2 := hP1.fr g2.2.2.1
        have hR2 := hR1.fr g2.2.2.1 hP1.1.1 (by rfl)
        have hb := c137 (d := d - 1) (nd := nd) (l := l) (by omega) hP2.1.1 hR2 B3 w1 (by omega)
        rw [gd_of hR2.1, bI_eq hb]
        have hep := enV_pos nd l
        have := ihr d m2 (ys1 ++ prV nd l) (k + ((if ob then nmB nd.2.2.2 else []).length : Int) + ((enV nd l).length : Int)) a en ob (pI (k + ((if ob then nmB nd.2.2.2 else []).length : Int))) (by omega) rfl w6 hP2 g2.2.1.1 g2.1 hR2 hx B4 (by omega) ha (by omega)
        rw [show decide (k + ((if ob then nmB nd.2.2.2 else []).length : Int) + ((enV nd l).length : Int) = a + 3) = false from decide_eq_false (by omega)] at this
        exact this)
      refine hp.imp (fun Q hQ => q59_103 (by omega) hP1.1.1 _ ?_)
      rw [gd_of h1.1]; exact hQ
    -- the name
    have hnam : ∀ (m1 : Mem) (ys1 : List Int) (z6 : PV), cat z6 = 1 → PRE m1 → SI m1 → SK m1 s ys1 cap → RW m1 r xs c → PRC (rn d 59 64 [pR s, pR r, pI a, pI (b2i ob), pI en, pI k, z6] [] m1) s m1 ys1 cap ((if ob then prS 34 nd.2.2.2 ++ [58] else []) ++ (prV nd l ++ (prF ob false rr ++ [clo ob]))) := by
      intro m1 ys1 z6 hz6 hP1 hI1 h1 hR1
      cases ob with
      | false =>
        refine ((hval m1 ys1 k 0 (by simp) hP1 hI1 h1 hR1).cast (by rfl)).imp (fun Q hQ => q59_64 (by omega) hP1.1.1 hz6 _ ?_)
        rw [if_pos (show b2i false = 0 from rfl)]; exact hQ
      | true =>
        have B1' : At xs k (nmB nd.2.2.2) := B1
        have hln := nmB_len nd.2.2.2
        rw [if_pos rfl] at hen hA2
        have t1 := tw_nm B1' (by omega)
        have h134 := c134 (d := d - 1) (a := k) hP1.1.1 hR1 (by omega) (by omega)
        rw [t1] at h134
        have A2 := B1'.app.2
        rw [l2_len] at A2
        have hp := (c56 (d := d - 1) (q := 34) (by omega) (Or.inl rfl) w1.2.2.2.2 hP1.1 hI1 h1 hR1 A2 rfl).bind (f := fun m2 => bV (cl (d - 1) 54 [pR s, pI 58] m2) fun m3 => bI (cl (d - 1) 136 [pR r, pI k] m3) fun v4 m4 => rn d 59 103 [pR s, pR r, pI a, pI (b2i true), pI en, pI k, pI v4] [] m4) (z2 := [w8 58] ++ (prV nd l ++ (prF true false rr ++ [clo true]))) (fun m2 g2 => (c54 (d := d - 1) (b := 58) (hP1.1.fr g2.2.2.1) g2.2.1.1 g2.1).bind (fun m3 g3 => by
          have hf := g2.2.2.1.trans g3.2.2.1
          have hP3 := hP1.fr hf
          have hR3 := hR1.fr hf hP1.1.1 (by rfl)
          have h136 := c136 (d := d - 1) (a := k) (by omega) hP3.1.1 hR3 (by omega) (by omega)
          rw [bI_eq h136, t1]
          exact hval m3 _ (k + 2 + (uts nd.2.2.2).length) 0 (by rw [if_pos rfl]; omega) hP3 g3.2.1.1 g3.1 hR3))
        refine (hp.cast (by rw [if_pos rfl, List.append_assoc]; rfl)).imp (fun Q hQ => q59_64 (by omega) hP1.1.1 hz6 _ ?_)
        rw [if_neg (show ¬ b2i true = 0 by decide), gd_of hR1.1, bI_eq h134, gd_of h1.1, w32_of (by omega) (by omega)]; exact hQ
    have hep := enV_pos nd l
    by_cases hk3 : k = a + 3
    · rw [show decide (k = a + 3) = true from decide_eq_true hk3]
      refine ((hnam m ys z hcz hP hI h hR).cast (by rw [if_pos rfl]; simp [List.append_assoc])).imp (fun Q hQ => q59_43 (by omega) ok.1 hcz _ ?_)
      rw [if_pos (by omega), if_neg (by rw [w32_of (by omega) (by omega)]; omega)]; exact hQ
    · rw [show decide (k = a + 3) = false from decide_eq_false hk3]
      have hp := (c54 (d := d - 1) (b := 44) ok hI h).bind (f := fun m3 => rn d 59 64 [pR s, pR r, pI a, pI (b2i ob), pI en, pI k, z] [] m3) (fun m1 g1 => hnam m1 _ z hcz (hP.fr g1.2.2.1) g1.2.1.1 g1.1 (hR.fr g1.2.2.1 ok.1 (by rfl)))
      refine (hp.cast (by simp [List.append_assoc, show w8 44 = 44 from rfl])).imp (fun Q hQ => q59_43 (by omega) ok.1 hcz _ ?_)
      rw [if_pos (by omega), if_pos (by rw [w32_of (by omega) (by omega)]; omega), gd_of h.1]; exact hQ
theorem c52 {nd : ND} {l : Fo} {a : Int} (hd : 12 + 2 * dpF l ≤ d) (hw : wfF (foC nd l foN)) (hP : PRE m) (hI : SI m) (h : SK m s ys cap) (hR : RW m r xs c) (hx : xs.length < 60000) (hA : At xs a (enV nd l)) : PRC (cl d 52 [pR s, pR r, pI a] m) s m ys cap (prV nd l) := c52_of (PFs_all l) (by omega) (Or.inr hd) hw hP hI h hR hx hA
end
