/-! queries read by the twin: an operand, a comparison -/
set_option maxRecDepth 100000
set_option maxHeartbeats 4000000
section
variable {M tp e S C : Int} {t : Int → Int}
theorem c258 {n : Nat} (hB : tB t e) (HQ : TQ false M tp e S C t n) (HQ1 : TQ true M tp e S C t n) (HO : TO M tp e S C t n) : TO M tp e S C t (n + 1) := by
  intro d op m i k us K h hk hu ho hd
  have hd' := hd
  unfold dpn at hd
  have hr := h.rng
  have hkK := h.kK
  have hz := h.tz
  have hM := h.tM
  have e199 := c199 (d := d - 1) hz h.2.1
  have e206 := c206 (d := d - 1) (m := m) (x := pk t e i) hz
  have hS := h.2.2.1
  show RD false M tp e t op S C m i k us K (cl d 258 [pR M] m) (sQ t e (n + 1) 10 op false i) 6
  unfold sQ
  rw [if_neg (by decide : ¬ (10 : Nat) = 0), if_neg (by decide : ¬ (10 : Nat) = 1), if_neg (by decide : ¬ (10 : Nat) = 2), if_neg (by decide : ¬ (10 : Nat) = 3), if_neg (by decide : ¬ (10 : Nat) = 4), if_neg (by decide : ¬ (10 : Nat) = 5), if_neg (by decide : ¬ (10 : Nat) = 6), if_neg (by decide : ¬ (10 : Nat) = 7), if_neg (by decide : ¬ (10 : Nat) = 8)]
  have nod : ∀ {Q : RM}, ¬ nb (pk t e i) → ∀ Z, (if pk t e i = 39 then (rn d 258 59 [pR M, pI (pk t e i), pU, pU, pU] [] m) else if pk t e i = 34 then (rn d 258 59 [pR M, pI (pk t e i), pU, pU, pU] [] m) else if pk t e i = 64 then (rn d 258 127 [pR M, pI (pk t e i), pU, pU, pU] [] m) else if pk t e i = 36 then (rn d 258 127 [pR M, pI (pk t e i), pU, pU, pU] [] m) else if pk t e i = 116 then (bI (cl (d - 1) 200 [pR M, pR 48] m) fun v8 m8 => if v8 = 0 then (some (.inl (some (pI (-1))), m8)) else bI (cl (d - 1) 245 [pR M, pI 42] m8) fun v9 m9 => some (.inl (some (pI v9)), m9)) else if pk t e i = 102 then (bI (cl (d - 1) 200 [pR M, pR 50] m) fun v6 m6 => if v6 = 0 then (some (.inl (some (pI (-1))), m6)) else bI (cl (d - 1) 245 [pR M, pI 43] m6) fun v7 m7 => some (.inl (some (pI v7)), m7)) else if pk t e i = 110 then (bI (cl (d - 1) 200 [pR M, pR 46] m) fun v4 m4 => if v4 = 0 then (some (.inl (some (pI (-1))), m4)) else bI (cl (d - 1) 245 [pR M, pI 44] m4) fun v5 m5 => some (.inl (some (pI v5)), m5)) else if pk t e i = 108 then (rn d 258 283 [pR M, pI (pk t e i), pU, pU, pU] [] m) else if pk t e i = 99 then (rn d 258 283 [pR M, pI (pk t e i), pU, pU, pU] [] m) else if pk t e i = 118 then (rn d 258 283 [pR M, pI (pk t e i), pU, pU, pU] [] m) else bI (cl (d - 1) 202 [pR M, pI i] m) fun v3 m3 => some (.inl (some (pI (-1))), m3)) = some Z → cl d 258 [pR M] m = some Z := by
    intro Q hn Z hZ
    refine q258 (by omega) hz _ ?_
    have hnd : ¬ (48 ≤ pk t e i ∧ pk t e i ≤ 57) := fun z => hn (Or.inl z)
    rw [gd_of hM, bI_eq e199, if_neg (fun z => hn (Or.inr z)), bI_eq e206, if_neg hnd, if_pos rfl, h.v12]
    exact hZ
  by_cases hb : qb (pk t e i)
  · rw [if_pos hb]
    have hlt : i < e := pkf_lt (t := t) (by omega)
    have h6 := h.at (j := i + 1) (by omega) (by omega)
    obtain ⟨rvf, evf, pf⟩ := h.rvat (j := i + 1)
    have hro : rot (pk t e i) = 0 ∨ rot (pk t e i) = 1 := by
      unfold rot; by_cases z : pk t e i = 36
      · rw [if_pos z]; exact Or.inr rfl
      · rw [if_neg z]; exact Or.inl rfl
    have key := HQ1 (d - 1) op _ _ k us K (rot (pk t e i)) h6 (by omega) (by omega) ho (by unfold dpn; omega) hro
    have st : ∀ Q, (bI (cl (d - 1) 244 [pR M, pI (rot (pk t e i)), pI 1] (mst m M 12 (i + 1))) fun v1 m1 => if v1 < 0 then (some (.inl (some (pI (-1))), m1)) else gd (tg m1 M = 11) <| bI (cl (d - 1) 245 [pR M, pI 45] m1) fun v2 m2 => bV (cl (d - 1) 246 [pR M, pI v2, pI 2, pI v1] m2) fun m3 => some (.inl (some (pI v2)), m3)) = some Q → cl d 258 [pR M] m = some Q := by
      intro Q hQ
      have key : rn d 258 127 [pR M, pI (pk t e i), pU, pU, pU] [] m = some Q := by
        refine q258_127 hz _ ?_
        rw [gd_of hM, h.v12, (w32_of (by omega) (by omega) : w32 (i + 1) = i + 1)]
        have k2 : rn d 258 149 [pR M, pI (pk t e i), pU, pU, pU] [pI (rot (pk t e i)), pR M] (mst m M 12 (i + 1)) = some Q := by
          refine q258_149 (by omega) h6.tz _ ?_
          rw [gd_of h6.tM]; exact hQ
        unfold rot at k2
        by_cases z : pk t e i = 36
        · rw [if_pos z] at k2 ⊢; exact k2
        · rw [if_neg z] at k2 ⊢; exact k2
      refine nod (Q := none) (by omega) Q ?_
      rw [if_neg (by omega), if_neg (by omega)]
      by_cases z : pk t e i = 64
      · rw [if_pos z]; exact key
      · rw [if_neg z, if_pos (by omega)]; exact key
    cases hE : sQ t e n 0 op true (i + 1) with
    | none => exact RD.no
    | some yy =>
      rw [hE] at key
      rcases yy with p | ⟨X, j7⟩
      · obtain ⟨m7, e7, ce⟩ := key.2 p rfl
        refine RD.inl (st _ ?_) (ce.pre (pf k) hkK.1 h.tw h6.tw)
        rw [bI_eq (show cl (d - 1) 244 [pR M, pI (rot (pk t e i)), pI 1] _ = some (.inl (some (pI (-1))), m7) from e7), if_pos (by decide)]
      · obtain ⟨m7, k7, us7, K7, c2, dd, l, hF, e7, h7, g7, w1, w2, w3, w4, w5⟩ := key.1 _ j7 rfl
        have hf : gF (rv m7 M) (ev m7 M) us7 false (fun a => k ≤ a ∧ a < k7) (fun _ => c2) (foC dd l foN) := gF.one (p := fun _ => c2) w3 (w4.imp (fun a ha => ⟨ha.1, ha.2.1⟩))
        have hrg := sQ_rng (t := t) n 0 op true (i + 1) _ j7 (by omega) (fun z => by omega) hE
        have key2 := RD.up (w := false) (m0 := m) (i0 := i) (k0 := k) (K0 := K) (s1 := 7) (s := 6) (kd := 45) (us0 := us) (d2 := (45, 0, [], [])) (l2 := foC dd l foN) (Q := cl d 258 [pR M] m) h7 (by omega) hkK.1 h.tw ((pf k).trans g7 (Int.le_refl _) h.tw h6.tw) (by omega) (by omega) (by omega) hf ⟨by decide, by decide⟩ (fun g' en' us' hf' ag z0 z2 => gI.wrap1 (kd := 45) (by omega) (Or.inl rfl) hf' ag z0 z2 (fun a h1 h2 => ⟨h1, by omega, by omega⟩)) (fun m1 m2 e1 e2 => st _ (by
          rw [bI_eq (show cl (d - 1) 244 [pR M, pI (rot (pk t e i)), pI 1] _ = some (.inl (some (pI c2)), m7) from e7), if_neg (by omega), gd_of h7.tM, bI_eq (e1 (d - 1)), bV_eq (e2 (d - 1))]))
        rw [← hF] at key2
        exact key2
  rw [if_neg hb]
  by_cases qq : pk t e i = 39 ∨ pk t e i = 34
  · rw [if_pos qq]
    refine row_q (d := d - 1) (kd := 41) (by omega) hB (Or.inr rfl) h (by omega) rfl qq (by omega) (by omega) (fun Z hZ => nod (Q := none) (by omega) Z ?_)
    have key : rn d 258 59 [pR M, pI (pk t e i), pU, pU, pU] [] m = some Z := by
      refine q258_59 (by omega) hz _ ?_
      rw [gd_of hM]; exact hZ
    by_cases z : pk t e i = 39
    · rw [if_pos z]; exact key
    · rw [if_neg z, if_pos (by omega)]; exact key
  rw [if_neg qq]
  by_cases q1 : pk t e i = 116
  · rw [if_pos q1]
    refine row_w (d := d - 1) (kd := 42) (by omega) (Or.inl rfl) h (by omega) (by omega) hS.1.2.1 (by decide) (fun Z hZ => nod (Q := none) (by omega) Z ?_)
    rw [if_neg (by omega), if_neg (by omega), if_neg (by omega), if_neg (by omega), if_pos q1]; exact hZ
  rw [if_neg q1]
  by_cases q2 : pk t e i = 102
  · rw [if_pos q2]
    refine row_w (d := d - 1) (kd := 43) (by omega) (Or.inr (Or.inl rfl)) h (by omega) (by omega) hS.1.2.2.1 (by decide) (fun Z hZ => nod (Q := none) (by omega) Z ?_)
    rw [if_neg (by omega), if_neg (by omega), if_neg (by omega), if_neg (by omega), if_neg q1, if_pos q2]; exact hZ
  rw [if_neg q2]
  by_cases q3 : pk t e i = 110
  · rw [if_pos q3]
    refine row_w (d := d - 1) (kd := 44) (by omega) (Or.inr (Or.inr rfl)) h (by omega) (by omega) hS.1.1 (by decide) (fun Z hZ => nod (Q := none) (by omega) Z ?_)
    rw [if_neg (by omega), if_neg (by omega), if_neg (by omega), if_neg (by omega), if_neg q1, if_neg q2, if_pos q3]; exact hZ
  rw [if_neg q3]
  by_cases q4 : pk t e i = 108
  · rw [if_pos q4]
    have key := c258_311 (d := d) (ch := 108) (kn := 46) HQ HO h hk hu ho hd' (Or.inl ⟨rfl, rfl⟩) hS.2.1 (by decide)
    simp only [if_true] at key
    refine key.to (fun Z hZ => nod (Q := none) (by omega) Z ?_) (Int.le_refl _)
    rw [if_neg (by omega), if_neg (by omega), if_neg (by omega), if_neg (by omega), if_neg q1, if_neg q2, if_neg q3, if_pos q4]
    refine q258_283 hz _ ?_
    rw [if_pos q4, q4]; exact hZ
  rw [if_neg q4]
  by_cases q5 : pk t e i = 99 ∨ pk t e i = 118
  · rw [if_pos q5]
    by_cases q6 : pk t e i = 99
    · rw [if_pos q6]
      have key := c258_311 (d := d) (ch := 99) (kn := 47) HQ HO h hk hu ho hd' (Or.inr (Or.inl ⟨rfl, rfl⟩)) hS.2.2.1 (by decide)
      rw [if_pos q6]
      refine key.to (fun Z hZ => nod (Q := none) (by omega) Z ?_) (Int.le_refl _)
      rw [if_neg (by omega), if_neg (by omega), if_neg (by omega), if_neg (by omega), if_neg q1, if_neg q2, if_neg q3, if_neg q4, if_pos q6]
      refine q258_283 hz _ ?_
      rw [if_neg q4, if_pos q6, q6]; exact hZ
    · rw [if_neg q6]
      have q7 : pk t e i = 118 := by omega
      have key := c258_311 (d := d) (ch := 118) (kn := 48) HQ HO h hk hu ho hd' (Or.inr (Or.inr ⟨rfl, rfl⟩)) hS.2.2.2.1 (by decide)
      rw [if_neg q6]
      refine key.to (fun Z hZ => nod (Q := none) (by omega) Z ?_) (Int.le_refl _)
      rw [if_neg (by omega), if_neg (by omega), if_neg (by omega), if_neg (by omega), if_neg q1, if_neg q2, if_neg q3, if_neg q4, if_neg q6, if_pos q7]
      refine q258_283 hz _ ?_
      rw [if_neg q4, if_neg q6, q7]; exact hZ
  rw [if_neg q5]
  by_cases q8 : nb (pk t e i)
  · obtain ⟨s1, s2⟩ := row_n (d := d - 1) (kd := 40) (by omega) (Or.inr rfl) h (by omega) (by omega)
    have st : ∀ Z, rn d 258 18 [pR M, pI (pk t e i), pU, pU, pU] [] m = some Z → cl d 258 [pR M] m = some Z := by
      intro Z hZ
      refine q258 (by omega) hz _ ?_
      rw [gd_of hM, bI_eq e199]
      by_cases z : pk t e i = 45
      · rw [if_pos z]; exact hZ
      · rw [if_neg z, bI_eq e206, if_pos (Or.resolve_right q8 z), if_neg (by decide)]; exact hZ
    cases hE : sIn t e i with
    | inl p =>
      obtain ⟨m1, m2, m3, e1, e2, e3, ce⟩ := s2 p hE
      refine RD.inl (st _ (q258_18 (by omega) hz _ ?_)) ce
      rw [gd_of hM, bI_eq (show cl (d - 1) 245 [pR M, pI 40] m = _ from e1 (d - 1)), bV_eq (e2 (d - 1)), bI_eq e3, if_pos rfl]
    | inr x =>
      obtain ⟨v, j⟩ := x
      obtain ⟨m1, m2, m3, K', e1, e2, e3, h3, p3, r3, l3⟩ := s1 v j hE
      have rj := sIn_rng hE
      refine RD.inr (st _ (q258_18 (by omega) hz _ ?_)) h3 p3 (by omega) (by omega) ⟨Int.le_refl _, by omega⟩ (gI.leaf (by show (40 : Nat) ≤ 4 ∨ (40 ≤ 40 ∧ 40 ≤ 44); omega) (gB.nu (Or.inr rfl) (by rw [r3 0 (by omega) (by omega)]; rfl) l3)) (fun _ => ⟨show (40 : Nat) ≠ 21 by decide, by rw [r3 1 (by omega) (by omega)]; rfl⟩)
      rw [gd_of hM, bI_eq (show cl (d - 1) 245 [pR M, pI 40] m = _ from e1 (d - 1)), bV_eq (e2 (d - 1)), bI_eq e3, if_neg (by decide)]
  · rw [sIn_nn q8]
    have e202 := c202 (d := d - 1) (p := i) hz hM h.v14
    refine RD.inl (nod (Q := none) q8 _ ?_) (h.bad0 (p := i) (by omega) (by omega))
    rw [if_neg (by omega), if_neg (by omega), if_neg (by omega), if_neg (by omega), if_neg q1, if_neg q2, if_neg q3, if_neg q4, if_neg (by omega), if_neg (by omega), bI_eq e202]
/-- a comparison behind its left side -/
theorem c257 {n d op : Nat} {m m0 : Mem} {i i0 k k0 K K0 c1 : Int} {us us0 : List Int} {dl : ND} {ll : Fo} (HO : TO M tp e S C t n) (h : QT m M tp e i t op S k us C K) (hk : k + 8 * (e - i) + 11 ≤ 19000) (hu : (us.length : Int) + (e - i) ≤ 39000) (ho : op ≤ 16) (hd : dpn op 11 ≤ d) (hk0 : 0 ≤ k0) (hw0 : TW m0 S 0 us0 C) (g : QP k0 m0 M S k0 us0 K0 m k us K) (hc : k ≤ k0 + 8 * (i - i0) - 5) (hu0 : (us.length : Int) ≤ us0.length + (i - i0)) (hc1 : k0 ≤ c1 ∧ c1 < k) (hf : gF (rv m M) (ev m M) us false (fun a => k0 ≤ a ∧ a < k) (fun _ => c1) (foC dl ll foN)) :
    RD true M tp e t op S C m0 i0 k0 us0 K0 (cl d 257 [pR M, pI c1] m) (match sOp t e i with
      | .inl p => qE p
      | .inr (o, q) => bnd (sQ t e n 10 op false (sB t e q)) fun R z => qN 33 o [] (fapp (foC dl ll foN) R) z) 5 := by
  unfold dpn at hd
  have hr := h.rng
  have hkK := h.kK
  have hz := h.tz
  have hM := h.tM
  have e199 := c199 (d := d - 1) hz h.2.1
  have hS := h.2.2.1
  -- from the sign on
  have key : ∀ (o q : Int), i < q → q ≤ e → (∀ Z, rn d 257 131 [pR M, pI c1, pI o, pU, pU] [] (mst m M 12 q) = some Z → cl d 257 [pR M, pI c1] m = some Z) → RD true M tp e t op S C m0 i0 k0 us0 K0 (cl d 257 [pR M, pI c1] m) (bnd (sQ t e n 10 op false (sB t e q)) fun R z => qN 33 o [] (fapp (foC dl ll foN) R) z) 5 := by
    intro o q hq1 hq2 st
    have h1 := h.at (j := q) (by omega) hq2
    have e198 := c198 (d := d - 1) (by omega) h1.tz h1.2.1
    have h2 := h1.sb
    rw [mst_mst] at e198 h2
    have r2 := sB_rng t (e := e) (i := q) hq2
    obtain ⟨rva, eva, pa⟩ := h.rvat (j := sB t e q)
    have kk := HO (d - 1) op _ _ k us K h2 (by omega) (by omega) ho (by unfold dpn; omega)
    have kk : RD false M tp e t op S C (mst m M 12 (sB t e q)) (sB t e q) k us K (cl (d - 1) 258 [pR M] (mst m M 12 (sB t e q))) (sQ t e n 10 op false (sB t e q)) 6 := kk
    have st2 : ∀ Z, (bI (cl (d - 1) 258 [pR M] (mst m M 12 (sB t e q))) fun v2 m2 => if v2 < 0 then (some (.inl (some (pI (-1))), m2)) else bI (cl (d - 1) 245 [pR M, pI 33] m2) fun v3 m3 => bV (cl (d - 1) 246 [pR M, pI v3, pI 2, pI c1] m3) fun m4 => bV (cl (d - 1) 246 [pR M, pI v3, pI 3, pI v2] m4) fun m5 => bV (cl (d - 1) 246 [pR M, pI v3, pI 4, pI o] m5) fun m6 => some (.inl (some (pI v3)), m6)) = some Z → cl d 257 [pR M, pI c1] m = some Z := by
      intro Z hZ
      refine st Z (q257_131 (by omega) h1.tz _ ?_)
      rw [gd_of h1.tM, bV_eq e198]; exact hZ
    cases hE : sQ t e n 10 op false (sB t e q) with
    | none => exact RD.no
    | some yy =>
      rw [hE] at kk
      rcases yy with p | ⟨X, j7⟩
      · obtain ⟨m7, e7, ce⟩ := kk.2 p rfl
        refine RD.inl (st2 _ ?_) (ce.pre (g.trans (pa k0) (Int.le_refl _) hw0 h.tw) hk0 hw0 h2.tw)
        rw [bI_eq e7, if_pos (by decide)]
      · obtain ⟨m7, k7, us7, K7, c2, dd, l, rfl, e7, h7, g7, w1, w2, w3, w4, w5⟩ := kk.1 X j7 rfl
        have hk7 := h7.kK
        have hrg := sQ_rng (t := t) n 10 op false (sB t e q) _ j7 r2.2 (fun z => by omega) hE
        have g07 : QP k0 m0 M S k0 us0 K0 m7 k7 us7 K7 := (g.trans (pa k0) (Int.le_refl _) hw0 h.tw).trans g7 (by omega) hw0 h2.tw
        have ag7 : AG (fun a => k0 ≤ a ∧ a < k) (rv m M) (ev m M) (rv m7 M) (ev m7 M) := by
          have := g7.2.1
          rw [rva, eva] at this
          exact this.imp (fun a ha => ⟨by have := ha.1; omega, ha.2⟩)
        obtain ⟨vs, hvs⟩ := g7.2.2.1
        have hl7 : gF (rv m7 M) (ev m7 M) us7 false (fun a => k0 ≤ a ∧ a < k7) (fun _ => c1) (foC dl ll foN) := by
          rw [hvs]
          exact (gF.keep (vs := vs) ag7 (fun _ _ => rfl) hf).imp (fun a ha => ⟨ha.1, by have := ha.2; omega⟩)
        have hr7 : gF (rv m7 M) (ev m7 M) us7 false (fun a => k0 ≤ a ∧ a < k7) (fun _ => c2) (foC dd l foN) := gF.one (p := fun _ => c2) ⟨by omega, w3.2⟩ (w4.imp (fun a ha => ⟨by have := ha.1; omega, ha.2.1⟩))
        obtain ⟨m8, m9, K9, K8, e8, h8, e9, h9, p9, r9⟩ := h7.row2 (kd := 33) (f := 2) (v := c1) (by omega) (by omega)
        obtain ⟨h10, p10, r10, l10⟩ := h9.set (r := k7) (f := 3) (v := c2) (by omega) (by omega)
        have e10 := c246 (d := d - 1) (r := k7) (f := 3) (v := c2) h9 (by omega) (by omega)
        obtain ⟨h11, p11, r11, l11⟩ := h10.set (r := k7) (f := 4) (v := o) (by omega) (by omega)
        have e11 := c246 (d := d - 1) (r := k7) (f := 4) (v := o) h10 (by omega) (by omega)
        generalize hm10 : mst m9 (vl m9 M 27) (8 * k7 + 3) c2 = m10 at *
        generalize hm11 : mst m10 (vl m10 M 27) (8 * k7 + 4) o = m11 at *
        have rr : ∀ f, 0 ≤ f → f < 8 → rv m11 M k7 f = if f = 4 then o else if f = 3 then c2 else if f = 2 then c1 else if f = 0 then 33 else -1 := fun f f0 f1 => by
          rw [r11 k7 f f0 f1]
          by_cases z4 : f = 4
          · rw [if_pos ⟨rfl, z4⟩, if_pos z4]
          · rw [if_neg (fun y => z4 y.2), if_neg z4, r10 k7 f f0 f1]
            by_cases z3 : f = 3
            · rw [if_pos ⟨rfl, z3⟩, if_pos z3]
            · rw [if_neg (fun y => z3 y.2), if_neg z3, r9 f f0 f1]
        have ag11 : AG (fun a => k0 ≤ a ∧ a < k7) (rv m7 M) (ev m7 M) (rv m11 M) (ev m11 M) := by
          have a1 := ((p9.2.1.trans (p10 k7 (Int.le_refl _)).2.1).trans (p11 k7 (Int.le_refl _)).2.1)
          exact a1.imp (fun a ha => ⟨by have := ha.1; omega, ha.2⟩)
        have gi := gI.cmp (w := true) (vs := []) (c := k7) (o := o) (P := fun a => k0 ≤ a ∧ a < k7 + 1 ∧ a ≠ k7) hl7 hr7 ag11 (by rw [rr 0 (by omega) (by omega)]; rfl) (by rw [rr 2 (by omega) (by omega)]; rfl) (by rw [rr 3 (by omega) (by omega)]; rfl) (by rw [rr 4 (by omega) (by omega)]; rfl) (fun a h1 h2 => ⟨h1, by omega, by omega⟩)
        rw [List.append_nil] at gi
        refine RD.inr (st2 _ ?_) h11 (((g07.trans p9 (by omega) hw0 h7.tw).trans (p10 k7 (Int.le_refl _)) (by omega) hw0 h9.tw).trans (p11 k7 (Int.le_refl _)) (by omega) hw0 h10.tw) (by omega) (by omega) ⟨by omega, by omega⟩ gi (fun _ => ⟨show (33 : Nat) ≠ 21 by decide, by rw [rr 1 (by omega) (by omega)]; rfl⟩)
        rw [bI_eq e7, if_neg (by omega), bI_eq (e8 (d - 1)), bV_eq (e9 (d - 1)), bV_eq e10, bV_eq e11]
  by_cases a1 : pk t e i = 61
  · have hlt : i < e := pkf_lt (t := t) (by omega)
    obtain ⟨s1, s2⟩ := c200 (d := d - 1) (by omega) hz h.2.1 hS.2.2.2.2.1
    unfold sOp
    rw [if_pos a1]
    by_cases h61 : pk t e (i + 1) = 61
    · rw [if_pos h61]
      have hw : sW t e [61, 61] i = .inr (i + 2) := by
        unfold sW; rw [if_pos a1]; unfold sW; rw [if_pos h61]; unfold sW; rw [show i + 1 + 1 = i + 2 by omega]
      obtain ⟨b1, b2, b3, e1⟩ := s1 _ hw
      refine key 0 (i + 2) (by omega) b2 (fun Z hZ => q257 (by omega) hz _ ?_)
      rw [gd_of hM, bI_eq e199, if_pos a1, bI_eq e1, if_neg (by decide)]; exact hZ
    · rw [if_neg h61]
      have hw : sW t e [61, 61] i = .inl (i + 1) := by
        unfold sW; rw [if_pos a1]; unfold sW; rw [if_neg h61]
      obtain ⟨j, j0, j1, e1⟩ := s2 _ hw
      refine RD.inl (q257 (by omega) hz _ ?_) ((h.bad (j := j) (p := i + 1) (by omega) (by omega)).pre g hk0 hw0 h.tw)
      rw [gd_of hM, bI_eq e199, if_pos a1, bI_eq e1, if_pos rfl]
  by_cases a2 : pk t e i = 33
  · have hlt : i < e := pkf_lt (t := t) (by omega)
    obtain ⟨s1, s2⟩ := c200 (d := d - 1) (by omega) hz h.2.1 hS.2.2.2.2.2.1
    unfold sOp
    rw [if_neg a1, if_pos a2]
    by_cases h61 : pk t e (i + 1) = 61
    · rw [if_pos h61]
      have hw : sW t e [33, 61] i = .inr (i + 2) := by
        unfold sW; rw [if_pos a2]; unfold sW; rw [if_pos h61]; unfold sW; rw [show i + 1 + 1 = i + 2 by omega]
      obtain ⟨b1, b2, b3, e1⟩ := s1 _ hw
      refine key 1 (i + 2) (by omega) b2 (fun Z hZ => q257 (by omega) hz _ ?_)
      rw [gd_of hM, bI_eq e199, if_neg a1, bI_eq e199, if_pos a2, bI_eq e1, if_neg (by decide)]; exact hZ
    · rw [if_neg h61]
      have hw : sW t e [33, 61] i = .inl (i + 1) := by
        unfold sW; rw [if_pos a2]; unfold sW; rw [if_neg h61]
      obtain ⟨j, j0, j1, e1⟩ := s2 _ hw
      refine RD.inl (q257 (by omega) hz _ ?_) ((h.bad (j := j) (p := i + 1) (by omega) (by omega)).pre g hk0 hw0 h.tw)
      rw [gd_of hM, bI_eq e199, if_neg a1, bI_eq e199, if_pos a2, bI_eq e1, if_pos rfl]
  by_cases a3 : pk t e i = 60 ∨ pk t e i = 62
  · have hlt : i < e := pkf_lt (t := t) (by omega)
    have h1 := h.at (j := i + 1) (by omega) (by omega)
    have e1991 := c199 (d := d - 1) h1.tz h1.2.1
    obtain ⟨b, hb⟩ : ∃ b : Int, b = if pk t e i = 60 then 2 else 4 := ⟨_, rfl⟩
    have st1 : ∀ Z, rn d 257 84 [pR M, pI c1, pU, pU, pU] [pI b] m = some Z → cl d 257 [pR M, pI c1] m = some Z := by
      intro Z hZ
      refine q257 (by omega) hz _ ?_
      rw [gd_of hM, bI_eq e199, if_neg a1, bI_eq e199, if_neg a2, bI_eq e199]
      by_cases z : pk t e i = 60
      · rw [if_pos z] at hb
        rw [if_pos z, bI_eq e199, if_pos z]; rw [hb] at hZ; exact hZ
      · rw [if_neg z] at hb
        rw [if_neg z, bI_eq e199, if_pos (by omega), bI_eq e199, if_neg z]; rw [hb] at hZ; exact hZ
    have hsO : sOp t e i = (if pk t e (i + 1) = 61 then .inr (b + 1, i + 2) else .inr (b, i + 1)) := by
      unfold sOp
      rw [if_neg a1, if_neg a2]
      by_cases z : pk t e i = 60
      · rw [if_pos z] at hb; rw [if_pos z, hb]; rfl
      · rw [if_neg z] at hb; rw [if_neg z, if_pos (by omega), hb]; rfl
    rw [hsO]
    by_cases h61 : pk t e (i + 1) = 61
    · rw [if_pos h61]
      have hlt2 : i + 1 < e := pkf_lt (t := t) (by omega)
      refine key (b + 1) (i + 2) (by omega) (by omega) (fun Z hZ => st1 Z (q257_84 (by omega) hz _ ?_))
      rw [gd_of hM, h.v12, (w32_of (by omega) (by omega) : w32 (i + 1) = i + 1), bI_eq e1991, if_pos h61, h1.v12, (w32_of (by omega) (by omega) : w32 (i + 1 + 1) = i + 1 + 1), mst_mst, show i + 1 + 1 = i + 2 by omega, (w32_of (by split at hb <;> omega) (by split at hb <;> omega) : w32 (b + 1) = b + 1)]
      exact hZ
    · rw [if_neg h61]
      refine key b (i + 1) (by omega) (by omega) (fun Z hZ => st1 Z (q257_84 (by omega) hz _ ?_))
      rw [gd_of hM, h.v12, (w32_of (by omega) (by omega) : w32 (i + 1) = i + 1), bI_eq e1991, if_neg h61]
      exact hZ
  · have e0 : sOp t e i = .inl i := by
      unfold sOp
      rw [if_neg a1, if_neg a2, if_neg (by omega), if_neg (by omega)]
    rw [e0]
    have e202 := c202 (d := d - 1) (p := i) hz hM h.v14
    refine RD.inl (q257 (by omega) hz _ ?_) ((h.bad0 (p := i) (by omega) (by omega)).pre g hk0 hw0 h.tw)
    rw [gd_of hM, bI_eq e199, if_neg a1, bI_eq e199, if_neg a2, bI_eq e199, if_neg (by omega), bI_eq e199, if_neg (by omega), h.v12, bI_eq e202]
end
