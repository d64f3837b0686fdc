/-! queries read by the twin: a selector -/
set_option maxRecDepth 100000
set_option maxHeartbeats 4000000
abbrev T4 (sg : Bool) (M tp e S C : Int) (t : Int → Int) (n : Nat) : Prop := TH false M tp e S C t 10 7 15 (fun d m => cl d 250 [pR M, pI (b2i sg)] m) (fun op i => sQ t e n 4 op sg i)
section
variable {d op : Nat} {M tp e S C : Int} {t : Int → Int}
/-- a slice's row so far -/
def slR (m : Mem) (M k hs s he v : Int) : Prop := rv m M k 0 = 4 ∧ rv m M k 2 = hs + 2 * he ∧ (hs = 1 → ev m M k 0 = s) ∧ (he = 1 → ev m M k 1 = v) ∧ rv m M k 1 = -1
/-- a slice from behind its end -/
theorem c250_297 {m m0 : Mem} {j i0 k K K0 hs s he v a1 a2 : Int} {us : List Int} {z4 : PV} (hz4 : cat z4 = 1) (hd : 6 ≤ d) (h : QT m M tp e j t op S (k + 1) us C K) (hk0 : 0 ≤ k) (hk : k ≤ 19000) (hu : (us.length : Int) + (e - j) ≤ 39000) (hw0 : TW m0 S 0 us C) (g : QP k m0 M S k us K0 m (k + 1) us K) (hi : i0 < j) (hhs : hs = 0 ∨ hs = 1) (hhe : he = 0 ∨ he = 1) (hs0 : slR m M k hs s he v) {Q : RM} (hQ : ∀ Z, rn d 250 297 [pR M, pI a1, pI a2, pI k, z4] [] m = some Z → Q = some Z) :
    RD false M tp e t op S C m0 i0 k us K0 Q (sSt t e hs s he v j) 7 := by
  have hr := h.rng
  have hz := h.tz
  have hM := h.tM
  obtain ⟨l0, l2, l3, l4, l5⟩ := hs0
  have e198 := c198 (d := d - 1) (by omega) hz h.2.1
  have h1 := h.sb
  have r1 := sB_rng t (e := e) (i := j) hr.2.1
  have e199 := c199 (d := d - 1) h1.tz h1.2.1
  -- done, with no step
  have fin : ∀ (m1 : Mem) (j1 : Int), QT m1 M tp e j1 t op S (k + 1) us C K → (rv m1 M = rv m M ∧ ev m1 M = ev m M ∧ ∀ b, QP b m M S (k + 1) us K m1 (k + 1) us K) → j ≤ j1 → Q = some (.inl (some (pI k)), m1) → RD false M tp e t op S C m0 i0 k us K0 Q (qN 4 0 [hs, s, he, v, 1] foN j1) 7 := by
    intro m1 j1 h1 hrv hj1 hq
    obtain ⟨b1, b2, b3⟩ := hrv
    refine RD.inr hq h1 (g.trans (b3 (k + 1)) (by omega) hw0 h.tw) (by omega) (by omega) ⟨Int.le_refl _, by omega⟩ (gI.leaf (by show (4 : Nat) ≤ 4 ∨ (40 ≤ 4 ∧ 4 ≤ 44); omega) (gB.sl (st := 0) (by rw [b1]; exact l0) hhs hhe (Or.inl rfl) (by rw [b1, l2]; omega) (by rw [b2]; exact l3) (by rw [b2]; exact l4) (fun z => by omega) (fun _ => rfl))) (fun _ => ⟨show (4 : Nat) ≠ 21 by decide, by rw [b1]; exact l5⟩)
  unfold sSt
  by_cases q58 : pk t e (sB t e j) = 58
  · rw [if_pos q58]
    have hlt : sB t e j < e := pkf_lt (t := t) (by omega)
    have h2 := h.at (j := sB t e j + 1) (by omega) (by omega)
    have e198b := c198 (d := d - 1) (by omega) h2.tz h2.2.1
    have h3 := h2.sb
    rw [mst_mst] at e198b h3
    have r3 := sB_rng t (e := e) (i := sB t e j + 1) (by omega)
    have e1993 := c199 (d := d - 1) h3.tz h3.2.1
    have e2063 := c206 (d := d - 1) (m := mst m M 12 (sB t e (sB t e j + 1))) (x := pk t e (sB t e (sB t e j + 1))) h3.tz
    have st : ∀ Z, (if pk t e (sB t e (sB t e j + 1)) = 45 then (rn d 250 363 [pR M, pI a1, pI a2, pI k, pI (sB t e j + 1)] [] (mst m M 12 (sB t e (sB t e j + 1)))) else bI (cl (d - 1) 199 [pR M] (mst m M 12 (sB t e (sB t e j + 1)))) fun v5 m5 => bI (cl (d - 1) 206 [pI v5] m5) fun v6 m6 => if v6 = 0 then (some (.inl (some (pI k)), (mst m6 M 12 (sB t e j + 1)))) else rn d 250 363 [pR M, pI a1, pI a2, pI k, pI (sB t e j + 1)] [] m6) = some Z → Q = some Z := by
      intro Z hZ
      refine hQ Z (q250_297 (by omega) hz hz4 _ ?_)
      rw [gd_of hM, bV_eq e198, bI_eq e199, if_pos q58, h1.v12, nm_eq, (w32_of (by omega) (by omega) : w32 (sB t e j + 1) = sB t e j + 1), mst_mst, bV_eq e198b, bI_eq e1993]
      exact hZ
    by_cases qn : nb (pk t e (sB t e (sB t e j + 1)))
    · rw [if_pos qn]
      have st2 : ∀ Z, rn d 250 363 [pR M, pI a1, pI a2, pI k, pI (sB t e j + 1)] [] (mst m M 12 (sB t e (sB t e j + 1))) = some Z → Q = some Z := by
        intro Z hZ
        refine st Z ?_
        by_cases z : pk t e (sB t e (sB t e j + 1)) = 45
        · rw [if_pos z]; exact hZ
        · rw [if_neg z, bI_eq e1993, bI_eq e2063, if_pos (Or.resolve_right qn z), if_neg (by decide)]; exact hZ
      obtain ⟨rva, eva, pa⟩ := h.rvat (j := sB t e (sB t e j + 1))
      obtain ⟨s1, s2⟩ := c259 (d := d - 1) (r := k) (w := 2) (by omega) h3 (by omega) (Or.inr (Or.inr ⟨rfl, by rw [rva, l2]; omega⟩))
      cases hE : sIn t e (sB t e (sB t e j + 1)) with
      | inl p =>
        obtain ⟨j2, e259⟩ := s2 p hE
        refine RD.inl (st2 _ (q250_363 (by omega) h3.tz _ ?_)) ((h3.bad (j := j2) (p := p) (by omega) (by omega)).pre (g.trans (pa (k + 1)) (by omega) hw0 h.tw) hk0 hw0 h3.tw)
        rw [gd_of h3.tM, bI_eq e259, if_pos rfl]
      | inr x =>
        obtain ⟨sp, j2⟩ := x
        obtain ⟨m4, e259, h4, p4, r4, l4'⟩ := s1 sp j2 hE
        have rj := sIn_rng hE
        have z0 : rv m4 M k 0 = 4 := by rw [r4 k 0 (by omega) (by omega), if_neg (by omega), rva]; exact l0
        have z1 : rv m4 M k 1 = -1 := by rw [r4 k 1 (by omega) (by omega), if_neg (by omega), rva]; exact l5
        have z2 : rv m4 M k 2 = hs + 2 * he + 4 * 1 := by rw [r4 k 2 (by omega) (by omega), if_pos ⟨rfl, rfl⟩, rva, l2, if_neg (by decide), if_neg (by decide)]; omega
        have y0 : ev m4 M k 0 = ev m M k 0 := by rw [l4' k 0 (by omega) (by omega), if_neg (by omega), eva]
        have y1 : ev m4 M k 1 = ev m M k 1 := by rw [l4' k 1 (by omega) (by omega), if_neg (by omega), eva]
        have y2 : ev m4 M k 2 = sp := by rw [l4' k 2 (by omega) (by omega), if_pos ⟨rfl, rfl⟩]
        refine RD.inr (st2 _ (q250_363 (by omega) h3.tz _ ?_)) h4 ((g.trans (pa (k + 1)) (by omega) hw0 h.tw).trans (p4 k (Int.le_refl _)) (Int.le_refl _) hw0 h3.tw) (by omega) (by omega) ⟨Int.le_refl _, by omega⟩ (gI.leaf (by show (4 : Nat) ≤ 4 ∨ (40 ≤ 4 ∧ 4 ≤ 44); omega) (gB.sl (st := 1) z0 hhs hhe (Or.inr rfl) z2 (fun z => by rw [y0]; exact l3 z) (fun z => by rw [y1]; exact l4 z) (fun _ => y2) (fun z => by omega))) (fun _ => ⟨show (4 : Nat) ≠ 21 by decide, z1⟩)
        rw [gd_of h3.tM, bI_eq e259, if_neg (by decide)]
    · rw [if_neg qn]
      refine fin _ (sB t e j + 1) h2 (h.rvat (j := sB t e j + 1)) (by omega) (st _ ?_)
      rw [if_neg (fun z => qn (Or.inr z)), bI_eq e1993, bI_eq e2063, if_neg (fun z => qn (Or.inl z)), if_pos rfl, mst_mst]
  · rw [if_neg q58]
    have es : mst (mst m M 12 (sB t e j)) M 12 j = m := by rw [mst_mst, mst_self h.v12]
    refine fin m j h ⟨rfl, rfl, fun b => QP.refl h.1.2.1⟩ (Int.le_refl _) (hQ _ (q250_297 (by omega) hz hz4 _ ?_))
    rw [gd_of hM, bV_eq e198, bI_eq e199, if_neg q58, h.v12, es]
/-- a slice from its first colon on -/
theorem c250_246 {m m0 : Mem} {i i0 k K K0 hs s a1 a2 : Int} {us : List Int} {z4 : PV} (hz4 : cat z4 = 1) (hd : 6 ≤ d) (h : QT m M tp e i t op S (k + 1) us C K) (hk0 : 0 ≤ k) (hk : k ≤ 19000) (hu : (us.length : Int) + (e - i) ≤ 39000) (hw0 : TW m0 S 0 us C) (g : QP k m0 M S k us K0 m (k + 1) us K) (hi : i0 ≤ i) (hhs : hs = 0 ∨ hs = 1) (h2 : rv m M k 2 = hs) (h3 : hs = 1 → ev m M k 0 = s) (h4 : rv m M k 1 = -1) (hp : pk t e i = 58) {Q : RM} (hQ : ∀ Z, rn d 250 246 [pR M, pI a1, pI a2, pI k, z4] [] m = some Z → Q = some Z) :
    RD false M tp e t op S C m0 i0 k us K0 Q (sSl t e hs s i) 7 := by
  have hr := h.rng
  have hz := h.tz
  have hM := h.tM
  have hlt : i < e := pkf_lt (t := t) (by omega)
  have hkk := h.kK
  obtain ⟨b1, p1, r1, l1⟩ := h.set (r := k) (f := 0) (v := 4) (by omega) (by omega)
  have e246 := c246 (d := d - 1) (r := k) (f := 0) (v := 4) h (by omega) (by omega)
  generalize hm1 : mst m (vl m M 27) (8 * k + 0) 4 = m1 at *
  have c1 := b1.at (j := i + 1) (by omega) (by omega)
  have e198 := c198 (d := d - 1) (by omega) c1.tz c1.2.1
  have c2 := c1.sb
  rw [mst_mst] at e198 c2
  have r2 := sB_rng t (e := e) (i := i + 1) (by omega)
  have e1992 := c199 (d := d - 1) c2.tz c2.2.1
  have e2062 := c206 (d := d - 1) (m := mst m1 M 12 (sB t e (i + 1))) (x := pk t e (sB t e (i + 1))) c2.tz
  obtain ⟨rva, eva, pa⟩ := b1.rvat (j := sB t e (i + 1))
  have z0 : rv (mst m1 M 12 (sB t e (i + 1))) M k 0 = 4 := by rw [rva, r1 k 0 (by omega) (by omega), if_pos ⟨rfl, rfl⟩]
  have z1 : rv (mst m1 M 12 (sB t e (i + 1))) M k 1 = -1 := by rw [rva, r1 k 1 (by omega) (by omega), if_neg (by omega)]; exact h4
  have z2 : rv (mst m1 M 12 (sB t e (i + 1))) M k 2 = hs := by rw [rva, r1 k 2 (by omega) (by omega), if_neg (by omega)]; exact h2
  have y0 : hs = 1 → ev (mst m1 M 12 (sB t e (i + 1))) M k 0 = s := fun z => by rw [eva, l1]; exact h3 z
  have g2 : QP k m0 M S k us K0 (mst m1 M 12 (sB t e (i + 1))) (k + 1) us K := (g.trans (p1 k (Int.le_refl _)) (Int.le_refl _) hw0 h.tw).trans (pa k) (Int.le_refl _) hw0 b1.tw
  have st : ∀ Z, (if pk t e (sB t e (i + 1)) = 45 then (bI (cl (d - 1) 259 [pR M, pI k, pI 1] (mst m1 M 12 (sB t e (i + 1)))) fun v4 m4 => if v4 = 0 then (some (.inl (some (pI (-1))), m4)) else rn d 250 297 [pR M, pI a1, pI a2, pI k, z4] [] m4) else bI (cl (d - 1) 199 [pR M] (mst m1 M 12 (sB t e (i + 1)))) fun v5 m5 => bI (cl (d - 1) 206 [pI v5] m5) fun v6 m6 => if v6 = 0 then (rn d 250 297 [pR M, pI a1, pI a2, pI k, z4] [] m6) else bI (cl (d - 1) 259 [pR M, pI k, pI 1] m6) fun v7 m7 => if v7 = 0 then (some (.inl (some (pI (-1))), m7)) else rn d 250 297 [pR M, pI a1, pI a2, pI k, z4] [] m7) = some Z → Q = some Z := by
    intro Z hZ
    refine hQ Z (q250_246 (by omega) hz hz4 _ ?_)
    rw [gd_of hM, bV_eq e246, b1.v12, (w32_of (by omega) (by omega) : w32 (i + 1) = i + 1), bV_eq e198, bI_eq e1992]
    exact hZ
  unfold sSl
  by_cases qn : nb (pk t e (sB t e (i + 1)))
  · rw [if_pos qn]
    have st2 : ∀ Z, (bI (cl (d - 1) 259 [pR M, pI k, pI 1] (mst m1 M 12 (sB t e (i + 1)))) fun v4 m4 => if v4 = 0 then (some (.inl (some (pI (-1))), m4)) else rn d 250 297 [pR M, pI a1, pI a2, pI k, z4] [] m4) = some Z → Q = some Z := by
      intro Z hZ
      refine st Z ?_
      by_cases z : pk t e (sB t e (i + 1)) = 45
      · rw [if_pos z]; exact hZ
      · rw [if_neg z, bI_eq e1992, bI_eq e2062, if_pos (Or.resolve_right qn z), if_neg (by decide)]; exact hZ
    obtain ⟨s1, s2⟩ := c259 (d := d - 1) (r := k) (w := 1) (by omega) c2 (by omega) (Or.inr (Or.inl ⟨rfl, by rw [z2]; exact hhs⟩))
    cases hE : sIn t e (sB t e (i + 1)) with
    | inl p =>
      obtain ⟨j2, e259⟩ := s2 p hE
      refine RD.inl (st2 _ ?_) ((c2.bad (j := j2) (p := p) (by omega) (by omega)).pre g2 hk0 hw0 c2.tw)
      rw [bI_eq e259, if_pos rfl]
    | inr x =>
      obtain ⟨v, j2⟩ := x
      obtain ⟨m4, e259, h4', p4, r4, l4'⟩ := s1 v j2 hE
      have rj := sIn_rng hE
      refine c250_297 (d := d) (a1 := a1) (a2 := a2) hz4 (by omega) h4' hk0 hk (by omega) hw0 (g2.trans (p4 k (Int.le_refl _)) (Int.le_refl _) hw0 c2.tw) (by omega) hhs (Or.inr rfl) ⟨?_, ?_, ?_, ?_, ?_⟩ (fun Z hZ => st2 Z (by rw [bI_eq e259, if_neg (by decide)]; exact hZ))
      · rw [r4 k 0 (by omega) (by omega), if_neg (by omega)]; exact z0
      · rw [r4 k 2 (by omega) (by omega), if_pos ⟨rfl, rfl⟩, z2, if_neg (by decide), if_pos rfl]; omega
      · intro z; rw [l4' k 0 (by omega) (by omega), if_neg (by omega)]; exact y0 z
      · intro _; rw [l4' k 1 (by omega) (by omega), if_pos ⟨rfl, rfl⟩]
      · rw [r4 k 1 (by omega) (by omega), if_neg (by omega)]; exact z1
  · rw [if_neg qn]
    refine c250_297 (d := d) (a1 := a1) (a2 := a2) hz4 (by omega) c2 hk0 hk (by omega) hw0 g2 (by omega) hhs (Or.inl rfl) ⟨z0, by rw [z2]; omega, y0, fun z => by omega, z1⟩ (fun Z hZ => st Z ?_)
    rw [if_neg (fun z => qn (Or.inr z)), bI_eq e1992, bI_eq e2062, if_neg (fun z => qn (Or.inl z)), if_pos rfl]
    exact hZ
/-- a selector -/
theorem c250 {n : Nat} {sg : Bool} (hB : tB t e) (H5 : T5 M tp e S C t n) : T4 sg M tp e S C t (n + 1) := by
  intro d op m i k us K h hk hu ho hd
  have hd' := hd
  unfold dpn at hd
  have hr := h.rng
  have hkK := h.kK
  have hz := h.tz
  have hM := h.tM
  have e199 := c199 (d := d - 1) hz h.2.1
  have e206 := c206 (d := d - 1) (m := m) (x := pk t e i) hz
  have e202 := c202 (d := d - 1) (p := i) hz hM h.v14
  show RD false M tp e t op S C m i k us K (cl d 250 [pR M, pI (b2i sg)] m) (sQ t e (n + 1) 4 op sg i) 7
  unfold sQ
  rw [if_neg (by decide : ¬ (4 : Nat) = 0), if_neg (by decide : ¬ (4 : Nat) = 1), if_neg (by decide : ¬ (4 : Nat) = 2), if_neg (by decide : ¬ (4 : Nat) = 3), if_pos (rfl : (4 : Nat) = 4)]
  have bs : (b2i sg = 0 ↔ sg = false) := by cases sg <;> decide
  by_cases q1 : pk t e i = 39 ∨ pk t e i = 34
  · rw [if_pos q1]
    refine row_q (d := d - 1) (kd := 1) (by omega) hB (Or.inl rfl) h (by omega) rfl q1 (by omega) (Int.le_refl _) (fun Z hZ => q250 (by omega) hz _ ?_)
    have key : rn d 250 17 [pR M, pI (b2i sg), pI (pk t e i), pU, pU] [] m = some Z := by
      refine q250_17 (by omega) hz _ ?_
      rw [gd_of hM]; exact hZ
    rw [gd_of hM, bI_eq e199]
    by_cases z : pk t e i = 39
    · rw [if_pos z]; exact key
    · rw [if_neg z, if_pos (by omega)]; exact key
  rw [if_neg q1]
  by_cases q2 : sg = false ∧ pk t e i = 42
  · rw [if_pos q2]
    have hlt : i < e := pkf_lt (t := t) (by omega)
    have h1 := h.at (j := i + 1) (by omega) (by omega)
    obtain ⟨rva, eva, pa⟩ := h.rvat (j := i + 1)
    obtain ⟨m2, K2, e2, h2, p2, r0, r1⟩ := c245 (d := d - 1) (kd := 2) h1 (by omega)
    refine RD.inr (q250 (by omega) hz _ ?_) h2 ((pa k).trans p2 (Int.le_refl _) h.tw h1.tw) (by omega) (by omega) ⟨Int.le_refl _, by omega⟩ (gI.leaf (by show (2 : Nat) ≤ 4 ∨ (40 ≤ 2 ∧ 2 ≤ 44); omega) (gB.pl (Or.inl rfl) r0)) (fun _ => ⟨show (2 : Nat) ≠ 21 by decide, r1 1 (by omega) (by omega)⟩)
    rw [gd_of hM, bI_eq e199, if_neg (by omega), if_neg (by omega), if_pos q2.2, if_pos (bs.mpr q2.1), h.v12, (w32_of (by omega) (by omega) : w32 (i + 1) = i + 1), bI_eq e2]
  rw [if_neg q2]
  have st98 : ∀ Z, rn d 250 98 [pR M, pI (b2i sg), pI (pk t e i), pU, pU] [] m = some Z → cl d 250 [pR M, pI (b2i sg)] m = some Z := by
    intro Z hZ
    refine q250 (by omega) hz _ ?_
    rw [gd_of hM, bI_eq e199, if_neg (by omega), if_neg (by omega)]
    by_cases z : pk t e i = 42
    · rw [if_pos z, if_neg (fun y => q2 ⟨bs.mp y, z⟩)]; exact hZ
    · rw [if_neg z]; exact hZ
  by_cases q3 : sg = false ∧ pk t e i = 63
  · rw [if_pos q3]
    have hlt : i < e := pkf_lt (t := t) (by omega)
    have h1 := h.at (j := i + 1) (by omega) (by omega)
    obtain ⟨rva, eva, pa⟩ := h.rvat (j := i + 1)
    obtain ⟨m2, K2, e2, h2, p2, r0, r1⟩ := c245 (d := d - 1) (kd := 5) h1 (by omega)
    have e198 := c198 (d := d - 1) (by omega) h2.tz h2.2.1
    have h3 := h2.sb
    have r3 := sB_rng t (e := e) (i := i + 1) (by omega)
    obtain ⟨rvb, evb, pb⟩ := h2.rvat (j := sB t e (i + 1))
    have g3 : QP k m M S k us K (mst m2 M 12 (sB t e (i + 1))) (k + 1) us K2 := ((pa k).trans p2 (Int.le_refl _) h.tw h1.tw).trans (pb k) (Int.le_refl _) h.tw h2.tw
    have kk := H5 (d - 1) op _ _ (k + 1) us K2 h3 (by omega) (by omega) ho (by unfold dpn; omega)
    have kk : RD false M tp e t op S C (mst m2 M 12 (sB t e (i + 1))) (sB t e (i + 1)) (k + 1) us K2 (cl (d - 1) 252 [pR M] (mst m2 M 12 (sB t e (i + 1)))) (bnd (sQ t e n 5 op false (sB t e (i + 1))) fun L j => qN 30 0 [] L j) 3 := kk
    have st : ∀ Z, (bI (cl (d - 1) 252 [pR M] (mst m2 M 12 (sB t e (i + 1)))) fun v3 m3 => if v3 < 0 then (some (.inl (some (pI (-1))), m3)) else bV (cl (d - 1) 246 [pR M, pI k, pI 2, pI v3] m3) fun m4 => some (.inl (some (pI k)), m4)) = some Z → cl d 250 [pR M, pI (b2i sg)] m = some Z := by
      intro Z hZ
      refine st98 Z (q250_98 (by omega) hz _ ?_)
      rw [if_pos q3.2, if_pos (bs.mpr q3.1), gd_of hM, h.v12, (w32_of (by omega) (by omega) : w32 (i + 1) = i + 1), bI_eq e2, bV_eq e198]
      exact hZ
    cases hE : sQ t e n 5 op false (sB t e (i + 1)) with
    | none => exact RD.no
    | some yy =>
      rw [hE] at kk
      rcases yy with p | ⟨L, j⟩
      · obtain ⟨m7, e7, ce⟩ := kk.2 p rfl
        exact RD.inl (st _ (by rw [bI_eq e7, if_pos (by decide)])) (ce.pre g3 hkK.1 h.tw h3.tw)
      · obtain ⟨m7, k7, us7, K7, c2, dd, l, hF, e7, h7, g7, w1, w2, w3, w4, w5⟩ := kk.1 _ j rfl
        cases hF
        have hk7 := h7.kK
        have hr7 := h7.rng
        obtain ⟨m8, e8, h8, g8, I8, r8⟩ := dn_set (kn := 5) hkK.1 h.tw g3 h3 (by rw [rvb]; exact r0) (by rw [rvb]; exact r1 1 (by omega) (by omega)) h7 g7 w3 w4 (by omega)
        refine RD.inr (st _ ?_) h8 g8 (by omega) (by omega) ⟨Int.le_refl _, by omega⟩ (I8 false (Or.inl rfl)) (fun _ => ⟨by decide, r8⟩)
        rw [bI_eq e7, if_neg (by omega), bV_eq (e8 (d - 1))]
  rw [if_neg q3]
  have st151 : ∀ Z, rn d 250 151 [pR M, pI (b2i sg), pI (pk t e i), pU, pU] [] m = some Z → cl d 250 [pR M, pI (b2i sg)] m = some Z := by
    intro Z hZ
    refine st98 Z (q250_98 (by omega) hz _ ?_)
    by_cases z : pk t e i = 63
    · rw [if_pos z, if_neg (fun y => q3 ⟨bs.mp y, z⟩)]; exact hZ
    · rw [if_neg z]; exact hZ
  by_cases q4 : nb (pk t e i)
  · rw [if_pos q4]
    have st185 : ∀ Z, rn d 250 185 [pR M, pI (b2i sg), pI (pk t e i), pU, pU] [] m = some Z → cl d 250 [pR M, pI (b2i sg)] m = some Z := by
      intro Z hZ
      refine st151 Z (q250_151 (by omega) hz _ ?_)
      by_cases z : pk t e i = 45
      · rw [if_pos z]; exact hZ
      · rw [if_neg z, bI_eq e206, if_pos (Or.resolve_right q4 z), if_neg (by decide)]; exact hZ
    obtain ⟨s1, s2⟩ := row_n (d := d - 1) (kd := 3) (by omega) (Or.inl rfl) h (by omega) (by omega)
    cases hE : sIn t e i with
    | inl p =>
      obtain ⟨m1, m2, m3, e1, e2, e3, ce⟩ := s2 p hE
      refine RD.inl (st185 _ (q250_185 (by omega) hz _ ?_)) ce
      rw [gd_of hM, bI_eq (show cl (d - 1) 245 [pR M, pI 3] m = _ from e1 (d - 1)), bV_eq (e2 (d - 1)), if_neg (by omega), bI_eq e3, if_pos rfl]
    | inr x =>
      obtain ⟨v, j⟩ := x
      obtain ⟨m1, m2, m3, K', e1, e2, e3, h3, p3, r3, l3⟩ := s1 v j hE
      have rj := sIn_rng hE
      have hr3 := h3.rng
      have e198 := c198 (d := d - 1) (by omega) h3.tz h3.2.1
      have h4 := h3.sb
      have r4 := sB_rng t (e := e) (i := j) hr3.2.1
      have e1994 := c199 (d := d - 1) h4.tz h4.2.1
      obtain ⟨rvb, evb, pb⟩ := h3.rvat (j := sB t e j)
      have st : ∀ Z, (if pk t e (sB t e j) = 58 then (if b2i sg = 0 then (rn d 250 246 [pR M, pI (b2i sg), pI (pk t e i), pI k, pI j] [] (mst m3 M 12 (sB t e j))) else some (.inl (some (pI k)), m3)) else some (.inl (some (pI k)), m3)) = some Z → cl d 250 [pR M, pI (b2i sg)] m = some Z := by
        intro Z hZ
        refine st185 Z (q250_185 (by omega) hz _ ?_)
        rw [gd_of hM, bI_eq (show cl (d - 1) 245 [pR M, pI 3] m = _ from e1 (d - 1)), bV_eq (e2 (d - 1)), if_neg (by omega), bI_eq e3, if_neg (by decide), nm_eq, h3.v12, bV_eq e198, bI_eq e1994, mst_mst, mst_self h3.v12]
        exact hZ
      have idx : (∀ Z, (some (.inl (some (pI k)), m3) : RM) = some Z → cl d 250 [pR M, pI (b2i sg)] m = some Z) → RD false M tp e t op S C m i k us K (cl d 250 [pR M, pI (b2i sg)] m) (qN 3 v [] foN j) 7 := by
        intro hst
        exact RD.inr (hst _ rfl) h3 p3 (by omega) (by omega) ⟨Int.le_refl _, by omega⟩ (gI.leaf (by show (3 : Nat) ≤ 4 ∨ (40 ≤ 3 ∧ 3 ≤ 44); omega) (gB.nu (Or.inl rfl) (by rw [r3 0 (by omega) (by omega)]; rfl) l3)) (fun _ => ⟨show (3 : Nat) ≠ 21 by decide, by rw [r3 1 (by omega) (by omega)]; rfl⟩)
      dsimp only
      by_cases q5 : sg = false ∧ pk t e (sB t e j) = 58
      · rw [if_pos q5]
        refine c250_246 (d := d) (a1 := b2i sg) (a2 := pk t e i) (z4 := pI j) (by rfl) (by omega) h4 hkK.1 (by omega) (by omega) h.tw (p3.trans (pb k) (Int.le_refl _) h.tw h3.tw) (by omega) (Or.inr rfl) (by rw [rvb, r3 2 (by omega) (by omega)]; rfl) (fun _ => by rw [evb]; exact l3) (by rw [rvb, r3 1 (by omega) (by omega)]; rfl) q5.2 (fun Z hZ => st Z ?_)
        rw [if_pos q5.2, if_pos (bs.mpr q5.1)]; exact hZ
      · rw [if_neg q5]
        refine idx (fun Z hZ => st Z ?_)
        by_cases z : pk t e (sB t e j) = 58
        · rw [if_pos z, if_neg (fun y => q5 ⟨bs.mp y, z⟩)]; exact hZ
        · rw [if_neg z]; exact hZ
  rw [if_neg q4]
  have hnd : ¬ (48 ≤ pk t e i ∧ pk t e i ≤ 57) := fun z => q4 (Or.inl z)
  by_cases q5 : sg = false ∧ pk t e i = 58
  · rw [if_pos q5]
    obtain ⟨m1, m2, K', K1, e1, h1, e2, h2, p2, r2⟩ := h.row2 (kd := 3) (f := 2) (v := 0) (by omega) (by omega)
    refine c250_246 (d := d) (a1 := b2i sg) (a2 := pk t e i) (z4 := pU) (by rfl) (by omega) h2 hkK.1 (by omega) (by omega) h.tw p2 (Int.le_refl _) (Or.inl rfl) (by rw [r2 2 (by omega) (by omega)]; rfl) (fun z => by omega) (by rw [r2 1 (by omega) (by omega)]; rfl) q5.2 (fun Z hZ => st151 Z (q250_151 (by omega) hz _ ?_))
    rw [if_neg (fun z => q4 (Or.inr z)), bI_eq e206, if_neg hnd, if_pos rfl, if_pos q5.2, if_pos (bs.mpr q5.1)]
    refine q250_185 (by omega) hz _ ?_
    rw [gd_of hM, bI_eq (e1 (d - 1)), bV_eq (e2 (d - 1)), if_pos q5.2]
    exact hZ
  · rw [if_neg q5]
    refine RD.inl (st151 _ (q250_151 (by omega) hz _ ?_)) (h.bad0 (p := i) (by omega) (by omega))
    rw [if_neg (fun z => q4 (Or.inr z)), bI_eq e206, if_neg hnd, if_pos rfl]
    by_cases z : pk t e i = 58
    · rw [if_pos z, if_neg (fun y => q5 ⟨bs.mp y, z⟩), gd_of hM, h.v12, bI_eq e202]
    · rw [if_neg z, gd_of hM, h.v12, bI_eq e202]
end
