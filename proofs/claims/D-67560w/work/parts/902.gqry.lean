/-! queries read by the twin: segments, queries, and all -/
set_option maxRecDepth 100000
set_option maxHeartbeats 4000000
section
variable {M tp e S C : Int} {t : Int → Int}
theorem c247 {sg : Bool} {n : Nat} (H4 : ∀ q, q < n → T4 sg M tp e S C t q) : TS sg M tp e S C t (n + 1) := by
  intro d op m i k q us K h hk hu ho hd hq hp
  have hd' := hd
  unfold dpn at hd
  have hr := h.rng
  have hkK := h.kK
  have hz := h.tz
  have hM := h.tM
  have hlt : i < e := pkf_lt (t := t) (by omega)
  have bs : (b2i sg = 0 ↔ sg = false) := by cases sg <;> decide
  unfold sQ
  rw [if_neg (by decide : ¬ (1 : Nat) = 0), if_pos (rfl : (1 : Nat) = 1)]
  obtain ⟨m1, m2, K2, K1, e1, h1, e2, h2, p2, r2⟩ := h.row2 (kd := 21) (f := 1) (v := 0) (by omega) (by omega)
  have e199 := c199 (d := d - 1) h2.tz h2.2.1
  have g2 : QP 0 m M S k us K m2 (k + 1) us K2 := p2.mono (by omega)
  have gq2 : GQ q k m m2 M := GQ.of p2.2.1 (Int.le_refl _) hq
  have q2 : rv m2 M q 3 = rv m M q 3 := (p2.2.1 q hq).1 3 (by omega) (by omega)
  have br : ∀ (m3 : Mem) (i3 K3 v : Int), QT m3 M tp e i3 t op S (k + 1) us C K3 → i ≤ i3 → QP 0 m M S k us K m3 (k + 1) us K3 → GQ q k m m3 M → pk t e i3 = 91 → (v = 0 ∨ v = 1) → rv m3 M k 0 = 21 → rv m3 M k 1 = v → rv m3 M k 2 = -1 → rv m3 M k 3 = -1 → (v = 0 → rv m3 M q 3 = rv m M q 3) → (v = 1 → rv m3 M q 3 = 0) → (∀ Z, (bI (cl (d - 1) 248 [pR M, pI q, pI k, pI (b2i sg)] m3) fun v9 m9 => if v9 = 0 then (some (.inl (some (pI (-1))), m9)) else some (.inl (some (pI k)), m9)) = some Z → cl d 247 [pR M, pI q, pI (b2i sg)] m = some Z) → SGr M tp e S C t op m i k q us K (cl d 247 [pR M, pI q, pI (b2i sg)] m) (bnd (sQ t e n 2 op sg i3) fun L j => qN 21 v [] L j) := by
    intro m3 i3 K3 v a1 a2 a3 a4 a5 a6 a7 a8 a9 a10 a11 a12 a13
    cases n with
    | zero => exact SGr.no
    | succ n => exact c247_br (fun q hq => H4 q (by omega)) (by unfold dpn; omega) ho hk hu hq h.tw a1 a2 a3 a4 a5 a6 a7 a8 a9 a10 a11 a12 a13
  by_cases q46 : pk t e i = 46
  · rw [if_pos q46]
    have h3 := h2.at (j := i + 1) (by omega) (by omega)
    obtain ⟨rva, eva, pa⟩ := h2.rvat (j := i + 1)
    have e1993 := c199 (d := d - 1) h3.tz h3.2.1
    by_cases r46 : sg = false ∧ pk t e (i + 1) = 46
    · rw [if_pos r46]
      have hlt2 : i + 1 < e := pkf_lt (t := t) (by omega)
      have h4 := h2.at (j := i + 2) (by omega) (by omega)
      obtain ⟨rvb, evb, pb⟩ := h2.rvat (j := i + 2)
      obtain ⟨h5, p5, r5, l5⟩ := h4.set (r := k) (f := 1) (v := 1) (by omega) (by omega)
      have e5 := c246 (d := d - 1) (r := k) (f := 1) (v := 1) h4 (by omega) (by omega)
      obtain ⟨h6, p6, r6, l6⟩ := h5.set (r := q) (f := 3) (v := 0) (by omega) (by omega)
      have e6 := c246 (d := d - 1) (r := q) (f := 3) (v := 0) h5 (by omega) (by omega)
      generalize hm5 : mst (mst m2 M 12 (i + 2)) (vl (mst m2 M 12 (i + 2)) M 27) (8 * k + 1) 1 = m5 at *
      generalize hm6 : mst m5 (vl m5 M 27) (8 * q + 3) 0 = m6 at *
      have e1996 := c199 (d := d - 1) h6.tz h6.2.1
      have g6 : QP 0 m M S k us K m6 (k + 1) us K2 := ((g2.trans (pb 0) (Int.le_refl _) h.tw h2.tw).trans (p5 0 (by omega)) (Int.le_refl _) h.tw h4.tw).trans (p6 0 (by omega)) (Int.le_refl _) h.tw h5.tw
      have gq6 : GQ q k m m6 M := by
        have a1 : GQ q k m (mst m2 M 12 (i + 2)) M := by unfold GQ; rw [rvb, evb]; exact gq2
        exact (a1.trans (GQ.set r5 l5 (Or.inl (Int.le_refl _)) hq.2)).trans (GQ.set r6 l6 (Or.inr ⟨rfl, rfl⟩) hq.2)
      have kk : ∀ f, 0 ≤ f → f < 8 → f ≠ 1 → rv m6 M k f = rv m2 M k f := fun f f0 f1 f2 => by
        rw [r6 k f f0 f1, if_neg (by omega), r5 k f f0 f1, if_neg (by omega), rvb]
      have z0 : rv m6 M k 0 = 21 := by rw [kk 0 (by omega) (by omega) (by omega), r2 0 (by omega) (by omega)]; rfl
      have z1 : rv m6 M k 1 = 1 := by rw [r6 k 1 (by omega) (by omega), if_neg (by omega), r5 k 1 (by omega) (by omega), if_pos ⟨rfl, rfl⟩]
      have z2 : rv m6 M k 2 = -1 := by rw [kk 2 (by omega) (by omega) (by omega), r2 2 (by omega) (by omega)]; rfl
      have z3 : rv m6 M k 3 = -1 := by rw [kk 3 (by omega) (by omega) (by omega), r2 3 (by omega) (by omega)]; rfl
      have zq : rv m6 M q 3 = 0 := by rw [r6 q 3 (by omega) (by omega), if_pos ⟨rfl, rfl⟩]
      have st : ∀ Z, (if pk t e (i + 2) = 91 then (bI (cl (d - 1) 248 [pR M, pI q, pI k, pI (b2i sg)] m6) fun v9 m9 => if v9 = 0 then (some (.inl (some (pI (-1))), m9)) else some (.inl (some (pI k)), m9)) else rn d 247 95 [pR M, pI q, pI (b2i sg), pI k, pU] [] m6) = some Z → cl d 247 [pR M, pI q, pI (b2i sg)] m = some Z := by
        intro Z hZ
        refine q247 (by omega) hz _ ?_
        rw [gd_of hM, bI_eq (e1 (d - 1)), bV_eq (e2 (d - 1)), bI_eq e199, if_pos q46, h2.v12, (w32_of (by omega) (by omega) : w32 (i + 1) = i + 1), bI_eq e1993, if_pos r46.2, if_pos (bs.mpr r46.1), h3.v12, (w32_of (by omega) (by omega) : w32 (i + 1 + 1) = i + 1 + 1), mst_mst, show i + 1 + 1 = i + 2 by omega, bV_eq e5, bV_eq e6, bI_eq e1996]
        exact hZ
      by_cases q91 : pk t e (i + 2) = 91
      · rw [if_pos q91]
        rw [if_pos q91] at st
        exact br m6 (i + 2) K2 1 h6 (by omega) g6 gq6 q91 (Or.inr rfl) z0 z1 z2 z3 (fun z => by omega) (fun _ => zq) st
      · rw [if_neg q91]
        rw [if_neg q91] at st
        have key := c247_95 (d := d) (sg := sg) (by omega) hk hu hq h.tw h6 (by omega) g6 gq6 (Or.inr rfl) z0 z1 z2 z3 (fun z => by omega) (fun _ => zq) st
        have e9 : (if sg = false ∧ pk t e (i + 2) = 42 then qN 21 1 [] (foC (2, 0, [], []) foN foN) (i + 2 + 1) else if ¬ ltr (pk t e (i + 2)) then qE (i + 2) else qN 21 1 [] (foC (1, 0, (sNa t e (i + 2)).1, []) foN foN) (sNa t e (i + 2)).2) = (if pk t e (i + 2) = 42 then qN 21 1 [] (foC (2, 0, [], []) foN foN) (i + 3) else if ¬ ltr (pk t e (i + 2)) then qE (i + 2) else qN 21 1 [] (foC (1, 0, (sNa t e (i + 2)).1, []) foN foN) (sNa t e (i + 2)).2) := by
          by_cases z : pk t e (i + 2) = 42
          · rw [if_pos ⟨r46.1, z⟩, if_pos z, show i + 2 + 1 = i + 3 by omega]
          · rw [if_neg (fun y => z y.2), if_neg z]
        rw [e9] at key
        exact key
    · rw [if_neg r46]
      have z0 : rv (mst m2 M 12 (i + 1)) M k 0 = 21 := by rw [rva, r2 0 (by omega) (by omega)]; rfl
      have z1 : rv (mst m2 M 12 (i + 1)) M k 1 = 0 := by rw [rva, r2 1 (by omega) (by omega)]; rfl
      have z2 : rv (mst m2 M 12 (i + 1)) M k 2 = -1 := by rw [rva, r2 2 (by omega) (by omega)]; rfl
      have z3 : rv (mst m2 M 12 (i + 1)) M k 3 = -1 := by rw [rva, r2 3 (by omega) (by omega)]; rfl
      have g3 : QP 0 m M S k us K (mst m2 M 12 (i + 1)) (k + 1) us K2 := g2.trans (pa 0) (Int.le_refl _) h.tw h2.tw
      have gq3 : GQ q k m (mst m2 M 12 (i + 1)) M := by unfold GQ; rw [rva, eva]; exact gq2
      have st : ∀ Z, rn d 247 95 [pR M, pI q, pI (b2i sg), pI k, pU] [] (mst m2 M 12 (i + 1)) = some Z → cl d 247 [pR M, pI q, pI (b2i sg)] m = some Z := by
        intro Z hZ
        refine q247 (by omega) hz _ ?_
        rw [gd_of hM, bI_eq (e1 (d - 1)), bV_eq (e2 (d - 1)), bI_eq e199, if_pos q46, h2.v12, (w32_of (by omega) (by omega) : w32 (i + 1) = i + 1), bI_eq e1993]
        by_cases z : pk t e (i + 1) = 46
        · rw [if_pos z, if_neg (fun y => r46 ⟨bs.mp y, z⟩)]; exact hZ
        · rw [if_neg z]; exact hZ
      have key := c247_95 (d := d) (sg := sg) (by omega) hk hu hq h.tw h3 (by omega) g3 gq3 (Or.inl rfl) z0 z1 z2 z3 (fun _ => by rw [rva]; exact q2) (fun z => by omega) st
      rw [show i + 1 + 1 = i + 2 by omega] at key
      exact key
  · rw [if_neg q46]
    refine br m2 i K2 0 h2 (Int.le_refl _) g2 gq2 (by omega) (Or.inl rfl) (by rw [r2 0 (by omega) (by omega)]; rfl) (by rw [r2 1 (by omega) (by omega)]; rfl) (by rw [r2 2 (by omega) (by omega)]; rfl) (by rw [r2 3 (by omega) (by omega)]; rfl) (fun _ => q2) (fun z => by omega) (fun Z hZ => q247 (by omega) hz _ ?_)
    rw [gd_of hM, bI_eq (e1 (d - 1)), bV_eq (e2 (d - 1)), bI_eq e199, if_neg q46]
    exact hZ
end
/-- segments of the query at row r -/
def LQy (sg : Bool) (M tp e S C : Int) (t : Int → Int) (n : Nat) : Prop := ∀ (d op : Nat) (m0 m : Mem) (i i0 k r K K0 last a1 : Int) (us us0 os : List Int) (A : Fo) (z5 z6 : PV), cat z5 = 1 → cat z6 = 1 → QT m M tp e i t op S k us C K → k + 8 * (e - i) + 10 ≤ 19001 → (us.length : Int) + (e - i) ≤ 39000 → op ≤ 16 → dpn op 9 ≤ d → 0 ≤ r → TW m0 S 0 us0 C → QP r m0 M S r us0 K0 m k us K → k ≤ r + 1 + 8 * (i - i0) → (us.length : Int) ≤ us0.length + (i - i0) → (os.length = 0 ∧ last = -1 ∨ 0 < os.length ∧ last = gi os (os.length - 1)) → gLI (rv m M) (ev m M) us false 3 r (r + 1) k os A → rv m M r 3 = b2i (sgF A) →
  (∀ F j, sQ t e n 0 op sg i = some (.inr (F, j)) → ∃ m' k' us' K' os', rn d 244 32 [pR M, pI a1, pI (b2i sg), pI r, pI last, z5, z6] [] m = some (.inl (some (pI r)), m') ∧ QT m' M tp e j t op S k' us' C K' ∧ QP r m0 M S r us0 K0 m' k' us' K' ∧ k' ≤ r + 1 + 8 * (j - i0) ∧ (us'.length : Int) ≤ us0.length + (j - i0) ∧ gLI (rv m' M) (ev m' M) us' false 3 r (r + 1) k' os' (fapp A F) ∧ rv m' M r 3 = b2i (sgF (fapp A F)) ∧ rv m' M r 0 = rv m M r 0 ∧ rv m' M r 1 = rv m M r 1) ∧
  (∀ p, sQ t e n 0 op sg i = some (.inl p) → ∃ m', rn d 244 32 [pR M, pI a1, pI (b2i sg), pI r, pI last, z5, z6] [] m = some (.inl (some (pI (-1))), m') ∧ QE m0 M S r us0 C K0 m' p)
section
variable {M tp e S C : Int} {t : Int → Int}
theorem c244_l {sg : Bool} : ∀ (n : Nat), (∀ q, q < n → TS sg M tp e S C t q) → LQy sg M tp e S C t n := by
  intro n
  induction n with
  | zero =>
    intro H d op m0 m i i0 k r K K0 last a1 us us0 os A z5 z6 hz5 hz6 h hk hu ho hd hr0 hw0 g hkr hur hlast hl h3
    exact ⟨fun F j z => (by cases z), fun p z => (by cases z)⟩
  | succ n ih =>
    intro H d op m0 m i i0 k r K K0 last a1 us us0 os A z5 z6 hz5 hz6 h hk hu ho hd hr0 hw0 g hkr hur hlast hl h3
    have hd' := hd
    unfold dpn at hd
    have hr := h.rng
    have hkK := h.kK
    have hz := h.tz
    have hM := h.tM
    have rb := sB_rng t (e := e) (i := i) hr.2.1
    have e198 := c198 (d := d - 1) (by omega) hz h.2.1
    have h1 := h.sb
    have e199 := c199 (d := d - 1) h1.tz h1.2.1
    obtain ⟨rva, eva, pa⟩ := h.rvat (j := sB t e i)
    have hrk : r + 1 ≤ k := hl.2.1.2.2
    unfold sQ
    rw [if_pos (rfl : (0 : Nat) = 0)]
    by_cases hp : pk t e (sB t e i) = 46 ∨ pk t e (sB t e i) = 91
    · rw [if_pos hp]
      have hlt : sB t e i < e := pkf_lt (t := t) (by omega)
      have st : ∀ Z, rn d 244 68 [pR M, pI a1, pI (b2i sg), pI r, pI last, pI i, z6] [] (mst m M 12 (sB t e i)) = some Z → rn d 244 32 [pR M, pI a1, pI (b2i sg), pI r, pI last, z5, z6] [] m = some Z := by
        intro Z hZ
        refine q244_32 (by omega) hz hz5 hz6 _ ?_
        rw [gd_of hM, nm_eq, h.v12, bV_eq e198, bI_eq e199]
        by_cases y : pk t e (sB t e i) = 46
        · rw [if_pos y]; exact hZ
        · rw [if_neg y, bI_eq e199, if_pos (by omega)]; exact hZ
      have kk := H n (by omega) (d - 1) op _ _ k r us K h1 (by omega) (by omega) ho (by unfold dpn; omega) ⟨hr0, by omega⟩ hp
      have g1 := g.trans (pa r) (Int.le_refl _) hw0 h.tw
      cases hE : sQ t e n 1 op sg (sB t e i) with
      | none => exact ⟨fun F j z => (by cases z), fun p z => (by cases z)⟩
      | some yy =>
        rw [hE] at kk
        rcases yy with p | ⟨X, j⟩
        · obtain ⟨m7, e7, ce⟩ := kk.2 p rfl
          refine ⟨fun F j z => (by cases z), fun p' z => ?_⟩
          cases z
          refine ⟨m7, st _ (q244_68 (by omega) h1.tz hz6 _ ?_), ce.pre g1 hr0 hw0 h1.tw⟩
          rw [gd_of h1.tM, bI_eq e7, if_pos (by decide)]
        · obtain ⟨m7, k7, us7, K7, l, v, rfl, e7, h7, g7, w1, w2, w3, w4, w5, w6, w7⟩ := kk.1 X j rfl
          have hk7 := h7.kK
          have hr7 := h7.rng
          have hrg := sQ_rng (t := t) n 1 op sg (sB t e i) _ j rb.2 (fun _ => hlt) hE
          obtain ⟨vs, hvs⟩ := g7.2.2.1
          have w6' : GQ r k m m7 M := by
            have := w6
            unfold GQ at this ⊢
            rw [rva, eva] at this
            exact this
          rw [rva] at w7
          have l7 : gLI (rv m7 M) (ev m7 M) us7 false 3 r (r + 1) k os A := by
            rw [hvs]
            exact hl.keep (w6'.1.imp (fun a ha => ⟨by have := ha.1; omega, ha.2, by have := ha.1; omega⟩)) (w6'.2.1 2 (by omega) (by omega) (by omega)) (Int.le_refl _)
          obtain ⟨y, fy, hy, hyr, hyf, hst⟩ : ∃ y fy : Int, ((os.length = 0 ∧ y = r ∧ fy = 2) ∨ (0 < os.length ∧ y = gi os (os.length - 1) ∧ fy = 3)) ∧ (r ≤ y ∧ y < k) ∧ (0 ≤ fy ∧ fy < 8) ∧ ∀ m8, cl (d - 1) 246 [pR M, pI y, pI fy, pI k] m7 = some (.inl none, m8) → ∀ Z, rn d 244 32 [pR M, pI a1, pI (b2i sg), pI r, pI k, pI i, pI k] [] m8 = some Z → rn d 244 32 [pR M, pI a1, pI (b2i sg), pI r, pI last, z5, z6] [] m = some Z := by
            rcases hlast with ⟨b1, b2⟩ | ⟨b1, b2⟩
            · refine ⟨r, 2, Or.inl ⟨b1, rfl, rfl⟩, by omega, by omega, fun m8 e8 Z hZ => st Z (q244_68 (by omega) h1.tz hz6 _ ?_)⟩
              rw [gd_of h1.tM, bI_eq e7, if_neg (by omega), if_pos (by omega), bV_eq e8]; exact hZ
            · have b := hl.2.2.2.1 (os.length - 1) (by omega) (by omega)
              refine ⟨gi os (os.length - 1), 3, Or.inr ⟨b1, rfl, rfl⟩, by omega, by omega, fun m8 e8 Z hZ => st Z (q244_68 (by omega) h1.tz hz6 _ ?_)⟩
              rw [gd_of h1.tM, bI_eq e7, if_neg (by omega), if_neg (by omega), b2, bV_eq e8]; exact hZ
          obtain ⟨h8, p8, r8, l8⟩ := h7.set (r := y) (f := fy) (v := k) (by omega) hyf
          have e8 := c246 (d := d - 1) (r := y) (f := fy) (v := k) h7 (by omega) hyf
          have lst := l7.add (c := k) (hi' := k7) ⟨Int.le_refl _, w3⟩ w4 ⟨by show (21 : Nat) ≠ 20; decide, by show (3 : Int) = if (21 : Nat) = 21 then 3 else 1; rw [if_pos rfl]⟩ w5 hy r8 l8
          have rf : ∀ f, 0 ≤ f → f < 8 → f ≠ 2 → rv (mst m7 (vl m7 M 27) (8 * y + fy) k) M r f = rv m7 M r f := fun f f0 f1 f2 => by
            rw [r8 r f f0 f1, if_neg (fun z => by
              rcases hy with ⟨q1, q2, q3⟩ | ⟨q1, q2, q3⟩
              · exact f2 (z.2.trans q3)
              · have b := (hl.2.2.2.1 (os.length - 1) (by omega) (by omega)).1
                omega)]
          have ag7 : AG (fun x => 0 ≤ x ∧ x < r) (rv m M) (ev m M) (rv m7 M) (ev m7 M) := w6'.1.imp (fun a ha => ⟨ha.1, by have := ha.2; omega, by have := ha.2; omega⟩)
          have g7r : QP r (mst m M 12 (sB t e i)) M S k us K m7 k7 us7 K7 := ⟨g7.1, by rw [rva, eva]; exact ag7, g7.2.2⟩
          have g8 : QP r m0 M S r us0 K0 (mst m7 (vl m7 M 27) (8 * y + fy) k) k7 us7 K7 := (g1.trans g7r (Int.le_refl _) hw0 h1.tw).trans (p8 r hyr.1) (Int.le_refl _) hw0 h7.tw
          have r83 : rv (mst m7 (vl m7 M 27) (8 * y + fy) k) M r 3 = b2i (sgF (fapp A (foC (21, v, [], []) l foN))) := by
            rw [rf 3 (by omega) (by omega) (by omega), w7, h3, sgF_app]
            by_cases z : sgF (foC (21, v, [], []) l foN) = true
            · rw [if_pos z, z, Bool.and_true]
            · rw [if_neg z]
              have z' : sgF (foC (21, v, [], []) l foN) = false := by simpa using z
              rw [z', Bool.and_false]; rfl
          have r80 : rv (mst m7 (vl m7 M 27) (8 * y + fy) k) M r 0 = rv m M r 0 := by rw [rf 0 (by omega) (by omega) (by omega)]; exact w6'.2.1 0 (by omega) (by omega) (by omega)
          have r81 : rv (mst m7 (vl m7 M 27) (8 * y + fy) k) M r 1 = rv m M r 1 := by rw [rf 1 (by omega) (by omega) (by omega)]; exact w6'.2.1 1 (by omega) (by omega) (by omega)
          have st8 := hst _ e8
          generalize hm8 : mst m7 (vl m7 M 27) (8 * y + fy) k = m8 at *
          have key := ih (fun q hq => H q (by omega)) d op m0 m8 j i0 k7 r K7 K0 k a1 us7 us0 (os ++ [k]) (fapp A (foC (21, v, [], []) l foN)) (pI i) (pI k) (by rfl) (by rfl) h8 (by omega) (by omega) ho hd' hr0 hw0 g8 (by omega) (by omega) (Or.inr ⟨by rw [List.length_append]; exact Nat.succ_pos _, by rw [List.length_append, List.length_singleton, show ((os.length + 1 : Nat) : Int) - 1 = os.length by push_cast; omega, gi_app_r (by omega), show (os.length : Int) - os.length = 0 by omega, gi_zero]⟩) lst r83
          show (∀ F j', bnd (sQ t e n 0 op sg j) (fun R k => some (.inr (fapp (foC (21, v, [], []) l foN) R, k))) = some (.inr (F, j')) → _) ∧ (∀ p, bnd (sQ t e n 0 op sg j) (fun R k => some (.inr (fapp (foC (21, v, [], []) l foN) R, k))) = some (.inl p) → _)
          cases hE2 : sQ t e n 0 op sg j with
          | none => exact ⟨fun F j z => (by cases z), fun p z => (by cases z)⟩
          | some y3 =>
            rw [hE2] at key
            rcases y3 with p3 | ⟨R, k3⟩
            · obtain ⟨m9, e9, ce⟩ := key.2 p3 rfl
              refine ⟨fun F j z => (by cases z), fun p' z => ?_⟩
              cases z
              exact ⟨m9, st8 _ e9, ce⟩
            · obtain ⟨m9, k9, us9, K9, os9, e9, f1, f2, f3, f4, f5, f6, f7, f8⟩ := key.1 R k3 rfl
              refine ⟨fun F jj z => ?_, fun p' z => (by cases z)⟩
              cases z
              rw [fapp_assoc] at f5 f6
              exact ⟨m9, k9, us9, K9, os9, st8 _ e9, f1, f2, f3, f4, f5, f6, by rw [f7, r80], by rw [f8, r81]⟩
    · rw [if_neg hp]
      refine ⟨fun F j z => ?_, fun p z => (by cases z)⟩
      cases z
      refine ⟨m, k, us, K, os, q244_32 (by omega) hz hz5 hz6 _ ?_, h, g, hkr, hur, by rw [fapp_nil]; exact hl, by rw [fapp_nil]; exact h3, rfl, rfl⟩
      rw [gd_of hM, nm_eq, h.v12, bV_eq e198, bI_eq e199, if_neg (fun z => hp (Or.inl z)), bI_eq e199, if_neg (fun z => hp (Or.inr z)), mst_mst, mst_self h.v12]
/-- a query behind its sign -/
theorem c244 {sg : Bool} {n : Nat} (H : ∀ q, q < n → TS sg M tp e S C t q) : TQ sg M tp e S C t n := by
  intro d op m i k us K ro h hk hu ho hd hro
  have hd' := hd
  unfold dpn at hd
  have hr := h.rng
  have hkK := h.kK
  have hz := h.tz
  have hM := h.tM
  obtain ⟨m1, m2, K2, K1, e1, h1, e2, h2, p2, r2⟩ := h.row2 (kd := 20) (f := 1) (v := ro) (by omega) (by omega)
  obtain ⟨h3, p3, r3, l3⟩ := h2.set (r := k) (f := 3) (v := 1) (by omega) (by omega)
  have e3 := c246 (d := d - 1) (r := k) (f := 3) (v := 1) h2 (by omega) (by omega)
  generalize hm3 : mst m2 (vl m2 M 27) (8 * k + 3) 1 = m3 at *
  have z2 : rv m3 M k 2 = -1 := by rw [r3 k 2 (by omega) (by omega), if_neg (by omega), r2 2 (by omega) (by omega)]; rfl
  have z3 : rv m3 M k 3 = 1 := by rw [r3 k 3 (by omega) (by omega), if_pos ⟨rfl, rfl⟩]
  have z0 : rv m3 M k 0 = 20 := by rw [r3 k 0 (by omega) (by omega), if_neg (by omega), r2 0 (by omega) (by omega)]; rfl
  have z1 : rv m3 M k 1 = ro := by rw [r3 k 1 (by omega) (by omega), if_neg (by omega), r2 1 (by omega) (by omega)]; rfl
  have li : gLI (rv m3 M) (ev m3 M) us false 3 k (k + 1) (k + 1) [] foN := ⟨Or.inr rfl, by omega, rfl, fun j j0 j1 => absurd j1 (by simp; omega), fun i j i0 ij j1 => absurd j1 (by simp; omega), fun j j0 j1 => absurd j1 (by simp; omega), fun hl => absurd hl (by simp), fun _ => z2, trivial⟩
  have g3 : QP k m M S k us K m3 (k + 1) us K2 := p2.trans (p3 k (Int.le_refl _)) (Int.le_refl _) h.tw h2.tw
  have key := c244_l (sg := sg) n H d op m m3 i i (k + 1) k K2 K (-1) ro us us [] foN pU pU (by rfl) (by rfl) h3 (by omega) (by omega) ho hd' hkK.1 h.tw g3 (by omega) (by omega) (Or.inl ⟨rfl, rfl⟩) li z3
  have st : ∀ Z, rn d 244 32 [pR M, pI ro, pI (b2i sg), pI k, pI (-1), pU, pU] [] m3 = some Z → cl d 244 [pR M, pI ro, pI (b2i sg)] m = some Z := by
    intro Z hZ
    refine q244 (by omega) hz _ ?_
    rw [gd_of hM, bI_eq (e1 (d - 1))]
    have k19 : rn d 244 19 [pR M, pI ro, pI (b2i sg), pI k, pU, pU, pU] [pI ro, pI 1, pI k, pR M] m1 = some Z := by
      refine q244_19 (by omega) h1.tz _ ?_
      rw [gd_of h1.tM, bV_eq (e2 (d - 1)), gd_of h2.tM, bV_eq e3]
      exact hZ
    rcases hro with z | z
    · rw [z] at k19 ⊢; rw [if_pos rfl]; exact k19
    · rw [z] at k19 ⊢; rw [if_neg (by decide)]; exact k19
  cases hE : sQ t e n 0 op sg i with
  | none => exact RD.no
  | some yy =>
    rw [hE] at key
    rcases yy with p | ⟨L, j⟩
    · obtain ⟨m9, e9, ce⟩ := key.2 p rfl
      exact RD.inl (st _ e9) ce
    · obtain ⟨m9, k9, us9, K9, os9, e9, f1, f2, f3, f4, f5, f6, f7, f8⟩ := key.1 L j rfl
      have hap : fapp foN L = L := rfl
      rw [hap] at f5 f6
      have hkk : k + 1 ≤ k9 := f5.2.1.2.2
      have hu0 : unw (rv m9 M) false 20 k = k := by unfold unw; rw [if_neg (fun z => by cases z.1)]
      refine RD.inr (dd := (20, ro, [], [])) (l := L) (st _ e9) f1 f2 (by omega) (by omega) ⟨Int.le_refl _, by omega⟩ ⟨fun z => (by cases z.1), ?_, ?_⟩ (fun z => absurd rfl z)
      · show gB (rv m9 M) (ev m9 M) us9 (unw (rv m9 M) false 20 k) (20, ro, [], []) L
        rw [hu0]
        exact ⟨by rw [f7]; exact z0, fun z => absurd (show (20 : Nat) = 1 ∨ (20 : Nat) = 41 from z) (by omega), fun z => absurd (show (20 : Nat) = 3 ∨ (20 : Nat) = 40 from z) (by omega), fun z => absurd (show (20 : Nat) = 4 from z) (by omega), fun _ => ⟨by rw [f8]; exact z1, f6, f5.row.2⟩, fun z => absurd (show (20 : Nat) = 21 from z) (by omega), fun z => absurd (show (20 : Nat) = 30 ∨ (20 : Nat) = 31 from z) (by omega), fun z => absurd (show (20 : Nat) = 33 from z) (by omega)⟩
      · show gF (rv m9 M) (ev m9 M) us9 ((20 : Nat) == 31) _ (gK (rv m9 M) (unw (rv m9 M) false 20 k) 20) L
        rw [hu0, gK_20 rfl]
        exact f5.fin (fun a h1 h2 => ⟨by omega, h2, by omega⟩)
end
