/-! queries read by the twin: selectors in brackets -/
set_option maxRecDepth 100000
set_option maxHeartbeats 4000000
/-- one name or one index -/
def on1 : Fo → Bool
  | .inner _ k _ _ .leaf => k.1 == 1 || k.1 == 3
  | _ => false
theorem sg1_on (v : Int) (L : Fo) : sg1 (21, v, [], []) L = (v == 0 && on1 L) := by
  cases L with
  | leaf => rfl
  | inner n d u l r =>
    cases r with
    | leaf => rfl
    | inner a b c d e => rfl
/-- rows below s but q are as they were, and of q all but whether it is single -/
def GQ (q s : Int) (m m' : Mem) (M : Int) : Prop := AG (fun a => 0 ≤ a ∧ a < s ∧ a ≠ q) (rv m M) (ev m M) (rv m' M) (ev m' M) ∧ (∀ f, 0 ≤ f → f < 8 → f ≠ 3 → rv m' M q f = rv m M q f) ∧ ∀ f, 0 ≤ f → f < 3 → ev m' M q f = ev m M q f
theorem GQ.trans {q s : Int} {m m1 m2 : Mem} {M : Int} (h : GQ q s m m1 M) (h' : GQ q s m1 m2 M) : GQ q s m m2 M := ⟨h.1.trans h'.1, fun f f0 f1 f3 => (h'.2.1 f f0 f1 f3).trans (h.2.1 f f0 f1 f3), fun f f0 f1 => (h'.2.2 f f0 f1).trans (h.2.2 f f0 f1)⟩
theorem GQ.of {q s b : Int} {m m1 : Mem} {M : Int} (h : AG (fun x => 0 ≤ x ∧ x < b) (rv m M) (ev m M) (rv m1 M) (ev m1 M)) (hb : s ≤ b) (hq : 0 ≤ q ∧ q < b) : GQ q s m m1 M := ⟨h.imp (fun a ha => ⟨ha.1, by have := ha.2.1; omega⟩), fun f f0 f1 _ => (h q hq).1 f f0 f1, fun f f0 f1 => (h q hq).2 f f0 f1⟩
theorem GQ.set {q s r f v : Int} {m m1 : Mem} {M : Int} (hr : ∀ x g, 0 ≤ g → g < 8 → rv m1 M x g = if x = r ∧ g = f then v else rv m M x g) (he : ev m1 M = ev m M) (h : s ≤ r ∨ (r = q ∧ f = 3)) (hq : q < s) : GQ q s m m1 M := by
  refine ⟨fun a ha => ⟨fun g g0 g1 => ?_, fun g _ _ => by rw [he]⟩, fun g g0 g1 g3 => ?_, fun g _ _ => by rw [he]⟩
  · rw [hr a g g0 g1, if_neg (by omega)]
  · rw [hr q g g0 g1, if_neg (by omega)]
/-- selectors in brackets, from a place on -/
def LSel (sg : Bool) (M tp e S C : Int) (t : Int → Int) (n : Nat) : Prop := ∀ (d op : Nat) (m : Mem) (i i0 k k0 s q K last : Int) (us os : List Int) (A : Fo) (z5 : PV), cat z5 = 1 → QT m M tp e i t (op + 1) S k us C K → k + 8 * (e - i) + 10 ≤ 19000 → (us.length : Int) + (e - i) ≤ 39000 → op < 16 → dpn op 6 ≤ d → (0 ≤ q ∧ q < s) → k ≤ k0 + 8 * (i - i0) → (os.length = 0 ∧ last = -1 ∨ 0 < os.length ∧ last = gi os (os.length - 1)) → gLI (rv m M) (ev m M) us false 1 s (s + 1) k os A →
  (∀ F j, sQ t e n 3 (op + 1) sg i = some (.inr (F, j)) → ∃ m' k' us' K' os', rn d 248 14 [pR M, pI q, pI s, pI (b2i sg), pI last, z5] [] m = some (.inl (some (pI 1)), m') ∧ QT m' M tp e j t op S k' us' C K' ∧ QP 0 m M S k us K m' k' us' K' ∧ k' ≤ k0 + 8 * (j - i0) - 14 ∧ (us'.length : Int) ≤ us.length + (j - i) ∧ gLI (rv m' M) (ev m' M) us' false 1 s (s + 1) k' os' (fapp A F) ∧ GQ q s m m' M ∧ (∀ f, 0 ≤ f → f < 8 → f ≠ 2 → rv m' M s f = rv m M s f) ∧ rv m' M q 3 = (if os.length = 0 ∧ on1 F = true then rv m M q 3 else 0)) ∧
  (∀ p, sQ t e n 3 (op + 1) sg i = some (.inl p) → ∃ m', rn d 248 14 [pR M, pI q, pI s, pI (b2i sg), pI last, z5] [] m = some (.inl (some (pI 0)), m') ∧ QE m M S k us C K m' p)
section
variable {M tp e S C : Int} {t : Int → Int}
theorem on1_app {S R : Fo} (h : 1 ≤ cntF S) (h' : 1 ≤ cntF R) : on1 (fapp S R) = false := by
  cases S with
  | leaf => cases h
  | inner n d u l r =>
    cases r with
    | leaf =>
      cases R with
      | leaf => cases h'
      | inner a b c d e => rfl
    | inner a b c d e => rfl
theorem c248_l {sg : Bool} : ∀ (n : Nat), (∀ q, q < n → T4 sg M tp e S C t q) → LSel sg M tp e S C t n := by
  intro n
  induction n with
  | zero =>
    intro H d op m i i0 k k0 s q K last us os A z5 hz5 h hk hu ho hd hqs hkr hlast hl
    exact ⟨fun F j z => (by cases z), fun p z => (by cases z)⟩
  | succ n ih =>
    intro H d op m i i0 k k0 s q K last us os A z5 hz5 h hk hu ho hd hqs hkr hlast hl
    have hd' := hd
    unfold dpn at hd
    have hr := h.rng
    have hkK := h.kK
    have hz := h.tz
    have hM := h.tM
    have rb := sB_rng t (e := e) (i := i) hr.2.1
    have e198 := c198 (d := d - 1) (by omega) hz h.2.1
    have h1 := h.sb
    obtain ⟨rva, eva, pa⟩ := h.rvat (j := sB t e i)
    have bs : (b2i sg = 0 ↔ sg = false) := by cases sg <;> decide
    have hsk : s + 1 ≤ k := hl.2.1.2.2
    unfold sQ
    rw [if_neg (by decide : ¬ (3 : Nat) = 0), if_neg (by decide : ¬ (3 : Nat) = 1), if_neg (by decide : ¬ (3 : Nat) = 2), if_pos (rfl : (3 : Nat) = 3)]
    have kk := H n (by omega) (d - 1) (op + 1) _ _ k us K h1 (by omega) (by omega) (by omega) (by unfold dpn; omega)
    have kk : RD false M tp e t (op + 1) S C (mst m M 12 (sB t e i)) (sB t e i) k us K (cl (d - 1) 250 [pR M, pI (b2i sg)] (mst m M 12 (sB t e i))) (sQ t e n 4 (op + 1) sg (sB t e i)) 7 := kk
    have st : ∀ Z, (bI (cl (d - 1) 250 [pR M, pI (b2i sg)] (mst m M 12 (sB t e i))) fun v2 m2 => if v2 < 0 then (some (.inl (some (pI 0)), m2)) else if last < 0 then (bV (cl (d - 1) 246 [pR M, pI s, pI 2, pI v2] m2) fun m4 => rn d 248 57 [pR M, pI q, pI s, pI (b2i sg), pI last, pI v2] [] m4) else bV (cl (d - 1) 246 [pR M, pI last, pI 1, pI v2] m2) fun m3 => rn d 248 57 [pR M, pI q, pI s, pI (b2i sg), pI last, pI v2] [] m3) = some Z → rn d 248 14 [pR M, pI q, pI s, pI (b2i sg), pI last, z5] [] m = some Z := by
      intro Z hZ
      refine q248_14 (by omega) hz hz5 _ ?_
      rw [gd_of hM, bV_eq e198]; exact hZ
    cases hE : sQ t e n 4 (op + 1) sg (sB t e i) with
    | none => exact ⟨fun F j z => (by cases z), fun p z => (by cases z)⟩
    | some yy =>
      rw [hE] at kk
      rcases yy with p | ⟨X, j⟩
      · obtain ⟨m7, e7, ce⟩ := kk.2 p rfl
        refine ⟨fun F j z => (by cases z), fun p' z => ?_⟩
        cases z
        exact ⟨m7, st _ (by rw [bI_eq e7, if_pos (by decide)]), ce.pre (pa 0) (Int.le_refl _) h.tw h1.tw⟩
      · obtain ⟨m7, k7, us7, K7, c2, dd, l, rfl, e7, h7, g7, w1, w2, w3, w4, w5⟩ := kk.1 X j rfl
        have hk7 := h7.kK
        have hr7 := h7.rng
        have hsel := (sQ_k4 rb.2 hE).1.1
        have hsel : 1 ≤ dd.1 ∧ dd.1 ≤ 5 := hsel
        have hrg := sQ_rng (t := t) n 4 (op + 1) sg (sB t e i) _ j rb.2 (fun z => by omega) hE
        have w5' := w5 (by omega)
        obtain ⟨vs, hvs⟩ := g7.2.2.1
        have ag7 := g7.2.1
        rw [rva, eva] at ag7
        have l7 : gLI (rv m7 M) (ev m7 M) us7 false 1 s (s + 1) k os A := by
          rw [hvs]
          exact hl.keep (ag7.imp (fun a ha => ⟨by have := ha.1; omega, ha.2⟩)) ((ag7 s ⟨by omega, by omega⟩).1 2 (by omega) (by omega)) (Int.le_refl _)
        have gq7 : GQ q s m m7 M := GQ.of ag7 (by omega) ⟨by omega, by omega⟩
        have s7 : ∀ f, 0 ≤ f → f < 8 → rv m7 M s f = rv m M s f := (ag7 s ⟨by omega, by omega⟩).1
        have q7 : ∀ f, 0 ≤ f → f < 8 → rv m7 M q f = rv m M q f := (ag7 q ⟨by omega, by omega⟩).1
        -- the row that the new one is linked from
        obtain ⟨y, fy, hy, hyr, hyf, hst⟩ : ∃ y fy : Int, ((os.length = 0 ∧ y = s ∧ fy = 2) ∨ (0 < os.length ∧ y = gi os (os.length - 1) ∧ fy = 1)) ∧ (s ≤ y ∧ y < k) ∧ (0 ≤ fy ∧ fy < 8) ∧ ∀ m8, cl (d - 1) 246 [pR M, pI y, pI fy, pI c2] m7 = some (.inl none, m8) → ∀ Z, rn d 248 57 [pR M, pI q, pI s, pI (b2i sg), pI last, pI c2] [] m8 = some Z → rn d 248 14 [pR M, pI q, pI s, pI (b2i sg), pI last, z5] [] m = some Z := by
          rcases hlast with ⟨a1, a2⟩ | ⟨a1, a2⟩
          · refine ⟨s, 2, Or.inl ⟨a1, rfl, rfl⟩, by omega, by omega, fun m8 e8 Z hZ => st Z ?_⟩
            rw [bI_eq e7, if_neg (by omega), if_pos (by omega), bV_eq e8]; exact hZ
          · have b := hl.2.2.2.1 (os.length - 1) (by omega) (by omega)
            refine ⟨gi os (os.length - 1), 1, Or.inr ⟨a1, rfl, rfl⟩, by omega, by omega, fun m8 e8 Z hZ => st Z ?_⟩
            rw [bI_eq e7, if_neg (by omega), if_neg (by omega), a2, bV_eq e8]
            rw [a2] at hZ; exact hZ
        obtain ⟨h8, p8, r8, l8⟩ := h7.set (r := y) (f := fy) (v := c2) (by omega) hyf
        have e8 := c246 (d := d - 1) (r := y) (f := fy) (v := c2) h7 (by omega) hyf
        have lst := l7.add (c := c2) (hi' := k7) w3 w4 ⟨by omega, by rw [if_neg w5'.1]⟩ w5'.2 hy r8 l8
        have c8 : rv (mst m7 (vl m7 M 27) (8 * y + fy) c2) M c2 0 = dd.1 := by
          rw [r8 c2 0 (by omega) (by omega), if_neg (by omega)]
          have b := w4.2.1
          have hu0 : unw (rv m7 M) false dd.1 c2 = c2 := by unfold unw; rw [if_neg (fun z => by cases z.1)]
          rw [hu0] at b
          exact b.1
        have gq8 : GQ q s m (mst m7 (vl m7 M 27) (8 * y + fy) c2) M := gq7.trans (GQ.set r8 l8 (Or.inl hyr.1) hqs.2)
        have s8 : ∀ f, 0 ≤ f → f < 8 → f ≠ 2 → rv (mst m7 (vl m7 M 27) (8 * y + fy) c2) M s f = rv m M s f := fun f f0 f1 f2 => by
          rw [r8 s f f0 f1, if_neg (fun z => by
            rcases hy with ⟨q1, q2, q3⟩ | ⟨q1, q2, q3⟩
            · exact f2 (z.2.trans q3)
            · have b := (hl.2.2.2.1 (os.length - 1) (by omega) (by omega)).1
              omega)]
          exact s7 f f0 f1
        have q8 : rv (mst m7 (vl m7 M 27) (8 * y + fy) c2) M q 3 = rv m M q 3 := by rw [r8 q 3 (by omega) (by omega), if_neg (by omega)]; exact q7 3 (by omega) (by omega)
        have g8 : QP 0 m M S k us K (mst m7 (vl m7 M 27) (8 * y + fy) c2) k7 us7 K7 := ((pa 0).trans (g7.mono (b' := 0) (by omega)) (Int.le_refl _) h.tw h1.tw).trans (p8 0 (by omega)) (Int.le_refl _) h.tw h7.tw
        have st8 := hst _ e8
        generalize hm8 : mst m7 (vl m7 M 27) (8 * y + fy) c2 = m8 at *
        -- whether it stays single
        obtain ⟨m9, h9, g9, l9, gq9, s9, q9, st9⟩ : ∃ m9, QT m9 M tp e j t (op + 1) S k7 us7 C K7 ∧ QP 0 m M S k us K m9 k7 us7 K7 ∧ gLI (rv m9 M) (ev m9 M) us7 false 1 s (s + 1) k7 (os ++ [c2]) (fapp A (foC dd l foN)) ∧ GQ q s m m9 M ∧ (∀ f, 0 ≤ f → f < 8 → f ≠ 2 → rv m9 M s f = rv m M s f) ∧ rv m9 M q 3 = (if os.length = 0 ∧ on1 (foC dd l foN) = true then rv m M q 3 else 0) ∧ ∀ Z, rn d 248 91 [pR M, pI q, pI s, pI (b2i sg), pI last, pI c2] [] m9 = some Z → rn d 248 14 [pR M, pI q, pI s, pI (b2i sg), pI last, z5] [] m = some Z := by
          have e251 := c251 (d := d - 1) (r := c2) (f := 0) h8 (by omega) (by omega)
          rw [c8] at e251
          have set0 : (∀ Z, (bV (cl (d - 1) 246 [pR M, pI q, pI 3, pI 0] m8) fun m1 => rn d 248 91 [pR M, pI q, pI s, pI (b2i sg), pI last, pI c2] [] m1) = some Z → rn d 248 57 [pR M, pI q, pI s, pI (b2i sg), pI last, pI c2] [] m8 = some Z) → ¬ (os.length = 0 ∧ on1 (foC dd l foN) = true) → ∃ m9, QT m9 M tp e j t (op + 1) S k7 us7 C K7 ∧ QP 0 m M S k us K m9 k7 us7 K7 ∧ gLI (rv m9 M) (ev m9 M) us7 false 1 s (s + 1) k7 (os ++ [c2]) (fapp A (foC dd l foN)) ∧ GQ q s m m9 M ∧ (∀ f, 0 ≤ f → f < 8 → f ≠ 2 → rv m9 M s f = rv m M s f) ∧ rv m9 M q 3 = (if os.length = 0 ∧ on1 (foC dd l foN) = true then rv m M q 3 else 0) ∧ ∀ Z, rn d 248 91 [pR M, pI q, pI s, pI (b2i sg), pI last, pI c2] [] m9 = some Z → rn d 248 14 [pR M, pI q, pI s, pI (b2i sg), pI last, z5] [] m = some Z := by
            intro hs hn
            obtain ⟨h9, p9, r9, l9⟩ := h8.set (r := q) (f := 3) (v := 0) (by omega) (by omega)
            have e9 := c246 (d := d - 1) (r := q) (f := 3) (v := 0) h8 (by omega) (by omega)
            have ag9 : AG (fun a => s + 1 ≤ a ∧ a < k7) (rv m8 M) (ev m8 M) (rv (mst m8 (vl m8 M 27) (8 * q + 3) 0) M) (ev (mst m8 (vl m8 M 27) (8 * q + 3) 0) M) := fun a ha => ⟨fun f f0 f1 => by rw [r9 a f f0 f1, if_neg (by omega)], fun f _ _ => by rw [l9]⟩
            have lk := lst.keep (vs := []) ag9 (by rw [r9 s 2 (by omega) (by omega), if_neg (by omega)]) (Int.le_refl _)
            rw [List.append_nil] at lk
            refine ⟨_, h9, g8.trans (p9 0 (by omega)) (Int.le_refl _) h.tw h8.tw, lk, gq8.trans (GQ.set r9 l9 (Or.inr ⟨rfl, rfl⟩) hqs.2), fun f f0 f1 f2 => by rw [r9 s f f0 f1, if_neg (by omega)]; exact s8 f f0 f1 f2, by rw [r9 q 3 (by omega) (by omega), if_pos ⟨rfl, rfl⟩, if_neg hn], fun Z hZ => st8 Z (hs Z (by rw [bV_eq e9]; exact hZ))⟩
          rcases hlast with ⟨a1, a2⟩ | ⟨a1, a2⟩
          · by_cases d1 : dd.1 = 1 ∨ dd.1 = 3
            · have ho1 : on1 (foC dd l foN) = true := by
                show (dd.1 == 1 || dd.1 == 3) = true
                rcases d1 with z | z <;> rw [z] <;> rfl
              refine ⟨m8, h8, g8, lst, gq8, s8, by rw [if_pos ⟨a1, ho1⟩]; exact q8, fun Z hZ => st8 Z (q248_57 (by omega) h8.tz _ ?_)⟩
              rw [if_pos (by omega), gd_of h8.tM, bI_eq e251]
              by_cases z : (dd.1 : Int) = 1
              · rw [if_pos z]; exact hZ
              · rw [if_neg z, bI_eq e251, if_pos (by omega)]; exact hZ
            · have ho1 : ¬ (os.length = 0 ∧ on1 (foC dd l foN) = true) := fun z => by
                have z2 : (dd.1 == 1 || dd.1 == 3) = true := z.2
                simp at z2
                exact d1 z2
              refine set0 (fun Z hZ => q248_57 (by omega) h8.tz _ ?_) ho1
              rw [if_pos (by omega), gd_of h8.tM, bI_eq e251, if_neg (by omega), bI_eq e251, if_neg (by omega)]
              exact hZ
          · have b := hl.2.2.2.1 (os.length - 1) (by omega) (by omega)
            refine set0 (fun Z hZ => q248_57 (by omega) h8.tz _ ?_) (fun z => by omega)
            rw [if_neg (by omega), gd_of h8.tM]
            exact hZ
        have e198b := c198 (d := d - 1) (by omega) h9.tz h9.2.1
        have h10 := h9.sb
        have r10 := sB_rng t (e := e) (i := j) hr7.2.1
        have e19910 := c199 (d := d - 1) h10.tz h10.2.1
        have e20210 := c202 (d := d - 1) (p := sB t e j) h10.tz h10.tM h10.v14
        obtain ⟨rvb, evb, pb⟩ := h9.rvat (j := sB t e j)
        show (∀ F j', (if pk t e (sB t e j) = 93 then some (.inr (foC dd l foN, sB t e j + 1)) else if sg = false ∧ pk t e (sB t e j) = 44 then bnd (sQ t e n 3 (op + 1) sg (sB t e j + 1)) fun R k => some (.inr (fapp (foC dd l foN) R, k)) else qE (sB t e j)) = some (.inr (F, j')) → _) ∧ (∀ p, (if pk t e (sB t e j) = 93 then some (.inr (foC dd l foN, sB t e j + 1)) else if sg = false ∧ pk t e (sB t e j) = 44 then bnd (sQ t e n 3 (op + 1) sg (sB t e j + 1)) fun R k => some (.inr (fapp (foC dd l foN) R, k)) else qE (sB t e j)) = some (.inl p) → _)
        by_cases q93 : pk t e (sB t e j) = 93
        · rw [if_pos q93]
          have hlt : sB t e j < e := pkf_lt (t := t) (by omega)
          have e255 := c255_1 (d := d - 1) (by omega) h10 q93 (by decide) (by omega)
          rw [mst_mst] at e255
          have h11 := h9.at (j := sB t e j + 1) (by omega) (by omega)
          have h12 := h11.opn (op' := op) (v := (op : Int)) rfl
          obtain ⟨rvc, evc, pc⟩ := h9.rvat (j := sB t e j + 1)
          obtain ⟨rvd, evd, pd⟩ := h11.rv31 (j := (op : Int))
          refine ⟨fun F j' z => ?_, fun p z => (by cases z)⟩
          cases z
          refine ⟨_, k7, us7, K7, os ++ [c2], st9 _ (q248_91 (by omega) h9.tz _ ?_), h12, (g9.trans (pc 0) (Int.le_refl _) h.tw h9.tw).trans (pd 0) (Int.le_refl _) h.tw h11.tw, by omega, by omega, by rw [rvd, evd, rvc, evc]; exact l9, ?_, fun f f0 f1 f2 => by rw [rvd, rvc]; exact s9 f f0 f1 f2, by rw [rvd, rvc]; exact q9⟩
          · rw [gd_of h9.tM, bV_eq e198b, bI_eq e19910, if_pos q93, bI_eq e255, gd_of (Or.inr rfl)]
          · unfold GQ; rw [rvd, evd, rvc, evc]; exact gq9
        · rw [if_neg q93]
          by_cases q44 : sg = false ∧ pk t e (sB t e j) = 44
          · rw [if_pos q44]
            have hlt : sB t e j < e := pkf_lt (t := t) (by omega)
            have h11 := h9.at (j := sB t e j + 1) (by omega) (by omega)
            obtain ⟨rvc, evc, pc⟩ := h9.rvat (j := sB t e j + 1)
            have key := ih (fun q hq => H q (by omega)) d op _ _ i0 k7 k0 s q K7 c2 us7 (os ++ [c2]) (fapp A (foC dd l foN)) (pI c2) (by rfl) h11 (by omega) (by omega) ho hd' hqs (by omega) (Or.inr ⟨by rw [List.length_append]; exact Nat.succ_pos _, by rw [List.length_append, List.length_singleton, show ((os.length + 1 : Nat) : Int) - 1 = os.length by push_cast; omega, gi_app_r (by omega), show (os.length : Int) - os.length = 0 by omega, gi_zero]⟩) (by rw [rvc, evc]; exact l9)
            have st10 : ∀ Z, rn d 248 14 [pR M, pI q, pI s, pI (b2i sg), pI c2, pI c2] [] (mst m9 M 12 (sB t e j + 1)) = some Z → rn d 248 14 [pR M, pI q, pI s, pI (b2i sg), pI last, z5] [] m = some Z := by
              intro Z hZ
              refine st9 Z (q248_91 (by omega) h9.tz _ ?_)
              rw [gd_of h9.tM, bV_eq e198b, bI_eq e19910, if_neg q93, if_pos (bs.mpr q44.1), bI_eq e19910, if_pos q44.2, h10.v12, (w32_of (by omega) (by omega) : w32 (sB t e j + 1) = sB t e j + 1), mst_mst]
              exact hZ
            have g11 : QP 0 m M S k us K (mst m9 M 12 (sB t e j + 1)) k7 us7 K7 := g9.trans (pc 0) (Int.le_refl _) h.tw h9.tw
            have gq11 : GQ q s m (mst m9 M 12 (sB t e j + 1)) M := by unfold GQ; rw [rvc, evc]; exact gq9
            cases hE2 : sQ t e n 3 (op + 1) sg (sB t e j + 1) with
            | none => exact ⟨fun F j z => (by cases z), fun p z => (by cases z)⟩
            | some y3 =>
              rw [hE2] at key
              rcases y3 with p3 | ⟨R, k3⟩
              · obtain ⟨m12, e12, ce⟩ := key.2 p3 rfl
                refine ⟨fun F j z => (by cases z), fun p' z => ?_⟩
                cases z
                exact ⟨m12, st10 _ e12, ce.pre g11 (Int.le_refl _) h.tw h11.tw⟩
              · obtain ⟨m12, k12, us12, K12, os12, e12, f1, f2, f3, f4, f5, f6, f7, f8⟩ := key.1 R k3 rfl
                have nz : ¬ (os ++ [c2]).length = 0 := by rw [List.length_append, List.length_singleton]; omega
                have hR := (sQ_k3 (t := t) (e := e) n (op + 1) sg (sB t e j + 1) R k3 (by omega) hE2).2
                refine ⟨fun F jj z => ?_, fun p' z => (by cases z)⟩
                cases z
                rw [fapp_assoc] at f5
                refine ⟨m12, k12, us12, K12, os12, st10 _ e12, f1, g11.trans f2 (Int.le_refl _) h.tw h11.tw, f3, by omega, f5, gq11.trans f6, fun f f0 f1 f2 => by rw [f7 f f0 f1 f2, rvc]; exact s9 f f0 f1 f2, ?_⟩
                rw [f8, if_neg (fun z => nz z.1), if_neg (fun z => by rw [on1_app (S := foC dd l foN) (Nat.le_refl 1) hR] at z; cases z.2)]
          · rw [if_neg q44]
            refine ⟨fun F jj z => (by cases z), fun p z => ?_⟩
            cases z
            refine ⟨_, st9 _ (q248_91 (by omega) h9.tz _ ?_), (h10.bad0 (p := sB t e j) (by omega) (by omega)).pre (g9.trans (pb 0) (Int.le_refl _) h.tw h9.tw) (Int.le_refl _) h.tw h10.tw⟩
            rw [gd_of h9.tM, bV_eq e198b, bI_eq e19910, if_neg q93]
            by_cases z : b2i sg = 0
            · rw [if_pos z, bI_eq e19910, if_neg (fun y => q44 ⟨bs.mp z, y⟩), h10.v12, bI_eq e20210, gd_of (Or.inl rfl)]
            · rw [if_neg z, h10.v12, bI_eq e20210, gd_of (Or.inl rfl)]
end
