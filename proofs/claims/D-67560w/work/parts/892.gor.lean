/-! queries read by the twin: what is or-ed and and-ed, written by tools/gen_or.py -/
set_option maxRecDepth 100000
set_option maxHeartbeats 4000000
/-- one of several -/
abbrev I5 (M tp e S C : Int) (t : Int → Int) (n : Nat) : Prop := TH false M tp e S C t 12 4 13 (fun d m => cl d 253 [pR M] m) (fun op i => bnd (sQ t e n 6 op false i) fun B j => some (.inr (wrQ 6 B, j)))
abbrev I6 (M tp e S C : Int) (t : Int → Int) (n : Nat) : Prop := TH true M tp e S C t 10 5 12 (fun d m => cl d 254 [pR M] m) (fun op i => bnd (sQ t e n 7 op false i) fun B j => some (.inr (wrQ 7 B, j)))
theorem I5_of {M tp e S C : Int} {t : Int → Int} {n : Nat} (h : T6 M tp e S C t n) : I5 M tp e S C t n := by
  have e9 : (fun (op : Nat) (i : Int) => bnd (sQ t e n 6 op false i) fun B j => some (.inr (wrQ 6 B, j))) = fun op i => bnd (sQ t e n 6 op false i) fun L j => qN 31 0 [] L j := by
    funext op i
    congr 1
  unfold I5
  rw [e9]; exact h
theorem I6_of {M tp e S C : Int} {t : Int → Int} {n : Nat} (h : T7 M tp e S C t n) : I6 M tp e S C t n := by
  have e9 : (fun (op : Nat) (i : Int) => bnd (sQ t e n 7 op false i) fun B j => some (.inr (wrQ 7 B, j))) = fun op i => sQ t e n 7 op false i := by
    funext op i
    cases sQ t e n 7 op false i with
    | none => rfl
    | some yy =>
      rcases yy with p | ⟨X, j⟩
      · rfl
      · show (some (Sum.inr (wrQ 7 X, j)) : QR) = some (Sum.inr (X, j))
        rw [wrQ7]
  unfold I6
  rw [e9]; exact h
/-- tests that stand in a list are no queries -/
theorem sQ_k7 {t : Int → Int} {e : Int} {n op : Nat} {i j : Int} {F : Fo} (h : sQ t e n 7 op false i = some (.inr (F, j))) : ∃ d l, F = foC d l foN ∧ (d.1 = 30 ∨ d.1 = 32 ∨ d.1 = 33 ∨ d.1 = 34) := by
  cases n with
  | zero => cases h
  | succ n =>
    unfold sQ at h
    rw [if_neg (by decide : ¬ (7 : Nat) = 0), if_neg (by decide : ¬ (7 : Nat) = 1), if_neg (by decide : ¬ (7 : Nat) = 2), if_neg (by decide : ¬ (7 : Nat) = 3), if_neg (by decide : ¬ (7 : Nat) = 4), if_neg (by decide : ¬ (7 : Nat) = 5), if_neg (by decide : ¬ (7 : Nat) = 6), if_pos (rfl : (7 : Nat) = 7)] at h
    have q8 : ∀ {i j : Int} {F : Fo}, sQ t e n 8 op false i = some (.inr (F, j)) → ∃ d l, F = foC d l foN ∧ (d.1 = 30 ∨ d.1 = 32 ∨ d.1 = 33 ∨ d.1 = 34) := by
      intro i j F h
      cases n with
      | zero => cases h
      | succ n =>
        unfold sQ at h
        rw [if_neg (by decide : ¬ (8 : Nat) = 0), if_neg (by decide : ¬ (8 : Nat) = 1), if_neg (by decide : ¬ (8 : Nat) = 2), if_neg (by decide : ¬ (8 : Nat) = 3), if_neg (by decide : ¬ (8 : Nat) = 4), if_neg (by decide : ¬ (8 : Nat) = 5), if_neg (by decide : ¬ (8 : Nat) = 6), if_neg (by decide : ¬ (8 : Nat) = 7), if_pos (rfl : (8 : Nat) = 8)] at h
        by_cases z : ¬ op < 16
        · rw [if_pos z] at h; cases h
        rw [if_neg z] at h
        obtain ⟨G, k, -, h2⟩ := bnd_inr h
        by_cases z2 : pk t e (sB t e k) = 41
        · rw [if_pos z2] at h2
          obtain ⟨-, rfl⟩ := qN_inr h2
          exact ⟨_, _, rfl, Or.inl rfl⟩
        · rw [if_neg z2] at h2; cases h2
    have cm : ∀ {i j : Int} {L F : Fo}, (match sOp t e i with
        | .inl p => qE p
        | .inr (o, k) => bnd (sQ t e n 10 op false (sB t e k)) fun R q => qN 33 o [] (fapp L R) q) = some (.inr (F, j)) → ∃ d l, F = foC d l foN ∧ (d.1 = 30 ∨ d.1 = 32 ∨ d.1 = 33 ∨ d.1 = 34) := by
      intro i j L F h
      cases ho : sOp t e i with
      | inl p => rw [ho] at h; cases h
      | inr y =>
        obtain ⟨o, k⟩ := y
        rw [ho] at h
        obtain ⟨G, k2, -, h2⟩ := bnd_inr h
        obtain ⟨-, rfl⟩ := qN_inr h2
        exact ⟨_, _, rfl, Or.inr (Or.inr (Or.inl rfl))⟩
    by_cases z1 : pk t e i = 33
    · rw [if_pos z1] at h
      by_cases z2 : pk t e (sB t e (i + 1)) = 40
      · rw [if_pos z2] at h
        obtain ⟨G, k, -, h2⟩ := bnd_inr h
        obtain ⟨-, rfl⟩ := qN_inr h2
        exact ⟨_, _, rfl, Or.inr (Or.inl rfl)⟩
      rw [if_neg z2] at h
      by_cases z3 : qb (pk t e (sB t e (i + 1)))
      · rw [if_pos z3] at h
        obtain ⟨G, k, -, h2⟩ := bnd_inr h
        obtain ⟨-, rfl⟩ := qN_inr h2
        exact ⟨_, _, rfl, Or.inr (Or.inl rfl)⟩
      · rw [if_neg z3] at h; cases h
    rw [if_neg z1] at h
    by_cases z2 : pk t e i = 40
    · rw [if_pos z2] at h; exact q8 h
    rw [if_neg z2] at h
    by_cases z3 : qb (pk t e i)
    · rw [if_pos z3] at h
      obtain ⟨G, k, -, h2⟩ := bnd_inr h
      by_cases z4 : cmp (pk t e (sB t e k))
      · rw [if_pos z4] at h2
        by_cases z5 : sgF G = true
        · rw [if_pos z5] at h2; exact cm (L := foC (45, 0, [], []) (foC (20, rot (pk t e i), [], []) G foN) foN) h2
        · rw [if_neg z5] at h2; cases h2
      · rw [if_neg z4] at h2
        obtain ⟨-, rfl⟩ := qN_inr h2
        exact ⟨_, _, rfl, Or.inr (Or.inr (Or.inr rfl))⟩
    · rw [if_neg z3] at h
      obtain ⟨G, k, -, h2⟩ := bnd_inr h
      exact cm h2

/-- further ones come to the list of row r (mode 6) -/
def L6 (M tp e S C : Int) (t : Int → Int) (n : Nat) : Prop := ∀ (d op : Nat) (m0 m : Mem) (i i0 k r K K0 last : Int) (us us0 os : List Int) (A : Fo) (z3 z4 : PV), cat z3 = 1 → cat z4 = 1 → QT m M tp e i t op S k us C K → k + 8 * (e - i) + 10 ≤ 19000 → (us.length : Int) + (e - i) ≤ 39000 → op ≤ 16 → dpn op 13 ≤ d → 0 ≤ r → TW m0 S 0 us0 C → QP r m0 M S r us0 K0 m k us K → k ≤ r + 1 + 8 * (i - i0) → (us.length : Int) ≤ us0.length + (i - i0) → (os.length = 0 ∧ last = -1 ∨ 0 < os.length ∧ last = gi os (os.length - 1)) → gLI (rv m M) (ev m M) us true 1 r (r + 1) k os A → rv m M r 0 = 31 → rv m M r 1 = -1 →
  (∀ F j, sQ t e (n + 1) 6 op false i = some (.inr (F, j)) → ∃ m' k' us' K' os', rn d 253 9 [pR M, pI r, pI last, z3, z4] [] m = some (.inl (some (pI r)), m') ∧ QT m' M tp e j t op S k' us' C K' ∧ QP r m0 M S r us0 K0 m' k' us' K' ∧ k' ≤ r + 8 * (j - i0) - 4 ∧ (us'.length : Int) ≤ us0.length + (j - i0) ∧ gLI (rv m' M) (ev m' M) us' true 1 r (r + 1) k' os' (fapp A F) ∧ rv m' M r 0 = 31 ∧ rv m' M r 1 = -1) ∧
  (∀ p, sQ t e (n + 1) 6 op false i = some (.inl p) → ∃ m', rn d 253 9 [pR M, pI r, pI last, z3, z4] [] m = some (.inl (some (pI (-1))), m') ∧ QE m0 M S r us0 C K0 m' p)
section
variable {M tp e S C : Int} {t : Int → Int}
theorem c253_l : ∀ (n : Nat), (∀ q, q ≤ n → I6 M tp e S C t q) → L6 M tp e S C t n := by
  intro n
  induction n with
  | zero =>
    intro H d op m0 m i i0 k r K K0 last us us0 os A z3 z4 hz3 hz4 h hk hu ho hd hr0 hw0 g hkr hur hlast hl ht0 ht1
    rw [sev_eq (mo := 6) (im := 7) (an := 0) (sgn := 38) (Or.inr ⟨rfl, rfl, rfl, rfl⟩)]
    exact ⟨fun F j z => (by cases z), fun p z => (by cases z)⟩
  | succ n ih =>
    intro H d op m0 m i i0 k r K K0 last us us0 os A z3 z4 hz3 hz4 h hk hu ho hd hr0 hw0 g hkr hur hlast hl ht0 ht1
    have hd' := hd
    unfold dpn at hd
    have hr := h.rng
    have hkK := h.kK
    have hz := h.tz
    have hM := h.tM
    rw [sev_eq (mo := 6) (im := 7) (an := 0) (sgn := 38) (Or.inr ⟨rfl, rfl, rfl, rfl⟩)]
    have kk := H (n + 1) (Nat.le_refl _) (d - 1) op m i k us K h (by omega) (by omega) ho (by unfold dpn; omega)
    have kk : RD true M tp e t op S C m i k us K (cl (d - 1) 254 [pR M] m) (bnd (sQ t e (n + 1) 7 op false i) fun B j => some (.inr (wrQ 7 B, j))) 5 := kk
    have st : ∀ Z, (bI (cl (d - 1) 254 [pR M] m) fun v1 m1 => if v1 < 0 then (some (.inl (some (pI (-1))), m1)) else if last < 0 then (bV (cl (d - 1) 246 [pR M, pI r, pI 2, pI v1] m1) fun m3 => rn d 253 41 [pR M, pI r, pI last, pI v1, z4] [] m3) else bV (cl (d - 1) 246 [pR M, pI last, pI 1, pI v1] m1) fun m2 => rn d 253 41 [pR M, pI r, pI last, pI v1, z4] [] m2) = some Z → rn d 253 9 [pR M, pI r, pI last, z3, z4] [] m = some Z := by
      intro Z hZ
      refine q253_9 (by omega) hz hz3 hz4 _ ?_
      rw [gd_of hM]; exact hZ
    cases hE : sQ t e (n + 1) 7 op false i with
    | none => exact ⟨fun F j z => (by cases z), fun p z => (by cases z)⟩
    | some yy =>
      rw [hE] at kk
      rcases yy with p | ⟨B, j⟩
      · obtain ⟨m7, e7, ce⟩ := kk.2 p rfl
        refine ⟨fun F j z => (by cases z), fun p' z => ?_⟩
        cases z
        exact ⟨m7, st _ (by rw [bI_eq e7, if_pos (by decide)]), ce.pre g hr0 hw0 h.tw⟩
      · obtain ⟨m7, k7, us7, K7, c2, dd, l, hF, e7, h7, g7, w1, w2, w3, w4, w5⟩ := kk.1 _ j rfl
        have hk7 := h7.kK
        have hr7 := h7.rng
        have hrk : r + 1 ≤ k := hl.2.1.2.2
        have hrg := sQ_rng (t := t) (n + 1) 7 op false i _ j hr.2.1 (fun z => by omega) hE
        obtain ⟨vs, hvs⟩ := g7.2.2.1
        have l7 : gLI (rv m7 M) (ev m7 M) us7 true 1 r (r + 1) k os A := by
          rw [hvs]
          exact hl.keep (g7.2.1.imp (fun a ha => ⟨by have := ha.1; omega, ha.2⟩)) ((g7.2.1 r ⟨hr0, by omega⟩).1 2 (by omega) (by omega)) (Int.le_refl _)
        have t70 : rv m7 M r 0 = 31 := by rw [(g7.2.1 r ⟨hr0, by omega⟩).1 0 (by omega) (by omega)]; exact ht0
        have t71 : rv m7 M r 1 = -1 := by rw [(g7.2.1 r ⟨hr0, by omega⟩).1 1 (by omega) (by omega)]; exact ht1
        have hdd : dd.1 ≠ 20 := by
          intro z
          exact (by rw [wrQ7] at hF; obtain ⟨d1, l1, hd1, hd2⟩ := sQ_k7 hE; rw [hd1] at hF; cases hF; omega)
        have w5' := w5 hdd
        -- the row that the new one is linked from
        obtain ⟨y, fy, hy, hyr, hyf, hst⟩ : ∃ y fy : Int, ((os.length = 0 ∧ y = r ∧ fy = 2) ∨ (0 < os.length ∧ y = gi os (os.length - 1) ∧ fy = 1)) ∧ (r ≤ y ∧ y < k) ∧ (0 ≤ fy ∧ fy < 8) ∧ ∀ m8, cl (d - 1) 246 [pR M, pI y, pI fy, pI c2] m7 = some (.inl none, m8) → ∀ Z, rn d 253 41 [pR M, pI r, pI last, pI c2, z4] [] m8 = some Z → rn d 253 9 [pR M, pI r, pI last, z3, z4] [] m = some Z := by
          rcases hlast with ⟨a1, a2⟩ | ⟨a1, a2⟩
          · refine ⟨r, 2, Or.inl ⟨a1, rfl, rfl⟩, by omega, by omega, fun m8 e8 Z hZ => st Z ?_⟩
            rw [bI_eq e7, if_neg (by omega), if_pos (by omega), bV_eq e8]; exact hZ
          · have b := hl.2.2.2.1 (os.length - 1) (by omega) (by omega)
            refine ⟨gi os (os.length - 1), 1, Or.inr ⟨a1, rfl, rfl⟩, by omega, by omega, fun m8 e8 Z hZ => st Z ?_⟩
            rw [bI_eq e7, if_neg (by omega), if_neg (by omega), a2, bV_eq e8]
            rw [a2] at hZ; exact hZ
        obtain ⟨h8, p8, r8, l8⟩ := h7.set (r := y) (f := fy) (v := c2) (by omega) hyf
        have e8 := c246 (d := d - 1) (r := y) (f := fy) (v := c2) h7 (by omega) hyf
        have lst := l7.add (c := c2) (hi' := k7) w3 w4 ⟨hdd, by rw [if_neg w5'.1]⟩ w5'.2 hy r8 l8
        have hFw : foC dd l foN = wrQ 7 B := hF.symm
        rw [hFw] at lst
        have t80 : rv (mst m7 (vl m7 M 27) (8 * y + fy) c2) M r 0 = 31 := by
          rw [r8 r 0 (by omega) (by omega), if_neg (by rcases hy with ⟨q1, q2, q3⟩ | ⟨q1, q2, q3⟩ <;> omega)]; exact t70
        have t81 : rv (mst m7 (vl m7 M 27) (8 * y + fy) c2) M r 1 = -1 := by
          rw [r8 r 1 (by omega) (by omega), if_neg (by
            rcases hy with ⟨q1, q2, q3⟩ | ⟨q1, q2, q3⟩
            · omega
            · have b := (hl.2.2.2.1 (os.length - 1) (by omega) (by omega)).1
              omega)]
          exact t71
        have g8 : QP r m0 M S r us0 K0 (mst m7 (vl m7 M 27) (8 * y + fy) c2) k7 us7 K7 := (g.trans g7 (by omega) hw0 h.tw).trans (p8 r hyr.1) (Int.le_refl _) hw0 h7.tw
        have st8 := hst _ e8
        generalize hm8 : mst m7 (vl m7 M 27) (8 * y + fy) c2 = m8 at *
        have e198b := c198 (d := d - 1) (by omega) h8.tz h8.2.1
        have h9 := h8.sb
        have r9 := sB_rng t (e := e) (i := j) hr7.2.1
        have e1999 := c199 (d := d - 1) h9.tz h9.2.1
        obtain ⟨rvd, evd, pd⟩ := h8.rvat (j := sB t e j)
        show (∀ F j', bnd (E0 t e 6 38 (n + 1) op j) (fun R k => some (.inr (fapp (wrQ 7 B) R, k))) = some (.inr (F, j')) → _) ∧ (∀ p, bnd (E0 t e 6 38 (n + 1) op j) (fun R k => some (.inr (fapp (wrQ 7 B) R, k))) = some (.inl p) → _)
        unfold E0
        by_cases q1 : pk t e (sB t e j) = 38
        · rw [if_pos q1]
          have hlt7 : sB t e j < e := pkf_lt (t := t) (by omega)
          obtain ⟨s1, s2⟩ := c200 (d := d - 1) (by omega) h9.tz h9.2.1 h9.2.2.1.2.2.2.2.2.2.2
          by_cases q2 : pk t e (sB t e j + 1) = 38
          · rw [if_pos q2]
            have hlt8 : sB t e j + 1 < e := pkf_lt (t := t) (by omega)
            have hw : sW t e [38, 38] (sB t e j) = .inr (sB t e j + 2) := by
              unfold sW; rw [if_pos q1]; unfold sW; rw [if_pos q2]; unfold sW; rw [show sB t e j + 1 + 1 = sB t e j + 2 by omega]
            obtain ⟨b1, b2, b3, e200⟩ := s1 _ hw
            rw [mst_mst] at e200
            have h10 := h8.at (j := sB t e j + 2) (by omega) (by omega)
            have e198c := c198 (d := d - 1) (by omega) h10.tz h10.2.1
            have h11 := h10.sb
            rw [mst_mst] at e198c h11
            have r11 := sB_rng t (e := e) (i := sB t e j + 2) (by omega)
            obtain ⟨rve, eve, pe⟩ := h8.rvat (j := sB t e (sB t e j + 2))
            have key := ih (fun q hq => H q (by omega)) d op m0 _ _ i0 k7 r K7 K0 c2 us7 us0 (os ++ [c2]) (fapp A (wrQ 7 B)) (pI c2) (pI j) (by rfl) (by rfl) h11 (by omega) (by omega) ho hd' hr0 hw0 (g8.trans (pe r) (Int.le_refl _) hw0 h8.tw) (by omega) (by omega) (Or.inr ⟨by rw [List.length_append]; exact Nat.succ_pos _, by rw [List.length_append, List.length_singleton, show ((os.length + 1 : Nat) : Int) - 1 = os.length by push_cast; omega, gi_app_r (by omega), show (os.length : Int) - os.length = 0 by omega, gi_zero]⟩) (by rw [rve, eve]; exact lst) (by rw [rve]; exact t80) (by rw [rve]; exact t81)
            have st9 : ∀ Z, rn d 253 9 [pR M, pI r, pI c2, pI c2, pI j] [] (mst m8 M 12 (sB t e (sB t e j + 2))) = some Z → rn d 253 9 [pR M, pI r, pI last, z3, z4] [] m = some Z := by
              intro Z hZ
              refine st8 Z (q253_41 (by omega) h8.tz hz4 _ ?_)
              rw [gd_of h8.tM, nm_eq, h8.v12, bV_eq e198b, bI_eq e1999, if_pos q1, bI_eq e200, if_neg (by decide), bV_eq e198c]
              exact hZ
            cases hE2 : sQ t e (n + 1) 6 op false (sB t e (sB t e j + 2)) with
            | none => exact ⟨fun F j z => (by cases z), fun p z => (by cases z)⟩
            | some y3 =>
              rw [hE2] at key
              rcases y3 with p3 | ⟨R, k3⟩
              · obtain ⟨m9, e9, ce⟩ := key.2 p3 rfl
                refine ⟨fun F j z => (by cases z), fun p' z => ?_⟩
                cases z
                exact ⟨m9, st9 _ e9, ce⟩
              · obtain ⟨m9, k9, us9, K9, os9, e9, f1, f2, f3, f4, f5, f6, f7⟩ := key.1 R k3 rfl
                refine ⟨fun F jj z => ?_, fun p' z => (by cases z)⟩
                cases z
                rw [fapp_assoc] at f5
                exact ⟨m9, k9, us9, K9, os9, st9 _ e9, f1, f2, f3, f4, f5, f6, f7⟩
          · rw [if_neg q2]
            have hw : sW t e [38, 38] (sB t e j) = .inl (sB t e j + 1) := by
              unfold sW; rw [if_pos q1]; unfold sW; rw [if_neg q2]
            obtain ⟨j2, j0, j1, e200⟩ := s2 _ hw
            refine ⟨fun F j' z => (by cases z), fun p z => ?_⟩
            cases z
            refine ⟨_, st8 _ (q253_41 (by omega) h8.tz hz4 _ ?_), (h9.bad (j := j2) (p := sB t e j + 1) (by omega) (by omega)).pre (g8.trans (pd r) (Int.le_refl _) hw0 h8.tw) hr0 hw0 h9.tw⟩
            rw [gd_of h8.tM, nm_eq, h8.v12, bV_eq e198b, bI_eq e1999, if_pos q1, bI_eq e200, if_pos rfl]
        · rw [if_neg q1]
          refine ⟨fun F j' z => ?_, fun p z => (by cases z)⟩
          cases z
          refine ⟨m8, k7, us7, K7, os ++ [c2], st8 _ (q253_41 (by omega) h8.tz hz4 _ ?_), h8, g8, by omega, by omega, by rw [fapp_nil]; exact lst, t80, t81⟩
          rw [gd_of h8.tM, nm_eq, h8.v12, bV_eq e198b, bI_eq e1999, if_neg q1, mst_mst, mst_self h8.v12]
theorem c253 {n : Nat} (H : ∀ q, q ≤ n → I6 M tp e S C t q) : T6 M tp e S C t (n + 1) := by
  intro d op m i k us K h hk hu ho hd
  have hd' := hd
  unfold dpn at hd
  have hr := h.rng
  have hkK := h.kK
  obtain ⟨m1, K1, e1, h1, p1, r0, r1⟩ := c245 (d := d - 1) (kd := 31) h (by omega)
  have li : gLI (rv m1 M) (ev m1 M) us true 1 k (k + 1) (k + 1) [] foN := ⟨Or.inl rfl, by omega, rfl, fun j j0 j1 => absurd j1 (by simp; omega), fun i j i0 ij j1 => absurd j1 (by simp; omega), fun j j0 j1 => absurd j1 (by simp; omega), fun hl => absurd hl (by simp), fun _ => r1 2 (by omega) (by omega), trivial⟩
  have key := c253_l n H d op m m1 i i (k + 1) k K1 K (-1) us us [] foN pU pU (by rfl) (by rfl) h1 (by omega) (by omega) ho hd' hkK.1 h.tw p1 (by omega) (by omega) (Or.inl ⟨rfl, rfl⟩) li r0 (r1 1 (by omega) (by omega))
  have st : ∀ Z, rn d 253 9 [pR M, pI k, pI (-1), pU, pU] [] m1 = some Z → cl d 253 [pR M] m = some Z := by
    intro Z hZ
    refine q253 (by omega) h.tz _ ?_
    rw [gd_of h.tM, bI_eq e1]; exact hZ
  show RD false M tp e t op S C m i k us K (cl d 253 [pR M] m) (bnd (sQ t e (n + 1) 6 op false i) fun L j => qN 31 0 [] L j) 4
  cases hE : sQ t e (n + 1) 6 op false i with
  | none => exact RD.no
  | some yy =>
    rw [hE] at key
    rcases yy with p | ⟨L, j⟩
    · obtain ⟨m9, e9, ce⟩ := key.2 p rfl
      exact RD.inl (st _ e9) ce
    · obtain ⟨m9, k9, us9, K9, os9, e9, f1, f2, f3, f4, f5, f6, f7⟩ := key.1 L j rfl
      have hap : fapp foN L = L := rfl
      rw [hap] at f5
      have hkk : k + 1 ≤ k9 := f5.2.1.2.2
      refine RD.inr (st _ e9) f1 f2 f3 (by omega) ⟨Int.le_refl _, by omega⟩ ⟨fun z => (by cases z.1), ?_, ?_⟩ (fun _ => ⟨by decide, f7⟩)
      · have hu0 : unw (rv m9 M) false 31 k = k := by unfold unw; rw [if_neg (fun z => by cases z.1)]
        show gB (rv m9 M) (ev m9 M) us9 (unw (rv m9 M) false 31 k) (31, 0, [], []) L
        rw [hu0]
        exact ⟨f6, fun z => absurd (show (31 : Nat) = 1 ∨ (31 : Nat) = 41 from z) (by omega), fun z => absurd (show (31 : Nat) = 3 ∨ (31 : Nat) = 40 from z) (by omega), fun z => absurd (show (31 : Nat) = 4 from z) (by omega), fun z => absurd (show (31 : Nat) = 20 from z) (by omega), fun z => absurd (show (31 : Nat) = 21 from z) (by omega), fun _ => f5.row.2, fun z => absurd (show (31 : Nat) = 33 from z) (by omega)⟩
      · have hu0 : unw (rv m9 M) false 31 k = k := by unfold unw; rw [if_neg (fun z => by cases z.1)]
        show gF (rv m9 M) (ev m9 M) us9 ((31 : Nat) == 31) _ (gK (rv m9 M) (unw (rv m9 M) false 31 k) 31) L
        rw [hu0, gK_c (by omega)]
        exact f5.fin (fun a h1 h2 => ⟨by omega, h2, by omega⟩)
end

/-- further ones come to the list of row r (mode 5) -/
def L5 (M tp e S C : Int) (t : Int → Int) (n : Nat) : Prop := ∀ (d op : Nat) (m0 m : Mem) (i i0 k r K K0 last : Int) (us us0 os : List Int) (A : Fo) (z3 z4 : PV), cat z3 = 1 → cat z4 = 1 → QT m M tp e i t op S k us C K → k + 8 * (e - i) + 12 ≤ 19000 → (us.length : Int) + (e - i) ≤ 39000 → op ≤ 16 → dpn op 14 ≤ d → 0 ≤ r → TW m0 S 0 us0 C → QP r m0 M S r us0 K0 m k us K → k ≤ r + 1 + 8 * (i - i0) → (us.length : Int) ≤ us0.length + (i - i0) → (os.length = 0 ∧ last = -1 ∨ 0 < os.length ∧ last = gi os (os.length - 1)) → gLI (rv m M) (ev m M) us false 1 r (r + 1) k os A → rv m M r 0 = 30 → rv m M r 1 = -1 →
  (∀ F j, sQ t e (n + 1) 5 op false i = some (.inr (F, j)) → ∃ m' k' us' K' os', rn d 252 9 [pR M, pI r, pI last, z3, z4] [] m = some (.inl (some (pI r)), m') ∧ QT m' M tp e j t op S k' us' C K' ∧ QP r m0 M S r us0 K0 m' k' us' K' ∧ k' ≤ r + 8 * (j - i0) - 3 ∧ (us'.length : Int) ≤ us0.length + (j - i0) ∧ gLI (rv m' M) (ev m' M) us' false 1 r (r + 1) k' os' (fapp A F) ∧ rv m' M r 0 = 30 ∧ rv m' M r 1 = -1) ∧
  (∀ p, sQ t e (n + 1) 5 op false i = some (.inl p) → ∃ m', rn d 252 9 [pR M, pI r, pI last, z3, z4] [] m = some (.inl (some (pI (-1))), m') ∧ QE m0 M S r us0 C K0 m' p)
section
variable {M tp e S C : Int} {t : Int → Int}
theorem c252_l : ∀ (n : Nat), (∀ q, q ≤ n → I5 M tp e S C t q) → L5 M tp e S C t n := by
  intro n
  induction n with
  | zero =>
    intro H d op m0 m i i0 k r K K0 last us us0 os A z3 z4 hz3 hz4 h hk hu ho hd hr0 hw0 g hkr hur hlast hl ht0 ht1
    rw [sev_eq (mo := 5) (im := 6) (an := 1) (sgn := 124) (Or.inl ⟨rfl, rfl, rfl, rfl⟩)]
    exact ⟨fun F j z => (by cases z), fun p z => (by cases z)⟩
  | succ n ih =>
    intro H d op m0 m i i0 k r K K0 last us us0 os A z3 z4 hz3 hz4 h hk hu ho hd hr0 hw0 g hkr hur hlast hl ht0 ht1
    have hd' := hd
    unfold dpn at hd
    have hr := h.rng
    have hkK := h.kK
    have hz := h.tz
    have hM := h.tM
    rw [sev_eq (mo := 5) (im := 6) (an := 1) (sgn := 124) (Or.inl ⟨rfl, rfl, rfl, rfl⟩)]
    have kk := H (n + 1) (Nat.le_refl _) (d - 1) op m i k us K h (by omega) (by omega) ho (by unfold dpn; omega)
    have kk : RD false M tp e t op S C m i k us K (cl (d - 1) 253 [pR M] m) (bnd (sQ t e (n + 1) 6 op false i) fun B j => some (.inr (wrQ 6 B, j))) 4 := kk
    have st : ∀ Z, (bI (cl (d - 1) 253 [pR M] m) fun v1 m1 => if v1 < 0 then (some (.inl (some (pI (-1))), m1)) else if last < 0 then (bV (cl (d - 1) 246 [pR M, pI r, pI 2, pI v1] m1) fun m3 => rn d 252 41 [pR M, pI r, pI last, pI v1, z4] [] m3) else bV (cl (d - 1) 246 [pR M, pI last, pI 1, pI v1] m1) fun m2 => rn d 252 41 [pR M, pI r, pI last, pI v1, z4] [] m2) = some Z → rn d 252 9 [pR M, pI r, pI last, z3, z4] [] m = some Z := by
      intro Z hZ
      refine q252_9 (by omega) hz hz3 hz4 _ ?_
      rw [gd_of hM]; exact hZ
    cases hE : sQ t e (n + 1) 6 op false i with
    | none => exact ⟨fun F j z => (by cases z), fun p z => (by cases z)⟩
    | some yy =>
      rw [hE] at kk
      rcases yy with p | ⟨B, j⟩
      · obtain ⟨m7, e7, ce⟩ := kk.2 p rfl
        refine ⟨fun F j z => (by cases z), fun p' z => ?_⟩
        cases z
        exact ⟨m7, st _ (by rw [bI_eq e7, if_pos (by decide)]), ce.pre g hr0 hw0 h.tw⟩
      · obtain ⟨m7, k7, us7, K7, c2, dd, l, hF, e7, h7, g7, w1, w2, w3, w4, w5⟩ := kk.1 _ j rfl
        have hk7 := h7.kK
        have hr7 := h7.rng
        have hrk : r + 1 ≤ k := hl.2.1.2.2
        have hrg := sQ_rng (t := t) (n + 1) 6 op false i _ j hr.2.1 (fun z => by omega) hE
        obtain ⟨vs, hvs⟩ := g7.2.2.1
        have l7 : gLI (rv m7 M) (ev m7 M) us7 false 1 r (r + 1) k os A := by
          rw [hvs]
          exact hl.keep (g7.2.1.imp (fun a ha => ⟨by have := ha.1; omega, ha.2⟩)) ((g7.2.1 r ⟨hr0, by omega⟩).1 2 (by omega) (by omega)) (Int.le_refl _)
        have t70 : rv m7 M r 0 = 30 := by rw [(g7.2.1 r ⟨hr0, by omega⟩).1 0 (by omega) (by omega)]; exact ht0
        have t71 : rv m7 M r 1 = -1 := by rw [(g7.2.1 r ⟨hr0, by omega⟩).1 1 (by omega) (by omega)]; exact ht1
        have hdd : dd.1 ≠ 20 := by
          intro z
          exact (by rw [wrQ6] at hF; cases hF; cases z)
        have w5' := w5 hdd
        -- the row that the new one is linked from
        obtain ⟨y, fy, hy, hyr, hyf, hst⟩ : ∃ y fy : Int, ((os.length = 0 ∧ y = r ∧ fy = 2) ∨ (0 < os.length ∧ y = gi os (os.length - 1) ∧ fy = 1)) ∧ (r ≤ y ∧ y < k) ∧ (0 ≤ fy ∧ fy < 8) ∧ ∀ m8, cl (d - 1) 246 [pR M, pI y, pI fy, pI c2] m7 = some (.inl none, m8) → ∀ Z, rn d 252 41 [pR M, pI r, pI last, pI c2, z4] [] m8 = some Z → rn d 252 9 [pR M, pI r, pI last, z3, z4] [] m = some Z := by
          rcases hlast with ⟨a1, a2⟩ | ⟨a1, a2⟩
          · refine ⟨r, 2, Or.inl ⟨a1, rfl, rfl⟩, by omega, by omega, fun m8 e8 Z hZ => st Z ?_⟩
            rw [bI_eq e7, if_neg (by omega), if_pos (by omega), bV_eq e8]; exact hZ
          · have b := hl.2.2.2.1 (os.length - 1) (by omega) (by omega)
            refine ⟨gi os (os.length - 1), 1, Or.inr ⟨a1, rfl, rfl⟩, by omega, by omega, fun m8 e8 Z hZ => st Z ?_⟩
            rw [bI_eq e7, if_neg (by omega), if_neg (by omega), a2, bV_eq e8]
            rw [a2] at hZ; exact hZ
        obtain ⟨h8, p8, r8, l8⟩ := h7.set (r := y) (f := fy) (v := c2) (by omega) hyf
        have e8 := c246 (d := d - 1) (r := y) (f := fy) (v := c2) h7 (by omega) hyf
        have lst := l7.add (c := c2) (hi' := k7) w3 w4 ⟨hdd, by rw [if_neg w5'.1]⟩ w5'.2 hy r8 l8
        have hFw : foC dd l foN = wrQ 6 B := hF.symm
        rw [hFw] at lst
        have t80 : rv (mst m7 (vl m7 M 27) (8 * y + fy) c2) M r 0 = 30 := by
          rw [r8 r 0 (by omega) (by omega), if_neg (by rcases hy with ⟨q1, q2, q3⟩ | ⟨q1, q2, q3⟩ <;> omega)]; exact t70
        have t81 : rv (mst m7 (vl m7 M 27) (8 * y + fy) c2) M r 1 = -1 := by
          rw [r8 r 1 (by omega) (by omega), if_neg (by
            rcases hy with ⟨q1, q2, q3⟩ | ⟨q1, q2, q3⟩
            · omega
            · have b := (hl.2.2.2.1 (os.length - 1) (by omega) (by omega)).1
              omega)]
          exact t71
        have g8 : QP r m0 M S r us0 K0 (mst m7 (vl m7 M 27) (8 * y + fy) c2) k7 us7 K7 := (g.trans g7 (by omega) hw0 h.tw).trans (p8 r hyr.1) (Int.le_refl _) hw0 h7.tw
        have st8 := hst _ e8
        generalize hm8 : mst m7 (vl m7 M 27) (8 * y + fy) c2 = m8 at *
        have e198b := c198 (d := d - 1) (by omega) h8.tz h8.2.1
        have h9 := h8.sb
        have r9 := sB_rng t (e := e) (i := j) hr7.2.1
        have e1999 := c199 (d := d - 1) h9.tz h9.2.1
        obtain ⟨rvd, evd, pd⟩ := h8.rvat (j := sB t e j)
        show (∀ F j', bnd (E0 t e 5 124 (n + 1) op j) (fun R k => some (.inr (fapp (wrQ 6 B) R, k))) = some (.inr (F, j')) → _) ∧ (∀ p, bnd (E0 t e 5 124 (n + 1) op j) (fun R k => some (.inr (fapp (wrQ 6 B) R, k))) = some (.inl p) → _)
        unfold E0
        by_cases q1 : pk t e (sB t e j) = 124
        · rw [if_pos q1]
          have hlt7 : sB t e j < e := pkf_lt (t := t) (by omega)
          obtain ⟨s1, s2⟩ := c200 (d := d - 1) (by omega) h9.tz h9.2.1 h9.2.2.1.2.2.2.2.2.2.1
          by_cases q2 : pk t e (sB t e j + 1) = 124
          · rw [if_pos q2]
            have hlt8 : sB t e j + 1 < e := pkf_lt (t := t) (by omega)
            have hw : sW t e [124, 124] (sB t e j) = .inr (sB t e j + 2) := by
              unfold sW; rw [if_pos q1]; unfold sW; rw [if_pos q2]; unfold sW; rw [show sB t e j + 1 + 1 = sB t e j + 2 by omega]
            obtain ⟨b1, b2, b3, e200⟩ := s1 _ hw
            rw [mst_mst] at e200
            have h10 := h8.at (j := sB t e j + 2) (by omega) (by omega)
            have e198c := c198 (d := d - 1) (by omega) h10.tz h10.2.1
            have h11 := h10.sb
            rw [mst_mst] at e198c h11
            have r11 := sB_rng t (e := e) (i := sB t e j + 2) (by omega)
            obtain ⟨rve, eve, pe⟩ := h8.rvat (j := sB t e (sB t e j + 2))
            have key := ih (fun q hq => H q (by omega)) d op m0 _ _ i0 k7 r K7 K0 c2 us7 us0 (os ++ [c2]) (fapp A (wrQ 6 B)) (pI c2) (pI j) (by rfl) (by rfl) h11 (by omega) (by omega) ho hd' hr0 hw0 (g8.trans (pe r) (Int.le_refl _) hw0 h8.tw) (by omega) (by omega) (Or.inr ⟨by rw [List.length_append]; exact Nat.succ_pos _, by rw [List.length_append, List.length_singleton, show ((os.length + 1 : Nat) : Int) - 1 = os.length by push_cast; omega, gi_app_r (by omega), show (os.length : Int) - os.length = 0 by omega, gi_zero]⟩) (by rw [rve, eve]; exact lst) (by rw [rve]; exact t80) (by rw [rve]; exact t81)
            have st9 : ∀ Z, rn d 252 9 [pR M, pI r, pI c2, pI c2, pI j] [] (mst m8 M 12 (sB t e (sB t e j + 2))) = some Z → rn d 252 9 [pR M, pI r, pI last, z3, z4] [] m = some Z := by
              intro Z hZ
              refine st8 Z (q252_41 (by omega) h8.tz hz4 _ ?_)
              rw [gd_of h8.tM, nm_eq, h8.v12, bV_eq e198b, bI_eq e1999, if_pos q1, bI_eq e200, if_neg (by decide), bV_eq e198c]
              exact hZ
            cases hE2 : sQ t e (n + 1) 5 op false (sB t e (sB t e j + 2)) with
            | none => exact ⟨fun F j z => (by cases z), fun p z => (by cases z)⟩
            | some y3 =>
              rw [hE2] at key
              rcases y3 with p3 | ⟨R, k3⟩
              · obtain ⟨m9, e9, ce⟩ := key.2 p3 rfl
                refine ⟨fun F j z => (by cases z), fun p' z => ?_⟩
                cases z
                exact ⟨m9, st9 _ e9, ce⟩
              · obtain ⟨m9, k9, us9, K9, os9, e9, f1, f2, f3, f4, f5, f6, f7⟩ := key.1 R k3 rfl
                refine ⟨fun F jj z => ?_, fun p' z => (by cases z)⟩
                cases z
                rw [fapp_assoc] at f5
                exact ⟨m9, k9, us9, K9, os9, st9 _ e9, f1, f2, f3, f4, f5, f6, f7⟩
          · rw [if_neg q2]
            have hw : sW t e [124, 124] (sB t e j) = .inl (sB t e j + 1) := by
              unfold sW; rw [if_pos q1]; unfold sW; rw [if_neg q2]
            obtain ⟨j2, j0, j1, e200⟩ := s2 _ hw
            refine ⟨fun F j' z => (by cases z), fun p z => ?_⟩
            cases z
            refine ⟨_, st8 _ (q252_41 (by omega) h8.tz hz4 _ ?_), (h9.bad (j := j2) (p := sB t e j + 1) (by omega) (by omega)).pre (g8.trans (pd r) (Int.le_refl _) hw0 h8.tw) hr0 hw0 h9.tw⟩
            rw [gd_of h8.tM, nm_eq, h8.v12, bV_eq e198b, bI_eq e1999, if_pos q1, bI_eq e200, if_pos rfl]
        · rw [if_neg q1]
          refine ⟨fun F j' z => ?_, fun p z => (by cases z)⟩
          cases z
          refine ⟨m8, k7, us7, K7, os ++ [c2], st8 _ (q252_41 (by omega) h8.tz hz4 _ ?_), h8, g8, by omega, by omega, by rw [fapp_nil]; exact lst, t80, t81⟩
          rw [gd_of h8.tM, nm_eq, h8.v12, bV_eq e198b, bI_eq e1999, if_neg q1, mst_mst, mst_self h8.v12]
theorem c252 {n : Nat} (H : ∀ q, q ≤ n → I5 M tp e S C t q) : T5 M tp e S C t (n + 1) := by
  intro d op m i k us K h hk hu ho hd
  have hd' := hd
  unfold dpn at hd
  have hr := h.rng
  have hkK := h.kK
  obtain ⟨m1, K1, e1, h1, p1, r0, r1⟩ := c245 (d := d - 1) (kd := 30) h (by omega)
  have li : gLI (rv m1 M) (ev m1 M) us false 1 k (k + 1) (k + 1) [] foN := ⟨Or.inl rfl, by omega, rfl, fun j j0 j1 => absurd j1 (by simp; omega), fun i j i0 ij j1 => absurd j1 (by simp; omega), fun j j0 j1 => absurd j1 (by simp; omega), fun hl => absurd hl (by simp), fun _ => r1 2 (by omega) (by omega), trivial⟩
  have key := c252_l n H d op m m1 i i (k + 1) k K1 K (-1) us us [] foN pU pU (by rfl) (by rfl) h1 (by omega) (by omega) ho hd' hkK.1 h.tw p1 (by omega) (by omega) (Or.inl ⟨rfl, rfl⟩) li r0 (r1 1 (by omega) (by omega))
  have st : ∀ Z, rn d 252 9 [pR M, pI k, pI (-1), pU, pU] [] m1 = some Z → cl d 252 [pR M] m = some Z := by
    intro Z hZ
    refine q252 (by omega) h.tz _ ?_
    rw [gd_of h.tM, bI_eq e1]; exact hZ
  show RD false M tp e t op S C m i k us K (cl d 252 [pR M] m) (bnd (sQ t e (n + 1) 5 op false i) fun L j => qN 30 0 [] L j) 3
  cases hE : sQ t e (n + 1) 5 op false i with
  | none => exact RD.no
  | some yy =>
    rw [hE] at key
    rcases yy with p | ⟨L, j⟩
    · obtain ⟨m9, e9, ce⟩ := key.2 p rfl
      exact RD.inl (st _ e9) ce
    · obtain ⟨m9, k9, us9, K9, os9, e9, f1, f2, f3, f4, f5, f6, f7⟩ := key.1 L j rfl
      have hap : fapp foN L = L := rfl
      rw [hap] at f5
      have hkk : k + 1 ≤ k9 := f5.2.1.2.2
      refine RD.inr (st _ e9) f1 f2 f3 (by omega) ⟨Int.le_refl _, by omega⟩ ⟨fun z => (by cases z.1), ?_, ?_⟩ (fun _ => ⟨by decide, f7⟩)
      · have hu0 : unw (rv m9 M) false 30 k = k := by unfold unw; rw [if_neg (fun z => by cases z.1)]
        show gB (rv m9 M) (ev m9 M) us9 (unw (rv m9 M) false 30 k) (30, 0, [], []) L
        rw [hu0]
        exact ⟨f6, fun z => absurd (show (30 : Nat) = 1 ∨ (30 : Nat) = 41 from z) (by omega), fun z => absurd (show (30 : Nat) = 3 ∨ (30 : Nat) = 40 from z) (by omega), fun z => absurd (show (30 : Nat) = 4 from z) (by omega), fun z => absurd (show (30 : Nat) = 20 from z) (by omega), fun z => absurd (show (30 : Nat) = 21 from z) (by omega), fun _ => f5.row.2, fun z => absurd (show (30 : Nat) = 33 from z) (by omega)⟩
      · have hu0 : unw (rv m9 M) false 30 k = k := by unfold unw; rw [if_neg (fun z => by cases z.1)]
        show gF (rv m9 M) (ev m9 M) us9 ((30 : Nat) == 31) _ (gK (rv m9 M) (unw (rv m9 M) false 30 k) 30) L
        rw [hu0, gK_c (by omega)]
        exact f5.fin (fun a h1 h2 => ⟨by omega, h2, by omega⟩)
end
