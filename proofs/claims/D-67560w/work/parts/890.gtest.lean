/-! queries read by the twin: a test -/
set_option maxRecDepth 100000
set_option maxHeartbeats 4000000
section
variable {d op : Nat} {m : Mem} {M tp e i S k C K : Int} {t : Int → Int} {us : List Int}
/-- a new row above one -/
theorem row_up {w : Bool} {m0 : Mem} {k0 K0 c2 kd : Int} {us0 : List Int} {d0 d2 : ND} {l0 l2 : Fo} (h : QT m M tp e i t op S k us C K) (hk : k ≤ 20000) (hk0 : 0 ≤ k0) (hw0 : TW m0 S 0 us0 C) (g : QP k0 m0 M S k0 us0 K0 m k us K) (hf : gF (rv m M) (ev m M) us false (fun a => k0 ≤ a ∧ a < k) (fun _ => c2) (foC d0 l0 foN)) (hI : ∀ (g' en' : RF), gF (rv m M) (ev m M) us false (fun a => k0 ≤ a ∧ a < k) (fun _ => c2) (foC d0 l0 foN) → AG (fun a => k0 ≤ a ∧ a < k) (rv m M) (ev m M) g' en' → g' k 0 = kd → g' k 2 = c2 → gI g' en' (us ++ []) w (fun a => k0 ≤ a ∧ a < k + 1 ∧ a ≠ k) k d2 l2) :
    ∃ m1 m2 K', (∀ d, cl d 245 [pR M, pI kd] m = some (.inl (some (pI k)), m1)) ∧ (∀ d, cl d 246 [pR M, pI k, pI 2, pI c2] m1 = some (.inl none, m2)) ∧ QT m2 M tp e i t op S (k + 1) us C K' ∧ QP k0 m0 M S k0 us0 K0 m2 (k + 1) us K' ∧ gI (rv m2 M) (ev m2 M) us w (fun a => k0 ≤ a ∧ a < k + 1 ∧ a ≠ k) k d2 l2 ∧ rv m2 M k 1 = -1 := by
  have hkK := h.kK
  obtain ⟨m1, m2, K', K1, e1, h1, e2, h2, p2, r2⟩ := h.row2 (kd := kd) (f := 2) (v := c2) hk (by omega)
  have hk01 : k0 ≤ k := g.2.2.2.1
  have ag : AG (fun a => k0 ≤ a ∧ a < k) (rv m M) (ev m M) (rv m2 M) (ev m2 M) := p2.2.1.imp (fun a ha => ⟨by have := ha.1; omega, ha.2⟩)
  have e0 : rv m2 M k 0 = kd := by rw [r2 0 (by omega) (by omega), if_neg (by decide), if_pos rfl]
  have e2' : rv m2 M k 2 = c2 := by rw [r2 2 (by omega) (by omega), if_pos rfl]
  have e1' : rv m2 M k 1 = -1 := by rw [r2 1 (by omega) (by omega), if_neg (by decide), if_neg (by decide)]
  have gi1 := hI (rv m2 M) (ev m2 M) hf ag e0 e2'
  rw [List.append_nil] at gi1
  exact ⟨m1, m2, K', e1, e2, h2, g.trans p2 hk01 hw0 h.tw, gi1, e1'⟩
/-- what stands in parentheses, and what is done with its row -/
noncomputable def in8 (M : Int) (d : Nat) (f : Int → Mem → RM) (m : Mem) : RM := bI (cl (d - 1) 249 [pR M, pI 40] m) fun v10 m10 => if v10 = 0 then (some (.inl (some (pI (-1))), m10)) else bV (cl (d - 1) 198 [pR M] m10) fun m11 => bI (cl (d - 1) 252 [pR M] m11) fun v12 m12 => if v12 < 0 then (some (.inl (some (pI (-1))), m12)) else bV (cl (d - 1) 198 [pR M] m12) fun m13 => bI (cl (d - 1) 255 [pR M, pI 41] m13) fun v14 m14 => if v14 = 0 then (some (.inl (some (pI (-1))), m14)) else f v12 m14
end
abbrev T5 (M tp e S C : Int) (t : Int → Int) (n : Nat) : Prop := TH false M tp e S C t 13 3 14 (fun d m => cl d 252 [pR M] m) (fun op i => bnd (sQ t e n 5 op false i) fun L j => qN 30 0 [] L j)
abbrev T6 (M tp e S C : Int) (t : Int → Int) (n : Nat) : Prop := TH false M tp e S C t 12 4 13 (fun d m => cl d 253 [pR M] m) (fun op i => bnd (sQ t e n 6 op false i) fun L j => qN 31 0 [] L j)
abbrev T7 (M tp e S C : Int) (t : Int → Int) (n : Nat) : Prop := TH true M tp e S C t 10 5 12 (fun d m => cl d 254 [pR M] m) (fun op i => sQ t e n 7 op false i)
section
variable {M tp e S C : Int} {t : Int → Int}
theorem c_in8 {n d op : Nat} {m : Mem} {i k K : Int} {us : List Int} (H5 : T5 M tp e S C t n) (h : QT m M tp e i t op S k us C K) (hk : k + 8 * (e - i) + 10 ≤ 19000) (hu : (us.length : Int) + (e - i) ≤ 39000) (ho : op ≤ 16) (hd : dpn op 12 ≤ d) (hp : pk t e i = 40) :
    (∀ F j, sQ t e (n + 1) 8 op false i = some (.inr (F, j)) → ∃ m' k' us' K' c l, F = foC (30, 0, [], []) l foN ∧ (∀ f, in8 M d f m = f c m') ∧ QT m' M tp e j t op S k' us' C K' ∧ QP k m M S k us K m' k' us' K' ∧ k' ≤ k + 8 * (j - i) - 19 ∧ (us'.length : Int) ≤ us.length + (j - i) ∧ (k ≤ c ∧ c < k') ∧ gF (rv m' M) (ev m' M) us' false (fun a => k ≤ a ∧ a < k') (fun _ => c) (foC (30, 0, [], []) l foN)) ∧
    (∀ p, sQ t e (n + 1) 8 op false i = some (.inl p) → ∃ m', (∀ f, in8 M d f m = some (.inl (some (pI (-1))), m')) ∧ QE m M S k us C K m' p) := by
  unfold dpn at hd
  have hr := h.rng
  have hkK := h.kK
  have hlt : i < e := pkf_lt (t := t) (by omega)
  unfold sQ
  rw [if_neg (by decide : ¬ (8 : Nat) = 0), if_neg (by decide : ¬ (8 : Nat) = 1), if_neg (by decide : ¬ (8 : Nat) = 2), if_neg (by decide : ¬ (8 : Nat) = 3), if_neg (by decide : ¬ (8 : Nat) = 4), if_neg (by decide : ¬ (8 : Nat) = 5), if_neg (by decide : ¬ (8 : Nat) = 6), if_neg (by decide : ¬ (8 : Nat) = 7), if_pos (rfl : (8 : Nat) = 8)]
  by_cases h16 : op < 16
  · rw [if_neg (fun z => z h16)]
    have e249 := c249_1 (d := d - 1) (by omega) h hp h16 hlt
    have h2 := h.opn (op' := op + 1) (v := (op : Int) + 1) (by push_cast; rfl)
    have h3 := h2.at (j := i + 1) (by omega) (by omega)
    obtain ⟨rvb, evb, pb⟩ := h.rv31 (j := (op : Int) + 1)
    have e198 := c198 (d := d - 1) (by omega) h3.tz h3.2.1
    have h4 := h3.sb
    rw [mst_mst] at e198 h4
    obtain ⟨rvc, evc, pc⟩ := h2.rvat (j := sB t e (i + 1))
    have r4 := sB_rng t (e := e) (i := i + 1) (by omega)
    generalize hM4 : mst (mst m M 31 ((op : Int) + 1)) M 12 (sB t e (i + 1)) = M4 at *
    have g4 : QP k m M S k us K M4 k us K := (pb k).trans (pc k) (Int.le_refl _) h.tw h2.tw
    have key := H5 (d - 1) (op + 1) M4 _ k us K h4 (by omega) (by omega) (by omega) (by unfold dpn; omega)
    have key : RD false M tp e t (op + 1) S C M4 (sB t e (i + 1)) k us K (cl (d - 1) 252 [pR M] M4) (bnd (sQ t e n 5 (op + 1) false (sB t e (i + 1))) fun L j => qN 30 0 [] L j) 3 := key
    have st : ∀ f, in8 M d f m = bI (cl (d - 1) 252 [pR M] M4) fun v12 m12 => if v12 < 0 then (some (.inl (some (pI (-1))), m12)) else bV (cl (d - 1) 198 [pR M] m12) fun m13 => bI (cl (d - 1) 255 [pR M, pI 41] m13) fun v14 m14 => if v14 = 0 then (some (.inl (some (pI (-1))), m14)) else f v12 m14 := fun f => by
      unfold in8
      rw [bI_eq e249, if_neg (by decide), bV_eq e198]
    cases hE : sQ t e n 5 (op + 1) false (sB t e (i + 1)) with
    | none => exact ⟨fun F j z => (by cases z), fun p z => (by cases z)⟩
    | some yy =>
      rw [hE] at key
      rcases yy with p | ⟨L, j⟩
      · obtain ⟨m7, e7, ce⟩ := key.2 p rfl
        refine ⟨fun F j z => (by cases z), fun p' z => ?_⟩
        cases z
        exact ⟨m7, fun f => by rw [st, bI_eq e7, if_pos (by decide)], ce.pre g4 hkK.1 h.tw h4.tw⟩
      · obtain ⟨m7, k7, us7, K7, c2, dd, l, hF, e7, h7, g7, w1, w2, w3, w4, w5⟩ := key.1 _ j rfl
        cases hF
        have hk7 := h7.kK
        have hr7 := h7.rng
        have hrg := sQ_rng (t := t) n 5 (op + 1) false (sB t e (i + 1)) _ j r4.2 (fun z => by omega) hE
        have e198b := c198 (d := d - 1) (by omega) h7.tz h7.2.1
        have h8 := h7.sb
        have r8 := sB_rng t (e := e) (i := j) hr7.2.1
        have g07 := g4.trans g7 (Int.le_refl _) h.tw h4.tw
        show (∀ F j', (if pk t e (sB t e j) = 41 then qN 30 0 [] L (sB t e j + 1) else qE (sB t e j)) = some (.inr (F, j')) → _) ∧ (∀ p, (if pk t e (sB t e j) = 41 then qN 30 0 [] L (sB t e j + 1) else qE (sB t e j)) = some (.inl p) → _)
        by_cases q41 : pk t e (sB t e j) = 41
        · rw [if_pos q41]
          have hlt7 : sB t e j < e := pkf_lt (t := t) (by omega)
          have e255 := c255_1 (d := d - 1) (by omega) h8 q41 (by decide) ho
          rw [mst_mst] at e255
          have h10 := h7.at (j := sB t e j + 1) (by omega) (by omega)
          have h11 := h10.opn (op' := op) (v := (op : Int)) rfl
          obtain ⟨rvd, evd, pd⟩ := h7.rvat (j := sB t e j + 1)
          obtain ⟨rve, eve, pe⟩ := h10.rv31 (j := (op : Int))
          refine ⟨fun F j' z => ?_, fun p z => (by cases z)⟩
          cases z
          refine ⟨_, k7, us7, K7, c2, L, rfl, fun f => by rw [st, bI_eq e7, if_neg (by omega), bV_eq e198b, bI_eq e255, if_neg (by decide)], h11, (g07.trans (pd k) (Int.le_refl _) h.tw h7.tw).trans (pe k) (Int.le_refl _) h.tw h10.tw, by omega, by omega, w3, ?_⟩
          rw [rve, eve, rvd, evd]
          exact gF.one (p := fun _ => c2) w3 (w4.imp (fun a ha => ⟨ha.1, ha.2.1⟩))
        · rw [if_neg q41]
          have e255 := c255_0 (d := d - 1) (by omega) h8 q41
          obtain ⟨rvd, evd, pd⟩ := h7.rvat (j := sB t e j)
          refine ⟨fun F j' z => (by cases z), fun p z => ?_⟩
          cases z
          exact ⟨_, fun f => by rw [st, bI_eq e7, if_neg (by omega), bV_eq e198b, bI_eq e255, if_pos rfl], (h8.bad0 (p := sB t e j) (by omega) (by omega)).pre (g07.trans (pd k) (Int.le_refl _) h.tw h7.tw) hkK.1 h.tw h8.tw⟩
  · rw [if_pos h16]
    have e249 := c249_0 (d := d - 1) (ch := 40) (by omega) h (fun z => h16 z.2) ho
    refine ⟨fun F j z => (by cases z), fun p z => ?_⟩
    cases z
    exact ⟨_, fun f => by unfold in8; rw [bI_eq e249, if_pos rfl], h.bad0 (p := i) (by omega) (by omega)⟩
theorem c260 {d : Nat} {m m1 m2 : Mem} {k c : Int} (hz : TZ m) (hM : tg m M = 11) (hd : 1 ≤ d) (e1 : cl (d - 1) 245 [pR M, pI 35] m = some (.inl (some (pI k)), m1)) (e2 : cl (d - 1) 246 [pR M, pI k, pI 2, pI c] m1 = some (.inl none, m2)) : cl d 260 [pR M, pI c] m = some (.inl (some (pI k)), m2) := by
  refine q260 (by omega) hz _ ?_
  rw [gd_of hM, bI_eq e1, bV_eq e2]
/-- in a list, or under a not -/
theorem c254_267 {d op : Nat} {m m0 : Mem} {i i0 k k0 K K0 c nt : Int} {us us0 : List Int} {dd : ND} {l : Fo} {z3 z4 z5 : PV} (h3 : cat z3 = 1) (h4 : cat z4 = 1) (h5 : cat z5 = 1) (hd : 2 ≤ d) (hdd : dd.1 = 30 ∨ dd.1 = 34) (h : QT m M tp e i t op S k us C K) (hk : k ≤ 19000) (hk0 : 0 ≤ k0) (hw0 : TW m0 S 0 us0 C) (g : QP k0 m0 M S k0 us0 K0 m k us K) (hc : k ≤ k0 + 8 * (i - i0) - 6) (hu0 : (us.length : Int) ≤ us0.length + (i - i0)) (hf : gF (rv m M) (ev m M) us false (fun a => k0 ≤ a ∧ a < k) (fun _ => c) (foC dd l foN)) {Q : RM} (hQ : ∀ Z, rn d 254 267 [pR M, pI nt, pI c, z3, z4, z5, pU] [] m = some Z → Q = some Z) :
    RD true M tp e t op S C m0 i0 k0 us0 K0 Q (if nt = 0 then some (.inr (foC dd l foN, i)) else qN 32 0 [] (foC dd l foN) i) 5 := by
  have hz := h.tz
  have hM := h.tM
  by_cases hn : nt = 0
  · rw [if_pos hn]
    obtain ⟨m1, m2, K', e1, e2, h2, g2, gi, r1⟩ := row_up (w := true) (kd := 35) (d2 := dd) (l2 := l) h (by omega) hk0 hw0 g hf (fun g' en' hf' ag z0 z2 => gI.wrap35 hdd hf' ag z0 z2 (fun a h1 h2 => ⟨h1, by omega, by omega⟩))
    have hkk : k0 ≤ k := g.2.2.2.1
    refine RD.inr (hQ _ (q254_267 (by omega) hz h3 h4 h5 _ ?_)) h2 g2 (by omega) hu0 ⟨hkk, by omega⟩ gi (fun _ => ⟨by omega, r1⟩)
    rw [if_pos hn, gd_of hM, bI_eq (c260 (d := d - 1) hz hM (by omega) (e1 _) (e2 _))]
  · rw [if_neg hn]
    obtain ⟨m1, m2, K', e1, e2, h2, g2, gi, r1⟩ := row_up (w := true) (kd := 32) (d2 := (32, 0, [], [])) (l2 := foC dd l foN) h (by omega) hk0 hw0 g hf (fun g' en' hf' ag z0 z2 => gI.wrap1 (kd := 32) (by omega) (Or.inr (by decide)) hf' ag z0 z2 (fun a h1 h2 => ⟨h1, by omega, by omega⟩))
    have hkk : k0 ≤ k := g.2.2.2.1
    refine RD.inr (hQ _ (q254_267 (by omega) hz h3 h4 h5 _ ?_)) h2 g2 (by omega) hu0 ⟨hkk, by omega⟩ gi (fun _ => ⟨by decide, r1⟩)
    rw [if_neg hn, gd_of hM, bI_eq (e1 (d - 1)), bV_eq (e2 (d - 1))]
/-- a query, and whether a comparison follows -/
theorem c254_115 {n d op : Nat} {m m0 : Mem} {i i0 k K nt : Int} {us : List Int} (hnt : nt = 0 ∨ nt = 1) (HQ : TQ false M tp e S C t n) (HO : TO M tp e S C t n) (h : QT m M tp e i t op S k us C K) (hk : k + 8 * (e - i) + 10 ≤ 19000) (hu : (us.length : Int) + (e - i) ≤ 39000) (ho : op ≤ 16) (hd : dpn op 12 ≤ d) (hb : qb (pk t e i)) {K0 : Int} (hw0 : TW m0 S 0 us C) (g : QP k m0 M S k us K0 m k us K) (hi0 : i0 ≤ i) {Q : RM} (hQ : ∀ Z, rn d 254 115 [pR M, pI nt, pU, pU, pU, pU, pU] [pI (rot (pk t e i))] m = some Z → Q = some Z) :
    RD true M tp e t op S C m0 i0 k us K0 Q (bnd (sQ t e n 0 op false (i + 1)) fun X j => if nt = 0 then (if cmp (pk t e (sB t e j)) then (if sgF X = true then (match sOp t e (sB t e j) with
            | .inl p => qE p
            | .inr (o, k) => bnd (sQ t e n 10 op false (sB t e k)) fun R q => qN 33 o [] (foC (45, 0, [], []) (foC (20, rot (pk t e i), [], []) X foN) R) q) else qE (sB t e j))
        else qN 34 0 [] (foC (20, rot (pk t e i), [], []) X foN) j) else qN 32 0 [] (foC (34, 0, [], []) (foC (20, rot (pk t e i), [], []) X foN) foN) j) 5 := by
  unfold dpn at hd
  have hr := h.rng
  have hkK := h.kK
  have hz := h.tz
  have hM := h.tM
  have hlt : i < e := pkf_lt (t := t) (by omega)
  have h6 := h.at (j := i + 1) (by omega) (by omega)
  obtain ⟨rvf, evf, pf⟩ := h.rvat (j := i + 1)
  have hro : rot (pk t e i) = 0 ∨ rot (pk t e i) = 1 := by
    unfold rot; by_cases z : pk t e i = 36
    · rw [if_pos z]; exact Or.inr rfl
    · rw [if_neg z]; exact Or.inl rfl
  have key := HQ (d - 1) op _ _ k us K (rot (pk t e i)) h6 (by omega) (by omega) ho (by unfold dpn; omega) hro
  cases hE : sQ t e n 0 op false (i + 1) with
  | none => exact RD.no
  | some yy =>
    rw [hE] at key
    rcases yy with p | ⟨X, j⟩
    · obtain ⟨m7, e7, ce⟩ := key.2 p rfl
      refine RD.inl (hQ _ (q254_115 (by omega) hz _ ?_)) (ce.pre (g.trans (pf k) (Int.le_refl _) hw0 h.tw) hkK.1 hw0 h6.tw)
      rw [gd_of hM, h.v12, (w32_of (by omega) (by omega) : w32 (i + 1) = i + 1), bI_eq (show cl (d - 1) 244 [pR M, pI (rot (pk t e i)), pI 0] _ = some (.inl (some (pI (-1))), m7) from e7), if_pos (by decide)]
    · obtain ⟨m7, k7, us7, K7, c2, dd, l, hF, e7, h7, g7, w1, w2, w3, w4, w5⟩ := key.1 _ j rfl
      cases hF
      have e7 : cl (d - 1) 244 [pR M, pI (rot (pk t e i)), pI 0] (mst m M 12 (i + 1)) = some (.inl (some (pI c2)), m7) := e7
      have hk7 := h7.kK
      have hr7 := h7.rng
      have hrg := sQ_rng (t := t) n 0 op false (i + 1) _ j (by omega) (fun z => by omega) hE
      have e198b := c198 (d := d - 1) (by omega) h7.tz h7.2.1
      have h8 := h7.sb
      have r8 := sB_rng t (e := e) (i := j) hr7.2.1
      obtain ⟨rvd, evd, pd⟩ := h7.rvat (j := sB t e j)
      have g07 : QP k m0 M S k us K0 m7 k7 us7 K7 := (g.trans (pf k) (Int.le_refl _) hw0 h.tw).trans g7 (Int.le_refl _) hw0 h6.tw
      have hf : gF (rv m7 M) (ev m7 M) us7 false (fun a => k ≤ a ∧ a < k7) (fun _ => c2) (foC (20, rot (pk t e i), [], []) X foN) := gF.one (p := fun _ => c2) w3 (w4.imp (fun a ha => ⟨ha.1, ha.2.1⟩))
      have e256 := c256 (d := d - 1) (by omega) h8
      have st : ∀ Z, (if nt = 0 then (bI (cl (d - 1) 256 [pR M] (mst m7 M 12 (sB t e j))) fun v3 m3 => if v3 = 0 then (rn d 254 207 [pR M, pI nt, pU, pI (rot (pk t e i)), pI c2, pI j, pU] [] m3) else bI (cl (d - 1) 251 [pR M, pI c2, pI 3] m3) fun v4 m4 => if v4 = 0 then (bI (cl (d - 1) 202 [pR M, pI (vl m4 M 12)] m4) fun v8 m8 => some (.inl (some (pI (-1))), m8)) else bI (cl (d - 1) 245 [pR M, pI 45] m4) fun v5 m5 => bV (cl (d - 1) 246 [pR M, pI v5, pI 2, pI c2] m5) fun m6 => bI (cl (d - 1) 257 [pR M, pI v5] m6) fun v7 m7 => some (.inl (some (pI v7)), m7)) else rn d 254 207 [pR M, pI nt, pU, pI (rot (pk t e i)), pI c2, pI j, pU] [] (mst m7 M 12 (sB t e j))) = some Z → Q = some Z := by
        intro Z hZ
        refine hQ Z (q254_115 (by omega) hz _ ?_)
        rw [gd_of hM, h.v12, (w32_of (by omega) (by omega) : w32 (i + 1) = i + 1), bI_eq e7, if_neg (by omega), nm_eq, h7.v12, bV_eq e198b]
        exact hZ
      -- there is a node
      have ex : (∀ Z, rn d 254 207 [pR M, pI nt, pU, pI (rot (pk t e i)), pI c2, pI j, pU] [] (mst m7 M 12 (sB t e j)) = some Z → Q = some Z) → RD true M tp e t op S C m0 i0 k us K0 Q (if nt = 0 then some (.inr (foC (34, 0, [], []) (foC (20, rot (pk t e i), [], []) X foN) foN, j)) else qN 32 0 [] (foC (34, 0, [], []) (foC (20, rot (pk t e i), [], []) X foN) foN) j) 5 := by
        intro hst
        obtain ⟨m8, m9, K9, e8, e9, h9, g9, gi9, r9⟩ := row_up (w := false) (kd := 34) (d2 := (34, 0, [], [])) (l2 := foC (20, rot (pk t e i), [], []) X foN) h7 (by omega) hkK.1 hw0 g07 hf (fun g' en' hf' ag z0 z2 => gI.wrap1 (kd := 34) (by omega) (Or.inl rfl) hf' ag z0 z2 (fun a h1 h2 => ⟨h1, by omega, by omega⟩))
        have hf9 : gF (rv m9 M) (ev m9 M) us7 false (fun a => k ≤ a ∧ a < k7 + 1) (fun _ => k7) (foC (34, 0, [], []) (foC (20, rot (pk t e i), [], []) X foN) foN) := gF.one (p := fun _ => k7) ⟨by omega, by omega⟩ (gi9.imp (fun a ha => ⟨ha.1, ha.2.1⟩))
        refine c254_267 (d := d) (nt := nt) (z3 := pI (rot (pk t e i))) (z4 := pI c2) (z5 := pI j) (by rfl) (by rfl) (by rfl) (by omega) (Or.inr rfl) h9 (by omega) hkK.1 hw0 g9 (by omega) (by omega) hf9 (fun Z hZ => hst Z (q254_207 (by omega) h8.tz _ ?_))
        have es : mst (mst m7 M 12 (sB t e j)) M 12 j = m7 := by rw [mst_mst, mst_self h7.v12]
        rw [gd_of h8.tM, es, bI_eq (e8 (d - 1)), bV_eq (e9 (d - 1))]
        exact hZ
      show RD true M tp e t op S C m0 i0 k us K0 Q (if nt = 0 then (if cmp (pk t e (sB t e j)) then (if sgF X = true then (match sOp t e (sB t e j) with
            | .inl p => qE p
            | .inr (o, k) => bnd (sQ t e n 10 op false (sB t e k)) fun R q => qN 33 o [] (foC (45, 0, [], []) (foC (20, rot (pk t e i), [], []) X foN) R) q) else qE (sB t e j))
        else qN 34 0 [] (foC (20, rot (pk t e i), [], []) X foN) j) else qN 32 0 [] (foC (34, 0, [], []) (foC (20, rot (pk t e i), [], []) X foN) foN) j) 5
      by_cases hn : nt = 0
      · rw [if_pos hn] at st ex ⊢
        by_cases hcm : cmp (pk t e (sB t e j))
        · rw [if_pos hcm] at e256 ⊢
          have e251 := c251 (d := d - 1) (r := c2) (f := 3) h8 (by omega) (by omega)
          have v3 : rv (mst m7 M 12 (sB t e j)) M c2 3 = b2i (sgF X) := by
            rw [rvd]
            have b := w4.2.1
            have hu : unw (rv m7 M) false 20 c2 = c2 := by unfold unw; rw [if_neg (fun z => by cases z.1)]
            have b : gB (rv m7 M) (ev m7 M) us7 (unw (rv m7 M) false 20 c2) (20, rot (pk t e i), [], []) X := b
            rw [hu] at b
            exact (b.2.2.2.2.1 rfl).2.1
          rw [v3] at e251
          by_cases hs : sgF X = true
          · rw [if_pos hs]
            rw [hs] at e251
            have g08 := g07.trans (pd k) (Int.le_refl _) hw0 h7.tw
            have hf8 : gF (rv (mst m7 M 12 (sB t e j)) M) (ev (mst m7 M 12 (sB t e j)) M) us7 false (fun a => k ≤ a ∧ a < k7) (fun _ => c2) (foC (20, rot (pk t e i), [], []) X foN) := by rw [rvd, evd]; exact hf
            obtain ⟨m9, m10, K9, e8, e9, h9, g9, gi9, r9⟩ := row_up (w := false) (kd := 45) (d2 := (45, 0, [], [])) (l2 := foC (20, rot (pk t e i), [], []) X foN) h8 (by omega) hkK.1 hw0 g08 hf8 (fun g' en' hf' ag z0 z2 => gI.wrap1 (kd := 45) (by omega) (Or.inl rfl) hf' ag z0 z2 (fun a h1 h2 => ⟨h1, by omega, by omega⟩))
            have hf9 : gF (rv m10 M) (ev m10 M) us7 false (fun a => k ≤ a ∧ a < k7 + 1) (fun _ => k7) (foC (45, 0, [], []) (foC (20, rot (pk t e i), [], []) X foN) foN) := gF.one (p := fun _ => k7) ⟨by omega, by omega⟩ (gi9.imp (fun a ha => ⟨ha.1, ha.2.1⟩))
            have kk := c257 (d := d - 1) (i0 := i0) HO h9 (by omega) (by omega) ho (by unfold dpn; omega) hkK.1 hw0 g9 (by omega) (by omega) ⟨by omega, by omega⟩ hf9
            refine ⟨fun F j' z => ?_, fun p z => ?_⟩
            · obtain ⟨m', k', us', K', c, dd', l', b1, b2, b3⟩ := kk.1 F j' z
              exact ⟨m', k', us', K', c, dd', l', b1, st _ (by rw [bI_eq e256, if_neg (by decide), bI_eq e251, if_neg (by decide), bI_eq (e8 (d - 1)), bV_eq (e9 (d - 1)), bI_eq b2]), b3⟩
            · obtain ⟨m', b2, b3⟩ := kk.2 p z
              exact ⟨m', st _ (by rw [bI_eq e256, if_neg (by decide), bI_eq e251, if_neg (by decide), bI_eq (e8 (d - 1)), bV_eq (e9 (d - 1)), bI_eq b2]), b3⟩
          · rw [if_neg hs]
            have hs' : sgF X = false := by simpa using hs
            rw [hs'] at e251
            have e202 := c202 (d := d - 1) (p := sB t e j) h8.tz h8.tM h8.v14
            refine RD.inl (st _ ?_) ((h8.bad0 (p := sB t e j) (by omega) (by omega)).pre (g07.trans (pd k) (Int.le_refl _) hw0 h7.tw) hkK.1 hw0 h8.tw)
            rw [bI_eq e256, if_neg (by decide), bI_eq e251, if_pos (by rfl), h8.v12, bI_eq e202]
        · rw [if_neg hcm] at e256 ⊢
          exact ex (fun Z hZ => st Z (by rw [bI_eq e256, if_pos rfl]; exact hZ))
      · rw [if_neg hn] at st ex ⊢
        exact ex st
/-- a test -/
theorem c254 {n : Nat} (H8 : ∀ n', n = n' + 1 → T5 M tp e S C t n') (HQ : TQ false M tp e S C t n) (HO : TO M tp e S C t n) : T7 M tp e S C t (n + 1) := by
  intro d op m i k us K h hk hu ho hd
  have hd' := hd
  unfold dpn at hd
  have hr := h.rng
  have hkK := h.kK
  have hz := h.tz
  have hM := h.tM
  have e199 := c199 (d := d - 1) hz h.2.1
  show RD true M tp e t op S C m i k us K (cl d 254 [pR M] m) (sQ t e (n + 1) 7 op false i) 5
  unfold sQ
  rw [if_neg (by decide : ¬ (7 : Nat) = 0), if_neg (by decide : ¬ (7 : Nat) = 1), if_neg (by decide : ¬ (7 : Nat) = 2), if_neg (by decide : ¬ (7 : Nat) = 3), if_neg (by decide : ¬ (7 : Nat) = 4), if_neg (by decide : ¬ (7 : Nat) = 5), if_neg (by decide : ¬ (7 : Nat) = 6), if_pos (rfl : (7 : Nat) = 7)]
  -- parentheses, with or without a not
  have par : ∀ (m1 : Mem) (i1 nt : Int), QT m1 M tp e i1 t op S k us C K → QP k m M S k us K m1 k us K → i ≤ i1 → pk t e i1 = 40 → (∀ Z, rn d 254 33 [pR M, pI nt, pU, pU, pU, pU, pU] [] m1 = some Z → cl d 254 [pR M] m = some Z) → RD true M tp e t op S C m i k us K (cl d 254 [pR M] m) (bnd (sQ t e n 8 op false i1) fun X j => if nt = 0 then some (.inr (X, j)) else qN 32 0 [] X j) 5 := by
    intro m1 i1 nt h1 g1 hi1 hp st
    cases n with
    | zero => exact RD.no
    | succ n =>
    obtain ⟨s1, s2⟩ := c_in8 (d := d) (H8 n rfl) h1 (by omega) (by omega) ho hd' hp
    have e1991 := c199 (d := d - 1) h1.tz h1.2.1
    have st2 : ∀ Z, in8 M d (fun v12 m14 => rn d 254 267 [pR M, pI nt, pI v12, pU, pU, pU, pU] [] m14) m1 = some Z → cl d 254 [pR M] m = some Z := by
      intro Z hZ
      refine st Z (q254_33 (by omega) h1.tz _ ?_)
      rw [gd_of h1.tM, bI_eq e1991, if_pos hp]
      exact hZ
    cases hE : sQ t e (n + 1) 8 op false i1 with
    | none => exact RD.no
    | some yy =>
      rcases yy with p | ⟨X, j⟩
      · obtain ⟨m7, e7, ce⟩ := s2 p hE
        exact RD.inl (st2 _ (e7 _)) (ce.pre g1 hkK.1 h.tw h1.tw)
      · obtain ⟨m7, k7, us7, K7, c2, l, rfl, e7, h7, g7, w1, w2, w3, w4⟩ := s1 X j hE
        have hk7 := h7.kK
        have hr7 := h7.rng
        exact c254_267 (d := d) (nt := nt) (z3 := pU) (z4 := pU) (z5 := pU) (by rfl) (by rfl) (by rfl) (by omega) (Or.inl rfl) h7 (by omega) hkK.1 h.tw (g1.trans g7 (Int.le_refl _) h.tw h1.tw) (by omega) (by omega) w4 (fun Z hZ => st2 Z (by rw [e7]; exact hZ))
  -- a query, with or without a not
  have qu : ∀ (m1 : Mem) (i1 nt : Int), (nt = 0 ∨ nt = 1) → QT m1 M tp e i1 t op S k us C K → QP k m M S k us K m1 k us K → i ≤ i1 → qb (pk t e i1) → (∀ Z, rn d 254 33 [pR M, pI nt, pU, pU, pU, pU, pU] [] m1 = some Z → cl d 254 [pR M] m = some Z) → RD true M tp e t op S C m i k us K (cl d 254 [pR M] m) (bnd (sQ t e n 0 op false (i1 + 1)) fun X j => if nt = 0 then (if cmp (pk t e (sB t e j)) then (if sgF X = true then (match sOp t e (sB t e j) with
            | .inl p => qE p
            | .inr (o, k) => bnd (sQ t e n 10 op false (sB t e k)) fun R q => qN 33 o [] (foC (45, 0, [], []) (foC (20, rot (pk t e i1), [], []) X foN) R) q) else qE (sB t e j))
        else qN 34 0 [] (foC (20, rot (pk t e i1), [], []) X foN) j) else qN 32 0 [] (foC (34, 0, [], []) (foC (20, rot (pk t e i1), [], []) X foN) foN) j) 5 := by
    intro m1 i1 nt hnt h1 g1 hi1 hb st
    have e1991 := c199 (d := d - 1) h1.tz h1.2.1
    refine c254_115 (d := d) hnt HQ HO h1 (by omega) (by omega) ho hd' hb h.tw g1 hi1 (fun Z hZ => st Z (q254_33 (by omega) h1.tz _ ?_))
    unfold rot at hZ
    rw [gd_of h1.tM, bI_eq e1991, if_neg (by omega), bI_eq e1991]
    by_cases z : pk t e i1 = 64
    · rw [if_neg (by omega)] at hZ
      rw [if_pos z, bI_eq e1991, if_neg (by omega)]; exact hZ
    · have z6 : pk t e i1 = 36 := by omega
      rw [if_pos z6] at hZ
      rw [if_neg z, bI_eq e1991, if_pos z6, bI_eq e1991, if_pos z6]; exact hZ
  by_cases q33 : pk t e i = 33
  · rw [if_pos q33]
    have hlt : i < e := pkf_lt (t := t) (by omega)
    have h1 := h.at (j := i + 1) (by omega) (by omega)
    have e198 := c198 (d := d - 1) (by omega) h1.tz h1.2.1
    have h2 := h1.sb
    rw [mst_mst] at e198 h2
    have r2 := sB_rng t (e := e) (i := i + 1) (by omega)
    obtain ⟨rva, eva, pa⟩ := h.rvat (j := sB t e (i + 1))
    have st : ∀ Z, rn d 254 33 [pR M, pI 1, pU, pU, pU, pU, pU] [] (mst m M 12 (sB t e (i + 1))) = some Z → cl d 254 [pR M] m = some Z := by
      intro Z hZ
      refine q254 (by omega) hz _ ?_
      rw [gd_of hM, bI_eq e199, if_pos q33]
      refine q254_14 (by omega) hz _ ?_
      rw [if_neg (by decide), gd_of hM, h.v12, (w32_of (by omega) (by omega) : w32 (i + 1) = i + 1), bV_eq e198]
      exact hZ
    by_cases y : pk t e (sB t e (i + 1)) = 40
    · rw [if_pos y]
      exact par _ _ 1 h2 (pa k) (by omega) y st
    · rw [if_neg y]
      by_cases hb : qb (pk t e (sB t e (i + 1)))
      · rw [if_pos hb]
        exact qu _ _ 1 (Or.inr rfl) h2 (pa k) (by omega) hb st
      · rw [if_neg hb]
        have e1992 := c199 (d := d - 1) h2.tz h2.2.1
        have e202 := c202 (d := d - 1) (p := sB t e (i + 1)) h2.tz h2.tM h2.v14
        refine RD.inl (st _ (q254_33 (by omega) h2.tz _ ?_)) ((h2.bad0 (p := sB t e (i + 1)) (by omega) (by omega)).pre (pa 0) (Int.le_refl _) h.tw h2.tw)
        rw [gd_of h2.tM, bI_eq e1992, if_neg y, bI_eq e1992, if_neg (fun z => hb (Or.inr z)), bI_eq e1992, if_neg (fun z => hb (Or.inl z)), if_neg (by decide), h2.v12, bI_eq e202]
  rw [if_neg q33]
  have st : ∀ Z, rn d 254 33 [pR M, pI 0, pU, pU, pU, pU, pU] [] m = some Z → cl d 254 [pR M] m = some Z := by
    intro Z hZ
    refine q254 (by omega) hz _ ?_
    rw [gd_of hM, bI_eq e199, if_neg q33]
    refine q254_14 (by omega) hz _ ?_
    rw [if_pos rfl]
    exact hZ
  by_cases q40 : pk t e i = 40
  · rw [if_pos q40]
    have key := par m i 0 h (QP.refl h.1.2.1) (Int.le_refl _) q40 st
    have e9 : (bnd (sQ t e n 8 op false i) fun X j => if (0 : Int) = 0 then some (.inr (X, j)) else qN 32 0 [] X j) = sQ t e n 8 op false i := by
      cases sQ t e n 8 op false i with
      | none => rfl
      | some yy =>
        rcases yy with p | ⟨X, j⟩
        · rfl
        · rfl
    rw [e9] at key
    exact key
  rw [if_neg q40]
  by_cases hb : qb (pk t e i)
  · rw [if_pos hb]
    exact qu m i 0 (Or.inl rfl) h (QP.refl h.1.2.1) (Int.le_refl _) hb st
  · rw [if_neg hb]
    have kk := HO (d - 1) op m i k us K h hk hu ho (by unfold dpn; omega)
    have kk : RD false M tp e t op S C m i k us K (cl (d - 1) 258 [pR M] m) (sQ t e n 10 op false i) 6 := kk
    have st2 : ∀ Z, (bI (cl (d - 1) 258 [pR M] m) fun v5 m5 => if v5 < 0 then (some (.inl (some (pI (-1))), m5)) else bV (cl (d - 1) 198 [pR M] m5) fun m6 => bI (cl (d - 1) 257 [pR M, pI v5] m6) fun v7 m7 => some (.inl (some (pI v7)), m7)) = some Z → cl d 254 [pR M] m = some Z := by
      intro Z hZ
      refine st Z (q254_33 (by omega) hz _ ?_)
      rw [gd_of hM, bI_eq e199, if_neg q40, bI_eq e199, if_neg (fun z => hb (Or.inr z)), bI_eq e199, if_neg (fun z => hb (Or.inl z)), if_pos rfl]
      exact hZ
    cases hE : sQ t e n 10 op false i with
    | none => exact RD.no
    | some yy =>
      rw [hE] at kk
      rcases yy with p | ⟨L, j⟩
      · obtain ⟨m7, e7, ce⟩ := kk.2 p rfl
        exact RD.inl (st2 _ (by rw [bI_eq e7, if_pos (by decide)])) ce
      · obtain ⟨m7, k7, us7, K7, c2, dd, l, rfl, e7, h7, g7, w1, w2, w3, w4, w5⟩ := kk.1 L j rfl
        have hk7 := h7.kK
        have hr7 := h7.rng
        have hrg := sQ_rng (t := t) n 10 op false i _ j hr.2.1 (fun z => by omega) hE
        have e198b := c198 (d := d - 1) (by omega) h7.tz h7.2.1
        have h8 := h7.sb
        have r8 := sB_rng t (e := e) (i := j) hr7.2.1
        obtain ⟨rvd, evd, pd⟩ := h7.rvat (j := sB t e j)
        have hf8 : gF (rv (mst m7 M 12 (sB t e j)) M) (ev (mst m7 M 12 (sB t e j)) M) us7 false (fun a => k ≤ a ∧ a < k7) (fun _ => c2) (foC dd l foN) := by
          rw [rvd, evd]; exact gF.one (p := fun _ => c2) w3 (w4.imp (fun a ha => ⟨ha.1, ha.2.1⟩))
        have k2 := c257 (d := d - 1) (i0 := i) HO h8 (by omega) (by omega) ho (by unfold dpn; omega) hkK.1 h.tw (g7.trans (pd k) (Int.le_refl _) h.tw h7.tw) (by omega) (by omega) w3 hf8
        refine ⟨fun F j' z => ?_, fun p z => ?_⟩
        · obtain ⟨m', k', us', K', c, dd', l', b1, b2, b3⟩ := k2.1 F j' z
          exact ⟨m', k', us', K', c, dd', l', b1, st2 _ (by rw [bI_eq e7, if_neg (by omega), bV_eq e198b, bI_eq b2]), b3⟩
        · obtain ⟨m', b2, b3⟩ := k2.2 p z
          exact ⟨m', st2 _ (by rw [bI_eq e7, if_neg (by omega), bV_eq e198b, bI_eq b2]), b3⟩
end
