/-! queries read by the twin: operands -/
set_option maxRecDepth 100000
set_option maxHeartbeats 4000000
/-- a query behind its sign -/
def TQ (sg : Bool) (M tp e S C : Int) (t : Int → Int) (n : Nat) : Prop := ∀ (d op : Nat) (m : Mem) (i k : Int) (us : List Int) (K ro : Int), QT m M tp e i t op S k us C K → k + 8 * (e - i) + 10 ≤ 19000 → (us.length : Int) + (e - i) ≤ 39000 → op ≤ 16 → dpn op 9 ≤ d → ro = 0 ∨ ro = 1 → RD false M tp e t op S C m i k us K (cl d 244 [pR M, pI ro, pI (b2i sg)] m) (bnd (sQ t e n 0 op sg i) fun S j => qN 20 ro [] S j) (-1)
abbrev TO (M tp e S C : Int) (t : Int → Int) (n : Nat) : Prop := TH false M tp e S C t 10 6 10 (fun d m => cl d 258 [pR M] m) (fun op i => sQ t e n 10 op false i)
section
variable {d op : Nat} {m : Mem} {M tp e i S k C K : Int} {t : Int → Int} {us : List Int}
/-- a number with its row -/
theorem row_n {kd : Nat} (hd : 3 ≤ d) (hkd : kd = 3 ∨ kd = 40) (h : QT m M tp e i t op S k us C K) (hk : k ≤ 19000) (hu : (us.length : Int) ≤ 39000) :
    (∀ v j, sIn t e i = .inr (v, j) → ∃ m1 m2 m3 K', (∀ d, cl d 245 [pR M, pI kd] m = some (.inl (some (pI k)), m1)) ∧ (∀ d, cl d 246 [pR M, pI k, pI 2, pI 0] m1 = some (.inl none, m2)) ∧ cl d 259 [pR M, pI k, pI 0] m2 = some (.inl (some (pI 1)), m3) ∧ QT m3 M tp e j t op S (k + 1) us C K' ∧ QP k m M S k us K m3 (k + 1) us K' ∧ (∀ g, 0 ≤ g → g < 8 → rv m3 M k g = if g = 2 then 1 else if g = 0 then (kd : Int) else -1) ∧ ev m3 M k 0 = v) ∧
    (∀ p, sIn t e i = .inl p → ∃ m1 m2 m3, (∀ d, cl d 245 [pR M, pI kd] m = some (.inl (some (pI k)), m1)) ∧ (∀ d, cl d 246 [pR M, pI k, pI 2, pI 0] m1 = some (.inl none, m2)) ∧ cl d 259 [pR M, pI k, pI 0] m2 = some (.inl (some (pI 0)), m3) ∧ QE m M S k us C K m3 p) := by
  have hkK := h.kK
  obtain ⟨m1, m2, K', K1, e1, h1, e2, h2, p2, r2⟩ := h.row2 (kd := kd) (f := 2) (v := 0) (by omega) (by omega)
  have z2 : rv m2 M k 2 = 0 := by rw [r2 2 (by omega) (by omega), if_pos rfl]
  obtain ⟨s1, s2⟩ := c259 (d := d) (r := k) (w := 0) hd h2 (by omega) (Or.inl ⟨rfl, z2⟩)
  refine ⟨fun v j hE => ?_, fun p hE => ?_⟩
  · obtain ⟨m3, e3, h3, p3, r3, l3⟩ := s1 v j hE
    refine ⟨m1, m2, m3, K', e1, e2, e3, h3, p2.trans (p3 k (Int.le_refl _)) (Int.le_refl _) h.tw h2.tw, fun g g0 g1 => ?_, ?_⟩
    · rw [r3 k g g0 g1]
      by_cases z : g = 2
      · rw [if_pos ⟨rfl, z⟩, if_pos z, z2, if_pos rfl]; rfl
      · rw [if_neg (fun y => z y.2), if_neg z, r2 g g0 g1, if_neg z]
    · rw [l3 k 0 (by omega) (by omega), if_pos ⟨rfl, rfl⟩]
  · obtain ⟨j, e3⟩ := s2 p hE
    exact ⟨m1, m2, _, e1, e2, e3, (h2.bad (j := j) (p := p) (by omega) (by omega)).pre p2 (by omega) h.tw h2.tw⟩
/-- a word with its row -/
theorem row_w {kd : Nat} {a : Int} {cs : List Int} (hd : 5 ≤ d) (hkd : kd = 42 ∨ kd = 43 ∨ kd = 44) (h : QT m M tp e i t op S k us C K) (hk : k ≤ 19000) (hu : (us.length : Int) ≤ 39000) (hS : SC m a cs) (hcs : 0 < cs.length) {Q : RM}
    (hQ : ∀ Z, (bI (cl d 200 [pR M, pR a] m) fun v8 m8 => if v8 = 0 then (some (.inl (some (pI (-1))), m8)) else bI (cl d 245 [pR M, pI kd] m8) fun v9 m9 => some (.inl (some (pI v9)), m9)) = some Z → Q = some Z) :
    RD false M tp e t op S C m i k us K Q (sWo t e cs i fun j => qN kd 0 [] foN j) 6 := by
  have hr := h.rng
  obtain ⟨s1, s2⟩ := c200 (d := d) (by omega) h.tz h.2.1 hS
  unfold sWo
  cases hE : sW t e cs i with
  | inl p =>
    obtain ⟨j, j0, j1, e1⟩ := s2 p hE
    exact RD.inl (hQ _ (by rw [bI_eq e1, if_pos rfl])) (h.bad (j := j) (p := p) (by omega) (by omega))
  | inr j =>
    obtain ⟨b1, b2, b3, e1⟩ := s1 j hE
    have h1 := h.at (j := j) (by omega) b2
    have P1 := h.1.mM (f := 12) (v := j) (by omega)
    obtain ⟨m2, K2, e2, h2, p2, r0, r1⟩ := c245 (d := d) (kd := kd) h1 (by omega)
    refine RD.inr (hQ _ (by rw [bI_eq e1, if_neg (by decide), bI_eq e2])) h2 ((P1.2.1 k).trans p2 (Int.le_refl _) h.tw h1.tw) (by omega) (by omega) ⟨Int.le_refl _, by omega⟩ (gI.leaf (by show kd ≤ 4 ∨ (40 ≤ kd ∧ kd ≤ 44); omega) (gB.pl (by omega) r0)) (fun _ => ⟨by show kd ≠ 21; omega, r1 1 (by omega) (by omega)⟩)
/-- from a row made before to what is below -/
theorem dn_set {m0 m1 m2 : Mem} {k0 K0 K1 k2 K2 c2 j1 j2 : Int} {op1 op2 kn : Nat} {us0 us1 us2 : List Int} {dd : ND} {l : Fo} (hk0 : 0 ≤ k0) (hw0 : TW m0 S 0 us0 C) (g1 : QP k0 m0 M S k0 us0 K0 m1 (k0 + 1) us1 K1) (h1 : QT m1 M tp e j1 t op1 S (k0 + 1) us1 C K1) (hr0 : rv m1 M k0 0 = kn) (hr1 : rv m1 M k0 1 = -1) (h2 : QT m2 M tp e j2 t op2 S k2 us2 C K2) (g2 : QP (k0 + 1) m1 M S (k0 + 1) us1 K1 m2 k2 us2 K2) (hc : k0 + 1 ≤ c2 ∧ c2 < k2) (hI : gI (rv m2 M) (ev m2 M) us2 false (fun a => k0 + 1 ≤ a ∧ a < k2 ∧ a ≠ c2) c2 dd l) (hkn : oneK kn) :
    ∃ m3, (∀ d, cl d 246 [pR M, pI k0, pI 2, pI c2] m2 = some (.inl none, m3)) ∧ QT m3 M tp e j2 t op2 S k2 us2 C K2 ∧ QP k0 m0 M S k0 us0 K0 m3 k2 us2 K2 ∧ (∀ w, (w = false ∨ kn ≠ 34) → gI (rv m3 M) (ev m3 M) us2 w (fun a => k0 ≤ a ∧ a < k2 ∧ a ≠ k0) k0 (kn, 0, [], []) (foC dd l foN)) ∧ rv m3 M k0 1 = -1 := by
  have hkk := h2.kK
  obtain ⟨h3, p3, r3, l3⟩ := h2.set (r := k0) (f := 2) (v := c2) (by omega) (by omega)
  have ag2 := g2.2.1 k0 ⟨hk0, by omega⟩
  have z0 : rv (mst m2 (vl m2 M 27) (8 * k0 + 2) c2) M k0 0 = kn := by rw [r3 k0 0 (by omega) (by omega), if_neg (by omega), ag2.1 0 (by omega) (by omega)]; exact hr0
  have z1 : rv (mst m2 (vl m2 M 27) (8 * k0 + 2) c2) M k0 1 = -1 := by rw [r3 k0 1 (by omega) (by omega), if_neg (by omega), ag2.1 1 (by omega) (by omega)]; exact hr1
  have z2 : rv (mst m2 (vl m2 M 27) (8 * k0 + 2) c2) M k0 2 = c2 := by rw [r3 k0 2 (by omega) (by omega), if_pos ⟨rfl, rfl⟩]
  have hf : gF (rv m2 M) (ev m2 M) us2 false (fun a => k0 + 1 ≤ a ∧ a < k2) (fun _ => c2) (foC dd l foN) := gF.one (p := fun _ => c2) hc (hI.imp (fun a ha => ⟨ha.1, ha.2.1⟩))
  have ag : AG (fun a => k0 + 1 ≤ a ∧ a < k2) (rv m2 M) (ev m2 M) (rv (mst m2 (vl m2 M 27) (8 * k0 + 2) c2) M) (ev (mst m2 (vl m2 M 27) (8 * k0 + 2) c2) M) := fun a ha => ⟨fun f f0 f1 => by rw [r3 a f f0 f1, if_neg (by omega)], fun f _ _ => by rw [l3]⟩
  refine ⟨_, fun d => c246 h2 (by omega) (by omega), h3, (g1.trans g2 (by omega) hw0 h1.tw).trans (p3 k0 (Int.le_refl _)) (Int.le_refl _) hw0 h2.tw, fun w hw => ?_, z1⟩
  have := gI.wrap1 (vs := []) (P := fun a => k0 ≤ a ∧ a < k2 ∧ a ≠ k0) hkn hw hf ag z0 z2 (fun a h1 h2 => ⟨by omega, h2, by omega⟩)
  rwa [List.append_nil] at this
theorem QT.rvat {j : Int} (h : QT m M tp e i t op S k us C K) : rv (mst m M 12 j) M = rv m M ∧ ev (mst m M 12 j) M = ev m M ∧ ∀ b, QP b m M S k us K (mst m M 12 j) k us K := by
  have P1 := h.1.mM (f := 12) (v := j) (by omega)
  exact ⟨P1.2.2.1, P1.2.2.2, P1.2.1⟩
theorem QT.rv31 {j : Int} (h : QT m M tp e i t op S k us C K) : rv (mst m M 31 j) M = rv m M ∧ ev (mst m M 31 j) M = ev m M ∧ ∀ b, QP b m M S k us K (mst m M 31 j) k us K := by
  have P1 := h.1.mM (f := 31) (v := j) (by omega)
  exact ⟨P1.2.2.1, P1.2.2.2, P1.2.1⟩
/-- length, count, value -/
theorem c258_311 {n : Nat} {a ch : Int} {cs : List Int} {kn : Nat} (HQ : TQ false M tp e S C t n) (HO : TO M tp e S C t n) (h : QT m M tp e i t op S k us C K) (hk : k + 8 * (e - i) + 10 ≤ 19000) (hu : (us.length : Int) + (e - i) ≤ 39000) (ho : op ≤ 16) (hd : dpn op 10 ≤ d) (hch : ch = 108 ∧ kn = 46 ∨ ch = 99 ∧ kn = 47 ∨ ch = 118 ∧ kn = 48) (hS : SC m a cs) (hcs : 5 ≤ cs.length) :
    RD false M tp e t op S C m i k us K (rn d 258 311 [pR M, pI ch, pU, pU, pU] [pR a, pR M] m) (sWo t e cs i fun j => (if pk t e j = 40 ∧ op < 16 then (if ch = 108 then bnd (sQ t e n 10 (op + 1) false (sB t e (j + 1))) fun X k => (if pk t e (sB t e k) = 41 then qN 46 0 [] X (sB t e k + 1) else qE (sB t e k)) else (if qb (pk t e (sB t e (j + 1))) then bnd (sQ t e n 0 (op + 1) false (sB t e (j + 1) + 1)) fun S k => (if pk t e (sB t e k) = 41 then qN kn 0 [] (foC (20, rot (pk t e (sB t e (j + 1))), [], []) S foN) (sB t e k + 1) else qE (sB t e k)) else qE (sB t e (j + 1)))) else qE j)) 6 := by
  unfold dpn at hd
  have hr := h.rng
  have hkK := h.kK
  obtain ⟨s1, s2⟩ := c200 (d := d - 1) (by omega) h.tz h.2.1 hS
  unfold sWo
  cases hE : sW t e cs i with
  | inl p =>
    obtain ⟨j, j0, j1, e1⟩ := s2 p hE
    refine RD.inl (q258_311 (by omega) h.tz _ ?_) (h.bad (j := j) (p := p) (by omega) (by omega))
    rw [gd_of h.tM, bI_eq e1, if_pos rfl]
  | inr j =>
    obtain ⟨b1, b2, b3, e1⟩ := s1 j hE
    have h1 := h.at (j := j) (by omega) b2
    obtain ⟨rva, eva, pa⟩ := h.rvat (j := j)
    dsimp only
    by_cases q40 : pk t e j = 40 ∧ op < 16
    · rw [if_pos q40]
      have hlt : j < e := pkf_lt (t := t) (by omega)
      have e249 := c249_1 (d := d - 1) (by omega) h1 q40.1 q40.2 hlt
      have h2 := h1.opn (op' := op + 1) (v := (op : Int) + 1) (by push_cast; rfl)
      have h3 := h2.at (j := j + 1) (by omega) (by omega)
      obtain ⟨rvb, evb, pb⟩ := h1.rv31 (j := (op : Int) + 1)
      have e198 := c198 (d := d - 1) (by omega) h3.tz h3.2.1
      have h4 := h3.sb
      rw [mst_mst] at e198 h4
      obtain ⟨rvc, evc, pc⟩ := h2.rvat (j := sB t e (j + 1))
      have r4 := sB_rng t (e := e) (i := j + 1) (by omega)
      generalize hM4 : mst (mst (mst m M 12 j) M 31 ((op : Int) + 1)) M 12 (sB t e (j + 1)) = M4 at *
      have g4 : QP k m M S k us K M4 k us K := ((pa k).trans (pb k) (Int.le_refl _) h.tw h1.tw).trans (pc k) (Int.le_refl _) h.tw h2.tw
      obtain ⟨m5, K5, e5, h5, p5, r50, r51⟩ := c245 (d := d - 1) (kd := kn) h4 (by omega)
      have g5 := g4.trans p5 (Int.le_refl _) h.tw h4.tw
      have hkn : ch = 108 → (46 : Int) = kn := fun z => by omega
      have st : ∀ Q, (if ch = 108 then (gd (tg m5 M = 11) <| bI (cl (d - 1) 258 [pR M] m5) fun v7 m7 => rn d 258 441 [pR M, pI ch, pI k, pI v7, pU] [] m7) else gd (tg m5 M = 11) <| bI (cl (d - 1) 199 [pR M] m5) fun v2 m2 => if v2 = 64 then (bI (cl (d - 1) 199 [pR M] m2) fun v3 m3 => if v3 = 36 then (rn d 258 407 [pR M, pI ch, pI k, pU, pU] [pI 1] m3) else rn d 258 407 [pR M, pI ch, pI k, pU, pU] [pI 0] m3) else bI (cl (d - 1) 199 [pR M] m2) fun v4 m4 => if v4 = 36 then (bI (cl (d - 1) 199 [pR M] m4) fun v6 m6 => if v6 = 36 then (rn d 258 407 [pR M, pI ch, pI k, pU, pU] [pI 1] m6) else rn d 258 407 [pR M, pI ch, pI k, pU, pU] [pI 0] m6) else bI (cl (d - 1) 202 [pR M, pI (vl m4 M 12)] m4) fun v5 m5 => some (.inl (some (pI (-1))), m5)) = some Q → rn d 258 311 [pR M, pI ch, pU, pU, pU] [pR a, pR M] m = some Q := by
        intro Q hQ
        refine q258_311 (by omega) h.tz _ ?_
        rw [gd_of h.tM, bI_eq e1, if_neg (by decide), gd_of h1.tM, bI_eq e249, if_neg (by decide), bV_eq e198]
        have key : rn d 258 357 [pR M, pI ch, pU, pU, pU] [pI kn, pR M] M4 = some Q := by
          refine q258_357 (by omega) h4.tz _ ?_
          rw [gd_of h4.tM, bI_eq e5]
          exact hQ
        rcases hch with ⟨z1, z2⟩ | ⟨z1, z2⟩ | ⟨z1, z2⟩
        · rw [if_pos z1]; rw [z2] at key; exact key
        · rw [if_neg (by omega), if_pos z1]; rw [z2] at key; exact key
        · rw [if_neg (by omega), if_neg (by omega)]; rw [z2] at key; exact key
      -- behind what is below
      have fin : ∀ (m7 : Mem) (k7 c2 j7 K7 : Int) (us7 : List Int) (dd : ND) (l : Fo) (z4 : PV), cat z4 = 1 → QT m7 M tp e j7 t (op + 1) S k7 us7 C K7 → QP (k + 1) m5 M S (k + 1) us K5 m7 k7 us7 K7 → (k + 1 ≤ c2 ∧ c2 < k7) → gI (rv m7 M) (ev m7 M) us7 false (fun a => k + 1 ≤ a ∧ a < k7 ∧ a ≠ c2) c2 dd l → k7 ≤ k + 1 + 8 * (j7 - (j + 1)) + 1 → (us7.length : Int) ≤ us.length + (j7 - j) → j < j7 → (∀ Q, rn d 258 441 [pR M, pI ch, pI k, pI c2, z4] [] m7 = some Q → rn d 258 311 [pR M, pI ch, pU, pU, pU] [pR a, pR M] m = some Q) → RD false M tp e t op S C m i k us K (rn d 258 311 [pR M, pI ch, pU, pU, pU] [pR a, pR M] m) (if pk t e (sB t e j7) = 41 then qN kn 0 [] (foC dd l foN) (sB t e j7 + 1) else qE (sB t e j7)) 6 := by
        intro m7 k7 c2 j7 K7 us7 dd l z4 hz4 h7 g7 hc hI hk7 hu7 hj7 hst
        have hr7 := h7.rng
        obtain ⟨m8, e8, h8, g8, I8, r8⟩ := dn_set (kn := kn) hkK.1 h.tw g5 h5 r50 (r51 1 (by omega) (by omega)) h7 g7 hc hI (by omega)
        have r9 := sB_rng t (e := e) (i := j7) hr7.2.1
        have e198b := c198 (d := d - 1) (by omega) h8.tz h8.2.1
        have h9 := h8.sb
        by_cases q41 : pk t e (sB t e j7) = 41
        · rw [if_pos q41]
          have hlt7 : sB t e j7 < e := pkf_lt (t := t) (by omega)
          have e255 := c255_1 (d := d - 1) (by omega) h9 q41 (by decide) ho
          rw [mst_mst] at e255
          have h10 := h8.at (j := sB t e j7 + 1) (by omega) (by omega)
          have h11 := h10.opn (op' := op) (v := (op : Int)) rfl
          obtain ⟨rvd, evd, pd⟩ := h8.rvat (j := sB t e j7 + 1)
          obtain ⟨rve, eve, pe⟩ := h10.rv31 (j := (op : Int))
          refine RD.inr (hst _ (q258_441 (by omega) h7.tz hz4 _ ?_)) h11 ((g8.trans (pd k) (Int.le_refl _) h.tw h8.tw).trans (pe k) (Int.le_refl _) h.tw h10.tw) (by omega) (by omega) ⟨Int.le_refl _, by omega⟩ (by rw [rve, eve, rvd, evd]; exact I8 false (Or.inl rfl)) (fun _ => ⟨by show kn ≠ 21; omega, by rw [rve, rvd]; exact r8⟩)
          rw [if_neg (by omega), gd_of h7.tM, bV_eq (e8 (d - 1)), bV_eq e198b, bI_eq e255, if_neg (by decide)]
        · rw [if_neg q41]
          have e255 := c255_0 (d := d - 1) (by omega) h9 q41
          obtain ⟨rvd, evd, pd⟩ := h8.rvat (j := sB t e j7)
          refine RD.inl (hst _ (q258_441 (by omega) h7.tz hz4 _ ?_)) ((h9.bad0 (p := sB t e j7) (by omega) (by omega)).pre (g8.trans (pd k) (Int.le_refl _) h.tw h8.tw) hkK.1 h.tw h9.tw)
          rw [if_neg (by omega), gd_of h7.tM, bV_eq (e8 (d - 1)), bV_eq e198b, bI_eq e255, if_pos rfl]
      by_cases q108 : ch = 108
      · rw [if_pos q108]
        rw [if_pos q108] at st
        have key := HO (d - 1) (op + 1) m5 _ (k + 1) us K5 h5 (by omega) (by omega) (by omega) (by unfold dpn; omega)
        have hkn46 : kn = 46 := by omega
        cases hE2 : sQ t e n 10 (op + 1) false (sB t e (j + 1)) with
        | none => exact RD.no
        | some yy =>
          have key : RD false M tp e t (op + 1) S C m5 (sB t e (j + 1)) (k + 1) us K5 (cl (d - 1) 258 [pR M] m5) (sQ t e n 10 (op + 1) false (sB t e (j + 1))) 6 := key
          rw [hE2] at key
          rcases yy with p | ⟨X, j7⟩
          · obtain ⟨m7, e7, ce⟩ := key.2 p rfl
            refine RD.inl (st _ ?_) (ce.pre g5 hkK.1 h.tw h5.tw)
            rw [gd_of h5.tM, bI_eq e7]
            refine q258_441 (by omega) ce.tz (by rfl) _ ?_
            rw [if_pos (by decide)]
          · obtain ⟨m7, k7, us7, K7, c2, dd, l, rfl, e7, h7, g7, w1, w2, w3, w4, w5⟩ := key.1 X j7 rfl
            have hrg := sQ_rng (t := t) n 10 (op + 1) false (sB t e (j + 1)) _ j7 r4.2 (fun z => by omega) hE2
            have key2 := fin m7 k7 c2 j7 K7 us7 dd l pU (by rfl) h7 g7 w3 w4 (by omega) (by omega) (by omega) (fun Q hQ => st Q (by rw [gd_of h5.tM, bI_eq e7]; exact hQ))
            rw [hkn46] at key2
            exact key2
      · rw [if_neg q108]
        rw [if_neg q108] at st
        have e199 := c199 (d := d - 1) h5.tz h5.2.1
        by_cases hb : qb (pk t e (sB t e (j + 1)))
        · rw [if_pos hb]
          have hlt4 : sB t e (j + 1) < e := pkf_lt (t := t) (by omega)
          have h6 := h5.at (j := sB t e (j + 1) + 1) (by omega) (by omega)
          obtain ⟨rvf, evf, pf⟩ := h5.rvat (j := sB t e (j + 1) + 1)
          have hro : rot (pk t e (sB t e (j + 1))) = 0 ∨ rot (pk t e (sB t e (j + 1))) = 1 := by
            unfold rot; by_cases z : pk t e (sB t e (j + 1)) = 36
            · rw [if_pos z]; exact Or.inr rfl
            · rw [if_neg z]; exact Or.inl rfl
          have key := HQ (d - 1) (op + 1) _ _ (k + 1) us K5 (rot (pk t e (sB t e (j + 1)))) h6 (by omega) (by omega) (by omega) (by unfold dpn; omega) hro
          have st2 : ∀ Q, (bI (cl (d - 1) 244 [pR M, pI (rot (pk t e (sB t e (j + 1)))), pI 0] (mst m5 M 12 (sB t e (j + 1) + 1))) fun v1 m1 => rn d 258 441 [pR M, pI ch, pI k, pI v1, pI (rot (pk t e (sB t e (j + 1))))] [] m1) = some Q → rn d 258 311 [pR M, pI ch, pU, pU, pU] [pR a, pR M] m = some Q := by
            intro Q hQ
            refine st Q ?_
            have key : rn d 258 407 [pR M, pI ch, pI k, pU, pU] [pI (rot (pk t e (sB t e (j + 1))))] m5 = some Q := by
              refine q258_407 (by omega) h5.tz _ ?_
              rw [gd_of h5.tM, h5.v12, (w32_of (by omega) (by omega) : w32 (sB t e (j + 1) + 1) = sB t e (j + 1) + 1)]
              exact hQ
            unfold rot at key
            rw [gd_of h5.tM, bI_eq e199]
            by_cases z : pk t e (sB t e (j + 1)) = 64
            · rw [if_neg (by omega)] at key
              rw [if_pos z, bI_eq e199, if_neg (by omega)]; exact key
            · have z6 : pk t e (sB t e (j + 1)) = 36 := by omega
              rw [if_pos z6] at key
              rw [if_neg z, bI_eq e199, if_pos z6, bI_eq e199, if_pos z6]; exact key
          cases hE2 : sQ t e n 0 (op + 1) false (sB t e (j + 1) + 1) with
          | none => exact RD.no
          | some yy =>
            rw [hE2] at key
            rcases yy with p | ⟨X, j7⟩
            · obtain ⟨m7, e7, ce⟩ := key.2 p rfl
              refine RD.inl (st2 _ ?_) (ce.pre (g5.trans (pf (k + 1)) (by omega) h.tw h5.tw) hkK.1 h.tw h6.tw)
              rw [bI_eq (show cl (d - 1) 244 [pR M, pI (rot (pk t e (sB t e (j + 1)))), pI 0] _ = some (.inl (some (pI (-1))), m7) from e7)]
              refine q258_441 (by omega) ce.tz (by rfl) _ ?_
              rw [if_pos (by decide)]
            · obtain ⟨m7, k7, us7, K7, c2, dd, l, hF, e7, h7, g7, w1, w2, w3, w4, w5⟩ := key.1 _ j7 rfl
              have hrg := sQ_rng (t := t) n 0 (op + 1) false (sB t e (j + 1) + 1) _ j7 (by omega) (fun z => by omega) hE2
              have key2 := fin m7 k7 c2 j7 K7 us7 dd l (pI (rot (pk t e (sB t e (j + 1))))) (by rfl) h7 ((pf (k + 1)).trans g7 (Int.le_refl _) h5.tw h6.tw) w3 w4 (by omega) (by omega) (by omega) (fun Q hQ => st2 Q (by rw [bI_eq (show cl (d - 1) 244 [pR M, pI (rot (pk t e (sB t e (j + 1)))), pI 0] _ = some (.inl (some (pI c2)), m7) from e7)]; exact hQ))
              rw [← hF] at key2
              exact key2
        · rw [if_neg hb]
          have e202 := c202 (d := d - 1) (p := sB t e (j + 1)) h5.tz h5.tM h5.v14
          refine RD.inl (st _ ?_) ((h5.bad0 (p := sB t e (j + 1)) (by omega) (by omega)).pre g5 hkK.1 h.tw h5.tw)
          rw [gd_of h5.tM, bI_eq e199, if_neg (fun z => hb (Or.inr z)), bI_eq e199, if_neg (fun z => hb (Or.inl z)), h5.v12, bI_eq e202]
    · rw [if_neg q40]
      have e249 := c249_0 (d := d - 1) (by omega) h1 q40 ho
      refine RD.inl (q258_311 (by omega) h.tz _ ?_) ((h1.bad0 (p := j) (by omega) (by omega)).pre (pa 0) (Int.le_refl _) h.tw h1.tw)
      rw [gd_of h.tM, bI_eq e1, if_neg (by decide), gd_of h1.tM, bI_eq e249, if_pos rfl]
end
