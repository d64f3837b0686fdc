/-! queries read by the twin: all, and a whole query -/
set_option maxRecDepth 100000
set_option maxHeartbeats 4000000
section
variable {M tp e S C : Int} {t : Int → Int}
def AllG (M tp e S C : Int) (t : Int → Int) (n : Nat) : Prop :=
  T4 false M tp e S C t n ∧ T4 true M tp e S C t n ∧ T5 M tp e S C t n ∧ T6 M tp e S C t n ∧ T7 M tp e S C t n ∧ TO M tp e S C t n ∧ TS false M tp e S C t n ∧ TS true M tp e S C t n
theorem AllG_0 : AllG M tp e S C t 0 := by
  have th : ∀ (w : Bool) (B s : Int) (off : Nat) (call : Nat → Mem → RM) (x : Nat → Int → QR), (∀ op i, x op i = none) → TH w M tp e S C t B s off call x := fun w B s off call x hx d op m i k us K _ _ _ _ _ => by
    rw [hx]; exact RD.no
  refine ⟨th _ _ _ _ _ _ (fun op i => rfl), th _ _ _ _ _ _ (fun op i => rfl), th _ _ _ _ _ _ (fun op i => rfl), th _ _ _ _ _ _ (fun op i => rfl), th _ _ _ _ _ _ (fun op i => rfl), th _ _ _ _ _ _ (fun op i => rfl), ?_, ?_⟩
  · intro d op m i k q us K _ _ _ _ _ _ _
    exact SGr.no
  · intro d op m i k q us K _ _ _ _ _ _ _
    exact SGr.no
theorem AllG_all (hB : tB t e) : ∀ (n k : Nat), k ≤ n → AllG M tp e S C t k := by
  intro n
  induction n with
  | zero =>
    intro k hk
    have : k = 0 := by omega
    subst this
    exact AllG_0
  | succ n ih =>
    intro k hk
    by_cases hkn : k ≤ n
    · exact ih k hkn
    have : k = n + 1 := by omega
    subst this
    have hn := ih n (Nat.le_refl n)
    have q0 : TQ false M tp e S C t n := c244 fun q hq => (ih q (by omega)).2.2.2.2.2.2.1
    have q1 : TQ true M tp e S C t n := c244 fun q hq => (ih q (by omega)).2.2.2.2.2.2.2
    exact ⟨c250 hB hn.2.2.1, c250 hB hn.2.2.1, c252 fun q hq => I5_of (ih q hq).2.2.2.1, c253 fun q hq => I6_of (ih q hq).2.2.2.2.1, c254 (fun n' hn' => (ih n' (by omega)).2.2.1) q0 hn.2.2.2.2.2.1, c258 hB q0 q1 hn.2.2.2.2.2.1, c247 fun q hq => (ih q (by omega)).1, c247 fun q hq => (ih q (by omega)).2.1⟩
theorem TQ_all (hB : tB t e) (n : Nat) : TQ false M tp e S C t n := c244 fun q _ => (AllG_all hB q q (Nat.le_refl q)).2.2.2.2.2.2.1
end
theorem TU.tr3 {m m1 m2 : Mem} {t n n1 C C1 : Int} {us us1 : List Int} (h : TU t m m1) (h' : TU t m1 m2) (hw : TW m t n us C) (hw1 : TW m1 t n1 us1 C1) : TU t m m2 := by
  refine ⟨h'.1, fun t' ht n' us' C' hq => ⟨(h'.2.1 t' ht n' us' C' (h.2.1 t' ht n' us' C' hq).1).1, by rw [(h'.2.1 t' ht n' us' C' (h.2.1 t' ht n' us' C' hq).1).2, (h.2.1 t' ht n' us' C' hq).2]⟩, fun t' f j n' us' C' hq f0 f1 => ?_⟩
  by_cases e : t' = t
  · subst e
    rw [h'.2.2 t' f j n1 us1 C1 hw1 f0 f1, h.2.2 t' f j n us C hw f0 f1]
  · rw [h'.2.2 t' f j n' us' C' (h.2.1 t' e n' us' C' hq).1 f0 f1, h.2.2 t' f j n' us' C' hq f0 f1]
section
variable {m m1 : Mem} {M S n0 C : Int} {us0 : List Int}
/-- before a query is read -/
def Q0 (m m1 : Mem) (M S n0 C : Int) (us0 : List Int) : Prop := TU S m m1 ∧ uC m1 S = uC m S ∧ (nx m1 = nx m ∧ sl m1 = sl m) ∧ OK m1 ∧ TI m1 ∧ SYQ m1 ∧ TW m1 S n0 us0 C ∧ ((∀ a, tg m1 a = tg m a) ∧ ∀ a, ln m1 a = ln m a) ∧ (∀ a j, a ≠ M → vl m1 a j = vl m a j) ∧ ∀ f, ¬ (11 ≤ f ∧ f ≤ 14) → f ≠ 29 → f ≠ 31 → vl m1 M f = vl m M f
theorem Q0.mM {f v : Int} (h : Q0 m m1 M S n0 C us0) (hw : TW m S n0 us0 C) (hM : tg m M = 11) (hf : 11 ≤ f ∧ f ≤ 14 ∨ f = 29 ∨ f = 31) : Q0 m (mst m1 M f v) M S n0 C us0 := by
  obtain ⟨a1, a2, ⟨a3, a4⟩, a5, a6, a7, a8, ⟨a9, b1⟩, b2, b3⟩ := h
  have t1 : tg m1 M = 11 := by rw [a9]; exact hM
  have tu : TU S m1 (mst m1 M f v) := TU.mT (by omega) a6
  have hu : uC (mst m1 M f v) S = uC m1 S := uC_mT (by omega) a8
  refine ⟨a1.trans tu hw a8, by rw [hu, a2], ⟨a3, a4⟩, a5, a6.mT (by omega), a7.mT (by omega), a8.mT (by omega), ⟨a9, b1⟩, fun a j ha => ?_, fun g g0 g1 g2 => ?_⟩
  · rw [vl_mst, if_neg (fun z => ha z.1)]; exact b2 a j ha
  · rw [vl_mst, if_neg (by omega)]; exact b3 g g0 g1 g2
end
section
variable {d : Nat} {m : Mem} {M tp e S n0 C K k0 : Int} {t : Int → Int} {us0 : List Int}
/-- a whole query read by the twin -/
theorem c243 {n : Nat} (hd : 500 ≤ d) (ok : OK m) (hI : TI m) (hS : SYQ m) (hA : QA m M k0 K) (h30 : vl m M 30 = S) (hw : TW m S n0 us0 C) (htp : tg m tp = 186103 ∨ tg m tp = 276103 ∨ tg m tp = 278103) (hl : 0 ≤ e ∧ e ≤ ln m tp ∧ ln m tp ≤ 16384) (ht : ∀ j, 0 ≤ j → j < e → vl m tp j = t j) (hB : tB t e) (he : e ≤ 2300) :
    (∀ L, sQu t e n = some (.inr L) → ∃ m' k' us' K' c, cl d 243 [pR M, pR tp, pI e] m = some (.inl (some (pI c)), m') ∧ vl m' M 14 = -1 ∧ Qr m' M S k' us' C K' ∧ QP 0 m M S 0 [] K m' k' us' K' ∧ k' ≤ 8 * e + 1 ∧ (us'.length : Int) ≤ e ∧ (0 ≤ c ∧ c < k') ∧ gI (rv m' M) (ev m' M) us' false (fun a => 0 ≤ a ∧ a < k' ∧ a ≠ c) c (20, 1, [], []) L) ∧
    (∀ p, sQu t e n = some (.inl p) → ∃ m' k' us' K', cl d 243 [pR M, pR tp, pI e] m = some (.inl (some (pI (-1))), m') ∧ vl m' M 14 = p ∧ Qr m' M S k' us' C K' ∧ QP 0 m M S 0 [] K m' k' us' K' ∧ k' ≤ 19500 ∧ (us'.length : Int) ≤ 39950) := by
  obtain ⟨b1, b2, b3, b4, b5, b6, b7⟩ := hA
  have hw1 := hw.1
  have neS : S ≠ M := by intro z; rw [z] at hw1; omega
  have n27 : vl m M 27 ≠ M := by intro z; rw [z] at b3; omega
  have n28 : vl m M 28 ≠ M := by intro z; rw [z] at b4; omega
  have ntp : tp ≠ M := by intro z; rw [z] at htp; omega
  have nS11 : vl m S 11 ≠ M := by
    have := hw.arr (f := 11) (by unfold aF; omega)
    intro z; rw [z] at this; omega
  have q0 : Q0 m m M S n0 C us0 := ⟨TU.refl hI, rfl, ⟨rfl, rfl⟩, ok, hI, hS, hw, ⟨fun _ => rfl, fun _ => rfl⟩, fun _ _ _ => rfl, fun _ _ _ _ => rfl⟩
  have q6 := (((((q0.mM (f := 11) (v := tp) hw b1 (by omega)).mM (f := 12) (v := 0) hw b1 (by omega)).mM (f := 13) (v := e) hw b1 (by omega)).mM (f := 14) (v := -1) hw b1 (by omega)).mM (f := 29) (v := 0) hw b1 (by omega)).mM (f := 31) (v := 0) hw b1 (by omega)
  have v11 : vl (mst (mst (mst (mst (mst (mst m M 11 tp) M 12 0) M 13 e) M 14 (-1)) M 29 0) M 31 0) M 11 = tp := by
    rw [vl_mst, if_neg (by omega), vl_mst, if_neg (by omega), vl_mst, if_neg (by omega), vl_mst, if_neg (by omega), vl_mst, if_neg (by omega), vl_mst, if_pos ⟨rfl, rfl⟩]
  have v12 : vl (mst (mst (mst (mst (mst (mst m M 11 tp) M 12 0) M 13 e) M 14 (-1)) M 29 0) M 31 0) M 12 = 0 := by
    rw [vl_mst, if_neg (by omega), vl_mst, if_neg (by omega), vl_mst, if_neg (by omega), vl_mst, if_neg (by omega), vl_mst, if_pos ⟨rfl, rfl⟩]
  have v13 : vl (mst (mst (mst (mst (mst (mst m M 11 tp) M 12 0) M 13 e) M 14 (-1)) M 29 0) M 31 0) M 13 = e := by
    rw [vl_mst, if_neg (by omega), vl_mst, if_neg (by omega), vl_mst, if_neg (by omega), vl_mst, if_pos ⟨rfl, rfl⟩]
  have v14 : vl (mst (mst (mst (mst (mst (mst m M 11 tp) M 12 0) M 13 e) M 14 (-1)) M 29 0) M 31 0) M 14 = -1 := by
    rw [vl_mst, if_neg (by omega), vl_mst, if_neg (by omega), vl_mst, if_pos ⟨rfl, rfl⟩]
  have v29 : vl (mst (mst (mst (mst (mst (mst m M 11 tp) M 12 0) M 13 e) M 14 (-1)) M 29 0) M 31 0) M 29 = 0 := by
    rw [vl_mst, if_neg (by omega), vl_mst, if_pos ⟨rfl, rfl⟩]
  have v31 : vl (mst (mst (mst (mst (mst (mst m M 11 tp) M 12 0) M 13 e) M 14 (-1)) M 29 0) M 31 0) M 31 = 0 := by
    rw [vl_mst, if_pos ⟨rfl, rfl⟩]
  have st : ∀ Z, (nm S fun v6 => gd (tg m v6 = 13) <| bV (cl (d - 1) 284 [pR v6] (mst (mst (mst (mst (mst (mst m M 11 tp) M 12 0) M 13 e) M 14 (-1)) M 29 0) M 31 0)) fun m1 => bI (cl (d - 1) 201 [pR M, pI 36] m1) fun v2 m2 => if v2 = 0 then (some (.inl (some (pI (-1))), m2)) else bI (cl (d - 1) 244 [pR M, pI 1, pI 0] m2) fun v3 m3 => if v3 < 0 then (some (.inl (some (pI (-1))), m3)) else if (vl m3 M 12) < (vl m3 M 13) then (bV (cl (d - 1) 198 [pR M] m3) fun m4 => bI (cl (d - 1) 202 [pR M, pI (vl m4 M 12)] m4) fun v5 m5 => some (.inl (some (pI (-1))), m5)) else some (.inl (some (pI v3)), m3)) = some Z → cl d 243 [pR M, pR tp, pI e] m = some Z := by
    intro Z hZ
    refine q243 (by omega) ok.1 _ ?_
    rw [gd_of b1, h30]
    exact hZ
  generalize hm6 : mst (mst (mst (mst (mst (mst m M 11 tp) M 12 0) M 13 e) M 14 (-1)) M 29 0) M 31 0 = m6 at *
  obtain ⟨c1, c2, ⟨c3, c4⟩, c5, c6, c7, c8, ⟨c9, d1⟩, d2, d3⟩ := q6
  obtain ⟨w7, tu7, u7⟩ := c8.fld (f := 10) (v := 0) (n' := 0) (us' := us0) c6 c5 (Or.inl rfl) (by rw [if_pos rfl]) (Or.inl ⟨rfl, rfl⟩) ⟨by omega, by have := hw.2.2.2.2.2.2.1; omega⟩
  obtain ⟨w8, tu8, u8⟩ := w7.fld (f := 12) (v := 0) (n' := 0) (us' := []) tu7.1 c5 (Or.inr rfl) (by rw [if_neg (by decide)]) (Or.inr ⟨rfl, rfl, fun i i0 i1 => absurd i1 (by simp; omega), by have := hw.2.2.2.2.2.2.2.1; rw [u7, c2]; unfold uC; simp; omega⟩) ⟨by omega, by have := hw.2.2.2.2.2.2.1; omega⟩
  have e284 := c284 (d := d - 1) c5.1 c8
  have tS : tg m6 S = 13 := c8.1
  have k8 : ∀ a j, a ≠ S → vl (mst (mst m6 S 10 0) S 12 0) a j = vl m6 a j := fun a j ha => by
    rw [vl_mst, if_neg (fun z => ha z.1), vl_mst, if_neg (fun z => ha z.1)]
  have s8 : SYQ (mst (mst m6 S 10 0) S 12 0) := (c7.mT (by omega)).mT (T := S) (show tg m6 S ≠ 31 ∧ tg m6 S ≠ 103 by omega)
  have t8 : ∀ a, tg (mst (mst m6 S 10 0) S 12 0) a = tg m a := fun a => c9 a
  have l8 : ∀ a, ln (mst (mst m6 S 10 0) S 12 0) a = ln m a := fun a => d1 a
  have n8 : nx (mst (mst m6 S 10 0) S 12 0) = nx m := c3
  have sl8 : sl (mst (mst m6 S 10 0) S 12 0) = sl m := c4
  have ok8 : OK (mst (mst m6 S 10 0) S 12 0) := c5
  have tu68 : TU S m (mst (mst m6 S 10 0) S 12 0) := (c1.tr3 tu7 hw c8).tr3 tu8 hw w7
  have u68 : uC (mst (mst m6 S 10 0) S 12 0) S = uC m S := by rw [u8, u7, c2]
  generalize hm8 : mst (mst m6 S 10 0) S 12 0 = m8 at *
  have vM : ∀ f, vl m8 M f = vl m6 M f := fun f => k8 M f (Ne.symm neS)
  have ntpS : tp ≠ S := by intro z; rw [z] at htp; omega
  have hA8 : QA m8 M 0 K := by
    have e27 : vl m8 M 27 = vl m M 27 := by rw [vM, d3 27 (by omega) (by omega) (by omega)]
    have e28 : vl m8 M 28 = vl m M 28 := by rw [vM, d3 28 (by omega) (by omega) (by omega)]
    have e32 : vl m8 M 32 = vl m M 32 := by rw [vM, d3 32 (by omega) (by omega) (by omega)]
    exact ⟨by rw [t8]; exact b1, by rw [vM]; exact v29, by rw [e27, t8, l8]; exact b3, by rw [e28, t8, l8]; exact b4, by omega, by rw [e27, e32]; exact b6, by rw [e32, t8]; exact b7⟩
  have h8 : QT m8 M tp e 0 t 0 S 0 [] C K := by
    refine ⟨⟨ok8, tu8.1, hA8, by rw [vM, d3 30 (by omega) (by omega) (by omega)]; exact h30, w8, fun u hu => (by cases hu)⟩, ⟨by rw [t8]; exact b1, by rw [vM]; exact v11, by rw [vM]; exact v13, by rw [vM]; exact v12, by rw [vM]; exact v14, by rw [t8]; exact htp, ⟨by omega, by omega, by rw [l8]; exact hl.2.1, by rw [l8]; exact hl.2.2⟩, fun j j0 j1 => ?_⟩, s8, by rw [vM]; exact v31⟩
    rw [k8 tp j ntpS, d2 tp j ntp]; exact ht j j0 j1
  have P8 : ∀ {m' : Mem} {k' K' : Int} {us' : List Int}, QP 0 m8 M S 0 [] K m' k' us' K' → QP 0 m M S 0 [] K m' k' us' K' := by
    intro m' k' K' us' g
    obtain ⟨g1, g2, g3, g4, g5, g6, g7⟩ := g
    exact ⟨tu68.tr3 g1 hw w8, fun x hx => absurd hx (by omega), g3, g4, by rw [n8, sl8, u68] at g5; exact g5, by rw [u68] at g6; exact g6, g7⟩
  have st8 : ∀ Z, (bI (cl (d - 1) 201 [pR M, pI 36] m8) fun v2 m2 => if v2 = 0 then (some (.inl (some (pI (-1))), m2)) else bI (cl (d - 1) 244 [pR M, pI 1, pI 0] m2) fun v3 m3 => if v3 < 0 then (some (.inl (some (pI (-1))), m3)) else if (vl m3 M 12) < (vl m3 M 13) then (bV (cl (d - 1) 198 [pR M] m3) fun m4 => bI (cl (d - 1) 202 [pR M, pI (vl m4 M 12)] m4) fun v5 m5 => some (.inl (some (pI (-1))), m5)) else some (.inl (some (pI v3)), m3)) = some Z → cl d 243 [pR M, pR tp, pI e] m = some Z := by
    intro Z hZ
    refine st Z ?_
    rw [nm_eq, gd_of hw1, bV_eq e284]
    exact hZ
  unfold sQu
  by_cases q36 : pk t e 0 = 36
  · rw [if_neg (fun z => z q36)]
    have hlt : 0 < e := pkf_lt (t := t) (by omega)
    have e201 := c201_1 (d := d - 1) (x := 36) (by omega) ok8.1 h8.2.1 q36 (by omega)
    have h9 := h8.at (j := 0 + 1) (by omega) (by omega)
    obtain ⟨rva, eva, pa⟩ := h8.rvat (j := 0 + 1)
    have key := TQ_all (M := M) (tp := tp) (e := e) (S := S) (C := C) (t := t) hB n (d - 1) 0 _ _ 0 [] K 1 h9 (by omega) (by simp; omega) (by omega) (by unfold dpn; omega) (Or.inr rfl)
    rw [show (0 : Int) + 1 = 1 from rfl] at key h9 pa e201
    have b0 : b2i false = 0 := rfl
    rw [b0] at key
    cases hE : sQ t e n 0 0 false 1 with
    | none => exact ⟨fun L z => (by cases z), fun p z => (by cases z)⟩
    | some yy =>
      rw [hE] at key
      rcases yy with p | ⟨L, j⟩
      · obtain ⟨m9, e9, f1, k', us', K', f2, f3, f4, f5⟩ := key.2 p rfl
        refine ⟨fun L z => (by cases z), fun p' z => ?_⟩
        cases z
        refine ⟨m9, k', us', K', st8 _ ?_, f1, f2, P8 ((pa 0).trans f3 (Int.le_refl _) h8.tw h9.tw), f4, f5⟩
        rw [bI_eq e201, if_neg (by decide), bI_eq e9, if_pos (by decide)]
      · obtain ⟨m9, k', us', K', c, dd, l, hF, e9, f1, f2, f3, f4, f5, f6, f7⟩ := key.1 _ j rfl
        cases hF
        have r9 := f1.rng
        dsimp only
        have hpp := ((pa 0).trans (f2.mono (b' := 0) (by omega)) (Int.le_refl _) h8.tw h9.tw)
        by_cases hj : j < e
        · rw [if_pos hj]
          refine ⟨fun L z => (by cases z), fun p' z => ?_⟩
          cases z
          have e198 := c198 (d := d - 1) (by omega) f1.tz f1.2.1
          have h10 := f1.sb
          have e202 := c202 (d := d - 1) (p := sB t e j) h10.tz h10.tM h10.v14
          obtain ⟨g1, k2, us2, K2, g2, g3, g4, g5⟩ := h10.bad0 (p := sB t e j) (by omega) (by simp at f4; omega)
          obtain ⟨rvb, evb, pb⟩ := f1.rvat (j := sB t e j)
          refine ⟨_, k2, us2, K2, st8 _ ?_, g1, g2, P8 ((hpp.trans (pb 0) (Int.le_refl _) h8.tw f1.tw).trans g3 (Int.le_refl _) h8.tw h10.tw), g4, g5⟩
          rw [bI_eq e201, if_neg (by decide), bI_eq e9, if_neg (by omega), f1.v12, f1.2.1.2.2.1, if_pos hj, bV_eq e198, h10.v12, bI_eq e202]
        · rw [if_neg hj]
          refine ⟨fun L' z => ?_, fun p' z => (by cases z)⟩
          cases z
          refine ⟨m9, k', us', K', c, st8 _ ?_, f1.v14, f1.1, P8 hpp, by omega, by simp at f4; omega, f5, f6⟩
          rw [bI_eq e201, if_neg (by decide), bI_eq e9, if_neg (by omega), f1.v12, f1.2.1.2.2.1, if_neg hj]
  · rw [if_pos q36]
    have e201 := c201_0 (d := d - 1) (x := 36) (by omega) ok8.1 h8.2.1 q36
    refine ⟨fun L z => (by cases z), fun p z => ?_⟩
    cases z
    obtain ⟨g1, k2, us2, K2, g2, g3, g4, g5⟩ := h8.bad0 (p := 0) (by omega) (by simp)
    refine ⟨_, k2, us2, K2, st8 _ ?_, g1, g2, P8 g3, g4, g5⟩
    rw [bI_eq e201, if_pos rfl]
end
