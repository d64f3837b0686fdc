/-! the patcher: a step -/
set_option maxRecDepth 100000
set_option maxHeartbeats 4000000
theorem fnd_pr1 {k : List Int} {d : ND} {l : Fo} : ∀ {F : Fo} {ob fst : Bool}, fndF F k = some (d, l) → (prV d l).length ≤ (prF ob fst F).length := by
  intro F
  induction F with
  | leaf => intro ob fst h; cases h
  | inner n d' u l' r _ ih =>
    intro ob fst h
    rw [prF_inner]
    simp only [List.length_append]
    unfold fndF at h
    split at h
    · cases h; omega
    · have := ih (ob := ob) (fst := false) h; omega
/-- two members: both print within what is around them -/
theorem fnd_pr2 {k1 k2 : List Int} (hk : k1 ≠ k2) {d1 d2 : ND} {l1 l2 : Fo} : ∀ {F : Fo} {ob fst : Bool}, fndF F k1 = some (d1, l1) → fndF F k2 = some (d2, l2) → (prV d1 l1).length + (prV d2 l2).length ≤ (prF ob fst F).length := by
  intro F
  induction F with
  | leaf => intro ob fst h; cases h
  | inner n d' u l' r _ ih =>
    intro ob fst h h'
    rw [prF_inner]
    simp only [List.length_append]
    unfold fndF at h h'
    split at h
    · rename_i e1
      cases h
      rw [if_neg (fun q => hk (e1.symm.trans q))] at h'
      have := fnd_pr1 (ob := ob) (fst := false) h'; omega
    · split at h'
      · cases h'
        have := fnd_pr1 (ob := ob) (fst := false) h; omega
      · have := ih (ob := ob) (fst := false) h h'; omega
theorem fnd_wf {k : List Int} {d : ND} {l : Fo} : ∀ {F : Fo} {ob : Bool}, wfF F → cnF ob F → fndF F k = some (d, l) → GV (0, noN d, l) ∧ sur d.2.2.1 ∧ wfU d.2.2.1 := by
  intro F
  induction F with
  | leaf => intro ob _ _ h; cases h
  | inner n d' u l' r _ ih =>
    intro ob hw hc h
    unfold fndF at h
    split at h
    · cases h
      obtain ⟨w1, w2, w3, w4, w5, w6⟩ := hw
      obtain ⟨c1, ⟨c2, c3, c4, c5⟩, c6, c7⟩ := hc
      exact ⟨⟨rfl, rfl, ⟨⟨w1.1, w1.2.1, w1.2.2.1, w1.2.2.2.1, fun u hu => absurd hu (by simp)⟩, w2, w3, w4, w5, trivial⟩, rfl, ⟨c2, c3, fun _ => rfl, trivial⟩, c6, trivial⟩, w2, w1.2.2.2.1⟩
    · exact ih hw.2.2.2.2.2 hc.2.2.2 h
theorem fnd_dp {k : List Int} {d : ND} {l : Fo} : ∀ {F : Fo}, fndF F k = some (d, l) → dpV d l ≤ dpF F := by
  intro F
  induction F with
  | leaf => intro h; cases h
  | inner n d' u l' r _ ih =>
    intro h
    unfold fndF at h
    show _ ≤ max (dpV d' l') (dpF r)
    split at h
    · cases h; omega
    · have := ih h; omega
theorem strM_some {l : Fo} {k us : List Int} (h : strM l k = some us) : ∃ d l', fndF l k = some (d, l') ∧ d.1 = 4 ∧ us = d.2.2.1 := by
  unfold strM at h
  cases hf : fndF l k with
  | none => rw [hf] at h; cases h
  | some p =>
    obtain ⟨d, l'⟩ := p
    rw [hf] at h
    dsimp only at h
    split at h
    · rename_i h4; cases h; exact ⟨d, l', rfl, h4, rfl⟩
    · cases h
theorem prV_4 {d : ND} {l : Fo} (h : d.1 = 4) : prV d l = prS 34 d.2.2.1 := by
  unfold prV prD
  rw [if_neg (by omega), if_neg (by omega), if_neg (by omega), if_neg (by omega), if_pos h]
/-- the words of steps -/
def PSC (m : Mem) : Prop := SC m 22 wAdd ∧ SC m 24 wRem ∧ SC m 26 wRep ∧ SC m 28 wTst ∧ SC m 30 wMov ∧ SC m 32 wCop
theorem at_wds : At wWds 0 (nmB wOp) ∧ At wWds 4 (nmB wPath) ∧ At wWds 10 (nmB wVal) ∧ At wWds 17 (nmB wFrom) := by
  have h0 : At wWds 0 (nmB wOp ++ (nmB wPath ++ (nmB wVal ++ nmB wFrom))) := At.self
  have h1 := h0.app
  have h2 := h1.2.app
  have h3 := h2.2.app
  exact ⟨h1.1, h2.1, h3.1, h3.2⟩
/-- a step's pieces, once its strings are there -/
theorem pSt_eq {o v : Vl} {op path : List Int} (h6 : o.2.1.1 = 6) (h1 : strM o.2.2 wOp = some op) (h2 : strM o.2.2 wPath = some path) :
    pSt o v = if op = wAdd then (match fndF o.2.2 wVal with
        | none => none
        | some (d, l) => match ptr path with
          | none => none
          | some tks => adZ tks (0, noN d, l) v)
      else if op = wRem then (match ptr path with
          | none => none
          | some tks => rmZ tks v)
      else if op = wRep then (match fndF o.2.2 wVal with
        | none => none
        | some (d, l) => match ptr path with
          | none => none
          | some tks => rpZ tks (0, noN d, l) v)
      else if op = wTst then (match fndF o.2.2 wVal with
        | none => none
        | some (d, l) => match ptr path with
          | none => none
          | some tks => match goZ tks [] v with
            | none => none
            | some (_, w) => if smV w.2.1 w.2.2 d l then some v else none)
      else if op = wMov ∨ op = wCop then (match strM o.2.2 wFrom with
        | none => none
        | some fr => trS (decide (op = wMov)) path fr v)
      else none := by
  unfold pSt trS
  rw [if_neg (by omega), h1, h2]
  dsimp only
  by_cases a1 : op = wAdd
  · simp only [if_pos a1]
    cases ptr path with
    | none => dsimp only; cases fndF o.2.2 wVal <;> rfl
    | some tks => rfl
  · simp only [if_neg a1]
    by_cases a2 : op = wRem
    · simp only [if_pos a2]
      cases ptr path <;> rfl
    · simp only [if_neg a2]
      by_cases a3 : op = wRep
      · simp only [if_pos a3]
        cases ptr path with
        | none => dsimp only; cases fndF o.2.2 wVal <;> rfl
        | some tks => rfl
      · simp only [if_neg a3]
        by_cases a4 : op = wTst
        · simp only [if_pos a4]
          cases ptr path with
          | none => dsimp only; cases fndF o.2.2 wVal <;> rfl
          | some tks => rfl
        · simp only [if_neg a4]
          by_cases a5 : op = wMov ∨ op = wCop
          · simp only [if_pos a5]
            cases hp : ptr path with
            | none => dsimp only; cases strM o.2.2 wFrom <;> rfl
            | some tks =>
              dsimp only
              cases strM o.2.2 wFrom with
              | none => rfl
              | some fr =>
                dsimp only
                cases ptr fr with
                | none => rfl
                | some ftk =>
                  dsimp only
                  cases goZ ftk [] v with
                  | none => rfl
                  | some p =>
                    obtain ⟨kz, w⟩ := p
                    dsimp only
                    by_cases a6 : op = wCop
                    · rw [if_pos a6, if_pos (by rw [a6]; decide)]
                    · have a7 : op = wMov := by
                        rcases a5 with q | q
                        · exact q
                        · exact absurd q a6
                      rw [if_neg a6, if_neg (show ¬ (decide (op = wMov) = false) by rw [a7]; decide)]
                      try rfl
          · simp only [if_neg a5]
            cases ptr path <;> rfl
section
variable {d : Nat} {m m' : Mem} {P k r c : Int} {L xs : List Int} {Ho : Option (List Int)} {To : Option (List (List Int))}
theorem c114 {a : Int} {o v : Vl} (hd : 80 ≤ d) (hL : L = enV v.2.1 v.2.2) (hLl : L.length ≤ 750) (hv : GV v) (hdp : dpV v.2.1 v.2.2 ≤ 32) (h : PB m P L Ho To k) (hr : ¬ pRw m P r) (hR : RW m r xs c) (hx : xs.length < 60000) (hA : At xs a (enV o.2.1 o.2.2)) (ho : GV o) (hol : (prV o.2.1 o.2.2).length ≤ 1290) (hS : PSC m) :
    (∀ v', pSt o v = some v' → ∃ m' k', cl d 114 [pR P, pR r, pI a] m = some (.inl none, m') ∧ PB m' P (enV v'.2.1 v'.2.2) none none k' ∧ PX m P k m' k' 0) ∧
    (pSt o v = none → ∃ m' k' L', cl d 114 [pR P, pR r, pI a] m = some (.inr 206, m') ∧ PB m' P L' none none k' ∧ PX m P k m' k' 1) := by
  obtain ⟨okm, -, hP, cd, hRd, -⟩ := h.ok
  have hz := okm.1
  obtain ⟨at0, at4, at10, at17⟩ := at_wds
  have hW : ∃ cw, RW m (vl m P 0) wWds cw ∧ vl m P 1 = 0 ∧ vl m P 2 = 4 ∧ vl m P 3 = 10 ∧ vl m P 4 = 17 := by
    obtain ⟨rd, ro, rh, rm, rt, sa, aa, rw, cd, co, ch, cm', ct, cw, os, hs, ms', ts, h1, h2, h3, ⟨e5, e6, e7, e8, e9, e10, e12, e0⟩, h5, h6, ⟨w1, w2, w3, w4, w5, w6⟩, h8, h9, h10, h11, h12⟩ := h
    rw [e0]; exact ⟨cw, w6, h5⟩
  obtain ⟨cw, hWr, v1, v2, v3, v4⟩ := hW
  have a0 := hA.1
  have a1 := hA.2.1
  have ap := enV_pos o.2.1 o.2.2
  have e139 := c139 (d := d - 1) (a := a) hz hR a0 (by omega)
  rw [enV_tag hA] at e139
  obtain ⟨tb, tx⟩ := h.thr
  have okind : o.2.1.1 ≤ 6 := ho.2.2.1.1.1
  by_cases h6 : o.2.1.1 = 6
  · have st0 : ∀ Q, rn d 114 15 [pR P, pR r, pI a, pU, pU, pU] [pI 1] m = some Q → cl d 114 [pR P, pR r, pI a] m = some Q := fun Q hQ => q114 (by omega) hz _ (by rw [gd_of hR.1, bI_eq e139, if_pos (by omega)]; exact hQ)
    have c1 := c116 (d := d - 1) (P := P) (b := 0) (k := wOp) (by omega) hP hz hR hWr hA ho.2.2.1 h6 hx at0 (by intro u hu; unfold wOp at hu; simp at hu; omega) (by decide)
    have c2 := c116 (d := d - 1) (P := P) (b := 4) (k := wPath) (by omega) hP hz hR hWr hA ho.2.2.1 h6 hx at4 (by intro u hu; unfold wPath at hu; simp at hu; omega) (by decide)
    cases h1 : strM o.2.2 wOp with
    | none =>
      refine ⟨fun v' hv' => ?_, fun _ => ⟨_, k, L, st0 _ (q114_15 (by omega) hz _ (by rw [bV_eq (c115_1 hz), gd_of hP, v1, bI_xq (c1.1 h1)])), tb, tx⟩⟩
      unfold pSt at hv'; rw [if_neg (by omega), h1] at hv'; cases hv'
    | some op =>
      obtain ⟨wop, sv, sv0, sa1, sa2, e1⟩ := c1.2 op h1
      cases h2 : strM o.2.2 wPath with
      | none =>
        refine ⟨fun v' hv' => ?_, fun _ => ⟨_, k, L, st0 _ (q114_15 (by omega) hz _ (by rw [bV_eq (c115_1 hz), gd_of hP, v1, bI_eq e1, v2, bI_xq (c2.1 h2)])), tb, tx⟩⟩
        unfold pSt at hv'; rw [if_neg (by omega), h1, h2] at hv'; cases hv'
      | some path =>
        obtain ⟨wpa, pv, pv0, pa1, pa2, e2⟩ := c2.2 path h2
        rw [pSt_eq h6 h1 h2]
        -- lengths
        have e6 : prV o.2.1 o.2.2 = 123 :: (prF (o.2.1.1 == 6) true o.2.2 ++ [125]) := by
          unfold prV prD
          rw [if_neg (by omega), if_neg (by omega), if_neg (by omega), if_neg (by omega), if_neg (by omega), if_neg (by omega)]
        have lF : (prF (o.2.1.1 == 6) true o.2.2).length + 2 ≤ 1290 := by rw [e6] at hol; simp at hol; omega
        have hkF : wfF o.2.2 ∧ cnF (o.2.1.1 == 6) o.2.2 := (show GV (o.1, o.2.1, o.2.2) from ho).kid.1
        obtain ⟨pd, pl, pf1, pf2, pf3⟩ := strM_some h2
        have spa : sur path := by rw [pf3]; exact (fnd_wf hkF.1 hkF.2 pf1).2.1
        have lpath : (uts path).length + 2 ≤ (prV pd pl).length := by rw [prV_4 pf2, pf3]; exact uts_prS _
        have lpa1 := fnd_pr1 (ob := o.2.1.1 == 6) (fst := true) pf1
        have lup : (uts path).length ≤ 1286 := by omega
        have says : ∀ (s : Int) (cs : List Int), SC m s cs → (∀ c, c ∈ cs → 0 ≤ c ∧ c < 128) → cl (d - 1) 117 [pR r, pI sv, pR s] m = some (.inl (some (pI (if op = cs then 1 else 0))), m) := fun s cs hs hc => by
          rw [c117 (d := d - 1) (by omega) hz hR sa1 sv0 hx hs]
          congr 5
          by_cases q : op = cs
          · rw [if_pos q, if_pos ((uts_is wop hc).mpr q)]
          · rw [if_neg q, if_neg (fun z => q ((uts_is wop hc).mp z))]
        have y1 := says 22 wAdd hS.1 (by intro c hc; unfold wAdd at hc; simp at hc; omega)
        have y2 := says 24 wRem hS.2.1 (by intro c hc; unfold wRem at hc; simp at hc; omega)
        have y3 := says 26 wRep hS.2.2.1 (by intro c hc; unfold wRep at hc; simp at hc; omega)
        have y4 := says 28 wTst hS.2.2.2.1 (by intro c hc; unfold wTst at hc; simp at hc; omega)
        have y5 := says 30 wMov hS.2.2.2.2.1 (by intro c hc; unfold wMov at hc; simp at hc; omega)
        have y6 := says 32 wCop hS.2.2.2.2.2 (by intro c hc; unfold wCop at hc; simp at hc; omega)
        have c3 := c118 (d := d - 1) (P := P) (by omega) hP hz hR hWr hA ho.2.2.1 h6 hx (by rw [v3]; exact at10)
        have h120 := t120 (d := d - 1) (by omega) h hr hR pa2 wpa hx (by omega)
        -- the value
        have valL : ∀ d' l', fndF o.2.2 wVal = some (d', l') → GV (0, noN d', l') ∧ dpV d' l' ≤ dpF o.2.2 ∧ 2 * (enV d' l').length + 3 * (uts path).length ≤ 3860 := fun d' l' hf => by
          have q1 := fnd_wf hkF.1 hkF.2 hf
          have q2 := fnd_pr2 (k1 := wVal) (k2 := wPath) (by decide) (ob := o.2.1.1 == 6) (fst := true) hf pf1
          have q3 := en_pr (d := noN d') (l := l') q1.1.2.2.1
          rw [enV_no2] at q3
          have q4 : prV (noN d') l' = prV d' l' := rfl
          rw [q4] at q3
          exact ⟨q1.1, fnd_dp hf, by omega⟩
        by_cases b1 : op = wAdd
        · rw [if_pos b1]
          rw [if_pos b1] at y1
          cases hf : fndF o.2.2 wVal with
          | none =>
            refine ⟨fun v' hv' => (by cases hv'), fun _ => ⟨_, k, L, st0 _ (q114_15 (by omega) hz _ (by rw [bV_eq (c115_1 hz), gd_of hP, v1, bI_eq e1, v2, bI_eq e2, bI_eq y1, if_neg (by decide), bI_xq (c3.1 hf)])), tb, tx⟩⟩
          | some p =>
            obtain ⟨d', l'⟩ := p
            obtain ⟨w1, w2, vv, vA, e3⟩ := c3.2 d' l' hf
            obtain ⟨g1, g2, g3⟩ := valL d' l' hf
            obtain ⟨m1, k1, e4, p1, x1⟩ := t119 (d := d - 1) (by omega) h (fun q => hr (Or.inr (Or.inr (Or.inl q)))) hR vA w1.1 hx (by omega)
            have hr1 : ¬ pRw m1 P r := fun q => hr ((x1.2.1 r).mp q)
            have hR1 := x1.1 r hr xs c hR
            have h120b := t120 (d := d - 1) (by omega) p1 hr1 hR1 pa2 wpa hx (by omega)
            dsimp only
            cases hpt : ptr path with
            | none =>
              refine ⟨fun v' hv' => (by cases hv'), fun _ => ?_⟩
              obtain ⟨m2, k2, e5, p2, x2⟩ := h120b.2 hpt
              exact ⟨m2, k2, L, st0 _ (q114_15 (by omega) hz _ (by rw [bV_eq (c115_1 hz), gd_of hP, v1, bI_eq e1, v2, bI_eq e2, bI_eq y1, if_neg (by decide), bI_eq e3, bV_eq e4, bV_xq e5])), p2, x1.tr0 x2⟩
            | some tks =>
              obtain ⟨m2, k2, e5, p2, x2⟩ := h120b.1 tks hpt
              have hu := ptr_up hpt
              have h121 := t121 (d := d - 1) (w := (0, noN d', l')) (by omega) hL (by rw [enV_no2]) (ptr_okT wpa spa (by omega) hpt) hv.2.2.1 hdp p2 (by omega)
              dsimp only
              refine ⟨fun v' hv' => ?_, fun hv' => ?_⟩
              · obtain ⟨m3, k3, e6, p3, x3⟩ := h121.1 v' hv'
                exact ⟨m3, k3, st0 _ (q114_15 (by omega) hz _ (by rw [bV_eq (c115_1 hz), gd_of hP, v1, bI_eq e1, v2, bI_eq e2, bI_eq y1, if_neg (by decide), bI_eq e3, bV_eq e4, bV_eq e5, bV_eq e6])), p3, (x1.tr0 x2).tr0 x3⟩
              · obtain ⟨m3, e6, p3, x3⟩ := h121.2 hv'
                exact ⟨m3, k2, L, st0 _ (q114_15 (by omega) hz _ (by rw [bV_eq (c115_1 hz), gd_of hP, v1, bI_eq e1, v2, bI_eq e2, bI_eq y1, if_neg (by decide), bI_eq e3, bV_eq e4, bV_eq e5, bV_xq e6])), p3, (x1.tr0 x2).tr0 x3⟩
        · rw [if_neg b1]
          rw [if_neg b1] at y1
          by_cases b2 : op = wRem
          · rw [if_pos b2]
            rw [if_pos b2] at y2
            cases hpt : ptr path with
            | none =>
              refine ⟨fun v' hv' => (by cases hv'), fun _ => ?_⟩
              obtain ⟨m2, k2, e5, p2, x2⟩ := h120.2 hpt
              exact ⟨m2, k2, L, st0 _ (q114_15 (by omega) hz _ (by rw [bV_eq (c115_1 hz), gd_of hP, v1, bI_eq e1, v2, bI_eq e2, bI_eq y1, if_pos rfl, bI_eq y2, if_neg (by decide), bV_xq e5])), p2, x2⟩
            | some tks =>
              obtain ⟨m2, k2, e5, p2, x2⟩ := h120.1 tks hpt
              have h126 := t126 (d := d - 1) (by omega) hL (ptr_okT wpa spa (by omega) hpt) hv.2.2.1 hdp p2 (by omega)
              dsimp only
              refine ⟨fun v' hv' => ?_, fun hv' => ?_⟩
              · obtain ⟨m3, k3, e6, p3, x3, -⟩ := h126.1 v' hv'
                exact ⟨m3, k3, st0 _ (q114_15 (by omega) hz _ (by rw [bV_eq (c115_1 hz), gd_of hP, v1, bI_eq e1, v2, bI_eq e2, bI_eq y1, if_pos rfl, bI_eq y2, if_neg (by decide), bV_eq e5, bV_eq e6])), p3, x2.tr0 x3⟩
              · obtain ⟨m3, e6, p3, x3⟩ := h126.2 hv'
                exact ⟨m3, k2, L, st0 _ (q114_15 (by omega) hz _ (by rw [bV_eq (c115_1 hz), gd_of hP, v1, bI_eq e1, v2, bI_eq e2, bI_eq y1, if_pos rfl, bI_eq y2, if_neg (by decide), bV_eq e5, bV_xq e6])), p3, x2.tr0 x3⟩
          · rw [if_neg b2]
            rw [if_neg b2] at y2
            by_cases b3 : op = wRep
            · rw [if_pos b3]
              rw [if_pos b3] at y3
              cases hf : fndF o.2.2 wVal with
              | none =>
                refine ⟨fun v' hv' => (by cases hv'), fun _ => ⟨_, k, L, st0 _ (q114_15 (by omega) hz _ (by rw [bV_eq (c115_1 hz), gd_of hP, v1, bI_eq e1, v2, bI_eq e2, bI_eq y1, if_pos rfl, bI_eq y2, if_pos rfl, bI_eq y3, if_neg (by decide), bI_xq (c3.1 hf)])), tb, tx⟩⟩
              | some p =>
                obtain ⟨d', l'⟩ := p
                obtain ⟨w1, w2, vv, vA, e3⟩ := c3.2 d' l' hf
                obtain ⟨g1, g2, g3⟩ := valL d' l' hf
                obtain ⟨m1, k1, e4, p1, x1⟩ := t119 (d := d - 1) (by omega) h (fun q => hr (Or.inr (Or.inr (Or.inl q)))) hR vA w1.1 hx (by omega)
                have hr1 : ¬ pRw m1 P r := fun q => hr ((x1.2.1 r).mp q)
                have hR1 := x1.1 r hr xs c hR
                have h120b := t120 (d := d - 1) (by omega) p1 hr1 hR1 pa2 wpa hx (by omega)
                dsimp only
                cases hpt : ptr path with
                | none =>
                  refine ⟨fun v' hv' => (by cases hv'), fun _ => ?_⟩
                  obtain ⟨m2, k2, e5, p2, x2⟩ := h120b.2 hpt
                  exact ⟨m2, k2, L, st0 _ (q114_15 (by omega) hz _ (by rw [bV_eq (c115_1 hz), gd_of hP, v1, bI_eq e1, v2, bI_eq e2, bI_eq y1, if_pos rfl, bI_eq y2, if_pos rfl, bI_eq y3, if_neg (by decide), bI_eq e3, bV_eq e4, bV_xq e5])), p2, x1.tr0 x2⟩
                | some tks =>
                  obtain ⟨m2, k2, e5, p2, x2⟩ := h120b.1 tks hpt
                  have hT0 := ptr_okT wpa spa (by omega) hpt
                  have h123 := t123 (d := d - 1) (by omega) hL (by omega) hT0 hv.2.2.1 hdp p2
                  dsimp only
                  unfold rpZ
                  cases hgo : goZ tks [] v with
                  | none =>
                    refine ⟨fun v' hv' => (by cases hv'), fun _ => ?_⟩
                    obtain ⟨m3, e6, p3, x3⟩ := h123.2 hgo
                    exact ⟨m3, k2, L, st0 _ (q114_15 (by omega) hz _ (by rw [bV_eq (c115_1 hz), gd_of hP, v1, bI_eq e1, v2, bI_eq e2, bI_eq y1, if_pos rfl, bI_eq y2, if_pos rfl, bI_eq y3, if_neg (by decide), bI_eq e3, bV_eq e4, bV_eq e5, bV_xq e6])), p3, (x1.tr0 x2).tr0 x3⟩
                  | some pp =>
                    obtain ⟨kz, w⟩ := pp
                    refine ⟨fun v' hv' => ?_, fun hv' => (by cases hv')⟩
                    cases hv'
                    obtain ⟨f1, f2, f3, f4, m3, e6, g6, gp6, p3, x3⟩ := h123.1 kz w hgo
                    obtain ⟨ok3, hI3, hP3, cd3, hRd3, -⟩ := p3.ok
                    have hAt : At L (offK kz) (enV w.2.1 w.2.2) := by
                      have := at_plug (xs := L) (a := 0) kz w f2 (by rw [f1, ← hL]; exact At.self)
                      rwa [Int.zero_add] at this
                    have q0 := hAt.1
                    have q1 := hAt.2.1
                    have h137 := c137 (d := d - 1) (by omega) ok3.1 hRd3 hAt f3.1 (by omega)
                    obtain ⟨m4, k4, e7, p4, x4⟩ := t122_rep (d := d - 1) (W := (0, noN d', l')) (by omega) hL (by rw [enV_no2]) p2 g6 gp6 f2 (by omega) f1 (by omega)
                    have e8 : w32 ((offK kz : Int) + (enV w.2.1 w.2.2).length - offK kz) = (enV w.2.1 w.2.2).length := by rw [w32_of (by omega) (by omega)]; omega
                    exact ⟨m4, k4, st0 _ (q114_15 (by omega) hz _ (by rw [bV_eq (c115_1 hz), gd_of hP, v1, bI_eq e1, v2, bI_eq e2, bI_eq y1, if_pos rfl, bI_eq y2, if_pos rfl, bI_eq y3, if_neg (by decide), bI_eq e3, bV_eq e4, bV_eq e5, bV_eq e6, nm_eq, nm_eq, gd_of hRd3.1, gp6.1, bI_eq h137, gp6.1, e8, bV_eq e7])), p4, (x1.tr0 x2).tr0 x4⟩
            · rw [if_neg b3]
              rw [if_neg b3] at y3
              by_cases b4 : op = wTst
              · rw [if_pos b4]
                rw [if_pos b4] at y4
                cases hf : fndF o.2.2 wVal with
                | none =>
                  refine ⟨fun v' hv' => (by cases hv'), fun _ => ⟨_, k, L, st0 _ (q114_15 (by omega) hz _ (by rw [bV_eq (c115_1 hz), gd_of hP, v1, bI_eq e1, v2, bI_eq e2, bI_eq y1, if_pos rfl, bI_eq y2, if_pos rfl, bI_eq y3, if_pos rfl, bI_eq y4, if_neg (by decide), bI_xq (c3.1 hf)])), tb, tx⟩⟩
                | some p =>
                  obtain ⟨d', l'⟩ := p
                  obtain ⟨w1, w2, vv, vA, e3⟩ := c3.2 d' l' hf
                  dsimp only
                  cases hpt : ptr path with
                  | none =>
                    refine ⟨fun v' hv' => (by cases hv'), fun _ => ?_⟩
                    obtain ⟨m2, k2, e5, p2, x2⟩ := h120.2 hpt
                    exact ⟨m2, k2, L, st0 _ (q114_15 (by omega) hz _ (by rw [bV_eq (c115_1 hz), gd_of hP, v1, bI_eq e1, v2, bI_eq e2, bI_eq y1, if_pos rfl, bI_eq y2, if_pos rfl, bI_eq y3, if_pos rfl, bI_eq y4, if_neg (by decide), bI_eq e3, bV_xq e5])), p2, x2⟩
                  | some tks =>
                    obtain ⟨m2, k2, e5, p2, x2⟩ := h120.1 tks hpt
                    have hT0 := ptr_okT wpa spa (by omega) hpt
                    have h123 := t123 (d := d - 1) (by omega) hL (by omega) hT0 hv.2.2.1 hdp p2
                    dsimp only
                    cases hgo : goZ tks [] v with
                    | none =>
                      refine ⟨fun v' hv' => (by cases hv'), fun _ => ?_⟩
                      obtain ⟨m3, e6, p3, x3⟩ := h123.2 hgo
                      exact ⟨m3, k2, L, st0 _ (q114_15 (by omega) hz _ (by rw [bV_eq (c115_1 hz), gd_of hP, v1, bI_eq e1, v2, bI_eq e2, bI_eq y1, if_pos rfl, bI_eq y2, if_pos rfl, bI_eq y3, if_pos rfl, bI_eq y4, if_neg (by decide), bI_eq e3, bV_eq e5, bV_xq e6])), p3, x2.tr0 x3⟩
                    | some pp =>
                      obtain ⟨kz, w⟩ := pp
                      obtain ⟨f1, f2, f3, f4, m3, e6, g6, gp6, p3, x3⟩ := h123.1 kz w hgo
                      obtain ⟨ok3, hI3, hP3, cd3, hRd3, -⟩ := p3.ok
                      have x03 := x2.tr0 x3
                      have hR3 := x03.1 r hr xs c hR
                      have hAt : At L (offK kz) (enV w.2.1 w.2.2) := by
                        have := at_plug (xs := L) (a := 0) kz w f2 (by rw [f1, ← hL]; exact At.self)
                        rwa [Int.zero_add] at this
                      have hdw : dpF w.2.2 ≤ 32 := by
                        have : dpV w.2.1 w.2.2 ≤ 32 := by omega
                        rcases Nat.lt_or_ge w.2.1.1 5 with q | q
                        · rw [f3.2.2.1 q]; show 0 ≤ 32; omega
                        · unfold dpV at this; rw [if_neg (by omega)] at this; omega
                      have h147 := c147 (d := d - 1) (by omega) ok3.1 hRd3 hR3 (by omega) hx f3 w1 hAt vA
                      dsimp only
                      by_cases hs : smV w.2.1 w.2.2 d' l' = true
                      · rw [if_pos hs]
                        rw [hs] at h147
                        refine ⟨fun v' hv' => ?_, fun hv' => (by cases hv')⟩
                        cases hv'
                        refine ⟨m3, k2, st0 _ (q114_15 (by omega) hz _ (by rw [bV_eq (c115_1 hz), gd_of hP, v1, bI_eq e1, v2, bI_eq e2, bI_eq y1, if_pos rfl, bI_eq y2, if_pos rfl, bI_eq y3, if_pos rfl, bI_eq y4, if_neg (by decide), bI_eq e3, bV_eq e5, bV_eq e6, nm_eq, gd_of hRd3.1, gp6.1, bI_eq h147]; exact bV_eq (c115_1 ok3.1))), ?_, x03⟩
                        rw [← hL]; exact p3.forget
                      · rw [if_neg hs]
                        have hs : smV w.2.1 w.2.2 d' l' = false := by simpa using hs
                        rw [hs] at h147
                        refine ⟨fun v' hv' => (by cases hv'), fun _ => ?_⟩
                        obtain ⟨p4, x4⟩ := p3.thr
                        exact ⟨_, k2, L, st0 _ (q114_15 (by omega) hz _ (by rw [bV_eq (c115_1 hz), gd_of hP, v1, bI_eq e1, v2, bI_eq e2, bI_eq y1, if_pos rfl, bI_eq y2, if_pos rfl, bI_eq y3, if_pos rfl, bI_eq y4, if_neg (by decide), bI_eq e3, bV_eq e5, bV_eq e6, nm_eq, gd_of hRd3.1, gp6.1, bI_eq h147]; exact bV_xq (c115_0 ok3.1))), p4, x03.tr0 x4⟩
              · rw [if_neg b4]
                rw [if_neg b4] at y4
                -- the move and the copy
                have go246 : ∀ (s0 mv : Int), ((op = wMov ∨ op = wCop) → s0 = 1) → (¬ (op = wMov ∨ op = wCop) → s0 = 0) → mv = b2i (decide (op = wMov)) → ∀ Q, rn d 114 246 [pR P, pR r, pI a, pI sv, pI pv, pI mv] [pI s0] m = some Q → cl d 114 [pR P, pR r, pI a] m = some Q := by
                  intro s0 mv q1 q2 q3 Q hQ
                  refine st0 _ (q114_15 (by omega) hz _ ?_)
                  rw [bV_eq (c115_1 hz), gd_of hP, v1, bI_eq e1, v2, bI_eq e2, bI_eq y1, if_pos rfl, bI_eq y2, if_pos rfl, bI_eq y3, if_pos rfl, bI_eq y4, if_pos rfl, bI_eq y5]
                  by_cases b5 : op = wMov
                  · rw [q1 (Or.inl b5), q3, decide_eq_true b5] at hQ
                    rw [if_pos b5, if_neg (by decide)]; exact hQ
                  · rw [if_neg b5, if_pos rfl, bI_eq y6]
                    rw [q3, decide_eq_false b5] at hQ
                    by_cases b6 : op = wCop
                    · rw [q1 (Or.inr b6)] at hQ
                      rw [if_pos b6, if_neg (by decide)]; exact hQ
                    · rw [q2 (fun q => by rcases q with q | q; exact b5 q; exact b6 q)] at hQ
                      rw [if_neg b6, if_pos rfl]; exact hQ
                by_cases b5 : op = wMov ∨ op = wCop
                · rw [if_pos b5]
                  have c4 := c116 (d := d - 1) (P := P) (b := 17) (k := wFrom) (by omega) hP hz hR hWr hA ho.2.2.1 h6 hx at17 (by intro u hu; unfold wFrom at hu; simp at hu; omega) (by decide)
                  cases h4 : strM o.2.2 wFrom with
                  | none =>
                    refine ⟨fun v' hv' => (by cases hv'), fun _ => ⟨_, k, L, go246 1 _ (fun _ => rfl) (fun q => absurd b5 q) rfl _ (q114_246 (by omega) hz _ (by rw [bV_eq (c115_1 hz), gd_of hP, v4, bI_xq (c4.1 h4)])), tb, tx⟩⟩
                  | some fr =>
                    obtain ⟨wfr, fv, fv0, fa1, fa2, e5⟩ := c4.2 fr h4
                    obtain ⟨fd, fl, ff1, ff2, ff3⟩ := strM_some h4
                    have sfr : sur fr := by rw [ff3]; exact (fnd_wf hkF.1 hkF.2 ff1).2.1
                    have lfr : (uts fr).length + 2 ≤ (prV fd fl).length := by rw [prV_4 ff2, ff3]; exact uts_prS _
                    have lfr1 := fnd_pr1 (ob := o.2.1.1 == 6) (fst := true) ff1
                    have h127 := c127 (d := d - 1) (s := fv) (t := pv) (path := path) (fr := fr) (mv := decide (op = wMov)) (by omega) hL hLl hv hdp h hr hR hx fa2 pa2 wpa spa (by omega) wfr sfr (by omega)
                    dsimp only
                    refine ⟨fun v' hv' => ?_, fun hv' => ?_⟩
                    · obtain ⟨m1, k1, e6, p1, x1⟩ := h127.1 v' hv'
                      exact ⟨m1, k1, go246 1 _ (fun _ => rfl) (fun q => absurd b5 q) rfl _ (q114_246 (by omega) hz _ (by rw [bV_eq (c115_1 hz), gd_of hP, v4, bI_eq e5, bV_eq e6])), p1, x1⟩
                    · obtain ⟨m1, k1, L1, e6, p1, x1⟩ := h127.2 hv'
                      exact ⟨m1, k1, L1, go246 1 _ (fun _ => rfl) (fun q => absurd b5 q) rfl _ (q114_246 (by omega) hz _ (by rw [bV_eq (c115_1 hz), gd_of hP, v4, bI_eq e5, bV_xq e6])), p1, x1⟩
                · rw [if_neg b5]
                  exact ⟨fun v' hv' => (by cases hv'), fun _ => ⟨_, k, L, go246 0 _ (fun q => absurd q b5) (fun _ => rfl) rfl _ (q114_246 (by omega) hz _ (by rw [bV_xq (c115_0 hz)])), tb, tx⟩⟩
  · refine ⟨fun v' hv' => ?_, fun _ => ⟨_, k, L, q114 (by omega) hz _ (by rw [gd_of hR.1, bI_eq e139, if_neg (by omega)]; exact q114_15 (by omega) hz _ (by rw [bV_xq (c115_0 hz)])), tb, tx⟩⟩
    unfold pSt at hv'; rw [if_pos h6] at hv'; cases hv'
end
