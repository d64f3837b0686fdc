/-! the patcher: transfer -/
set_option maxRecDepth 100000
set_option maxHeartbeats 4000000
theorem gi_take' {xs : List Int} {n : Nat} (h : n ≤ xs.length) : (xs.take n).length = n := by rw [List.length_take]; omega
section
variable {d : Nat} {m m' : Mem} {P k r c : Int} {L xs : List Int} {Ho : Option (List Int)} {To : Option (List (List Int))}
/-- from where the value was found on -/
theorem c127_117 {t s : Int} {v w : Vl} {kz : List Fr} {path fr : List Int} {tks ftk : List (List Int)} {a5 a6 a7 : Int} {mv : Bool} (hd : 10 ≤ d) (hL : L = enV v.2.1 v.2.2) (hLl : L.length ≤ 750) (hv : GV v) (hdp : dpV v.2.1 v.2.2 ≤ 32) (h : PB m P L Ho (some ftk) k) (hT0 : okT ftk) (hr : ¬ pRw m P r) (hR : RW m r xs c) (hx : xs.length < 60000) (hT : At xs t (4 :: nmB path)) (wp : wfU path) (sp : sur path) (hpl : (uts path).length ≤ 1300) (hpt : ptr path = some tks) (hgo : goZ ftk [] v = some (kz, w)) (hf : vl m P 14 = offK kz) :
    (∀ v', (if mv = false then adZ tks w v else match rmZ ftk v with | none => none | some v1 => adZ tks w v1) = some v' → ∃ m' k', rn d 127 117 [pR P, pR r, pI s, pI t, pI (b2i mv), pI a5, pI a6, pI a7] [pI 1] m = some (.inl none, m') ∧ PB m' P (enV v'.2.1 v'.2.2) none none k' ∧ PX m P k m' k' 0) ∧
    ((if mv = false then adZ tks w v else match rmZ ftk v with | none => none | some v1 => adZ tks w v1) = none → ∃ m' k' L', rn d 127 117 [pR P, pR r, pI s, pI t, pI (b2i mv), pI a5, pI a6, pI a7] [pI 1] m = some (.inr 206, m') ∧ PB m' P L' none none k' ∧ PX m P k m' k' 1) := by
  obtain ⟨okm, hI, hP, cd, hRd, -⟩ := h.ok
  obtain ⟨hplug, hkn, gw, gall⟩ := GV_go hv hgo
  have hok : okK kz := (t123 (d := d) (by omega) hL (by omega) hT0 hv.2.2.1 hdp h).1 kz w hgo |>.2.1
  have hAt : At L (offK kz) (enV w.2.1 w.2.2) := by
    have := at_plug (xs := L) (a := 0) kz w hok (by rw [hplug, ← hL]; exact At.self)
    rwa [Int.zero_add] at this
  have hwl : (enV w.2.1 w.2.2).length ≤ 750 := by have h1 := hAt.2.1; have h2 := hAt.1; omega
  obtain ⟨-, -, -, -, n57⟩ := h.rows
  obtain ⟨m1, k1, e1, b1, x1⟩ := t119 (d := d - 1) (r := vl m P 5) (a := offK kz) (by omega) h n57 hRd hAt gw.2.2.1.1 (by omega) (by omega)
  obtain ⟨ok1, hI1, hP1, cd1, hRd1, -⟩ := b1.ok
  have hr1 : ¬ pRw m1 P r := fun q => hr ((x1.2.1 r).mp q)
  have hR1 := x1.1 r hr xs c hR
  cases mv with
  | false =>
    have h2 := c127_201 (d := d) (t := t) (a2 := s) (a4 := 0) (a5 := a5) (a6 := a6) (a7 := a7) (by omega) hL hLl rfl hwl hv.2.2.1 hdp b1 hr1 hR1 hx hT wp sp hpl hpt
    have st : ∀ Q, rn d 127 201 [pR P, pR r, pI s, pI t, pI 0, pI a5, pI a6, pI a7] [] m1 = some Q → rn d 127 117 [pR P, pR r, pI s, pI t, pI (b2i false), pI a5, pI a6, pI a7] [pI 1] m = some Q := fun Q hQ => q127_117 (by omega) okm.1 _ (by rw [bV_eq (c115_1 okm.1), gd_of hP, hf, bV_eq e1, if_pos (show b2i false = 0 from rfl)]; exact hQ)
    rw [if_pos rfl]
    refine ⟨fun v' hv' => ?_, fun hv' => ?_⟩
    · obtain ⟨m2, k2, e2, b2, x2⟩ := h2.1 v' hv'
      exact ⟨m2, k2, st _ e2, b2, x1.tr0 x2⟩
    · obtain ⟨m2, k2, L2, e2, b2, x2⟩ := h2.2 hv'
      exact ⟨m2, k2, L2, st _ e2, b2, x1.tr0 x2⟩
  | true =>
    rw [if_neg (by decide)]
    obtain ⟨⟨ms1, cm1, hM1⟩, ⟨hs1, ch1, hH1, hH1e⟩, n78, n86, n57'⟩ := b1.rows
    obtain rfl := hH1e _ rfl
    obtain ⟨m2, cm2, e2, g2, f2, ok2⟩ := cpy (d := d - 1) (by omega) ok1 hI1 hH1 hM1 n78 (by omega)
    obtain ⟨⟨k2, b2, x2⟩, v82⟩ := b1.rg8 f2 (by rfl) (by rfl) (by rfl) ok2 hM1 g2 (by omega)
    have hP2 := b2.ok.2.2.1
    have h126 := t126 (d := d - 1) (by omega) hL hT0 hv.2.2.1 hdp b2 (by omega)
    have st1 : ∀ X : RM, (bV (cl (d - 1) 126 [pR P] m2) fun m4 => nm (vl m4 P 7) fun v8 => gd (tg m4 v8 = 8) <| nm (vl m4 P 8) fun v9 => gd (tg m4 v9 = 8) <| bV (cl (d - 1) 143 [pR v8, pR (vl m4 v9 0), pI 0, pI (vl (mst m4 v8 1 0) v9 1)] (mst m4 v8 1 0)) fun m5 => rn d 127 201 [pR P, pR r, pI s, pI t, pI 1, pI a5, pI a6, pI a7] [] m5) = X → ∀ Q, X = some Q → rn d 127 117 [pR P, pR r, pI s, pI t, pI (b2i true), pI a5, pI a6, pI a7] [pI 1] m = some Q := by
      intro X hX Q hQ
      refine q127_117 (by omega) okm.1 _ ?_
      have e0 : vl (mst m1 (vl m1 P 8) 1 0) (vl m1 P 7) 0 = vl m1 (vl m1 P 7) 0 := by rw [vl_mst, if_neg (by omega)]
      rw [e0] at e2
      rw [bV_eq (c115_1 okm.1), gd_of hP, hf, bV_eq e1, if_neg (show ¬ b2i true = 0 by decide), nm_eq, gd_of hM1.1, nm_eq, gd_of hH1.1, bV_eq e2]
      exact (by exact hX : _ = X).trans hQ
    cases hrm : rmZ ftk v with
    | none =>
      refine ⟨fun v' h => (by cases h), fun _ => ?_⟩
      obtain ⟨m3, e3, b3, x3⟩ := h126.2 hrm
      exact ⟨m3, k2, _, st1 _ (by rw [bV_xq e3]) _ rfl, b3, (x1.tr0 x2).tr0 x3⟩
    | some v1 =>
      obtain ⟨m3, k3, e3, b3, x3, ro3, v73, v83⟩ := h126.1 v1 hrm
      obtain ⟨ok3, hI3, hP3, -⟩ := b3.ok
      have hM3 : RW m3 (vl m3 P 8) (enV w.2.1 w.2.2) cm2 := by
        rw [v83, v82]
        obtain ⟨-, -, n78b, n86b, -⟩ := b2.rows
        rw [v82] at n78b n86b
        exact ro3 _ n86b (Ne.symm n78b) _ _ g2.1
      obtain ⟨-, ⟨hs3, ch3, hH3, -⟩, n78c, -, -⟩ := b3.rows
      obtain ⟨m4, ch4, e4, g4, f4, ok4⟩ := cpy (d := d - 1) (by omega) ok3 hI3 hM3 hH3 (Ne.symm n78c) (by omega)
      obtain ⟨k4, b4, x4⟩ := b3.rg7 f4 (by rfl) (by rfl) (by rfl) ok4 hH3 g4 (by omega)
      obtain ⟨gv1, dv1⟩ := GV_rmZ hv hrm
      have x04 := ((x1.tr0 x2).tr0 x3).tr0 x4
      have hr4 : ¬ pRw m4 P r := fun q => hr ((x04.2.1 r).mp q)
      have hR4 := x04.1 r hr xs c hR
      have hl1 : (enV v1.2.1 v1.2.2).length ≤ 750 := by
        have := rm_len hrm; rw [← hL] at this; omega
      have h2 := c127_201 (d := d) (t := t) (a2 := s) (a4 := 1) (a5 := a5) (a6 := a6) (a7 := a7) (by omega) rfl hl1 rfl hwl gv1.2.2.1 (by omega) b4 hr4 hR4 hx hT wp sp hpl hpt
      have st2 : ∀ Q, rn d 127 201 [pR P, pR r, pI s, pI t, pI 1, pI a5, pI a6, pI a7] [] m4 = some Q → rn d 127 117 [pR P, pR r, pI s, pI t, pI (b2i true), pI a5, pI a6, pI a7] [pI 1] m = some Q := fun Q hQ => by
        have e0 : vl (mst m3 (vl m3 P 7) 1 0) (vl m3 P 8) 0 = vl m3 (vl m3 P 8) 0 := by rw [vl_mst, if_neg (by omega)]
        rw [e0] at e4
        refine st1 _ ?_ _ hQ
        rw [bV_eq e3, nm_eq, gd_of hH3.1, nm_eq, gd_of hM3.1, bV_eq e4]
      refine ⟨fun v' hv' => ?_, fun hv' => ?_⟩
      · obtain ⟨m5, k5, e5, b5, x5⟩ := h2.1 v' hv'
        exact ⟨m5, k5, st2 _ e5, b5, x04.tr0 x5⟩
      · obtain ⟨m5, k5, L5, e5, b5, x5⟩ := h2.2 hv'
        exact ⟨m5, k5, L5, st2 _ e5, b5, x04.tr0 x5⟩
end
