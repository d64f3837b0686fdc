/-! the patcher: transfer, from its beginning -/
set_option maxRecDepth 100000
set_option maxHeartbeats 4000000
theorem pref_byte {fr path : List Int} (wf : wfU fr) (wp : wfU path) (h : (uts fr).length ≤ (uts path).length ∧ uts fr = (uts path).take (uts fr).length) (hne : path ≠ fr) : (uts fr).length < (uts path).length ∧ (gi (uts path) (uts fr).length = 47 ↔ fr ++ [47] <+: path) := by
  obtain ⟨h1, h2⟩ := h
  have h3 : uts fr ++ (uts path).drop (uts fr).length = uts path := by
    conv => lhs; lhs; rw [h2]
    exact List.take_append_drop _ _
  obtain ⟨cc, e1, e2⟩ := uts_prefix fr path _ wf wp h3
  cases cc with
  | nil => exact absurd (by rw [e1, List.append_nil]) hne
  | cons u cc =>
    have hu : 0 ≤ u ∧ u < 65536 := wp u (by rw [e1]; simp)
    have el : uts path = uts fr ++ (utf u ++ uts cc) := by rw [e1, uts_app, uts_cons]
    have ul := utf_len u
    have g0 : gi (uts path) (uts fr).length = gi (utf u) 0 := by
      rw [el, gi_app_r (by omega), Int.sub_self, gi_app_l (by decide) (by omega)]
    refine ⟨by rw [el, List.length_append, List.length_append]; omega, ?_⟩
    rw [g0]
    by_cases h128 : u < 128
    · have e : utf u = [u] := by unfold utf; rw [if_pos h128]
      rw [e, gi_zero]
      constructor
      · intro q; rw [e1, q]; exact ⟨cc, by simp⟩
      · rintro ⟨z, hz⟩
        rw [e1, List.append_assoc] at hz
        have := List.append_cancel_left hz
        simp only [List.cons_append, List.nil_append, List.cons.injEq] at this
        exact this.1.symm
    · obtain ⟨b, r', q1, q2⟩ := utf_big (u := u) (by omega)
      rw [q1, gi_zero]
      constructor
      · intro q; omega
      · rintro ⟨z, hz⟩
        rw [e1, List.append_assoc] at hz
        have := List.append_cancel_left hz
        simp only [List.cons_append, List.nil_append, List.cons.injEq] at this
        omega
theorem pref_conv {fr path : List Int} (h : fr ++ [47] <+: path) : ((uts fr).length ≤ (uts path).length ∧ uts fr = (uts path).take (uts fr).length) ∧ path ≠ fr := by
  obtain ⟨z, hz⟩ := h
  have e : uts path = uts fr ++ uts (47 :: z) := by rw [← hz, List.append_assoc, uts_app]; rfl
  refine ⟨⟨by rw [e, List.length_append]; omega, by rw [e, List.take_left]⟩, fun q => ?_⟩
  rw [q] at hz
  have := congrArg List.length hz
  simp at this
section
variable {d : Nat} {m m' : Mem} {P k r c : Int} {L xs : List Int} {Ho : Option (List Int)} {To : Option (List (List Int))}
theorem c127 {s t : Int} {v : Vl} {path fr : List Int} {mv : Bool} (hd : 11 ≤ d) (hL : L = enV v.2.1 v.2.2) (hLl : L.length ≤ 750) (hv : GV v) (hdp : dpV v.2.1 v.2.2 ≤ 32) (h : PB m P L Ho To k) (hr : ¬ pRw m P r) (hR : RW m r xs c) (hx : xs.length < 60000) (hS : At xs s (4 :: nmB fr)) (hT : At xs t (4 :: nmB path)) (wp : wfU path) (sp : sur path) (hpl : (uts path).length ≤ 1300) (wf : wfU fr) (sf : sur fr) (hfl : (uts fr).length ≤ 1300) :
    (∀ v', trS mv path fr v = some v' → ∃ m' k', cl d 127 [pR P, pR r, pI s, pI t, pI (b2i mv)] m = some (.inl none, m') ∧ PB m' P (enV v'.2.1 v'.2.2) none none k' ∧ PX m P k m' k' 0) ∧
    (trS mv path fr v = none → ∃ m' k' L', cl d 127 [pR P, pR r, pI s, pI t, pI (b2i mv)] m = some (.inr 206, m') ∧ PB m' P L' none none k' ∧ PX m P k m' k' 1) := by
  obtain ⟨okm, -, hP, -⟩ := h.ok
  have nl1 := nmB_len fr
  have nl2 := nmB_len path
  have s0 := hS.1
  have s1 := hS.2.1
  have t0 := hT.1
  have t1 := hT.2.1
  simp only [List.length_cons] at s1 t1
  have hS1 := hS.cons.2
  have hT1 := hT.cons.2
  have e134s := c134 (d := d - 1) (a := s + 1) okm.1 hR (by omega) (by omega)
  rw [tw_nm hS1 (by omega)] at e134s
  have e134t := c134 (d := d - 1) (a := t + 1) okm.1 hR (by omega) (by omega)
  rw [tw_nm hT1 (by omega)] at e134t
  have hSb : At xs (s + 3) (uts fr) := by
    have := hS1.app.2
    rw [l2_len] at this
    rw [show s + 3 = s + 1 + ((2 : Nat) : Int) by omega]; exact this
  have hTb : At xs (t + 3) (uts path) := by
    have := hT1.app.2
    rw [l2_len] at this
    rw [show t + 3 = t + 1 + ((2 : Nat) : Int) by omega]; exact this
  -- the flag
  have flag : ∀ Q, (∀ z : Bool, (z = true ↔ (uts fr).length ≤ (uts path).length ∧ uts fr = (uts path).take (uts fr).length) → rn d 127 46 [pR P, pR r, pI s, pI t, pI (b2i mv), pI (uts fr).length, pI (uts path).length, pU] [pI (b2i z)] m = some Q) → cl d 127 [pR P, pR r, pI s, pI t, pI (b2i mv)] m = some Q := by
    intro Q hQ
    refine q127 (by omega) okm.1 _ ?_
    rw [gd_of hR.1, (w32_of (by omega) (by omega) : w32 (s + 1) = s + 1), bI_eq e134s, (w32_of (by omega) (by omega) : w32 (t + 1) = t + 1), bI_eq e134t]
    by_cases hlt : ((uts path).length : Int) < (uts fr).length
    · rw [if_pos hlt]
      exact hQ false ⟨fun q => (by cases q), fun q => absurd q.1 (by omega)⟩
    · have e135 := c135 (d := d - 1) (a := s + 3) (b := t + 3) (n := (uts fr).length) okm.1 hR hR hSb (w := (uts path).take (uts fr).length) (At.app (zs := (uts path).drop (uts fr).length) (by rw [List.take_append_drop]; exact hTb)).1 rfl (by rw [gi_take' (by omega)])
      rw [if_neg hlt, (w32_of (by omega) (by omega) : w32 (s + 3) = s + 3), (w32_of (by omega) (by omega) : w32 (t + 3) = t + 3), bI_eq e135]
      by_cases he : uts fr = (uts path).take (uts fr).length
      · rw [if_pos he, if_neg (by decide)]
        exact hQ true ⟨fun _ => ⟨by omega, he⟩, fun _ => rfl⟩
      · rw [if_neg he, if_pos rfl]
        exact hQ false ⟨fun q => (by cases q), fun q => absurd q.2 he⟩
  have h120 := t120 (d := d - 1) (by omega) h hr hR hT wp hx (by omega)
  unfold trS
  cases hpt : ptr path with
  | none =>
    refine ⟨fun v' h => (by cases h), fun _ => ?_⟩
    obtain ⟨m1, k1, e1, b1, x1⟩ := h120.2 hpt
    exact ⟨m1, k1, L, flag _ (fun z hz => q127_46 (by omega) okm.1 _ (by rw [gd_of hP, bV_xq e1])), b1, x1⟩
  | some tks =>
    obtain ⟨m1, k1, e1, b1, x1⟩ := h120.1 tks hpt
    have hr1 : ¬ pRw m1 P r := fun q => hr ((x1.2.1 r).mp q)
    have hR1 := x1.1 r hr xs c hR
    have h120s := t120 (d := d - 1) (by omega) b1 hr1 hR1 hS wf hx (by omega)
    dsimp only
    cases hpf : ptr fr with
    | none =>
      refine ⟨fun v' h => (by cases h), fun _ => ?_⟩
      obtain ⟨m2, k2, e2, b2, x2⟩ := h120s.2 hpf
      exact ⟨m2, k2, L, flag _ (fun z hz => q127_46 (by omega) okm.1 _ (by rw [gd_of hP, bV_eq e1, bV_xq e2])), b2, x1.tr0 x2⟩
    | some ftk =>
      obtain ⟨m2, k2, e2, b2, x2⟩ := h120s.1 ftk hpf
      have hT0 := ptr_okT wf sf (by omega) hpf
      have h123 := t123 (d := d - 1) (by omega) hL (by omega) hT0 hv.2.2.1 hdp b2
      dsimp only
      cases hgo : goZ ftk [] v with
      | none =>
        refine ⟨fun v' h => (by cases h), fun _ => ?_⟩
        obtain ⟨m3, e3, b3, x3⟩ := h123.2 hgo
        exact ⟨m3, k2, L, flag _ (fun z hz => q127_46 (by omega) okm.1 _ (by rw [gd_of hP, bV_eq e1, bV_eq e2, bV_xq e3])), b3, (x1.tr0 x2).tr0 x3⟩
      | some p =>
        obtain ⟨kz, w⟩ := p
        obtain ⟨a1, a2, a3, a4, m3, e3, g3, gp3, b3, x3⟩ := h123.1 kz w hgo
        have x03 := (x1.tr0 x2).tr0 x3
        have hr3 : ¬ pRw m3 P r := fun q => hr ((x03.2.1 r).mp q)
        have hR3 := x03.1 r hr xs c hR
        obtain ⟨ok3, -, hP3, -⟩ := b3.ok
        dsimp only
        obtain ⟨z0, hz0⟩ : ∃ z : Bool, (z = true ↔ (uts fr).length ≤ (uts path).length ∧ uts fr = (uts path).take (uts fr).length) := ⟨decide _, decide_eq_true_iff⟩
        have flag0 : ∀ Q, rn d 127 46 [pR P, pR r, pI s, pI t, pI (b2i mv), pI (uts fr).length, pI (uts path).length, pU] [pI (b2i z0)] m = some Q → cl d 127 [pR P, pR r, pI s, pI t, pI (b2i mv)] m = some Q := fun Q hQ => flag Q (fun z hz => by
          have e : z = z0 := by
            have := hz.trans hz0.symm
            cases z <;> cases z0 <;> simp at this ⊢
          rw [e]; exact hQ)
        -- to the next part
        have main := c127_117 (fr := fr) (d := d) (t := t) (s := s) (a5 := (uts fr).length) (a6 := (uts path).length) (a7 := b2i z0) (mv := mv) (by omega) hL hLl hv hdp b3 hT0 hr3 hR3 hx hT wp sp hpl hpt hgo gp3.1
        cases mv with
        | false =>
          have st : ∀ Q, rn d 127 117 [pR P, pR r, pI s, pI t, pI (b2i false), pI (uts fr).length, pI (uts path).length, pI (b2i z0)] [pI 1] m3 = some Q → cl d 127 [pR P, pR r, pI s, pI t, pI (b2i false)] m = some Q := by
            intro Q hQ
            refine flag0 Q (q127_46 (by omega) okm.1 _ ?_)
            rw [gd_of hP, bV_eq e1, bV_eq e2, bV_eq e3, if_pos (by rfl)]
            exact q127_86 ok3.1 _ (by rw [if_pos (by rfl)]; exact hQ)
          rw [if_pos rfl] at main ⊢
          refine ⟨fun v' hv' => ?_, fun hv' => ?_⟩
          · obtain ⟨m4, k4, e4, b4, x4⟩ := main.1 v' hv'
            exact ⟨m4, k4, st _ e4, b4, x03.tr0 x4⟩
          · obtain ⟨m4, k4, L4, e4, b4, x4⟩ := main.2 hv'
            exact ⟨m4, k4, L4, st _ e4, b4, x03.tr0 x4⟩
        | true =>
          rw [if_neg (by decide)] at main ⊢
          have st46 : ∀ Q, (if b2i z0 = 0 then rn d 127 86 [pR P, pR r, pI s, pI t, pI (b2i true), pI (uts fr).length, pI (uts path).length, pI (b2i z0)] [] m3 else if ((uts path).length : Int) = (uts fr).length then some (.inl none, m3) else rn d 127 86 [pR P, pR r, pI s, pI t, pI (b2i true), pI (uts fr).length, pI (uts path).length, pI (b2i z0)] [] m3) = some Q → cl d 127 [pR P, pR r, pI s, pI t, pI (b2i true)] m = some Q := by
            intro Q hQ
            refine flag0 Q (q127_46 (by omega) okm.1 _ ?_)
            rw [gd_of hP, bV_eq e1, bV_eq e2, bV_eq e3, if_neg (by decide)]
            exact hQ
          by_cases hpe : path = fr
          · rw [if_pos hpe]
            refine ⟨fun v' hv' => ?_, fun hv' => (by cases hv')⟩
            cases hv'
            have ez : z0 = true := hz0.mpr (by rw [hpe]; exact ⟨Nat.le_refl _, (List.take_length).symm⟩)
            refine ⟨m3, k2, st46 _ ?_, by rw [← hL]; exact b3.forget, x03⟩
            rw [ez, if_neg (by decide), if_pos (by rw [hpe])]
          · rw [if_neg hpe]
            by_cases hpp : fr ++ [47] <+: path
            · rw [if_pos hpp]
              refine ⟨fun v' hv' => (by cases hv'), fun _ => ?_⟩
              have hcnd := (pref_conv hpp).1
              have ez : z0 = true := hz0.mpr hcnd
              obtain ⟨pl, pb⟩ := pref_byte wf wp hcnd hpe
              have hby := pb.mpr hpp
              obtain ⟨b4, x4⟩ := b3.thr
              have hg : gi xs (t + 3 + (uts fr).length) = 47 := by rw [hTb.2.2 _ (by omega) (by omega)]; exact hby
              have hbd := hTb.2.1
              have hll := hR3.2.2.2.2.1
              have hlc := hR3.2.2.1
              refine ⟨_, k2, L, st46 _ ?_, b4, x03.tr0 x4⟩
              rw [ez, if_neg (by decide), if_neg (by omega)]
              refine q127_86 ok3.1 _ ?_
              rw [if_neg (by decide), if_neg (by decide), gd_of hR3.1, nm_eq, nm_eq, (w32_of (by omega) (by omega) : w32 (t + 3) = t + 3), (w32_of (by omega) (by omega) : w32 (t + 3 + (uts fr).length) = t + 3 + (uts fr).length), gd_of hR3.2.1, gd_of ⟨by omega, by omega⟩, hR3.2.2.2.2.2.2 _ (by omega) (by omega), if_pos hg]
              exact q127_117 (by omega) ok3.1 _ (by rw [bV_xq (c115_0 ok3.1)])
            · rw [if_neg hpp]
              have st : ∀ Q, rn d 127 117 [pR P, pR r, pI s, pI t, pI (b2i true), pI (uts fr).length, pI (uts path).length, pI (b2i z0)] [pI 1] m3 = some Q → cl d 127 [pR P, pR r, pI s, pI t, pI (b2i true)] m = some Q := by
                intro Q hQ
                refine st46 Q ?_
                cases hz : z0 with
                | false =>
                  rw [hz] at hQ
                  rw [if_pos (by rfl)]
                  exact q127_86 ok3.1 _ (by rw [if_neg (by decide), if_pos (by rfl)]; exact hQ)
                | true =>
                  rw [hz] at hQ
                  have hcnd := hz0.mp hz
                  obtain ⟨pl, pb⟩ := pref_byte wf wp hcnd hpe
                  have hg : gi xs (t + 3 + (uts fr).length) ≠ 47 := by rw [hTb.2.2 _ (by omega) (by omega)]; exact fun q => hpp (pb.mp q)
                  have hbd := hTb.2.1
                  have hll := hR3.2.2.2.2.1
                  have hlc := hR3.2.2.1
                  rw [if_neg (by decide), if_neg (by omega)]
                  refine q127_86 ok3.1 _ ?_
                  rw [if_neg (by decide), if_neg (by decide), gd_of hR3.1, nm_eq, nm_eq, (w32_of (by omega) (by omega) : w32 (t + 3) = t + 3), (w32_of (by omega) (by omega) : w32 (t + 3 + (uts fr).length) = t + 3 + (uts fr).length), gd_of hR3.2.1, gd_of ⟨by omega, by omega⟩, hR3.2.2.2.2.2.2 _ (by omega) (by omega), if_neg hg]
                  exact hQ
              refine ⟨fun v' hv' => ?_, fun hv' => ?_⟩
              · obtain ⟨m4, k4, e4, b4, x4⟩ := main.1 v' hv'
                exact ⟨m4, k4, st _ e4, b4, x03.tr0 x4⟩
              · obtain ⟨m4, k4, L4, e4, b4, x4⟩ := main.2 hv'
                exact ⟨m4, k4, L4, st _ e4, b4, x03.tr0 x4⟩
end
