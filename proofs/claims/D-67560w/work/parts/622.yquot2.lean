/-! the twin's texts: quoted strings -/
set_option maxRecDepth 100000
set_option maxHeartbeats 4000000
section
variable {d : Nat} {m : Mem} {tr n C : Int} {us : List Int}
theorem uC_mT {T f v : Int} (hT : tg m T ≠ 13) (h : TW m tr n us C) : uC (mst m T f v) tr = uC m tr := by
  have h1 := h.1
  have : tr ≠ T := by intro q; rw [q] at h1; exact hT h1
  unfold uC
  rw [vl_mst, if_neg (by omega)]; rfl
theorem TU.mT {T f v : Int} (hT : tg m T ≠ 13 ∧ tg m T < 100) (hI : TI m) : TU tr m (mst m T f v) := ⟨hI.mT hT.1, fun _ _ _ _ _ h => ⟨h.mT hT, uC_mT hT.1 h⟩, fun _ _ _ _ _ _ h f0 f1 => nv_mT hT h (Or.inl ⟨f0, f1⟩)⟩
/-- the tree's units have come to us' -/
def YQ (tr n C : Int) (m : Mem) (us' : List Int) (m' : Mem) : Prop := TW m' tr n us' C ∧ TU tr m m' ∧ GR m m' (uC m tr) (uC m' tr) ∧ uC m' tr ≤ max (uC m tr) (2 * us'.length) ∧ wfU us'
theorem YQ.mT {T f v : Int} (hT : tg m T ≠ 13 ∧ tg m T < 100) (hI : TI m) (h : TW m tr n us C) (hw : wfU us) : YQ tr n C m us (mst m T f v) := by
  refine ⟨h.mT hT, TU.mT hT hI, ?_, ?_, hw⟩
  · rw [uC_mT hT.1 h]; exact ⟨by omega, by show nx m - nx m ≤ _; omega, by show sl m - sl m ≤ _; omega⟩
  · rw [uC_mT hT.1 h]; omega
theorem YQ.trans {m1 m2 : Mem} {us1 us2 : List Int} (hw : TW m tr n us C) (h : YQ tr n C m us1 m1) (h' : YQ tr n C m1 us2 m2) (hl : us1.length ≤ us2.length) : YQ tr n C m us2 m2 := by
  obtain ⟨a1, a2, a3, a4, a5⟩ := h
  obtain ⟨b1, b2, b3, b4, b5⟩ := h'
  exact ⟨b1, a2.trans b2 hw a1, a3.trans b3, by omega, b5⟩
theorem YQ.unit {u : Int} (h : TW m tr n us C) (hT : TI m) (ok : OK m) (hw : wfU us) (hl : (us.length : Int) < 40000) (hu : 0 ≤ u ∧ u < 65536) : ∃ m', cl d 287 [pR tr, pI u] m = some (.inl none, m') ∧ YQ tr n C m (us ++ [u]) m' := by
  obtain ⟨m', e1, e2, e3, e4, e5⟩ := c287 (d := d) (u := u) h hT ok hw (by omega)
  rw [Int.emod_eq_of_lt hu.1 hu.2] at e2
  refine ⟨m', e1, e2, e3, e4, by rw [List.length_append]; omega, ?_⟩
  intro x hx
  rcases List.mem_append.mp hx with h1 | h1
  · exact hw x h1
  · simp at h1; rw [h1]; exact hu
end
section
variable {d : Nat} {M tp e q tr n C : Int} {t : Int → Int}
/-- bytes -/
def tB (t : Int → Int) (e : Int) : Prop := ∀ j, 0 ≤ j → j < e → -128 ≤ t j ∧ t j < 128
theorem c203_l (hd : 7 ≤ d) (hq : q = 34 ∨ q = 39) (hB : tB t e) : ∀ (N : Nat) (i : Int) (m : Mem) (us : List Int) (z3 z4 z5 z6 : PV), (e - i).toNat ≤ N → cat z3 = 1 → cat z4 = 1 → cat z5 = 1 → cat z6 = 1 → OK m → TI m → YX m M tp e i t → SC m 52 cEsc → TW m tr n us C → wfU us → (us.length : Int) + (e - i) ≤ 40000 →
    (∀ vs j, pS t e q N i = .inr (vs, j) → i < j ∧ j ≤ e ∧ (vs.length : Int) ≤ j - i - 1 ∧ ∃ m', rn d 203 10 [pR M, pI q, pR tr, z3, z4, z5, z6] [] m = some (.inl (some (pI 1)), m') ∧ YX m' M tp e j t ∧ YQ tr n C m (us ++ vs) m') ∧
    (∀ p, pS t e q N i = .inl p → ∃ m' vs, rn d 203 10 [pR M, pI q, pR tr, z3, z4, z5, z6] [] m = some (.inl (some (pI 0)), m') ∧ vl m' M 14 = p ∧ YQ tr n C m (us ++ vs) m' ∧ (vs.length : Int) ≤ e - i) := by
  intro N
  induction N with
  | zero =>
    intro i m us z3 z4 z5 z6 hN h3 h4 h5 h6 ok hT h hS hw hU hL
    have hM := h.1
    have b3 := h.2.2.1
    have b4 := h.2.2.2.1
    have b8 := h.2.2.2.2.1
    have b6 := h.2.2.2.2.2.2.1
    have h199 := c199 (d := d - 1) ok.1 h
    have hpm : pk t e i = -1 := by unfold pk; rw [if_neg (by omega)]
    simp only [pS]
    refine ⟨fun us j hE => (by cases hE), fun p hp => ?_⟩
    cases hp
    refine ⟨mst m M 14 i, [], ?_, ?_, ?_, by simp; omega⟩
    · refine q203_10 (by omega) ok.1 h3 h4 h5 h6 _ ?_
      rw [gd_of hM, bI_eq h199, if_neg (by omega), nm_eq, bI_eq h199, if_pos (by omega)]
      refine q203_43 (by omega) ok.1 h5 h6 _ ?_
      rw [gd_of hM, nm_eq, nm_eq, b4, b3, if_neg (by omega), bI_eq (c202 ok.1 hM b8), gd_of (Or.inl rfl), show e = i by omega]
    · rw [vl_mst, if_pos ⟨rfl, rfl⟩]
    · rw [List.append_nil]; exact YQ.mT (by omega) hT hw hU
  | succ N ih =>
    intro i m us z3 z4 z5 z6 hN h3 h4 h5 h6 ok hT h hS hw hU hL
    have hM := h.1
    have b3 := h.2.2.1
    have b4 := h.2.2.2.1
    have b8 := h.2.2.2.2.1
    have b6 := h.2.2.2.2.2.2.1
    have h199 := c199 (d := d - 1) ok.1 h
    have hM13 : tg m M ≠ 13 ∧ tg m M < 100 := by omega
    have hw1 := hw.1
    unfold pS
    by_cases hqq : pk t e i = q
    · rw [if_pos hqq]
      refine ⟨fun vs j hE => ?_, fun p hp => (by cases hp)⟩
      cases hE
      have hie : i < e := pkf_lt (t := t) (by omega)
      refine ⟨by omega, by omega, by simp; omega, mst m M 12 (i + 1), ?_, h.at (by omega) (by omega), ?_⟩
      · refine q203_10 (by omega) ok.1 h3 h4 h5 h6 _ ?_
        rw [gd_of hM, bI_eq h199, if_pos hqq, b4, w32_of (by omega) (by omega)]
      · rw [List.append_nil]; exact YQ.mT hM13 hT hw hU
    rw [if_neg hqq]
    have fin : ∀ p0 m' vs, sC t e q i = .inl p0 → rn d 203 10 [pR M, pI q, pR tr, z3, z4, z5, z6] [] m = some (.inl (some (pI 0)), m') → vl m' M 14 = p0 → YQ tr n C m (us ++ vs) m' → (vs.length : Int) ≤ e - i →
        (∀ vs j, (match sC t e q i with
          | .inl p => .inl p
          | .inr (us, j) => match pS t e q N j with
            | .inl p => .inl p
            | .inr (vs, k) => .inr (us ++ vs, k) : Int ⊕ (List Int × Int)) = .inr (vs, j) → i < j ∧ j ≤ e ∧ (vs.length : Int) ≤ j - i - 1 ∧ ∃ m', rn d 203 10 [pR M, pI q, pR tr, z3, z4, z5, z6] [] m = some (.inl (some (pI 1)), m') ∧ YX m' M tp e j t ∧ YQ tr n C m (us ++ vs) m') ∧
        (∀ p, (match sC t e q i with
          | .inl p => .inl p
          | .inr (us, j) => match pS t e q N j with
            | .inl p => .inl p
            | .inr (vs, k) => .inr (us ++ vs, k) : Int ⊕ (List Int × Int)) = .inl p → ∃ m' vs, rn d 203 10 [pR M, pI q, pR tr, z3, z4, z5, z6] [] m = some (.inl (some (pI 0)), m') ∧ vl m' M 14 = p ∧ YQ tr n C m (us ++ vs) m' ∧ (vs.length : Int) ≤ e - i) := by
      intro p0 m' vs hc hr hv hy hl
      rw [hc]
      refine ⟨fun vs j hE => (by cases hE), fun p hp => ?_⟩
      cases hp
      exact ⟨m', vs, hr, hv, hy, hl⟩
    have cont : ∀ us1 j1 m2 w3 w4 w5 w6, sC t e q i = .inr (us1, j1) → i < j1 → j1 ≤ e → (us1.length : Int) ≤ j1 - i → YX m2 M tp e j1 t → SC m2 52 cEsc → OK m2 → YQ tr n C m (us ++ us1) m2 → cat w3 = 1 → cat w4 = 1 → cat w5 = 1 → cat w6 = 1 → (∀ Q, rn d 203 10 [pR M, pI q, pR tr, w3, w4, w5, w6] [] m2 = some Q → rn d 203 10 [pR M, pI q, pR tr, z3, z4, z5, z6] [] m = some Q) →
        (∀ vs j, (match sC t e q i with
          | .inl p => .inl p
          | .inr (us, j) => match pS t e q N j with
            | .inl p => .inl p
            | .inr (vs, k) => .inr (us ++ vs, k) : Int ⊕ (List Int × Int)) = .inr (vs, j) → i < j ∧ j ≤ e ∧ (vs.length : Int) ≤ j - i - 1 ∧ ∃ m', rn d 203 10 [pR M, pI q, pR tr, z3, z4, z5, z6] [] m = some (.inl (some (pI 1)), m') ∧ YX m' M tp e j t ∧ YQ tr n C m (us ++ vs) m') ∧
        (∀ p, (match sC t e q i with
          | .inl p => .inl p
          | .inr (us, j) => match pS t e q N j with
            | .inl p => .inl p
            | .inr (vs, k) => .inr (us ++ vs, k) : Int ⊕ (List Int × Int)) = .inl p → ∃ m' vs, rn d 203 10 [pR M, pI q, pR tr, z3, z4, z5, z6] [] m = some (.inl (some (pI 0)), m') ∧ vl m' M 14 = p ∧ YQ tr n C m (us ++ vs) m' ∧ (vs.length : Int) ≤ e - i) := by
      intro us1 j1 m2 w3 w4 w5 w6 hc j0 j2 hl1 hx hs2 ok2 hy c3 c4 c5 c6 step
      rw [hc]
      dsimp only
      have hI := ih j1 m2 (us ++ us1) w3 w4 w5 w6 (by omega) c3 c4 c5 c6 ok2 hy.2.1.1 hx hs2 hy.1 hy.2.2.2.2 (by rw [List.length_append]; omega)
      cases hp : pS t e q N j1 with
      | inl p0 =>
        refine ⟨fun vs j hE => (by cases hE), fun p hp2 => ?_⟩
        cases hp2
        obtain ⟨m3, vs, r1, r2, r3, r4⟩ := hI.2 p0 hp
        rw [List.append_assoc] at r3
        exact ⟨m3, us1 ++ vs, step _ r1, r2, hy.trans hw r3 (by simp), by rw [List.length_append]; omega⟩
      | inr w =>
        obtain ⟨vs, k⟩ := w
        refine ⟨fun vs' j hE => ?_, fun p hp2 => (by cases hp2)⟩
        cases hE
        obtain ⟨r1, r2, r5, m3, r6, r7, r8⟩ := hI.1 vs k hp
        rw [List.append_assoc] at r8
        exact ⟨by omega, r2, by rw [List.length_append]; omega, m3, step _ r6, r7, hy.trans hw r8 (by simp)⟩
    by_cases c1 : pk t e i < 32 ∨ 126 < pk t e i
    · have hsc : sC t e q i = .inl i := by unfold sC; rw [if_pos c1]
      refine fin i (mst m M 14 i) [] hsc ?_ (by rw [vl_mst, if_pos ⟨rfl, rfl⟩]) (by rw [List.append_nil]; exact YQ.mT hM13 hT hw hU) (by simp; omega)
      have r43 : rn d 203 43 [pR M, pI q, pR tr, pI i, pI (pk t e i), z5, z6] [] m = some (.inl (some (pI 0)), mst m M 14 i) := by
        refine q203_43 (by omega) ok.1 h5 h6 _ ?_
        rw [gd_of hM, nm_eq, nm_eq, b4, b3]
        by_cases hie : i < e
        · rw [if_pos hie, bI_eq (c202 ok.1 hM b8), gd_of (Or.inl rfl)]
        · rw [if_neg hie, bI_eq (c202 ok.1 hM b8), gd_of (Or.inl rfl), show e = i by omega]
      refine q203_10 (by omega) ok.1 h3 h4 h5 h6 _ ?_
      rw [gd_of hM, bI_eq h199, if_neg hqq, nm_eq, bI_eq h199, b4]
      by_cases d1 : pk t e i < 32
      · rw [if_pos d1]; exact r43
      · rw [if_neg d1, if_pos (by omega)]; exact r43
    have hie : i < e := pkf_lt (t := t) (by omega)
    by_cases c2 : pk t e i = 92
    · have h204 := c204 (d := d - 1) (by omega) ok.1 h hS hie hq
      have hsE := sC_eC hie c2 hq
      have s1 : ∀ X : RM, (bI (cl (d - 1) 204 [pR M, pI q] m) fun v3 m3 => if v3 < 0 then (some (.inl (some (pI 0)), m3)) else if v3 < 56320 then (rn d 203 130 [pR M, pI q, pR tr, pI i, pI 92, pI v3, z6] [] m3) else if 57343 < v3 then (rn d 203 130 [pR M, pI q, pR tr, pI i, pI 92, pI v3, z6] [] m3) else bI (cl (d - 1) 202 [pR M, pI i] m3) fun v4 m4 => gd (v4 = 0 ∨ v4 = 1) <| some (.inl (some (pI v4)), m4)) = X → ∀ Q, X = some Q → rn d 203 10 [pR M, pI q, pR tr, z3, z4, z5, z6] [] m = some Q := by
        intro X hX Q hQ
        refine q203_10 (by omega) ok.1 h3 h4 h5 h6 _ ?_
        rw [gd_of hM, bI_eq h199, if_neg hqq, nm_eq, bI_eq h199, b4, if_neg (by omega), if_neg (by omega), if_pos c2, c2, hX]; exact hQ
      cases hU1 : eU t e q i with
      | inl p0 =>
        obtain ⟨j, e1⟩ := h204.2 p0 hU1
        refine fin p0 _ [] (by rw [hsE]; unfold eC; rw [hU1]) (s1 _ (by rw [bI_eq e1, if_pos (by decide)]) _ rfl) (by rw [vl_mst, if_pos ⟨rfl, rfl⟩]) ?_ (by simp; omega)
        rw [List.append_nil]
        have y1 : YQ tr n C m us (mst m M 12 j) := YQ.mT hM13 hT hw hU
        exact y1.trans hw (YQ.mT hM13 y1.2.1.1 y1.1 hU) (Nat.le_refl _)
      | inr w =>
        obtain ⟨u, j⟩ := w
        obtain ⟨u0, u1, j0, j1, e1⟩ := h204.1 u j hU1
        have hx1 : YX (mst m M 12 j) M tp e j t := h.at (by omega) j1
        have y1 : YQ tr n C m us (mst m M 12 j) := YQ.mT hM13 hT hw hU
        have ok1 : OK (mst m M 12 j) := ok
        have hM1 : tg (mst m M 12 j) M = 11 := hM
        have hS1 : SC (mst m M 12 j) 52 cEsc := hS.mT (by omega)
        have hw1' : tg (mst m M 12 j) tr = 13 := hw1
        unfold eC at hsE
        rw [hU1] at hsE
        dsimp only at hsE
        by_cases d1 : 56320 ≤ u ∧ u < 57344
        · rw [if_pos d1] at hsE
          refine fin i (mst (mst m M 12 j) M 14 i) [] hsE (s1 _ ?_ _ rfl) (by rw [vl_mst, if_pos ⟨rfl, rfl⟩]) ?_ (by simp; omega)
          · rw [bI_eq e1, if_neg (by omega), if_neg (by omega), if_neg (by omega), bI_eq (c202 ok1.1 hM1 hx1.2.2.2.2.1), gd_of (Or.inl rfl)]
          · rw [List.append_nil]
            exact y1.trans hw (YQ.mT hM13 y1.2.1.1 y1.1 hU) (Nat.le_refl _)
        rw [if_neg d1] at hsE
        have s2 : ∀ Q, rn d 203 130 [pR M, pI q, pR tr, pI i, pI 92, pI u, z6] [] (mst m M 12 j) = some Q → rn d 203 10 [pR M, pI q, pR tr, z3, z4, z5, z6] [] m = some Q := by
          intro Q hQ
          refine s1 _ ?_ _ hQ
          rw [bI_eq e1, if_neg (by omega)]
          by_cases f1 : u < 56320
          · rw [if_pos f1]
          · rw [if_neg f1, if_pos (by omega)]
        obtain ⟨m2, e2, y2⟩ := YQ.unit (d := d - 1) (u := u) y1.1 y1.2.1.1 ok1 hU (by omega) ⟨u0, u1⟩
        have y12 := y1.trans hw y2 (by simp)
        have hx2 := hx1.fr (cl_FRM e2) ok1.1 (by rfl)
        have ok2 := ok1.fr (cl_FRM e2)
        have hS2 := hS1.fr (cl_FRM e2) ok1.1 (by rfl)
        by_cases d2 : u < 55296 ∨ 56319 < u
        · rw [if_pos d2] at hsE
          refine cont [u] j m2 (pI i) (pI 92) (pI u) z6 hsE (by omega) j1 (by simp; omega) hx2 hS2 ok2 y12 rfl rfl rfl h6 (fun Q hQ => s2 _ ?_)
          refine q203_130 (by omega) ok1.1 h6 _ ?_
          rw [gd_of hw1', bV_eq e2]
          by_cases f1 : u < 55296
          · rw [if_pos f1]; exact hQ
          · rw [if_neg f1, if_pos (by omega)]; exact hQ
        rw [if_neg d2] at hsE
        have hM2 := hx2.1
        have k3 := hx2.2.2.1
        have k4 := hx2.2.2.2.1
        have k8 := hx2.2.2.2.2.1
        have k6 := hx2.2.2.2.2.2.2.1
        have kt := hx2.2.1
        have ka := hx2.2.2.2.2.2.1
        have kv := hx2.2.2.2.2.2.2.2
        have h199b := c199 (d := d - 1) ok2.1 hx2
        have y3 : ∀ p, YQ tr n C m (us ++ [u]) (mst m2 M 14 p) := fun p => y12.trans hw (YQ.mT (by omega) y12.2.1.1 y12.1 y12.2.2.2.2) (Nat.le_refl _)
        have s3 : ∀ X : RM, (if j < e then (if pk t e j = 92 then (if (w32 (j + 1)) < e then (nm (vl m2 M 11) fun v14 => nm (w32 (j + 1)) fun v15 => gd (tg m2 v14 = 186103 ∨ tg m2 v14 = 276103 ∨ tg m2 v14 = 278103) <| gd ((0 : Int) ≤ v15 ∧ v15 < ln m2 v14) <| if (vl m2 v14 v15) = 117 then (bI (cl (d - 1) 204 [pR M, pI q] m2) fun v3 m3 => if v3 < 0 then (if (vl m3 M 14) < (vl m3 M 13) then (some (.inl (some (pI 0)), (mst m3 M 14 i))) else some (.inl (some (pI 0)), m3)) else if v3 < 56320 then (bI (cl (d - 1) 202 [pR M, pI i] m3) fun v4 m4 => gd (v4 = 0 ∨ v4 = 1) <| some (.inl (some (pI v4)), m4)) else if 57343 < v3 then (bI (cl (d - 1) 202 [pR M, pI i] m3) fun v6 m6 => gd (v6 = 0 ∨ v6 = 1) <| some (.inl (some (pI v6)), m6)) else bV (cl (d - 1) 287 [pR tr, pI v3] m3) fun m5 => rn d 203 10 [pR M, pI q, pR tr, pI i, pI 92, pI u, pI v3] [] m5) else bI (cl (d - 1) 202 [pR M, pI i] m2) fun v7 m7 => gd (v7 = 0 ∨ v7 = 1) <| some (.inl (some (pI v7)), m7)) else bI (cl (d - 1) 202 [pR M, pI e] m2) fun v8 m8 => gd (v8 = 0 ∨ v8 = 1) <| some (.inl (some (pI v8)), m8)) else bI (cl (d - 1) 202 [pR M, pI i] m2) fun v9 m9 => gd (v9 = 0 ∨ v9 = 1) <| some (.inl (some (pI v9)), m9)) else bI (cl (d - 1) 202 [pR M, pI e] m2) fun v10 m10 => gd (v10 = 0 ∨ v10 = 1) <| some (.inl (some (pI v10)), m10)) = X → ∀ Q, X = some Q → rn d 203 10 [pR M, pI q, pR tr, z3, z4, z5, z6] [] m = some Q := by
          intro X hX Q hQ
          refine s2 _ (q203_130 (by omega) ok1.1 h6 _ ?_)
          rw [gd_of hw1', bV_eq e2, if_neg (by omega), if_neg (by omega), gd_of hM2, nm_eq, k3, k4]
          by_cases f1 : j < e
          · rw [if_pos f1] at hX ⊢
            rw [bI_eq h199b]
            by_cases f2 : pk t e j = 92
            · rw [if_pos f2] at hX ⊢
              rw [nm_eq, nm_eq, k4, k3, hX]; exact hQ
            · rw [if_neg f2] at hX ⊢
              rw [hX]; exact hQ
          · rw [if_neg f1] at hX ⊢
            rw [hX]; exact hQ
        have stop : ∀ p, sC t e q i = .inl p → (∀ Q : Rs × Mem, Q = (.inl (some (pI 0)), mst m2 M 14 p) → rn d 203 10 [pR M, pI q, pR tr, z3, z4, z5, z6] [] m = some Q) → _ := fun p hp hr => fin p (mst m2 M 14 p) [u] hp (hr _ rfl) (by rw [vl_mst, if_pos ⟨rfl, rfl⟩]) (y3 p) (by simp; omega)
        by_cases d3 : j < e
        · rw [if_neg (show ¬ ¬ j < e by omega)] at hsE
          by_cases d4 : pk t e j ≠ 92
          · rw [if_pos d4] at hsE
            exact stop i hsE (fun Q hQ => s3 _ (by rw [if_pos d3, if_neg d4, bI_eq (c202 ok2.1 hM2 k8), gd_of (Or.inl rfl)]) _ (by rw [hQ]))
          rw [if_neg d4] at hsE
          have d4' : pk t e j = 92 := by omega
          by_cases d5 : j + 1 < e
          · rw [if_neg (show ¬ ¬ j + 1 < e by omega)] at hsE
            have e15 : w32 (j + 1) = j + 1 := w32_of (by omega) (by omega)
            have hpk : pk t e (j + 1) = t (j + 1) % 256 := by unfold pk; rw [if_pos d5]
            have hbt := hB (j + 1) (by omega) d5
            have hvt := kv (j + 1) (by omega) d5
            by_cases d6 : pk t e (j + 1) ≠ 117
            · rw [if_pos d6] at hsE
              exact stop i hsE (fun Q hQ => s3 _ (by rw [if_pos d3, if_pos d4', e15, if_pos d5, nm_eq, nm_eq, kt, gd_of ka, gd_of ⟨by omega, by omega⟩, hvt, if_neg (by omega), bI_eq (c202 ok2.1 hM2 k8), gd_of (Or.inl rfl)]) _ (by rw [hQ]))
            rw [if_neg d6] at hsE
            have h204b := c204 (d := d - 1) (by omega) ok2.1 hx2 hS2 d3 hq
            have s4 : ∀ X : RM, (bI (cl (d - 1) 204 [pR M, pI q] m2) fun v3 m3 => if v3 < 0 then (if (vl m3 M 14) < (vl m3 M 13) then (some (.inl (some (pI 0)), (mst m3 M 14 i))) else some (.inl (some (pI 0)), m3)) else if v3 < 56320 then (bI (cl (d - 1) 202 [pR M, pI i] m3) fun v4 m4 => gd (v4 = 0 ∨ v4 = 1) <| some (.inl (some (pI v4)), m4)) else if 57343 < v3 then (bI (cl (d - 1) 202 [pR M, pI i] m3) fun v6 m6 => gd (v6 = 0 ∨ v6 = 1) <| some (.inl (some (pI v6)), m6)) else bV (cl (d - 1) 287 [pR tr, pI v3] m3) fun m5 => rn d 203 10 [pR M, pI q, pR tr, pI i, pI 92, pI u, pI v3] [] m5) = X → ∀ Q, X = some Q → rn d 203 10 [pR M, pI q, pR tr, z3, z4, z5, z6] [] m = some Q := by
              intro X hX Q hQ
              refine s3 _ ?_ _ hQ
              rw [if_pos d3, if_pos d4', e15, if_pos d5, nm_eq, nm_eq, kt, gd_of ka, gd_of ⟨by omega, by omega⟩, hvt, if_pos (by omega), hX]
            cases hU2 : eU t e q j with
            | inl p2 =>
              rw [hU2] at hsE
              dsimp only at hsE
              obtain ⟨j', e3⟩ := h204b.2 p2 hU2
              have v14 : vl (mst (mst m2 M 12 j') M 14 p2) M 14 = p2 := by rw [vl_mst, if_pos ⟨rfl, rfl⟩]
              have v13 : vl (mst (mst m2 M 12 j') M 14 p2) M 13 = e := by rw [vl_mst, if_neg (by omega), vl_mst, if_neg (by omega)]; exact k3
              have y4 : YQ tr n C m (us ++ [u]) (mst m2 M 12 j') := y12.trans hw (YQ.mT (by omega) y12.2.1.1 y12.1 y12.2.2.2.2) (Nat.le_refl _)
              have y5 : YQ tr n C m (us ++ [u]) (mst (mst m2 M 12 j') M 14 p2) := y4.trans hw (YQ.mT (by show tg m2 M ≠ 13 ∧ tg m2 M < 100; omega) y4.2.1.1 y4.1 y4.2.2.2.2) (Nat.le_refl _)
              by_cases d7 : p2 < e
              · rw [if_pos d7] at hsE
                refine fin i _ [u] hsE (s4 _ (by rw [bI_eq e3, if_pos (by decide), v14, v13, if_pos d7]) _ rfl) (by rw [vl_mst, if_pos ⟨rfl, rfl⟩]) (y5.trans hw (YQ.mT (by show tg m2 M ≠ 13 ∧ tg m2 M < 100; omega) y5.2.1.1 y5.1 y5.2.2.2.2) (Nat.le_refl _)) (by simp; omega)
              · rw [if_neg d7] at hsE
                exact fin p2 _ [u] hsE (s4 _ (by rw [bI_eq e3, if_pos (by decide), v14, v13, if_neg d7]) _ rfl) v14 y5 (by simp; omega)
            | inr w2 =>
              obtain ⟨v, k⟩ := w2
              rw [hU2] at hsE
              dsimp only at hsE
              obtain ⟨v0, v1, g0, g1, e3⟩ := h204b.1 v k hU2
              have hx3 : YX (mst m2 M 12 k) M tp e k t := hx2.at (by omega) g1
              have ok3 : OK (mst m2 M 12 k) := ok2
              have hM3 : tg (mst m2 M 12 k) M = 11 := hM2
              have hS3 : SC (mst m2 M 12 k) 52 cEsc := hS2.mT (by omega)
              have y4 : YQ tr n C m (us ++ [u]) (mst m2 M 12 k) := y12.trans hw (YQ.mT (by omega) y12.2.1.1 y12.1 y12.2.2.2.2) (Nat.le_refl _)
              by_cases d7 : v < 56320 ∨ 57343 < v
              · rw [if_pos d7] at hsE
                refine fin i (mst (mst m2 M 12 k) M 14 i) [u] hsE (s4 _ ?_ _ rfl) (by rw [vl_mst, if_pos ⟨rfl, rfl⟩]) (y4.trans hw (YQ.mT (by show tg m2 M ≠ 13 ∧ tg m2 M < 100; omega) y4.2.1.1 y4.1 y4.2.2.2.2) (Nat.le_refl _)) (by simp; omega)
                rw [bI_eq e3, if_neg (by omega)]
                by_cases d8 : v < 56320
                · rw [if_pos d8, bI_eq (c202 ok3.1 hM3 hx3.2.2.2.2.1), gd_of (Or.inl rfl)]
                · rw [if_neg d8, if_pos (by omega), bI_eq (c202 ok3.1 hM3 hx3.2.2.2.2.1), gd_of (Or.inl rfl)]
              · rw [if_neg d7] at hsE
                obtain ⟨m5, e5, y5⟩ := YQ.unit (d := d - 1) (u := v) y4.1 y4.2.1.1 ok3 y4.2.2.2.2 (by simp; omega) ⟨v0, v1⟩
                have y45 := y4.trans hw y5 (by simp)
                rw [List.append_assoc] at y45
                exact cont [u, v] k m5 (pI i) (pI 92) (pI u) (pI v) hsE (by omega) g1 (by simp; omega) (hx3.fr (cl_FRM e5) ok3.1 (by rfl)) (hS3.fr (cl_FRM e5) ok3.1 (by rfl)) (ok3.fr (cl_FRM e5)) y45 rfl rfl rfl rfl (fun Q hQ => s4 _ (by rw [bI_eq e3, if_neg (by omega), if_neg (by omega), if_neg (by omega), bV_eq e5]) _ hQ)
          · rw [if_pos d5] at hsE
            have e15 : w32 (j + 1) = j + 1 := w32_of (by omega) (by omega)
            exact stop (j + 1) hsE (fun Q hQ => s3 _ (by rw [if_pos d3, if_pos d4', e15, if_neg d5, bI_eq (c202 ok2.1 hM2 k8), gd_of (Or.inl rfl)]) _ (by rw [hQ, show e = j + 1 by omega]))
        · rw [if_pos d3] at hsE
          exact stop j hsE (fun Q hQ => s3 _ (by rw [if_neg d3, bI_eq (c202 ok2.1 hM2 k8), gd_of (Or.inl rfl)]) _ (by rw [hQ, show e = j by omega]))
    · have hsc : sC t e q i = .inr ([pk t e i], i + 1) := by unfold sC; rw [if_neg c1, if_pos c2]
      have hr := pkf_rng t e i
      obtain ⟨m2, e2, y2⟩ := YQ.unit (d := d - 1) (u := pk t e i) hw hT ok hU (by omega) (by omega)
      have hx2 := h.fr (cl_FRM e2) ok.1 (by rfl)
      have ok2 := ok.fr (cl_FRM e2)
      have hS2 := hS.fr (cl_FRM e2) ok.1 (by rfl)
      refine cont [pk t e i] (i + 1) (mst m2 M 12 (i + 1)) (pI i) (pI (pk t e i)) z5 z6 hsc (by omega) (by omega) (by simp; omega) (hx2.at (by omega) (by omega)) (hS2.mT (by have := hx2.1; omega)) ok2 (y2.trans hw (YQ.mT (by have := hx2.1; omega) y2.2.1.1 y2.1 y2.2.2.2.2) (Nat.le_refl _)) rfl rfl h5 h6 (fun Q hQ => ?_)
      refine q203_10 (by omega) ok.1 h3 h4 h5 h6 _ ?_
      rw [gd_of hM, bI_eq h199, if_neg hqq, nm_eq, bI_eq h199, b4, if_neg (by omega), if_neg (by omega), if_neg c2, gd_of hw1, bV_eq e2, hx2.2.2.2.1, w32_of (by omega) (by omega)]; exact hQ
theorem c203 {i : Int} {m : Mem} {us : List Int} (hd : 7 ≤ d) (hq : q = 34 ∨ q = 39) (hB : tB t e) (ok : OK m) (hT : TI m) (h : YX m M tp e i t) (hS : SC m 52 cEsc) (hw : TW m tr n us C) (hU : wfU us) (hL : (us.length : Int) + (e - i) ≤ 40000) (hp : pk t e i = q) :
    (∀ vs j, sS t e q (i + 1) = .inr (vs, j) → i + 1 < j ∧ j ≤ e ∧ (vs.length : Int) ≤ j - i - 2 ∧ ∃ m', cl d 203 [pR M, pI q, pR tr] m = some (.inl (some (pI 1)), m') ∧ YX m' M tp e j t ∧ YQ tr n C m (us ++ vs) m') ∧
    (∀ p, sS t e q (i + 1) = .inl p → ∃ m' vs, cl d 203 [pR M, pI q, pR tr] m = some (.inl (some (pI 0)), m') ∧ vl m' M 14 = p ∧ YQ tr n C m (us ++ vs) m' ∧ (vs.length : Int) ≤ e - i) := by
  have hM := h.1
  have hie : i < e := pkf_lt (t := t) (by omega)
  have h6 := h.2.2.2.2.2.2.1
  have h201 := c201_1 (d := d - 1) (x := q) (by omega) ok.1 h hp (by omega)
  have y1 : YQ tr n C m us (mst m M 12 (i + 1)) := YQ.mT (by omega) hT hw hU
  have hl := c203_l (d := d) (M := M) (tp := tp) (e := e) (q := q) (tr := tr) (n := n) (C := C) (t := t) hd hq hB (e - (i + 1)).toNat (i + 1) (mst m M 12 (i + 1)) us pU pU pU pU (Nat.le_refl _) rfl rfl rfl rfl ok y1.2.1.1 (h.at (by omega) (by omega)) (hS.mT (by omega)) y1.1 hU (by omega)
  have step : ∀ Q, rn d 203 10 [pR M, pI q, pR tr, pU, pU, pU, pU] [] (mst m M 12 (i + 1)) = some Q → cl d 203 [pR M, pI q, pR tr] m = some Q := by
    intro Q hQ
    refine q203 (by omega) ok.1 _ ?_
    rw [gd_of hM, bI_eq h201, if_neg (by decide)]; exact hQ
  refine ⟨fun vs j hs => ?_, fun p hs => ?_⟩
  · obtain ⟨a1, a2, a3, m', a4, a5, a6⟩ := hl.1 vs j hs
    exact ⟨a1, a2, by omega, m', step _ a4, a5, y1.trans hw a6 (by simp)⟩
  · obtain ⟨m', vs, a1, a2, a3, a4⟩ := hl.2 p hs
    exact ⟨m', vs, step _ a1, a2, y1.trans hw a3 (by simp), by omega⟩
end
