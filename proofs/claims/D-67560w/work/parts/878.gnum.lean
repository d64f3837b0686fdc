/-! queries read by the twin: whole numbers -/
set_option maxRecDepth 100000
set_option maxHeartbeats 4000000
section
variable {d op : Nat} {m : Mem} {M tp e i S k C K : Int} {t : Int → Int} {us : List Int}
theorem c259_94 {x y a3 a4 : Int} (hd : 2 ≤ d) : ∀ (N : Nat) (k v : Int) (m : Mem), (e - k).toNat = N → TZ m → YX m M tp e k t → 0 ≤ v → v < 90071992547409930 →
    ∃ w, 0 ≤ w ∧ w < 90071992547409930 ∧ min w 9007199254740992 = (sDg t e k (min v 9007199254740992)).1 ∧ ∀ Q, rn d 259 144 [pR M, pI x, pI y, pI a3, pI a4, pL w, pU] [] (mst m M 12 (sDg t e k (min v 9007199254740992)).2) = some Q → rn d 259 94 [pR M, pI x, pI y, pI a3, pI a4, pL v, pU] [] m = some Q := by
  intro N
  induction N with
  | zero =>
    intro k v m hN hz h v0 v1
    have h199 := c199 (d := d - 1) hz h
    have h206 := c206 (d := d - 1) (m := m) (x := pk t e k) hz
    have hp : pk t e k = -1 := by unfold pk; rw [if_neg (by omega)]
    rw [sDg_eq, if_neg (by rw [hp]; decide)]
    rw [if_neg (by omega)] at h206
    refine ⟨v, v0, v1, rfl, fun Q hQ => ?_⟩
    rw [mst_self h.2.2.2.1] at hQ
    refine q259_94 (by omega) hz _ ?_
    rw [gd_of h.1, bI_eq h199, bI_eq h206, if_pos rfl]; exact hQ
  | succ N ih =>
    intro k v m hN hz h v0 v1
    have h199 := c199 (d := d - 1) hz h
    have h206 := c206 (d := d - 1) (m := m) (x := pk t e k) hz
    have b4 := h.2.2.2.1
    have b6 := h.2.2.2.2.2.2.1
    rw [sDg_eq]
    by_cases hD : dg (pk t e k)
    · have hD' : 48 ≤ pk t e k ∧ pk t e k ≤ 57 := hD
      rw [if_pos hD'] at h206
      rw [if_pos hD]
      have hx1 : YX (mst m M 12 (k + 1)) M tp e (k + 1) t := h.at (by omega) (by omega)
      by_cases hv : 9007199254740991 < v
      · obtain ⟨w, w0, w1, w2, w3⟩ := ih (k + 1) v (mst m M 12 (k + 1)) (by omega) hz hx1 v0 v1
        have em : min (10 * min v 9007199254740992 + pk t e k - 48) 9007199254740992 = min v 9007199254740992 := by omega
        rw [em]
        refine ⟨w, w0, w1, w2, fun Q hQ => ?_⟩
        refine q259_94 (by omega) hz _ ?_
        rw [gd_of h.1, bI_eq h199, bI_eq h206, if_neg (by decide), if_pos hv, b4, w32_of (by omega) (by omega)]
        refine w3 Q ?_
        rw [mst_mst]; exact hQ
      · obtain ⟨w, w0, w1, w2, w3⟩ := ih (k + 1) (10 * v + pk t e k - 48) (mst m M 12 (k + 1)) (by omega) hz hx1 (by omega) (by omega)
        have em : min (10 * min v 9007199254740992 + pk t e k - 48) 9007199254740992 = min (10 * v + pk t e k - 48) 9007199254740992 := by omega
        rw [em]
        refine ⟨w, w0, w1, w2, fun Q hQ => ?_⟩
        have e1 : w64 (w64 (w64 (10 * v) + pk t e k) - 48) = 10 * v + pk t e k - 48 := by
          rw [w64_of (z := 10 * v) (by omega) (by omega), w64_of (z := 10 * v + _) (by omega) (by omega), w64_of (by omega) (by omega)]
        refine q259_94 (by omega) hz _ ?_
        rw [gd_of h.1, bI_eq h199, bI_eq h206, if_neg (by decide), if_neg hv, bI_eq h199, b4, w32_of (by omega) (by omega), e1]
        refine w3 Q ?_
        rw [mst_mst]; exact hQ
    · have hD' : ¬ (48 ≤ pk t e k ∧ pk t e k ≤ 57) := hD
      rw [if_neg hD'] at h206
      rw [if_neg hD]
      refine ⟨v, v0, v1, rfl, fun Q hQ => ?_⟩
      rw [mst_self b4] at hQ
      refine q259_94 (by omega) hz _ ?_
      rw [gd_of h.1, bI_eq h199, bI_eq h206, if_pos rfl]; exact hQ
/-- a long beside a row is set -/
theorem QT.setL {r f v : Int} (h : QT m M tp e i t op S k us C K) (hr : 0 ≤ r ∧ r < k) (hf : 0 ≤ f ∧ f < 3) : QT (mst m (vl m M 28) (3 * r + f) v) M tp e i t op S k us C K ∧ (∀ b, b ≤ r → QP b m M S k us K (mst m (vl m M 28) (3 * r + f) v) k us K) ∧ (∀ x g, 0 ≤ g → g < 3 → ev (mst m (vl m M 28) (3 * r + f) v) M x g = if x = r ∧ g = f then v else ev m M x g) ∧ rv (mst m (vl m M 28) (3 * r + f) v) M = rv m M := by
  obtain ⟨⟨b1, b2, b3, b4, b5, b6⟩, b7, b8, b9⟩ := h
  obtain ⟨a1, a2, ⟨a3, a4⟩, ⟨a5, a6⟩, a7, a8, a9⟩ := b3
  have hx := b7.2.2.2.2.2.1
  have nM : vl m M 28 ≠ M := by intro z; rw [z] at a5; omega
  have ntp : vl m M 28 ≠ tp := by intro z; rw [z] at a5; omega
  have n27 : vl m M 27 ≠ vl m M 28 := by intro z; rw [z] at a3; omega
  have ntr : nTr (tg m (vl m M 28)) := by unfold nTr; omega
  have tu : TU S m (mst m (vl m M 28) (3 * r + f) v) := TU.mA ntr b2
  have hu : uC (mst m (vl m M 28) (3 * r + f) v) S = uC m S := uC_mA b5 ntr
  have o : ∀ g, vl (mst m (vl m M 28) (3 * r + f) v) M g = vl m M g := fun g => by rw [vl_mst, if_neg (fun z => nM z.1.symm)]
  have er : ∀ x g, 0 ≤ g → g < 3 → ev (mst m (vl m M 28) (3 * r + f) v) M x g = if x = r ∧ g = f then v else ev m M x g := fun x g g0 g1 => by
    unfold ev
    rw [o, vl_mst]
    by_cases q : x = r ∧ g = f
    · rw [if_pos q, if_pos ⟨rfl, by omega⟩]
    · rw [if_neg q, if_neg (by omega)]
  have ee : rv (mst m (vl m M 28) (3 * r + f) v) M = rv m M := by
    funext x g
    unfold rv
    rw [o, vl_mst, if_neg (fun z => n27 z.1)]
  refine ⟨⟨⟨b1, b2.mT (by omega), ⟨a1, by rw [o]; exact a2, ⟨by rw [o]; exact a3, by rw [o]; exact a4⟩, ⟨by rw [o]; exact a5, by rw [o]; exact a6⟩, a7, by rw [o, o]; exact a8, by rw [o]; exact a9⟩, by rw [o]; exact b4, b5.mA ntr, b6⟩, b7.st ⟨nM, ntp⟩, b8.mT (by omega), by rw [o]; exact b9⟩, fun b hb => ⟨tu, fun x hx => ⟨fun g _ _ => by rw [ee], fun g g0 g1 => by rw [er x g g0 g1, if_neg (by omega)]⟩, ⟨[], by rw [List.append_nil]⟩, Int.le_refl _, ⟨Int.le_refl _, by rw [hu]; show nx m - nx m ≤ _; omega, by rw [hu]; show sl m - sl m ≤ _; omega⟩, by rw [hu]; omega, by omega⟩, er, ee⟩
theorem pOr_b0 (y : Int) (h : y = 0) : pOr y (pShl 1 0) = y + 1 := by rw [h]; rfl
theorem pOr_b1 (y : Int) (h : y = 0 ∨ y = 1) : pOr y (pShl 1 1) = y + 2 := by rcases h with z | z <;> rw [z] <;> rfl
theorem pOr_b2 (y : Int) (h : y = 0 ∨ y = 1 ∨ y = 2 ∨ y = 3) : pOr y (pShl 1 2) = y + 4 := by rcases h with z | z | z | z <;> rw [z] <;> rfl
/-- a whole number comes to a row -/
theorem c259 {r w : Int} (hd : 3 ≤ d) (h : QT m M tp e i t op S k us C K) (hr : 0 ≤ r ∧ r < k) (hw : w = 0 ∧ rv m M r 2 = 0 ∨ w = 1 ∧ (rv m M r 2 = 0 ∨ rv m M r 2 = 1) ∨ w = 2 ∧ (rv m M r 2 = 0 ∨ rv m M r 2 = 1 ∨ rv m M r 2 = 2 ∨ rv m M r 2 = 3)) :
    (∀ v j, sIn t e i = .inr (v, j) → ∃ m', cl d 259 [pR M, pI r, pI w] m = some (.inl (some (pI 1)), m') ∧ QT m' M tp e j t op S k us C K ∧ (∀ b, b ≤ r → QP b m M S k us K m' k us K) ∧ (∀ x g, 0 ≤ g → g < 8 → rv m' M x g = if x = r ∧ g = 2 then rv m M r 2 + (if w = 0 then 1 else if w = 1 then 2 else 4) else rv m M x g) ∧ (∀ x g, 0 ≤ g → g < 3 → ev m' M x g = if x = r ∧ g = w then v else ev m M x g)) ∧
    (∀ p, sIn t e i = .inl p → ∃ j, cl d 259 [pR M, pI r, pI w] m = some (.inl (some (pI 0)), mst (mst m M 12 j) M 14 p)) := by
  have hM := h.tM
  have hz := h.tz
  have hX := h.2.1
  have b4 := h.v12
  have b6 := hX.2.2.2.2.2.2.1
  have hk := h.kK
  have h199 := c199 (d := d - 1) hz hX
  have hi0 : i ≤ nI0 t e i ∧ nI0 t e i ≤ e := by
    unfold nI0; split
    · have : i < e := pkf_lt (t := t) (by omega)
      omega
    · omega
  have hx0 : YX (mst m M 12 (nI0 t e i)) M tp e (nI0 t e i) t := hX.at (by omega) hi0.2
  have hz0 : TZ (mst m M 12 (nI0 t e i)) := hz
  have hM0 : tg (mst m M 12 (nI0 t e i)) M = 11 := hM
  have h199b := c199 (d := d - 1) hz0 hx0
  have h206b := c206 (d := d - 1) (m := mst m M 12 (nI0 t e i)) (x := pk t e (nI0 t e i)) hz0
  have v12 : vl (mst m M 12 (nI0 t e i)) M 12 = nI0 t e i := hx0.2.2.2.1
  have v14 : vl (mst m M 12 (nI0 t e i)) M 14 = -1 := hx0.2.2.2.2.1
  have h202b := c202 (d := d - 1) (p := nI0 t e i) hz0 hM0 v14
  obtain ⟨mi, hmi⟩ : ∃ mi : Int, mi = if pk t e i = 45 then 1 else 0 := ⟨_, rfl⟩
  have s1 : ∀ Q, rn d 259 36 [pR M, pI r, pI w, pI i, pI mi, pU, pU] [] (mst m M 12 (nI0 t e i)) = some Q → cl d 259 [pR M, pI r, pI w] m = some Q := by
    intro Q hQ
    refine q259 (by omega) hz _ ?_
    rw [gd_of hM, nm_eq, b4, bI_eq h199]
    unfold nI0 at hQ
    by_cases h45 : pk t e i = 45
    · have : i < e := pkf_lt (t := t) (by omega)
      rw [if_pos h45] at hQ hmi
      rw [if_pos h45, if_neg (by decide), b4, w32_of (by omega) (by omega)]
      rw [hmi] at hQ; exact hQ
    · rw [if_neg h45] at hQ hmi
      rw [if_neg h45, if_pos rfl]
      rw [hmi, mst_self b4] at hQ; exact hQ
  unfold sIn
  by_cases hbad : ¬ dg (pk t e (nI0 t e i)) ∨ (pk t e i = 45 ∧ pk t e (nI0 t e i) = 48)
  · rw [if_pos hbad]
    refine ⟨fun v j hE => (by cases hE), fun p hp => ?_⟩
    cases hp
    refine ⟨nI0 t e i, s1 _ (q259_36 (by omega) hz0 _ ?_)⟩
    rw [gd_of hM0, bI_eq h199b, bI_eq h206b]
    by_cases hg : dg (pk t e (nI0 t e i))
    · have h45 : pk t e i = 45 ∧ pk t e (nI0 t e i) = 48 := Or.resolve_left hbad (fun z => z hg)
      rw [if_pos h45.1] at hmi
      rw [if_pos hg, if_neg (by decide), hmi, if_neg (by decide), bI_eq h199b, if_pos h45.2, v12, bI_eq h202b, gd_of (Or.inl rfl)]
    · rw [if_neg hg, if_pos rfl, v12, bI_eq h202b, gd_of (Or.inl rfl)]
  · rw [if_neg hbad]
    have hg : dg (pk t e (nI0 t e i)) := Classical.byContradiction fun z => hbad (Or.inl z)
    obtain ⟨r1, r2, r3, r4, r5, r6⟩ := nDV_rng hg
    have s2 : ∀ Q, rn d 259 69 [pR M, pI r, pI w, pI i, pI mi, pU, pU] [] (mst m M 12 (nI0 t e i)) = some Q → cl d 259 [pR M, pI r, pI w] m = some Q := by
      intro Q hQ
      refine s1 _ (q259_36 (by omega) hz0 _ ?_)
      rw [gd_of hM0, bI_eq h199b, bI_eq h206b, if_pos hg, if_neg (by decide)]
      by_cases h45 : pk t e i = 45
      · rw [if_pos h45] at hmi
        have n48 : ¬ pk t e (nI0 t e i) = 48 := fun z => hbad (Or.inr ⟨h45, z⟩)
        rw [hmi] at hQ ⊢
        rw [if_neg (by decide), bI_eq h199b, if_neg n48]; exact hQ
      · rw [if_neg h45] at hmi
        rw [hmi] at hQ ⊢
        rw [if_pos rfl]; exact hQ
    obtain ⟨w', w0, w1, w2, w3⟩ : ∃ w', 0 ≤ w' ∧ w' < 90071992547409930 ∧ min w' 9007199254740992 = (nDV t e (nI0 t e i)).1 ∧ ∀ Q, rn d 259 144 [pR M, pI r, pI w, pI i, pI mi, pL w', pU] [] (mst m M 12 (nDV t e (nI0 t e i)).2) = some Q → cl d 259 [pR M, pI r, pI w] m = some Q := by
      unfold nDV
      by_cases h48 : pk t e (nI0 t e i) = 48
      · rw [if_pos h48]
        refine ⟨0, by decide, by decide, by show min (0 : Int) 9007199254740992 = 0; decide, fun Q hQ => ?_⟩
        refine s2 _ (q259_69 (by omega) hz0 _ ?_)
        have hl : nI0 t e i < e := pkf_lt (t := t) (by omega)
        rw [gd_of hM0, bI_eq h199b, if_pos h48, v12, w32_of (by omega) (by omega), mst_mst]; exact hQ
      · rw [if_neg h48]
        obtain ⟨w', w0, w1, w2, w3⟩ := c259_94 (d := d) (x := r) (y := w) (a3 := i) (a4 := mi) (by omega) _ (nI0 t e i) 0 (mst m M 12 (nI0 t e i)) rfl hz0 hx0 (by decide) (by decide)
        refine ⟨w', w0, w1, w2, fun Q hQ => ?_⟩
        refine s2 _ (q259_69 (by omega) hz0 _ ?_)
        rw [gd_of hM0, bI_eq h199b, if_neg h48]
        refine w3 Q ?_
        rw [mst_mst]; exact hQ
    generalize hV : (nDV t e (nI0 t e i)).1 = v at *
    generalize hJ : (nDV t e (nI0 t e i)).2 = j at *
    have h1 := h.at (j := j) (by omega) r4
    have hz1 : TZ (mst m M 12 j) := hz
    have hM1 : tg (mst m M 12 j) M = 11 := hM
    have h202 := c202 (d := d - 1) (p := i) hz1 hM1 h1.v14
    by_cases hb : 9007199254740991 < v
    · rw [if_pos hb]
      refine ⟨fun v j hE => (by cases hE), fun p hp => ?_⟩
      cases hp
      refine ⟨j, w3 _ (q259_144 (by omega) hz1 _ ?_)⟩
      rw [if_pos (by omega), gd_of hM1, bI_eq h202, gd_of (Or.inl rfl)]
    · rw [if_neg hb]
      refine ⟨fun v' j' hE => ?_, fun p hp => (by cases hp)⟩
      cases hE
      have hwv : w' = v := by omega
      subst hwv
      have hw02 : 0 ≤ w ∧ w < 3 := by omega
      obtain ⟨A1, A2, A3, A4⟩ := h1.setL (r := r) (f := w) (v := if pk t e i = 45 then -w' else w') hr hw02
      have P1 := (h.1.mM (f := 12) (v := j) (by omega))
      have rv1 : rv (mst m M 12 j) M = rv m M := P1.2.2.1
      have ev1 : ev (mst m M 12 j) M = ev m M := P1.2.2.2
      have e28 : vl (mst m M 12 j) M 28 = vl m M 28 := by rw [vl_mst, if_neg (by omega)]
      rw [e28] at A1 A2 A3 A4
      have e251 := c251 (d := d - 1) (r := r) (f := 2) A1 hr (by omega)
      rw [A4, rv1] at e251
      obtain ⟨B1, B2, B3, B4⟩ := A1.set (r := r) (f := 2) (v := rv m M r 2 + (if w = 0 then 1 else if w = 1 then 2 else 4)) hr (by omega)
      have e246 := c246 (d := d - 1) (r := r) (f := 2) (v := rv m M r 2 + (if w = 0 then 1 else if w = 1 then 2 else 4)) A1 hr (by omega)
      have hor : pOr (rv m M r 2) (pShl 1 w) = rv m M r 2 + (if w = 0 then 1 else if w = 1 then 2 else 4) := by
        rcases hw with ⟨q1, q2⟩ | ⟨q1, q2⟩ | ⟨q1, q2⟩
        · rw [q1, pOr_b0 _ q2, if_pos rfl]
        · rw [q1, pOr_b1 _ q2, if_neg (by decide), if_pos rfl]
        · rw [q1, pOr_b2 _ q2, if_neg (by decide), if_neg (by decide)]
      obtain ⟨a1, a2, ⟨a3, a4⟩, ⟨a5, a6⟩, a7, a8, a9⟩ := h.1.2.2.1
      have run : ∀ s2, s2 = (if pk t e i = 45 then -w' else w') → rn d 259 181 [pR M, pI r, pI w, pI i, pI mi, pL w', pU] [pL s2, pI (3 * r + w), pR (vl m M 28)] (mst m M 12 j) = some (.inl (some (pI 1)), mst (mst (mst m M 12 j) (vl m M 28) (3 * r + w) (if pk t e i = 45 then -w' else w')) (vl (mst (mst m M 12 j) (vl m M 28) (3 * r + w) (if pk t e i = 45 then -w' else w')) M 27) (8 * r + 2) (rv m M r 2 + (if w = 0 then 1 else if w = 1 then 2 else 4))) := by
        intro s2 hs
        refine q259_181 (by omega) hz1 _ ?_
        rw [gd_of (show tg (mst m M 12 j) (vl m M 28) = 186102 ∨ tg (mst m M 12 j) (vl m M 28) = 246102 from a5), gd_of (show 0 ≤ 3 * r + w ∧ 3 * r + w < ln (mst m M 12 j) (vl m M 28) by show 0 ≤ 3 * r + w ∧ 3 * r + w < ln m (vl m M 28); omega), gd_of hM1, hs, bI_eq e251, hor, bV_eq e246]
      refine ⟨_, w3 _ (q259_144 (by omega) hz1 _ ?_), B1, fun b hb => (P1.2.1 b).trans ((A2 b hb).trans (B2 b hb) (Int.le_refl _) h1.tw A1.tw) (Int.le_refl _) h.tw h1.tw, fun x g g0 g1 => ?_, fun x g g0 g1 => ?_⟩
      · rw [if_neg (by omega), gd_of hM1, nm_eq, e28, (w32_of (by omega) (by omega) : w32 (3 * r) = 3 * r), nm_eq, (w32_of (by omega) (by omega) : w32 (3 * r + w) = 3 * r + w)]
        by_cases h45 : pk t e i = 45
        · rw [if_pos h45] at hmi
          rw [hmi, if_neg (by decide), (w64_of (by omega) (by omega) : w64 (-w') = -w')]
          rw [hmi] at run
          exact run _ (by rw [if_pos h45])
        · rw [if_neg h45] at hmi
          rw [hmi, if_pos rfl]
          rw [hmi] at run
          exact run _ (by rw [if_neg h45])
      · rw [B3 x g g0 g1, A4, rv1]
      · rw [B4, A3 x g g0 g1, ev1]
end
