/-! paths, printed by the component -/
set_option maxRecDepth 100000
set_option maxHeartbeats 4000000
/-- one step of a path -/
def sgS (c y : Nk) : List Int := 91 :: ((if c.2.2.1.1 = 6 then prS 39 y.2.2.1.2.2.2 else prN (y.2.2.2.2 : Nat)) ++ [93])
def sgP : Nk → Nd → List Int
  | _, [] => []
  | c, y :: r => sgS c y ++ sgP y r
def lst : Nk → Nd → Nk
  | c, [] => c
  | _, y :: r => lst y r
def chR : Nk → Nd → Prop
  | _, [] => True
  | c, y :: r => y ∈ kdS c ∧ chR y r
theorem chR_snoc : ∀ {rs : Nd} {c y : Nk}, chR c rs → y ∈ kdS (lst c rs) → chR c (rs ++ [y]) := by
  intro rs
  induction rs with
  | nil => intro c y _ h; exact ⟨h, trivial⟩
  | cons z rs ih => intro c y h h2; exact ⟨h.1, ih h.2 h2⟩
theorem lst_snoc : ∀ {rs : Nd} {c y : Nk}, lst c (rs ++ [y]) = y := by
  intro rs
  induction rs with
  | nil => intro c y; rfl
  | cons z rs ih => intro c y; exact ih
theorem lst_rev : ∀ {rs : Nd} {rt c : Nk} {x : Nd}, c :: x = rs.reverse ++ [rt] → lst rt rs = c := by
  intro rs
  rcases List.eq_nil_or_concat rs with h | ⟨l, a, h⟩
  · subst h
    intro rt c x h
    injection h with h1 h2
    exact h1.symm
  · subst h
    intro rt c x h
    rw [List.concat_eq_append] at h ⊢
    rw [List.reverse_append] at h
    injection h with h1 h2
    rw [lst_snoc]; exact h1.symm
theorem chN_rev {rt : Nk} : ∀ n : Nd, chN rt n → ∃ rs, n = rs.reverse ++ [rt] ∧ chR rt rs := by
  intro n
  induction n with
  | nil => intro h; exact h.elim
  | cons y x ih =>
    intro h
    cases x with
    | nil => exact ⟨[], by rw [show y = rt from h]; rfl, trivial⟩
    | cons c x =>
      obtain ⟨rs, e1, e2⟩ := ih h.2
      refine ⟨rs ++ [y], by rw [List.reverse_append, e1]; rfl, chR_snoc e2 ?_⟩
      rw [lst_rev e1]; exact h.1
theorem prP_rev : ∀ (rs : Nd) (c : Nk) (x : Nd), prP (rs.reverse ++ (c :: x)) = prP (c :: x) ++ sgP c rs := by
  intro rs
  induction rs with
  | nil => intro c x; rw [show sgP c [] = [] from rfl, List.append_nil]; rfl
  | cons y rs ih =>
    intro c x
    rw [List.reverse_cons, List.append_assoc]
    show prP (rs.reverse ++ (y :: c :: x)) = _
    rw [ih y (c :: x)]
    show (prP (c :: x) ++ sgS c y) ++ sgP y rs = prP (c :: x) ++ (sgS c y ++ sgP y rs)
    rw [List.append_assoc]
theorem kdL_in {ob : Bool} : ∀ (F : Fo) (p : Int) (k : Nat), ∀ y ∈ kdL ob F p k, p ≤ y.1 ∧ y.1 + (enV y.2.2.1 y.2.2.2.1).length ≤ p + (enF ob F).length := by
  intro F
  induction F with
  | leaf => intro p k y hy; cases hy
  | inner n dd u l r ihl ihr =>
    intro p k y hy
    rw [kdL_inner] at hy
    rw [enF_inner]
    simp only [List.length_append]
    rcases List.mem_cons.mp hy with z | z
    · rw [z]; dsimp only; push_cast; omega
    · have := ihr _ _ y z
      push_cast; omega
section
variable {xs : List Int}
theorem kdS_in {c y : Nk} (h : NV xs c) (hy : y ∈ kdS c) : c.1 < y.1 ∧ y.1 + (enV y.2.2.1 y.2.2.2.1).length ≤ c.1 + (enV c.2.2.1 c.2.2.2.1).length ∧ ¬ c.2.2.1.1 < 5 := by
  by_cases h5 : c.2.2.1.1 < 5
  · have := h.2.2.2.1 h5
    unfold kdS at hy
    rw [this] at hy
    cases hy
  · obtain ⟨e, hg, hb, hl, -⟩ := enV_many h.1 h5
    have := kdL_in _ _ _ y hy
    exact ⟨by omega, by omega, h5⟩
theorem chR_in : ∀ {rs : Nd} {c : Nk}, NV xs c → chR c rs → c.1 ≤ (lst c rs).1 ∧ (lst c rs).1 < c.1 + (enV c.2.2.1 c.2.2.2.1).length ∧ NV xs (lst c rs) := by
  intro rs
  induction rs with
  | nil => intro c h _; have := enV_pos c.2.2.1 c.2.2.2.1; exact ⟨Int.le_refl _, by show c.1 < _; omega, h⟩
  | cons y rs ih =>
    intro c h hc
    have h1 := kdS_in h hc.1
    have h2 := ih (kdS_nv h y hc.1) hc.2
    exact ⟨by show c.1 ≤ (lst y rs).1; omega, by show (lst y rs).1 < _; omega, h2.2.2⟩
end
/-- the runner stands over a row -/
def RR (m : Mem) (R rw rt : Int) : Prop := tg m R = 6 ∧ vl m R 0 = rw ∧ vl m R 1 = rt
section
variable {d : Nat} {m : Mem} {R rw rt c s cap : Int} {xs ys : List Int}
theorem RR.fr {m' : Mem} (h : RR m R rw rt) (hz : TZ m) (f : FRM (eM 52) m m') : RR m' R rw rt := ⟨by rw [tg_of f hz (by rw [h.1]; decide)]; exact h.1, by rw [vl_of f hz h.1 (by decide) (by decide +kernel)]; exact h.2.1, by rw [vl_of f hz h.1 (by decide) (by decide +kernel)]; exact h.2.2⟩
theorem c110_34 {t : Int} {cc y : Nk} {zs : List Int} (hd : 6 ≤ d) (hx : xs.length < 60000) (hN : NV xs cc) (h5 : ¬ cc.2.2.1.1 < 5) (hy1 : y.1 ≤ t) (hy2 : t < y.1 + (enV y.2.2.1 y.2.2.2.1).length) (cont : ∀ (m' : Mem) (ys' : List Int) (z4 z5 z6 : PV), cat z4 = 1 → cat z5 = 1 → cat z6 = 1 → OK m' → SI m' → RR m' R rw rt → RW m' rw xs c → SK m' s ys' cap → PRC (rn d 110 11 [pR R, pR s, pI t, pI y.1, z4, z5, z6] [] m') s m' ys' cap zs) : ∀ (F : Fo) (p : Int) (k : Nat) (m : Mem) (ys : List Int), (k : Int) + cntF F ≤ 60000 → At xs p (enF (cc.2.2.1.1 == 6) F) → p + (enF (cc.2.2.1.1 == 6) F).length = cc.1 + (enV cc.2.2.1 cc.2.2.2.1).length → wfF F → y ∈ kdL (cc.2.2.1.1 == 6) F p k → OK m → SI m → RR m R rw rt → RW m rw xs c → SK m s ys cap → PRC (rn d 110 34 [pR R, pR s, pI t, pI cc.1, pI k, pI p, pI (nxK (cc.2.2.1.1 == 6) F p)] [] m) s m ys cap (sgS cc y ++ zs) := by
  intro F
  induction F with
  | leaf => intro p k m ys _ _ _ _ hy; cases hy
  | inner n dd u l r ihl ihr =>
    intro p k m ys hkc hA he hw hy ok hI hR hRW hS
    have hA2 := hA
    rw [enF_inner] at hA he
    obtain ⟨b1, b2⟩ := hA.app
    obtain ⟨b3, b4⟩ := b2.app
    simp only [List.length_append] at he
    push_cast at he
    have hcn : cntF (.inner n dd u l r) = cntF r + 1 := rfl
    rw [hcn] at hkc
    push_cast at hkc
    have en : nxK (cc.2.2.1.1 == 6) (.inner n dd u l r) p = p + ((if (cc.2.2.1.1 == 6) = true then nmB dd.2.2.2 else []).length : Int) := rfl
    rw [en]
    rw [kdL_inner] at hy
    have hr0 := b3.1
    have hr1 := b3.2.1
    have e137 := c137 (d := d - 1) (by omega) ok.1 hRW b3 hw.1 (by omega)
    have hp0 := hA2.1
    rcases List.mem_cons.mp hy with z | z
    · -- here it is
      have ey : y.1 = p + ((if (cc.2.2.1.1 == 6) = true then nmB dd.2.2.2 else []).length : Int) := by rw [z]
      have ed : y.2.2.1 = dd := by rw [z]
      have ek : y.2.2.2.2 = k := by rw [z]
      have el : y.2.2.2.1 = l := by rw [z]
      rw [ed, el] at hy2
      rw [← ey] at e137 ⊢
      have key : PRC (bV (cl (d - 1) 54 [pR s, pI 91] m) fun m2 => nm (vl m2 R 0) fun v12 => gd (tg m2 v12 = 8) <| bI (cl (d - 1) 139 [pR v12, pI cc.1] m2) fun v3 m3 => if v3 = 5 then (bV (cl (d - 1) 55 [pR s, pL k] m3) fun m7 => bV (cl (d - 1) 54 [pR s, pI 93] m7) fun m8 => rn d 110 11 [pR R, pR s, pI t, pI y.1, pI k, pI p, pI y.1] [] m8) else nm (vl m3 R 0) fun v13 => gd (tg m3 v13 = 8) <| bI (cl (d - 1) 134 [pR v13, pI p] m3) fun v4 m4 => bV (cl (d - 1) 56 [pR s, pR v13, pI (w32 (p + 2)), pI v4, pI 39] m4) fun m5 => bV (cl (d - 1) 54 [pR s, pI 93] m5) fun m6 => rn d 110 11 [pR R, pR s, pI t, pI y.1, pI k, pI p, pI y.1] [] m6) s m ys cap ([w8 91] ++ ((if cc.2.2.1.1 = 6 then prS 39 dd.2.2.2 else prN (k : Nat)) ++ ([w8 93] ++ zs))) := by
        refine PRC.bind (c54 ok hI hS) fun m2 g2 => ?_
        have hR2 := hR.fr ok.1 g2.2.2.1
        have hRW2 := hRW.fr g2.2.2.1 ok.1 (by decide +kernel)
        have ok2 := ok.fr g2.2.2.1
        have e139 := c139 (d := d - 1) ok2.1 hRW2 hN.lt.1 hN.lt.2
        rw [gi_kind hN.1] at e139
        -- behind it
        have tl : ∀ (m5 : Mem) (ys5 : List Int) (z4 z5 z6 : PV), cat z4 = 1 → cat z5 = 1 → cat z6 = 1 → OK m5 → SI m5 → RR m5 R rw rt → RW m5 rw xs c → SK m5 s ys5 cap → PRC (bV (cl (d - 1) 54 [pR s, pI 93] m5) fun m6 => rn d 110 11 [pR R, pR s, pI t, pI y.1, z4, z5, z6] [] m6) s m5 ys5 cap ([w8 93] ++ zs) := fun m5 ys5 z4 z5 z6 c4 c5 c6 ok5 hI5 hR5 hRW5 hS5 => by
          refine PRC.bind (c54 ok5 hI5 hS5) fun m6 g6 => ?_
          exact cont m6 _ z4 z5 z6 c4 c5 c6 (ok5.fr g6.2.2.1) g6.2.1.1 (hR5.fr ok5.1 g6.2.2.1) (hRW5.fr g6.2.2.1 ok5.1 (by decide +kernel)) g6.1
        by_cases k6 : cc.2.2.1.1 = 6
        · have kb : (cc.2.2.1.1 == 6) = true := by rw [k6]; rfl
          rw [kb, if_pos rfl] at b1
          have hnl := nmB_len dd.2.2.2
          have hn0 := b1.1
          have hn1 := b1.2.1
          have e134 := c134 (d := d - 1) ok2.1 hRW2 (a := p) (by omega) (by omega)
          rw [tw_nm b1 (by omega)] at e134
          have b5 := b1
          unfold nmB at b5
          have b6 := b5.app.2
          rw [l2_len] at b6
          refine PRC.imp (X := bV (cl (d - 1) 56 [pR s, pR rw, pI (p + 2), pI (uts dd.2.2.2).length, pI 39] m2) fun m5 => bV (cl (d - 1) 54 [pR s, pI 93] m5) fun m6 => rn d 110 11 [pR R, pR s, pI t, pI y.1, pI k, pI p, pI y.1] [] m6) ?_ fun q hq => ?_
          · rw [if_pos k6]
            refine PRC.bind (c56 (d := d - 1) (us := dd.2.2.2) (by omega) (Or.inr rfl) hw.1.2.2.2.2 ok2 g2.2.1.1 g2.1 hRW2 b6 rfl) fun m5 g5 => ?_
            exact tl m5 _ _ _ _ rfl rfl rfl (ok2.fr g5.2.2.1) g5.2.1.1 (hR2.fr ok2.1 g5.2.2.1) (hRW2.fr g5.2.2.1 ok2.1 (by decide +kernel)) g5.1
          · rw [nm_eq, hR2.2.1, gd_of hRW2.1, bI_eq e139, if_neg (by omega), nm_eq, hR2.2.1, gd_of hRW2.1, bI_eq e134, (w32_of (by omega) (by omega) : w32 (p + 2) = p + 2)]
            exact hq
        · refine PRC.imp (X := bV (cl (d - 1) 55 [pR s, pL k] m2) fun m7 => bV (cl (d - 1) 54 [pR s, pI 93] m7) fun m8 => rn d 110 11 [pR R, pR s, pI t, pI y.1, pI k, pI p, pI y.1] [] m8) ?_ fun q hq => ?_
          · rw [if_neg k6]
            refine PRC.bind (c55 (d := d - 1) (v := (k : Int)) (by omega) ok2 g2.2.1.1 g2.1 (by omega) (by omega)) fun m5 g5 => ?_
            exact tl m5 _ _ _ _ rfl rfl rfl (ok2.fr g5.2.2.1) g5.2.1.1 (hR2.fr ok2.1 g5.2.2.1) (hRW2.fr g5.2.2.1 ok2.1 (by decide +kernel)) g5.1
          · have := hN.2.1.1
            rw [nm_eq, hR2.2.1, gd_of hRW2.1, bI_eq e139, if_pos (by omega)]
            exact hq
      have es : sgS cc y ++ zs = [w8 91] ++ ((if cc.2.2.1.1 = 6 then prS 39 dd.2.2.2 else prN (k : Nat)) ++ ([w8 93] ++ zs)) := by
        unfold sgS
        rw [ed, ek, show w8 91 = 91 by decide, show w8 93 = 93 by decide]
        simp [List.append_assoc]
      rw [es]
      refine key.imp fun q hq => q110_34 (by omega) ok.1 _ ?_
      rw [gd_of hR.1, nm_eq, hR.2.1, gd_of hRW.1, bI_eq e137, if_pos (by omega), gd_of hS.1]
      exact hq
    · have h1 := (kdL_in _ _ _ y z).1
      generalize hq : p + ((if (cc.2.2.1.1 == 6) = true then nmB dd.2.2.2 else []).length : Int) = q at *
      have e151 := c151 (d := d - 1) (F := r) (by omega) ok.1 hRW hN.1 hN.2 h5 hx b3 hw.1 b4 (by omega)
      have rcc := ihr (q + (enV dd l).length) (k + 1) m ys (by push_cast; omega) b4 (by omega) hw.2.2.2.2.2 z ok hI hR hRW hS
      refine rcc.imp fun Z hZ => q110_34 (by omega) ok.1 _ ?_
      rw [gd_of hR.1, nm_eq, hR.2.1, gd_of hRW.1, bI_eq e137, if_neg (by omega), nm_eq, hR.2.1, gd_of hRW.1, bI_eq e137, nm_eq, hR.2.1, gd_of hRW.1, bI_eq e151, (w32_of (by omega) (by omega) : w32 ((k : Int) + 1) = (k : Int) + 1)]
      exact hZ
theorem c110_11 {t : Int} (hd : 6 ≤ d) (hx : xs.length < 60000) : ∀ (rs : Nd) (cc : Nk) (m : Mem) (ys : List Int) (z4 z5 z6 : PV), cat z4 = 1 → cat z5 = 1 → cat z6 = 1 → NV xs cc → chR cc rs → (lst cc rs).1 = t → OK m → SI m → RR m R rw rt → RW m rw xs c → SK m s ys cap → PRC (rn d 110 11 [pR R, pR s, pI t, pI cc.1, z4, z5, z6] [] m) s m ys cap (sgP cc rs) := by
  intro rs
  induction rs with
  | nil =>
    intro cc m ys z4 z5 z6 c4 c5 c6 hN _ ht ok hI hR hRW hS
    refine (PRC.done hS hI).imp fun q hq => q110_11 (by omega) ok.1 c4 c5 c6 _ ?_
    rw [if_pos (show cc.1 = t from ht)]; exact hq
  | cons y rs ih =>
    intro cc m ys z4 z5 z6 c4 c5 c6 hN hc ht ok hI hR hRW hS
    obtain ⟨k1, k2, h5⟩ := kdS_in hN hc.1
    have hNy := kdS_nv hN y hc.1
    have hin := chR_in hNy hc.2
    have ht' : (lst y rs).1 = t := ht
    rw [ht'] at hin
    obtain ⟨e, hg, hb, hl, -⟩ := enV_many hN.1 h5
    have hlt := hN.lt
    have hcnt : (cntF cc.2.2.2.1 : Int) < 60000 := by
      have e145 := cnt_en (cc.2.2.1.1 == 6) cc.2.2.2.1
      have := hb.2.1; have := hb.1; omega
    have e150 := c150 (d := d - 1) (by omega) ok.1 hRW hN.1 hN.2 h5 hx
    have key := c110_34 (d := d) (zs := sgP y rs) (rt := rt) hd hx hN h5 hin.1 hin.2.1 (fun m' ys' z4 z5 z6 c4 c5 c6 ok' hI' hR' hRW' hS' => ih y m' ys' z4 z5 z6 c4 c5 c6 hNy hc.2 ht' ok' hI' hR' hRW' hS') cc.2.2.2.1 (cc.1 + 3) 0 m ys (by push_cast; omega) hb (by omega) hN.2.2.2.2.2.1 hc.1 ok hI hR hRW hS
    refine key.imp fun q hq => q110_11 (by omega) ok.1 c4 c5 c6 _ ?_
    rw [if_neg (by omega), gd_of hR.1, nm_eq, hR.2.1, gd_of hRW.1, bI_eq e150, (w32_of (by omega) (by omega) : w32 (cc.1 + 3) = cc.1 + 3)]
    exact hq
/-- the path to a node -/
theorem c110 {rN : Nk} {x : Nd} (hd : 7 ≤ d) (hx : xs.length < 60000) (hN : NV xs rN) (hr : rN.1 = rt) (hc : chN rN x) (ok : OK m) (hI : SI m) (hR : RR m R rw rt) (hRW : RW m rw xs c) (hS : SK m s ys cap) : PRC (cl d 110 [pR R, pR s, pI (ofN x)] m) s m ys cap (prP x) := by
  obtain ⟨rs, e1, e2⟩ := chN_rev x hc
  have ep : prP x = [w8 36] ++ sgP rN rs := by rw [e1, prP_rev rs rN []]; rfl
  have et : (lst rN rs).1 = ofN x := by
    cases x with
    | nil => exact hc.elim
    | cons y x => rw [lst_rev e1]; rfl
  rw [ep]
  have key : PRC (bV (cl (d - 1) 54 [pR s, pI 36] m) fun m1 => gd (tg m1 R = 6) <| rn d 110 11 [pR R, pR s, pI (ofN x), pI (vl m1 R 1), pU, pU, pU] [] m1) s m ys cap ([w8 36] ++ sgP rN rs) := by
    refine PRC.bind (c54 ok hI hS) fun m2 g2 => ?_
    have hR2 := hR.fr ok.1 g2.2.2.1
    have hRW2 := hRW.fr g2.2.2.1 ok.1 (by decide +kernel)
    have ok2 := ok.fr g2.2.2.1
    rw [gd_of hR2.1, hR2.2.2, ← hr]
    exact c110_11 (by omega) hx rs rN m2 _ pU pU pU rfl rfl rfl hN e2 et ok2 g2.2.1.1 hR2 hRW2 g2.1
  refine key.imp fun q hq => q110 (by omega) ok.1 _ ?_
  rw [gd_of hS.1]
  exact hq
end
