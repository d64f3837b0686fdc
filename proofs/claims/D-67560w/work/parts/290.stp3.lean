/-! one step, what is left -/
set_option maxRecDepth 100000
section STEP
variable {p : Program} {l : Launch} {e : Env} {R : Room} {s : State} {mid : MethodId} {args : Array Value} {below : List Frame} {meth : Method} {c : Code} {Q : State → Prop}
variable {s0 : State} {b0 : Addr} {pre : Int → Nat} {dC : Nat → ClassId} {dI : Nat → Nat → Nat} {mb : Mem} {pc : Nat} {ls st : List PV} {m : Mem} {k : Nat} {en : mE} {len : Nat} {pc1 : Nat} {l1 s1 : List PV} {m1 : Mem}
theorem s_aastore  (hG : G0 s0 b0 pre dC dI) (hE : EM s0 p s mid args meth c en mb) (hls : ls.length = enL en) (hb1 : nx mb ≤ nx m) (hb2 : sl mb ≤ sl m) (hf : 10 ≤ R.frames) (hl2 : 120 ≤ R.locals) (hc1 : (nx m1 - nx mb).toNat ≤ R.cells) (hc2 : (sl m1 - sl mb).toNat ≤ R.slots) (kk : WS s0 pre dC dI p l e R s mid args below meth c mb Q pc1 l1 s1 m1) (hd : decode (enB en) pc = .ok (.aastore, 1)) (h : stp en.1 k (enK en) (enI en) (.aastore) pc 1 ls st m = some (.inl (pc1, l1, s1, m1))) : WS s0 pre dC dI p l e R s mid args below meth c mb Q pc ls st m := by
  obtain ⟨hx, hb, hml, hret, hlocks, hts, hown, hW, hini, hs1, hs2, hmb⟩ := hE
  obtain ⟨hpre, hKn, hw0, hstr, hnc, hnx, hZc, hZf, hZu, hZs, hsx⟩ := hG
  dsimp only [stp] at h
  split at h
  · split at h
    · rename_i x j a r h0
      obtain ⟨h9, h1, h2, h3, h4⟩ := h0
      obtain ⟨rfl, rfl, rfl, rfl⟩ := nG_inj h
      have key : ∀ t : Nat, t ∈ obL → 0 < t → t < 100 → tg m x = (t : Int) → (cNm t = elC (tg m a % 1000) ∨ Cond.castable (cNm t) (elC (tg m a % 1000)) ∈ lw_tbl) → WS s0 pre dC dI p l e R s mid args below meth c mb Q pc ls (pR x :: pI j :: pR a :: r) m := by
        intro t o1 o2 o3 ht hca
        refine g_aast hx hb hW hpre (hKn t o1) o2 o3 ?_ hd h9 h3 h1 h2 ht kk
        rcases hca with hca | hca
        · exact Or.inl hca
        · exact Or.inr (mv_CA hW (hw0 _ hca))
      generalize hq : tg m a % 1000 = q at *
      have : q = 111 ∨ q = 112 ∨ q = 113 ∨ q = 114 ∨ q = 115 ∨ q = 116 ∨ q = 117 ∨ q = 118 := by omega
      rcases this with rfl | rfl | rfl | rfl | rfl | rfl | rfl | rfl
      · simp only [aOk, Bool.or_eq_true, beq_iff_eq] at h4
        have h5 : tg m x = 17 ∨ tg m x = 18 ∨ tg m x = 19 ∨ tg m x = 20 ∨ tg m x = 29 := by omega
        rcases h5 with h5 | h5 | h5 | h5 | h5
        · exact key 17 (by decide) (by decide) (by decide) h5 (Or.inr ((z_cast 17).1 (by decide)))
        · exact key 18 (by decide) (by decide) (by decide) h5 (Or.inr ((z_cast 18).1 (by decide)))
        · exact key 19 (by decide) (by decide) (by decide) h5 (Or.inr ((z_cast 19).1 (by decide)))
        · exact key 20 (by decide) (by decide) (by decide) h5 (Or.inr ((z_cast 20).1 (by decide)))
        · exact key 29 (by decide) (by decide) (by decide) h5 (Or.inr ((z_cast 29).1 (by decide)))
      · simp only [aOk, Bool.or_eq_true, beq_iff_eq] at h4
        have h5 : tg m x = 21 ∨ tg m x = 22 ∨ tg m x = 26 ∨ tg m x = 28 := by omega
        rcases h5 with h5 | h5 | h5 | h5
        · exact key 21 (by decide) (by decide) (by decide) h5 (Or.inr ((z_cast 21).2 (by decide)))
        · exact key 22 (by decide) (by decide) (by decide) h5 (Or.inr ((z_cast 22).2 (by decide)))
        · exact key 26 (by decide) (by decide) (by decide) h5 (Or.inr ((z_cast 26).2 (by decide)))
        · exact key 28 (by decide) (by decide) (by decide) h5 (Or.inr ((z_cast 28).2 (by decide)))
      · simp only [aOk, beq_iff_eq] at h4
        exact key 16 (by decide) (by decide) (by decide) h4 (Or.inl rfl)
      · simp only [aOk, beq_iff_eq] at h4
        exact key 14 (by decide) (by decide) (by decide) h4 (Or.inl rfl)
      · simp only [aOk, beq_iff_eq] at h4
        exact key 10 (by decide) (by decide) (by decide) h4 (Or.inl rfl)
      · simp only [aOk, beq_iff_eq] at h4
        exact key 30 (by decide) (by decide) (by decide) h4 (Or.inl rfl)
      · simp only [aOk, beq_iff_eq] at h4
        exact key 12 (by decide) (by decide) (by decide) h4 (Or.inl rfl)
      · simp only [aOk, Bool.and_eq_true, beq_iff_eq, decide_eq_true_eq] at h4
        exact g_aastB hx hb hW hpre hd h9 hq h1 h2 h4.1 h4.2 kk
    · cases h
  · cases h
theorem s_instanceof {n : Nat} (hG : G0 s0 b0 pre dC dI) (hE : EM s0 p s mid args meth c en mb) (hls : ls.length = enL en) (hb1 : nx mb ≤ nx m) (hb2 : sl mb ≤ sl m) (hf : 10 ≤ R.frames) (hl2 : 120 ≤ R.locals) (hc1 : (nx m1 - nx mb).toNat ≤ R.cells) (hc2 : (sl m1 - sl mb).toNat ≤ R.slots) (kk : WS s0 pre dC dI p l e R s mid args below meth c mb Q pc1 l1 s1 m1) (hd : decode (enB en) pc = .ok (.instanceof n, 3)) (h : stp en.1 k (enK en) (enI en) (.instanceof n) pc 3 ls st m = some (.inl (pc1, l1, s1, m1))) : WS s0 pre dC dI p l e R s mid args below meth c mb Q pc ls st m := by
  obtain ⟨hx, hb, hml, hret, hlocks, hts, hown, hW, hini, hs1, hs2, hmb⟩ := hE
  obtain ⟨hpre, hKn, hw0, hstr, hnc, hnx, hZc, hZf, hZu, hZs, hsx⟩ := hG
  dsimp only [stp] at h
  split at h
  · rename_i t a r hq
    obtain ⟨ht, hcl⟩ := rOt_ok en.1 _ (lkN_mem hq)
    split at h
    · rename_i h0
      obtain ⟨rfl, rfl, rfl, rfl⟩ := nG_inj h
      simp only [aOk, Bool.or_eq_true, beq_iff_eq] at h0
      have h5 : tg m a = 17 ∨ tg m a = 18 ∨ tg m a = 19 ∨ tg m a = 20 ∨ tg m a = 29 := by omega
      have yes : ∀ u : Nat, u ∈ obL → 0 < u → u < 100 → tg m a = (u : Int) → t = u → WS s0 pre dC dI p l e R s mid args below meth c mb Q pc ls (pR a :: r) m := by
        intro u o1 o2 o3 hu e1
        subst e1
        rw [if_pos hu] at kk
        exact g_instY hx hb hW hts hown (hKn t o1) o2 o3 hcl hu hd kk
      have no : ∀ u : Nat, u ∈ obL → 0 < u → u < 100 → tg m a = (u : Int) → t ≠ u → va_Nc (cNm u) (cNm t) s0 → WS s0 pre dC dI p l e R s mid args below meth c mb Q pc ls (pR a :: r) m := by
        intro u o1 o2 o3 hu e1 hn
        rw [if_neg (by rw [hu]; omega)] at kk
        exact g_instN hx hb hW hts hown (hKn u o1) o2 o3 hcl hn hu hd kk
      have ht : t = 17 ∨ t = 18 := ht
      rcases ht with rfl | rfl <;> rcases h5 with h5 | h5 | h5 | h5 | h5
      · exact yes 17 (by decide) (by decide) (by decide) h5 rfl
      · exact no 18 (by decide) (by decide) (by decide) h5 (by decide) (hnc ("PathStore$Index", "PathStore$Name") (by decide +kernel))
      · exact no 19 (by decide) (by decide) (by decide) h5 (by decide) (hnc ("PathStore$All", "PathStore$Name") (by decide +kernel))
      · exact no 20 (by decide) (by decide) (by decide) h5 (by decide) (hnc ("PathStore$Filter", "PathStore$Name") (by decide +kernel))
      · exact no 29 (by decide) (by decide) (by decide) h5 (by decide) (hnc ("PathStore$Slice", "PathStore$Name") (by decide +kernel))
      · exact no 17 (by decide) (by decide) (by decide) h5 (by decide) (hnc ("PathStore$Name", "PathStore$Index") (by decide +kernel))
      · exact yes 18 (by decide) (by decide) (by decide) h5 rfl
      · exact no 19 (by decide) (by decide) (by decide) h5 (by decide) (hnc ("PathStore$All", "PathStore$Index") (by decide +kernel))
      · exact no 20 (by decide) (by decide) (by decide) h5 (by decide) (hnc ("PathStore$Filter", "PathStore$Index") (by decide +kernel))
      · exact no 29 (by decide) (by decide) (by decide) h5 (by decide) (hnc ("PathStore$Slice", "PathStore$Index") (by decide +kernel))
    · cases h
  · cases h
theorem s_ldc {n : Nat} (hG : G0 s0 b0 pre dC dI) (hE : EM s0 p s mid args meth c en mb) (hls : ls.length = enL en) (hb1 : nx mb ≤ nx m) (hb2 : sl mb ≤ sl m) (hf : 10 ≤ R.frames) (hl2 : 120 ≤ R.locals) (hc1 : (nx m1 - nx mb).toNat ≤ R.cells) (hc2 : (sl m1 - sl mb).toNat ≤ R.slots) (kk : WS s0 pre dC dI p l e R s mid args below meth c mb Q pc1 l1 s1 m1) (hd : decode (enB en) pc = .ok (.ldc n, 2)) (h : stp en.1 k (enK en) (enI en) (.ldc n) pc 2 ls st m = some (.inl (pc1, l1, s1, m1))) : WS s0 pre dC dI p l e R s mid args below meth c mb Q pc ls st m := by
  obtain ⟨hx, hb, hml, hret, hlocks, hts, hown, hW, hini, hs1, hs2, hmb⟩ := hE
  obtain ⟨hpre, hKn, hw0, hstr, hnc, hnx, hZc, hZf, hZu, hZs, hsx⟩ := hG
  dsimp only [stp] at h
  split at h
  · rename_i v hq
    have ok := rCt_ok en.1 _ (lkN_mem hq)
    split at h
    · rename_i h0
      obtain ⟨rfl, rfl, rfl, rfl⟩ := nG_inj h
      exact g_ldc hx hb hts hown ok h0 hd kk
    · cases h
  · rename_i a hq
    have ok : 0 < a ∧ a < 92 := rCt_ok en.1 _ (lkN_mem hq)
    obtain ⟨tx, hR⟩ := hstr en.1 _ _ (lkN_mem hq)
    obtain ⟨rfl, rfl, rfl, rfl⟩ := nG_inj h
    exact g_ldcS hx hb hW hown ok hR hd kk
  · cases h
theorem s_ldc_w {n : Nat} (hG : G0 s0 b0 pre dC dI) (hE : EM s0 p s mid args meth c en mb) (hls : ls.length = enL en) (hb1 : nx mb ≤ nx m) (hb2 : sl mb ≤ sl m) (hf : 10 ≤ R.frames) (hl2 : 120 ≤ R.locals) (hc1 : (nx m1 - nx mb).toNat ≤ R.cells) (hc2 : (sl m1 - sl mb).toNat ≤ R.slots) (kk : WS s0 pre dC dI p l e R s mid args below meth c mb Q pc1 l1 s1 m1) (hd : decode (enB en) pc = .ok (.ldc_w n, 3)) (h : stp en.1 k (enK en) (enI en) (.ldc_w n) pc 3 ls st m = some (.inl (pc1, l1, s1, m1))) : WS s0 pre dC dI p l e R s mid args below meth c mb Q pc ls st m := by
  obtain ⟨hx, hb, hml, hret, hlocks, hts, hown, hW, hini, hs1, hs2, hmb⟩ := hE
  obtain ⟨hpre, hKn, hw0, hstr, hnc, hnx, hZc, hZf, hZu, hZs, hsx⟩ := hG
  dsimp only [stp] at h
  split at h
  · rename_i a hq
    have ok : 0 < a ∧ a < 92 := rCt_ok en.1 _ (lkN_mem hq)
    obtain ⟨tx, hR⟩ := hstr en.1 _ _ (lkN_mem hq)
    obtain ⟨rfl, rfl, rfl, rfl⟩ := nG_inj h
    exact g_ldcSw hx hb hW hown ok hR hd kk
  · cases h
theorem s_ldc2_w {n : Nat} (hG : G0 s0 b0 pre dC dI) (hE : EM s0 p s mid args meth c en mb) (hls : ls.length = enL en) (hb1 : nx mb ≤ nx m) (hb2 : sl mb ≤ sl m) (hf : 10 ≤ R.frames) (hl2 : 120 ≤ R.locals) (hc1 : (nx m1 - nx mb).toNat ≤ R.cells) (hc2 : (sl m1 - sl mb).toNat ≤ R.slots) (kk : WS s0 pre dC dI p l e R s mid args below meth c mb Q pc1 l1 s1 m1) (hd : decode (enB en) pc = .ok (.ldc2_w n, 3)) (h : stp en.1 k (enK en) (enI en) (.ldc2_w n) pc 3 ls st m = some (.inl (pc1, l1, s1, m1))) : WS s0 pre dC dI p l e R s mid args below meth c mb Q pc ls st m := by
  obtain ⟨hx, hb, hml, hret, hlocks, hts, hown, hW, hini, hs1, hs2, hmb⟩ := hE
  obtain ⟨hpre, hKn, hw0, hstr, hnc, hnx, hZc, hZf, hZu, hZs, hsx⟩ := hG
  dsimp only [stp] at h
  split at h
  · rename_i v hq
    have ok := rLt_ok en.1 _ (lkN_mem hq)
    split at h
    · rename_i h0
      obtain ⟨rfl, rfl, rfl, rfl⟩ := nG_inj h
      exact g_ldc2 hx hb hts hown ok h0 hd kk
    · cases h
  · cases h
theorem s_getstatic {n : Nat} (hG : G0 s0 b0 pre dC dI) (hE : EM s0 p s mid args meth c en mb) (hls : ls.length = enL en) (hb1 : nx mb ≤ nx m) (hb2 : sl mb ≤ sl m) (hf : 10 ≤ R.frames) (hl2 : 120 ≤ R.locals) (hc1 : (nx m1 - nx mb).toNat ≤ R.cells) (hc2 : (sl m1 - sl mb).toNat ≤ R.slots) (kk : WS s0 pre dC dI p l e R s mid args below meth c mb Q pc1 l1 s1 m1) (hd : decode (enB en) pc = .ok (.getstatic n, 3)) (h : stp en.1 k (enK en) (enI en) (.getstatic n) pc 3 ls st m = some (.inl (pc1, l1, s1, m1))) : WS s0 pre dC dI p l e R s mid args below meth c mb Q pc ls st m := by
  obtain ⟨hx, hb, hml, hret, hlocks, hts, hown, hW, hini, hs1, hs2, hmb⟩ := hE
  obtain ⟨hpre, hKn, hw0, hstr, hnc, hnx, hZc, hZf, hZu, hZs, hsx⟩ := hG
  dsimp only [stp] at h
  have hkp : ∀ a : Nat, a < s0.heap.size → ¬ (s0.heap.size ≤ a) → s.heap[a]? = s0.heap[a]? := fun a h1 _ => hs2 a h1
  split at h
  · rename_i h0
    obtain ⟨e1, e2⟩ := h0
    obtain ⟨rfl, rfl, rfl, rfl⟩ := nG_inj h
    subst e2
    have hown : s.vm.findClass "java/lang/String" = some mid.cls := by rw [e1] at hown; exact hown
    exact g_getsC hx hb hts hown (va_Z.kept (hZc.moved hW.alike) hkp) (lw_g (lw_at lw_m1 222 rfl) rfl) hs1 hs2 hmb hb1 hd kk
  · split at h
    · rename_i h0
      obtain ⟨e1, e2⟩ := h0
      obtain ⟨rfl, rfl, rfl, rfl⟩ := nG_inj h
      subst e2
      have hown : s.vm.findClass "java/lang/String" = some mid.cls := by rw [e1] at hown; exact hown
      exact g_getsU hx hb hts hown (va_Zq.kept (hZf.moved hW.alike) hkp) (lw_g (lw_at lw_m1 238 rfl) rfl) hs1 hs2 hmb hb1 hd kk
    · cases h
theorem s_new {n : Nat} (hG : G0 s0 b0 pre dC dI) (hE : EM s0 p s mid args meth c en mb) (hls : ls.length = enL en) (hb1 : nx mb ≤ nx m) (hb2 : sl mb ≤ sl m) (hf : 10 ≤ R.frames) (hl2 : 120 ≤ R.locals) (hc1 : (nx m1 - nx mb).toNat ≤ R.cells) (hc2 : (sl m1 - sl mb).toNat ≤ R.slots) (kk : WS s0 pre dC dI p l e R s mid args below meth c mb Q pc1 l1 s1 m1) (hd : decode (enB en) pc = .ok (.new n, 3)) (h : stp en.1 k (enK en) (enI en) (.new n) pc 3 ls st m = some (.inl (pc1, l1, s1, m1))) : WS s0 pre dC dI p l e R s mid args below meth c mb Q pc ls st m := by
  obtain ⟨hx, hb, hml, hret, hlocks, hts, hown, hW, hini, hs1, hs2, hmb⟩ := hE
  obtain ⟨hpre, hKn, hw0, hstr, hnc, hnx, hZc, hZf, hZu, hZs, hsx⟩ := hG
  dsimp only [stp] at h
  split at h
  · rename_i t f hq
    obtain ⟨o1, ⟨o2, o3⟩, rfl, k1, k2, k3⟩ := rNt_ok en.1 _ (lkN_mem hq)
    obtain ⟨rfl, rfl, rfl, rfl⟩ := nG_inj h
    rw [nx_mal] at hc1
    rw [sl_mal] at hc2
    exact g_new hx hb hW hpre hts hown (obk t (ob_of o1)) (hKn t (ob_of o1)) o3 hd k1 k2 k3 hb1 hb2 hc1 hc2 kk
  · split at h
    · exact (nT_go h).elim
    · cases h
  · cases h
theorem s_newarray {t : ArrayType} (hG : G0 s0 b0 pre dC dI) (hE : EM s0 p s mid args meth c en mb) (hls : ls.length = enL en) (hb1 : nx mb ≤ nx m) (hb2 : sl mb ≤ sl m) (hf : 10 ≤ R.frames) (hl2 : 120 ≤ R.locals) (hc1 : (nx m1 - nx mb).toNat ≤ R.cells) (hc2 : (sl m1 - sl mb).toNat ≤ R.slots) (kk : WS s0 pre dC dI p l e R s mid args below meth c mb Q pc1 l1 s1 m1) (hd : decode (enB en) pc = .ok (.newarray t, 2)) (h : stp en.1 k (enK en) (enI en) (.newarray t) pc 2 ls st m = some (.inl (pc1, l1, s1, m1))) : WS s0 pre dC dI p l e R s mid args below meth c mb Q pc ls st m := by
  obtain ⟨hx, hb, hml, hret, hlocks, hts, hown, hW, hini, hs1, hs2, hmb⟩ := hE
  obtain ⟨hpre, hKn, hw0, hstr, hnc, hnx, hZc, hZf, hZu, hZs, hsx⟩ := hG
  dsimp only [stp] at h
  split at h
  · rename_i q n r hq
    split at h
    · rename_i h0
      obtain ⟨rfl, rfl, rfl, rfl⟩ := nG_inj h
      rw [nx_mal] at hc1
      rw [sl_mal] at hc2
      obtain ⟨-, t2, t3, -⟩ := aTy_ok hq
      exact g_newa hx hb hW hpre hts hq (z_arr ⟨t2, t3⟩) hd h0 hb1 hb2 hc1 hc2 kk
    · cases h
  · cases h
theorem s_anewarray {n : Nat} (hG : G0 s0 b0 pre dC dI) (hE : EM s0 p s mid args meth c en mb) (hls : ls.length = enL en) (hb1 : nx mb ≤ nx m) (hb2 : sl mb ≤ sl m) (hf : 10 ≤ R.frames) (hl2 : 120 ≤ R.locals) (hc1 : (nx m1 - nx mb).toNat ≤ R.cells) (hc2 : (sl m1 - sl mb).toNat ≤ R.slots) (kk : WS s0 pre dC dI p l e R s mid args below meth c mb Q pc1 l1 s1 m1) (hd : decode (enB en) pc = .ok (.anewarray n, 3)) (h : stp en.1 k (enK en) (enI en) (.anewarray n) pc 3 ls st m = some (.inl (pc1, l1, s1, m1))) : WS s0 pre dC dI p l e R s mid args below meth c mb Q pc ls st m := by
  obtain ⟨hx, hb, hml, hret, hlocks, hts, hown, hW, hini, hs1, hs2, hmb⟩ := hE
  obtain ⟨hpre, hKn, hw0, hstr, hnc, hnx, hZc, hZf, hZu, hZs, hsx⟩ := hG
  dsimp only [stp] at h
  split at h
  · rename_i q z r hq
    obtain ⟨⟨a1, a2⟩, a3, a4⟩ := rAt_ok en.1 _ (lkN_mem hq)
    split at h
    · rename_i h0
      obtain ⟨rfl, rfl, rfl, rfl⟩ := nG_inj h
      rw [nx_mal] at hc1
      rw [sl_mal] at hc2
      have a1 : 110 < q := a1
      have a2 : q < 119 := a2
      have hov : (Cond.arrayOver (elF q)).before args s = true := by
        have h9 := hw0 _ a4
        have : q = 111 ∨ q = 112 ∨ q = 113 ∨ q = 114 ∨ q = 115 ∨ q = 116 ∨ q = 117 ∨ q = 118 := by omega
        rcases this with rfl | rfl | rfl | rfl | rfl | rfl | rfl | rfl
        · exact mv_AO hW h9
        · exact mv_AO hW h9
        · exact mv_AO hW h9
        · exact mv_AO hW h9
        · exact mv_AO hW h9
        · exact mv_AO hW h9
        · exact mv_AO hW h9
        · exact mv_AA hW h9
      exact g_anew (q := (q : Int)) hx hb hW hpre hts hown (by omega) a3 hov hd h0 hb1 hb2 hc1 hc2 kk
    · cases h
  · cases h
theorem s_multi {n dm : Nat} (hG : G0 s0 b0 pre dC dI) (hE : EM s0 p s mid args meth c en mb) (hls : ls.length = enL en) (hb1 : nx mb ≤ nx m) (hb2 : sl mb ≤ sl m) (hf : 10 ≤ R.frames) (hl2 : 120 ≤ R.locals) (hc1 : (nx m1 - nx mb).toNat ≤ R.cells) (hc2 : (sl m1 - sl mb).toNat ≤ R.slots) (kk : WS s0 pre dC dI p l e R s mid args below meth c mb Q pc1 l1 s1 m1) (hd : decode (enB en) pc = .ok (.multianewarray n dm, 4)) (h : stp en.1 k (enK en) (enI en) (.multianewarray n dm) pc 4 ls st m = some (.inl (pc1, l1, s1, m1))) : WS s0 pre dC dI p l e R s mid args below meth c mb Q pc ls st m := by
  obtain ⟨hx, hb, hml, hret, hlocks, hts, hown, hW, hini, hs1, hs2, hmb⟩ := hE
  obtain ⟨hpre, hKn, hw0, hstr, hnc, hnx, hZc, hZf, hZu, hZs, hsx⟩ := hG
  dsimp only [stp] at h
  split at h
  · split at h
    · rename_i h0
      obtain ⟨e1, e2, e3, e4, e5⟩ := h0
      subst e2; subst e3; subst e4; subst e5
      obtain ⟨rfl, rfl, rfl, rfl⟩ := nG_inj h
      rw [nx_mgr] at hc1
      rw [sl_mgr] at hc2
      exact g_multi hx hb hW hpre hts (own := cNm en.1) hown (by rw [e1]; exact (lw_g (lw_at lw_m9 60 rfl) rfl)) (mv_AA hW (hw0 _ (lw_at lw_m9 61 rfl))) (lw_g (lw_at lw_m1 73 rfl) rfl) hd hb1 hb2 (by omega) (by omega) kk
    · cases h
  · cases h
theorem s_special {n : Nat} (hG : G0 s0 b0 pre dC dI) (hE : EM s0 p s mid args meth c en mb) (hls : ls.length = enL en) (hb1 : nx mb ≤ nx m) (hb2 : sl mb ≤ sl m) (hf : 10 ≤ R.frames) (hl2 : 120 ≤ R.locals) (hc1 : (nx m1 - nx mb).toNat ≤ R.cells) (hc2 : (sl m1 - sl mb).toNat ≤ R.slots) (kk : WS s0 pre dC dI p l e R s mid args below meth c mb Q pc1 l1 s1 m1) (hd : decode (enB en) pc = .ok (.invokespecial n, 3)) (h : stp en.1 k (enK en) (enI en) (.invokespecial n) pc 3 ls st m = some (.inl (pc1, l1, s1, m1))) : WS s0 pre dC dI p l e R s mid args below meth c mb Q pc ls st m := by
  obtain ⟨hx, hb, hml, hret, hlocks, hts, hown, hW, hini, hs1, hs2, hmb⟩ := hE
  obtain ⟨hpre, hKn, hw0, hstr, hnc, hnx, hZc, hZf, hZu, hZs, hsx⟩ := hG
  dsimp only [stp] at h
  split at h
  · split at h
    · split at h
      · exact (nCall_go h).elim
      · cases h
    · cases h
  · rename_i hq
    have ok := rIt_ok en.1 _ (lkN_mem hq)
    split at h
    · split at h
      · rename_i h0
        obtain ⟨rfl, rfl, rfl, rfl⟩ := nG_inj h
        exact g_objInit hx hb (by rw [hml, hls]) hts hown ok (lw_g (lw_at lw_m1 54 rfl) rfl) (lw_g (lw_at lw_m1 55 rfl) rfl) (by omega) (by omega) h0.1 h0.2.2 hd kk
      · cases h
    · cases h
  · cases h
theorem s_static {n : Nat} (hG : G0 s0 b0 pre dC dI) (hE : EM s0 p s mid args meth c en mb) (hls : ls.length = enL en) (hb1 : nx mb ≤ nx m) (hb2 : sl mb ≤ sl m) (hf : 10 ≤ R.frames) (hl2 : 120 ≤ R.locals) (hc1 : (nx m1 - nx mb).toNat ≤ R.cells) (hc2 : (sl m1 - sl mb).toNat ≤ R.slots) (kk : WS s0 pre dC dI p l e R s mid args below meth c mb Q pc1 l1 s1 m1) (hd : decode (enB en) pc = .ok (.invokestatic n, 3)) (h : stp en.1 k (enK en) (enI en) (.invokestatic n) pc 3 ls st m = some (.inl (pc1, l1, s1, m1))) : WS s0 pre dC dI p l e R s mid args below meth c mb Q pc ls st m := by
  obtain ⟨hx, hb, hml, hret, hlocks, hts, hown, hW, hini, hs1, hs2, hmb⟩ := hE
  obtain ⟨hpre, hKn, hw0, hstr, hnc, hnx, hZc, hZf, hZu, hZs, hsx⟩ := hG
  dsimp only [stp] at h
  split at h
  · split at h
    · exact (nCall_go h).elim
    · cases h
  · rename_i hq
    have ok := rIt_ok en.1 _ (lkN_mem hq)
    split at h
    · split at h
      · rename_i h0
        obtain ⟨rfl, rfl, rfl, rfl⟩ := nG_inj h
        exact g_max hx hb (by rw [hml, hls]) hts hown ok (lw_g (lw_at lw_m1 209 rfl) rfl) (lw_g (lw_at lw_m1 9 rfl) rfl) (lw_g (lw_at lw_m1 210 rfl) rfl) (by omega) (by omega) h0 hc1 hc2 hd kk
      · cases h
    · cases h
  · rename_i hq
    have ok := rIt_ok en.1 _ (lkN_mem hq)
    split at h
    · split at h
      · rename_i h0
        obtain ⟨rfl, rfl, rfl, rfl⟩ := nG_inj h
        exact g_min hx hb (by rw [hml, hls]) hts hown ok (lw_g (lw_at lw_m5 208 rfl) rfl) (lw_g (lw_at lw_m1 9 rfl) rfl) (lw_g (lw_at lw_m5 209 rfl) rfl) (by omega) (by omega) h0 hc1 hc2 hd kk
      · cases h
    · cases h
  · rename_i hq
    have ok := rIt_ok en.1 _ (lkN_mem hq)
    split at h
    · split at h
      · rename_i h0
        obtain ⟨rfl, rfl, rfl, rfl⟩ := nG_inj h
        exact g_maxL hx hb (by rw [hml, hls]) hts hown ok (lw_g (lw_at lw_m8 150 rfl) rfl) (lw_g (lw_at lw_m1 9 rfl) rfl) (lw_g (lw_at lw_m8 151 rfl) rfl) (by omega) (by omega) h0 hc1 hc2 hd kk
      · cases h
    · cases h
  · rename_i hq
    have ok := rIt_ok en.1 _ (lkN_mem hq)
    split at h
    · split at h
      · rename_i h0
        obtain ⟨rfl, rfl, rfl, rfl⟩ := nG_inj h
        exact g_minL hx hb (by rw [hml, hls]) hts hown ok (lw_g (lw_at lw_m4 124 rfl) rfl) (lw_g (lw_at lw_m1 9 rfl) rfl) (lw_g (lw_at lw_m4 125 rfl) rfl) (by omega) (by omega) h0 hc1 hc2 hd kk
      · cases h
    · cases h
  · rename_i hq
    have ok := rIt_ok en.1 _ (lkN_mem hq)
    split at h
    · split at h
      · rename_i h0
        obtain ⟨q1, q2, q3, q4, q5, q6, q7, q8, q9, q10⟩ := h0
        obtain ⟨rfl, rfl, rfl, rfl⟩ := nG_inj h
        exact g_copy hx hb (by rw [hml, hls]) hW hpre hts hown ok (lw_g (lw_at lw_m1 213 rfl) rfl) (lw_g (lw_at lw_m1 212 rfl) rfl) (lw_g (lw_at lw_m1 10 rfl) rfl) (by omega) (by omega) q6 hd q1 q2 q3 q4 q5 q7 q8 q9 q10 kk
      · cases h
    · cases h
  · cases h
end STEP
