/-! one step, the rest -/
set_option maxRecDepth 100000
theorem z_cast : ∀ t : Nat, (t = 17 ∨ t = 18 ∨ t = 19 ∨ t = 20 ∨ t = 29 → Cond.castable (cNm t) "PathStore$Selector" ∈ lw_tbl) ∧ (t = 21 ∨ t = 22 ∨ t = 26 ∨ t = 28 → Cond.castable (cNm t) "PathStore$Test" ∈ lw_tbl) := by
  intro t
  constructor
  · intro h
    rcases h with rfl | rfl | rfl | rfl | rfl
    · exact (lw_at lw_m8 127 rfl)
    · exact (lw_at lw_m8 117 rfl)
    · exact (lw_at lw_m7 218 rfl)
    · exact (lw_at lw_m7 235 rfl)
    · exact (lw_at lw_m8 137 rfl)
  · intro h
    rcases h with rfl | rfl | rfl | rfl
    · exact (lw_at lw_m8 107 rfl)
    · exact (lw_at lw_m8 92 rfl)
    · exact (lw_at lw_m8 9 rfl)
    · exact (lw_at lw_m8 99 rfl)
theorem z_arr {q : Int} (h : 100 < q ∧ q < 106) : Cond.arrayClass (elF q) ∈ lw_all := by
  have : q = 101 ∨ q = 102 ∨ q = 103 ∨ q = 104 ∨ q = 105 := by omega
  rcases this with rfl | rfl | rfl | rfl | rfl
  · exact (lw_g (lw_at lw_m1 164 rfl) rfl)
  · exact (lw_g (lw_at lw_m8 206 rfl) rfl)
  · exact (lw_g (lw_at lw_m1 73 rfl) rfl)
  · exact (lw_g (lw_at lw_m9 143 rfl) rfl)
  · exact (lw_g (lw_at lw_m2 117 rfl) rfl)
theorem ob_of {t : Nat} (h : obL.contains t = true) : t ∈ obL := by simpa using h
theorem zfin : ∀ c idx (q : Nat × Nat × Nat × Nat × Nat), (idx, q) ∈ rFt c → (q.2.2.2.2 = 0 ∨ q.2.2.2.2 = 1) := by
  intro c idx q h
  have hall : ∀ c, c < 34 → ((rFt c).all fun z => z.2.2.2.2.2 == 0 || z.2.2.2.2.2 == 1) = true := by decide +kernel
  by_cases hc : c < 34
  · have := List.all_eq_true.mp (hall c hc) _ h
    simpa using this
  · exfalso
    have : rFt c = [] := by unfold rFt; split <;> first | omega | rfl
    rw [this] at h; cases h
theorem zfin2 : ∀ c idx (q : Nat × Nat × Nat × Nat × Nat), (idx, q) ∈ rFt c → (q.2.2.2.1 = q.2.2.1 ∨ q.2.2.2.2 = 0) := by
  intro c idx q h
  have hall : ∀ c, c < 34 → ((rFt c).all fun z => z.2.2.2.2.1 == z.2.2.2.1 || z.2.2.2.2.2 == 0) = true := by decide +kernel
  by_cases hc : c < 34
  · have := List.all_eq_true.mp (hall c hc) _ h
    simpa using this
  · exfalso
    have : rFt c = [] := by unfold rFt; split <;> first | omega | rfl
    rw [this] at h; cases h
section STEP
variable {p : Program} {l : Launch} {e : Env} {R : Room} {s : State} {mid : MethodId} {args : Array Value} {below : List Frame} {meth : Method} {c : Code} {Q : State → Prop}
variable {s0 : State} {b0 : Addr} {pre : Int → Nat} {dC : Nat → ClassId} {dI : Nat → Nat → Nat} {mb : Mem} {pc : Nat} {ls st : List PV} {m : Mem} {k : Nat} {en : mE} {len : Nat} {pc1 : Nat} {l1 s1 : List PV} {m1 : Mem}
theorem s_getfield {n : Nat} (hG : G0 s0 b0 pre dC dI) (hE : EM s0 p s mid args meth c en mb) (hls : ls.length = enL en) (hb1 : nx mb ≤ nx m) (hb2 : sl mb ≤ sl m) (hf : 10 ≤ R.frames) (hl2 : 120 ≤ R.locals) (hc1 : (nx m1 - nx mb).toNat ≤ R.cells) (hc2 : (sl m1 - sl mb).toNat ≤ R.slots) (kk : WS s0 pre dC dI p l e R s mid args below meth c mb Q pc1 l1 s1 m1) (hd : decode (enB en) pc = .ok (.getfield n, 3)) (h : stp en.1 k (enK en) (enI en) (.getfield n) pc 3 ls st m = some (.inl (pc1, l1, s1, m1))) : WS s0 pre dC dI p l e R s mid args below meth c mb Q pc ls st m := by
  obtain ⟨hx, hb, hml, hret, hlocks, hts, hown, hW, hini, hs1, hs2, hmb⟩ := hE
  obtain ⟨hpre, hKn, hw0, hstr, hnc, hnx, hZc, hZf, hZu, hZs, hsx⟩ := hG
  dsimp only [stp] at h
  split at h
  · rename_i ty f t1 t2 fin a r hq
    obtain ⟨⟨ok1, lk1⟩, ⟨ok2, lk2⟩⟩ := rFt_ok en.1 _ (lkN_mem hq)
    split at h
    · rename_i h0
      have key : ∀ t : Nat, tg m a = (t : Int) → FOKb en.1 (ty, f, t1, t2, fin) t = true → FLw en.1 n t f (t1 == en.1) → WS s0 pre dC dI p l e R s mid args below meth c mb Q pc ls (pR a :: r) m := by
        intro t ht ok lk
        obtain ⟨o1, o2, o3, o4, o5, -⟩ := FOKb.use ok
        obtain ⟨ref, k1, k2, -⟩ := lk.use hW hts hw0
        refine g_getf hx hb hW hts hown (obk t o1) (hKn t o1) o2 o3 hd ht o4 k1 k2 ?_
        have o5 : (fTy t).getD f 0 = ty := o5
        rw [o5]
        split at h
        · obtain ⟨rfl, rfl, rfl, rfl⟩ := nG_inj h
          exact kk
        · obtain ⟨rfl, rfl, rfl, rfl⟩ := nG_inj h
          exact kk
        · rename_i e1 e2
          obtain ⟨rfl, rfl, rfl, rfl⟩ := nG_inj h
          rw [if_neg (fun q => e1 q), if_neg (fun q => e2 q)]
          exact kk
      rcases h0 with h0 | h0
      · exact key _ h0 ok1 lk1
      · exact key _ h0 ok2 lk2
    · cases h
  · cases h
theorem s_putfield {n : Nat} (hG : G0 s0 b0 pre dC dI) (hE : EM s0 p s mid args meth c en mb) (hls : ls.length = enL en) (hb1 : nx mb ≤ nx m) (hb2 : sl mb ≤ sl m) (hf : 10 ≤ R.frames) (hl2 : 120 ≤ R.locals) (hc1 : (nx m1 - nx mb).toNat ≤ R.cells) (hc2 : (sl m1 - sl mb).toNat ≤ R.slots) (kk : WS s0 pre dC dI p l e R s mid args below meth c mb Q pc1 l1 s1 m1) (hd : decode (enB en) pc = .ok (.putfield n, 3)) (h : stp en.1 k (enK en) (enI en) (.putfield n) pc 3 ls st m = some (.inl (pc1, l1, s1, m1))) : WS s0 pre dC dI p l e R s mid args below meth c mb Q pc ls st m := by
  obtain ⟨hx, hb, hml, hret, hlocks, hts, hown, hW, hini, hs1, hs2, hmb⟩ := hE
  obtain ⟨hpre, hKn, hw0, hstr, hnc, hnx, hZc, hZf, hZu, hZs, hsx⟩ := hG
  dsimp only [stp] at h
  split at h
  · rename_i ty f t1 t2 fin v a r hq
    obtain ⟨⟨ok1, lk1⟩, ⟨ok2, lk2⟩⟩ := rFt_ok en.1 _ (lkN_mem hq)
    split at h
    · rename_i h0
      obtain ⟨h0, h31, hfi⟩ := h0
      have key : ∀ t : Nat, tg m a = (t : Int) → FOKb en.1 (ty, f, t1, t2, fin) t = true → FLw en.1 n t f (t1 == en.1) → (t1 = en.1 → t = t1 ∨ fin = 0) → WS s0 pre dC dI p l e R s mid args below meth c mb Q pc ls (v :: pR a :: r) m := by
        intro t ht ok lk htt
        obtain ⟨o1, o2, o3, o4, o5, o6, o7, o8, o9⟩ := FOKb.use ok
        obtain ⟨ref, k1, k2, k3⟩ := lk.use hW hts hw0
        have o5 : (fTy t).getD f 0 = ty := o5
        have hfin : (TT t f).2.2.2 = false ∨ ((TT t f).2.2.2 = true ∧ cNm en.1 = (TT t f).1 ∧ meth.name = "<init>" ∧ (Cond.fieldLink (cNm en.1) n ref (TT t f).2.1 (TT t f).2.2.1).before args s = true) := by
          by_cases e0 : fin = 0
          · left
            have o6 : (TT t f).2.2.2 = (fin == 1) := o6
            rw [o6, e0]; rfl
          · right
            rcases hfi with hfi | ⟨hi, hc⟩
            · exact absurd hfi e0
            · have e1 : t = t1 := (htt hc).resolve_right e0
              have o6 : (TT t f).2.2.2 = (fin == 1) := o6
              have o9 : (TT t f).1 = cNm t := o9 e0
              refine ⟨?_, by rw [o9, e1, hc], hini hi, k3 (by rw [hc]; exact beq_self_eq_true _)⟩
              rw [o6]
              rcases zfin en.1 n _ (lkN_mem hq) with h9 | h9
              · exact absurd h9 e0
              · have h9 : fin = 1 := h9
                rw [h9]; rfl
        have put : ∀ (v' : PV) (x : Int), v = v' → v' = (if (fTy t).getD f 0 = 1 then pL x else if (fTy t).getD f 0 = 2 then pR x else pI x) → ((fTy t).getD f 0 = 3 → x = 0 ∨ x = 1) → nG (pc + 3) ls r (mst m a f x) = some (.inl (pc1, l1, s1, m1)) → WS s0 pre dC dI p l e R s mid args below meth c mb Q pc ls (v :: pR a :: r) m := by
          intro v' x e1 e2 e3 e4
          obtain ⟨rfl, rfl, rfl, rfl⟩ := nG_inj e4
          exact g_putf hx hb hW hpre hts hown (obk t o1) (hKn t o1) o2 o3 hd (o8 h31) ht o4 k1 k2 hfin (e1.trans e2) e3 (fun q => o7 (by rw [← o5]; exact q) h31) kk
        split at h
        · exact put _ _ rfl (by rw [o5]; rfl) (by rw [o5]; intro q; cases q) h
        · exact put _ _ rfl (by rw [o5]; rfl) (by rw [o5]; intro q; cases q) h
        · exact put _ _ rfl (by rw [o5]; rfl) (by rw [o5]; intro q; cases q) h
        · split at h
          · rename_i h3
            exact put _ _ rfl (by rw [o5]; rfl) (fun _ => h3) h
          · cases h
        · cases h
      rcases h0 with h0 | h0
      · exact key _ h0 ok1 lk1 (fun _ => Or.inl rfl)
      · by_cases e9 : t2 = t1
        · subst e9; exact key _ h0 ok2 lk2 (fun _ => Or.inl rfl)
        · refine key _ h0 ok2 lk2 (fun hc => Or.inr ?_)
          exact (zfin2 en.1 n _ (lkN_mem hq)).resolve_left e9
    · cases h
  · cases h
end STEP
