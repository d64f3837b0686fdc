/-! the pure machine is sound: handlers, ends, the induction -/
set_option maxRecDepth 100000
set_option maxHeartbeats 4000000
theorem cov_iff (a b h t pc : Nat) : covers ⟨a, b, h, t⟩ pc = decide (a ≤ pc ∧ pc < b) := by
  unfold covers
  simp
theorem hdl_none {c : Nat} : ∀ (zs qs : List (Nat × Nat × Nat × Nat)) (pc : Nat) (x : Int), hOK c zs qs → hdl qs pc x = some none → ∀ z ∈ zs, covers ⟨z.1, z.2.1, z.2.2.1, z.2.2.2⟩ pc = false := by
  intro zs
  induction zs with
  | nil => intro qs pc x _ _ z hz; cases hz
  | cons z zs ih =>
    intro qs pc x hok h
    cases qs with
    | nil => exact absurd hok (by simp [hOK])
    | cons q qs =>
      obtain ⟨⟨e1, e2, -⟩, hok2⟩ := hok
      obtain ⟨a, b, t, hh⟩ := q
      unfold hdl at h
      split at h
      · split at h
        · cases h
        · split at h
          · split at h
            · cases h
            · cases h
          · cases h
      · rename_i hn
        intro y hy
        rcases List.mem_cons.mp hy with rfl | hy
        · rw [cov_iff]
          have e1 : a = y.1 := e1
          have e2 : b = y.2.1 := e2
          rw [← e1, ← e2]
          exact decide_eq_false hn
        · exact ih qs pc x hok2 h y hy
theorem hdlC_none {c : Nat} : ∀ (zs qs : List (Nat × Nat × Nat × Nat)) (pc : Nat) (x : Int), hOK c zs qs → hdlC qs pc x = some none → ∀ z ∈ zs, covers ⟨z.1, z.2.1, z.2.2.1, z.2.2.2⟩ pc = false ∨ (z.2.2.2 ≠ 0 ∧ ∃ u t : Nat, x = (t : Int) ∧ (200 < t ∧ t < 207) ∧ (200 < u ∧ u < 207) ∧ u ≠ t ∧ Cond.classLink (cNm c) z.2.2.2 (eNm u) ∈ lw_all) := by
  intro zs
  induction zs with
  | nil => intro qs pc x _ _ z hz; cases hz
  | cons z zs ih =>
    intro qs pc x hok h
    cases qs with
    | nil => exact absurd hok (by simp [hOK])
    | cons q qs =>
      obtain ⟨⟨e1, e2, e3, e4, e5, e6⟩, hok2⟩ := hok
      obtain ⟨a, b, t, hh⟩ := q
      have e1 : a = z.1 := e1
      have e2 : b = z.2.1 := e2
      unfold hdlC at h
      split at h
      · split at h
        · cases h
        · rename_i ex
          split at h
          · rename_i hx
            intro y hy
            rcases List.mem_cons.mp hy with rfl | hy
            · refine Or.inr ⟨e4, t, x.toNat, by omega, by omega, e6, fun e9 => ex (by rw [e9]; omega), e5⟩
            · exact ih qs pc x hok2 h y hy
          · cases h
      · rename_i hn
        intro y hy
        rcases List.mem_cons.mp hy with rfl | hy
        · left
          rw [cov_iff, ← e1, ← e2]
          exact decide_eq_false hn
        · exact ih qs pc x hok2 h y hy
theorem hdlC_some {c : Nat} : ∀ (zs qs : List (Nat × Nat × Nat × Nat)) (pc : Nat) (x : Int) (hp : Nat), hOK c zs qs → hdlC qs pc x = some (some hp) →
    ∃ a1 b a2 t, zs = a1 ++ b :: a2 ∧ hp = b.2.2.1 ∧ covers ⟨b.1, b.2.1, b.2.2.1, b.2.2.2⟩ pc = true ∧ b.2.2.2 ≠ 0 ∧ x = ((t : Nat) : Int) ∧ (200 < t ∧ t < 207) ∧ Cond.classLink (cNm c) b.2.2.2 (eNm t) ∈ lw_all ∧
      ∀ z ∈ a1, covers ⟨z.1, z.2.1, z.2.2.1, z.2.2.2⟩ pc = false ∨ (z.2.2.2 ≠ 0 ∧ ∃ u : Nat, (200 < u ∧ u < 207) ∧ u ≠ t ∧ Cond.classLink (cNm c) z.2.2.2 (eNm u) ∈ lw_all) := by
  intro zs
  induction zs with
  | nil =>
    intro qs pc x hp hok h
    cases qs with
    | nil => unfold hdlC at h; cases h
    | cons q qs => exact absurd hok (by simp [hOK])
  | cons z zs ih =>
    intro qs pc x hp hok h
    cases qs with
    | nil => exact absurd hok (by simp [hOK])
    | cons q qs =>
      obtain ⟨⟨e1, e2, e3, e4, e5, e6⟩, hok2⟩ := hok
      obtain ⟨a, b, t, hh⟩ := q
      have e1 : a = z.1 := e1
      have e2 : b = z.2.1 := e2
      have e3 : hh = z.2.2.1 := e3
      unfold hdlC at h
      split at h
      · rename_i hcv
        have hcv : covers ⟨z.1, z.2.1, z.2.2.1, z.2.2.2⟩ pc = true := by rw [cov_iff, ← e1, ← e2]; exact decide_eq_true hcv
        split at h
        · rename_i ex
          cases h
          exact ⟨[], z, zs, t, rfl, e3, hcv, e4, ex, e6, e5, fun _ h => nomatch h⟩
        · rename_i ex
          split at h
          · obtain ⟨a1, b9, a2, t9, r1, r2, r3, r4, r5, r6, r7, r8⟩ := ih qs pc x hp hok2 h
            refine ⟨z :: a1, b9, a2, t9, by rw [r1]; rfl, r2, r3, r4, r5, r6, r7, fun y hy => ?_⟩
            rcases List.mem_cons.mp hy with rfl | hy
            · exact Or.inr ⟨e4, t, e6, fun e9 => ex (by rw [r5, e9]), e5⟩
            · exact r8 y hy
          · cases h
      · rename_i hn
        obtain ⟨a1, b9, a2, t9, r1, r2, r3, r4, r5, r6, r7, r8⟩ := ih qs pc x hp hok2 h
        refine ⟨z :: a1, b9, a2, t9, by rw [r1]; rfl, r2, r3, r4, r5, r6, r7, fun y hy => ?_⟩
        rcases List.mem_cons.mp hy with rfl | hy
        · left; rw [cov_iff, ← e1, ← e2]; exact decide_eq_false hn
        · exact r8 y hy
theorem z_exc : ∀ t : Nat, 200 < t → t < 207 → Cond.castable (eNm t) (eNm t) ∈ lw_tbl := by
  intro t h1 h2
  have : t = 201 ∨ t = 202 ∨ t = 203 ∨ t = 204 ∨ t = 205 ∨ t = 206 := by omega
  rcases this with rfl | rfl | rfl | rfl | rfl | rfl
  · exact (lw_at lw_m3 114 rfl)
  · exact (lw_at lw_m3 153 rfl)
  · exact (lw_at lw_m3 184 rfl)
  · exact (lw_at lw_m4 21 rfl)
  · exact (lw_at lw_m5 70 rfl)
  · exact (lw_at lw_m5 128 rfl)
section SND
variable {p : Program} {l : Launch} {e : Env} {R : Room} {s : State} {mid : MethodId} {args : Array Value} {below : List Frame} {meth : Method} {c : Code} {Q : State → Prop}
variable {s0 : State} {b0 : Addr} {pre : Int → Nat} {dC : Nat → ClassId} {dI : Nat → Nat → Nat} {mb : Mem} {pc : Nat} {ls st : List PV} {m : Mem} {k : Nat} {en : mE} {len : Nat}
theorem nG_ret {a : Nat} {b c : List PV} {d : Mem} {x : Option PV} (h : nG a b c d = some (.inr (.inr (.inl x)))) : False := by unfold nG at h; cases h
theorem nJ_ret {a : Nat} {o : Int} {b c : List PV} {d : Mem} {x : Option PV} (h : nJ a o b c d = some (.inr (.inr (.inl x)))) : False := by
  unfold nJ at h; split at h
  · exact nG_ret h
  · cases h
theorem nC_ret {k : Nat} {as rest : List PV} {len : Nat} {x : Option PV} (h : nCall k as rest len = some (.inr (.inr (.inl x)))) : False := by
  unfold nCall nC at h; split at h <;> cases h
theorem nT_ret {v : Int} {m : Mem} {x : Option PV} (h : nT v m = some (.inr (.inr (.inl x)))) : False := by unfold nT at h; cases h
theorem stp_ret {i : Instr} {v : Option PV} (hE : EM s0 p s mid args meth c en mb) (hrk : rkOk (enK en) (enR en) = true) (hd : decode (enB en) pc = .ok (i, len)) (hlen : len = ilen i len) (h : stp en.1 k (enK en) (enI en) i pc len ls st m = some (.inr (.inr (.inl v)))) :
    WS s0 pre dC dI p l e R s mid args below meth c mb (vx_MQ below (QcR s0 pre dC dI (.inl v) m) (XcR s0 pre dC dI (.inl v) m) args s (nx m - nx mb).toNat (sl m - sl mb).toNat (frO s0)) pc ls st m := by
  obtain ⟨hx, hb, hml, hret, hlocks, hts, hown, hW, hini, hs1, hs2, hmb⟩ := hE
  cases i
  case ireturn =>
    have hl9 : len = 1 := hlen
    subst hl9
    dsimp only [stp] at h
    split at h
    · split at h
      · rename_i h0
        unfold nR at h; cases h
        exact g_iret hx hb hret hrk hlocks hd h0
      · cases h
    · cases h
  case lreturn =>
    have hl9 : len = 1 := hlen
    subst hl9
    dsimp only [stp] at h
    split at h
    · split at h
      · rename_i h0
        unfold nR at h; cases h
        exact g_lret hx hb hret hrk hlocks hd h0
      · cases h
    · cases h
  case areturn =>
    have hl9 : len = 1 := hlen
    subst hl9
    dsimp only [stp] at h
    split at h
    · split at h
      · rename_i h0
        unfold nR at h; cases h
        exact g_aret hx hb hret hrk hlocks hd h0
      · cases h
    · cases h
  case return_ =>
    have hl9 : len = 1 := hlen
    subst hl9
    dsimp only [stp] at h
    split at h
    · split at h
      · rename_i h0
        unfold nR at h; cases h
        exact g_vret hx hb hret hrk hlocks hd h0
      · cases h
    · cases h
  all_goals (dsimp only [stp] at h; (repeat' split at h) <;> first | exact (nG_ret h).elim | exact (nJ_ret h).elim | exact (nC_ret h).elim | exact (nT_ret h).elim | cases h)
theorem wP.at {w : Cond} (h : wP w) (hW : s0.WarmedH s.vm) (hts : ∀ w ∈ lw_all, w.before args s = true) (hw0 : ∀ w ∈ lw_tbl, w.before #[Value.ref b0] s0 = true) : w.before args s = true := by
  rcases h with h | ⟨h, ⟨a, b, rfl⟩ | ⟨x, rfl⟩⟩
  · exact hts _ h
  · exact mv_CA hW (hw0 _ h)
  · exact va_Nw.use rfl (va_Nw.warmD hW (va_Nw.of rfl (hw0 _ h)))
theorem stp_throw {i : Instr} {x : Int} {m1 : Mem} (hl : l.stackTraces = false) (hG : G0 s0 b0 pre dC dI) (hE : EM s0 p s mid args meth c en mb) (hk : mI k = some en) (hls : ls.length = enL en) (hb1 : nx mb ≤ nx m) (hb2 : sl mb ≤ sl m) (hf : 10 ≤ R.frames) (hl2 : 120 ≤ R.locals) (hc1 : (nx m1 - nx mb).toNat ≤ R.cells) (hc2 : (sl m1 - sl mb).toNat ≤ R.slots)
    (hd : decode (enB en) pc = .ok (i, len)) (h : stp en.1 k (enK en) (enI en) i pc len ls st m = some (.inr (.inr (.inr (x, m1))))) (hout : ∀ z ∈ c.exceptionTable.toList, covers z (pc + 7) = false) :
    WS s0 pre dC dI p l e R s mid args below meth c mb (vx_MQ below (QcR s0 pre dC dI (.inr x) m1) (XcR s0 pre dC dI (.inr x) m1) args s (nx m1 - nx mb).toNat (sl m1 - sl mb).toNat (frO s0)) pc ls st m := by
  obtain ⟨hx, hb, hml, hret, hlocks, hts, hown, hW, hini, hs1, hs2, hmb⟩ := hE
  obtain ⟨hpre, hKn, hw0, hstr, hnc, hnx, hZc, hZf, hZu, hZs, hsx⟩ := hG
  obtain ⟨n, e9, f, rfl, hq, hmem, hcs, rfl, rfl⟩ := stp_thr h
  obtain ⟨rfl, hcl, h200, h207⟩ := rNt_ok en.1 _ (lkN_mem hq)
  obtain ⟨en9, ik, ic, hk9, d0, d3, d4, d7, hat, hfit, hini9⟩ := thr_ok k _ hmem
  cases Option.some.inj (hk.symm.trans hk9)
  have hik : n = ik := by
    have d0 : decode (enB en) pc = .ok (.new ik, 3) := d0
    rw [hd] at d0
    cases d0; rfl
  subst hik
  have hkp : ∀ a : Nat, a < s0.heap.size → ¬ (s0.heap.size ≤ a) → s.heap[a]? = s0.heap[a]? := fun a h1 _ => hs2 a h1
  rw [nx_mal] at hc1
  rw [sl_mal] at hc2
  refine g_throw rfl hx hb hl hpre (by rw [hml, hls]) hown hfit (by decide) (hts _ hcl) (hts _ hini9) (fun w hw => wP.at (hat w hw).1 hW hts hw0) ?_ (vx_Zq.kept (hZu.moved hW.alike) hkp) (vx_Zq.kept (hZs.moved hW.alike) hkp) hs1 hs2 hmb hb1 hb2 d0 d3 d4 d7 hout hlocks hf hl2 hc1 hc2 hcs (by omega) (by rw [nx_mal]; exact Nat.le_refl _) (by rw [sl_mal]; exact Nat.le_refl _)
  intro w hw
  rcases List.mem_cons.mp hw with rfl | hw
  · rfl
  · rcases List.mem_cons.mp hw with rfl | hw
    · rfl
    · exact (hat w hw).2
end SND
