/-! what is known at the law's start, put together -/
set_option maxRecDepth 100000
set_option maxHeartbeats 4000000
theorem pre_lt {s : State} {b L : Nat} {xs : Nat → Int32} {ad : Nat → Nat × Nat} (hX : va_X b L xs s s.heap) (hS : ∀ i, i < 45 → SOne s (ad i) (sTx.getD i [])) : ∀ a, 0 < a → a < 92 → pre0 b ad a < s.heap.size := by
  intro a h0 h1
  unfold pre0
  split
  · obtain ⟨scr, q1, -⟩ := hX
    exact (Array.getElem?_eq_some_iff.mp q1).1
  · split
    · obtain ⟨⟨cell, c1, -⟩, -⟩ := hS ((a.toNat - 2) / 2) (by omega)
      exact (Array.getElem?_eq_some_iff.mp c1).1
    · obtain ⟨-, -, -, cell, c1, -⟩ := hS ((a.toNat - 3) / 2) (by omega)
      exact (Array.getElem?_eq_some_iff.mp c1).1
theorem g0_statics : Cond.laysStatic "java/lang/String" "COMPACT_STRINGS" "Z" ∈ lw_tbl ∧ Cond.initialized "java/lang/String" ∈ lw_tbl ∧ Cond.laysStatic "jdk/internal/util/Preconditions" "SIOOBE_FORMATTER" "Ljava/util/function/BiFunction;" ∈ lw_tbl ∧ Cond.initialized "jdk/internal/util/Preconditions" ∈ lw_tbl ∧ Cond.laysStatic Bundle.tN "UNASSIGNED_STACK" Bundle.steD ∈ lw_tbl ∧ Cond.laysStatic Bundle.tN "SUPPRESSED_SENTINEL" Bundle.listD ∈ lw_tbl ∧ Cond.initialized Bundle.tN ∈ lw_tbl := by decide +kernel
theorem g0_flat : Cond.eq (.static "java/lang/String" "COMPACT_STRINGS" "Z") (.int 1) ∈ FLT ∧ Cond.isRef (.static "jdk/internal/util/Preconditions" "SIOOBE_FORMATTER" "Ljava/util/function/BiFunction;") ∈ FLT ∧ Cond.isRef (.static Bundle.tN "UNASSIGNED_STACK" Bundle.steD) ∈ FLT ∧ Cond.isRef (.static Bundle.tN "SUPPRESSED_SENTINEL" Bundle.listD) ∈ FLT := by decide +kernel
theorem rct_out {c : Nat} (h : 34 ≤ c) : rCt c = [] := by
  unfold rCt
  split <;> first | omega | rfl
theorem g0_at {s : State} {b L : Nat} {xs : Nat → Int32} (hts : ∀ w ∈ lw_tbl, w.before #[Value.ref b] s = true) (hf : ∀ w ∈ FLT, w.before #[Value.ref b] s = true) (hX : va_X b L xs s s.heap) (hsel : ∀ w ∈ selX, w.before #[Value.ref b] s = true) (hL : L ≤ 384) :
    ∃ (pre : Int → Nat) (dC : Nat → ClassId) (dI : Nat → Nat → Nat), G0 s b pre dC dI ∧ RP s pre dC dI (m00 L xs) s.heap ∧ pre 1 = b := by
  obtain ⟨dC, dI, hK⟩ := kn_at hts
  obtain ⟨ad, had⟩ := st_all hf
  have hS := fun i hi => (had i hi).2
  obtain ⟨w1, w2, w3, w4, w5, w6, w7⟩ := g0_statics
  obtain ⟨f1, f2, f3, f4⟩ := g0_flat
  have hA : ∀ a : Nat, a < s.heap.size → ¬ s.heap.size ≤ a := fun a h1 h2 => by omega
  refine ⟨pre0 b ad, dC, dI, ⟨pre_lt hX hS, hK, hts, fun c idx a hm => ?_, fun q hq => va_Nc.of (hf _ (st_nc q hq)), fun x y x1 x2 y1 y2 hxy => va_Nc.of (hf _ (st_nx x (exL_mem x1 x2) y (exL_mem y1 y2) hxy)), va_Zof (hts _ w1) (hts _ w2) (va_eqt (hf _ f1)) hA, va_Zqof (hts _ w3) (hts _ w4) (hf _ f2) hA, vx_Zqof (hts _ w5) (hts _ w7) (hf _ f3) hA, vx_Zqof (hts _ w6) (hts _ w7) (hf _ f4) hA, hsel⟩, rp_start hL hX (hK 31 (by decide)) hS, rfl⟩
  by_cases hc : c < 34
  · obtain ⟨z1, z2, z3, z4, z5⟩ := rct_st c hc _ hm rfl
    have hi : (a.toNat - 2) / 2 < 45 := by
      have : a < 92 := z2
      omega
    refine ⟨(stQ ((a.toNat - 2) / 2)).2.2, ?_⟩
    have h1 := hts _ (st_ref _ hi)
    have h2 := (had _ hi).1
    unfold stTm at h2
    rw [z4, z5] at h1 h2
    have hp : pre0 b ad a = (ad ((a.toNat - 2) / 2)).1 := by unfold pre0; rw [if_neg (by have : a % 2 = 0 := z3; omega), if_pos z3]
    rw [hp]
    exact vk_R.of h1 h2
  · rw [rct_out (by omega)] at hm; cases hm
