/-! queries read by the twin: rows -/
set_option maxRecDepth 100000
set_option maxHeartbeats 4000000
/-- n places from b on are blanked -/
def fl (m : Mem) (A b : Int) : Nat → Mem
  | 0 => m
  | n + 1 => mst (fl m A b n) A (b + n) (-1)
theorem fl_k (m : Mem) (A b : Int) : ∀ n : Nat, nx (fl m A b n) = nx m ∧ sl (fl m A b n) = sl m ∧ (∀ a, tg (fl m A b n) a = tg m a) ∧ (∀ a, ln (fl m A b n) a = ln m a) ∧ ∀ a f, vl (fl m A b n) a f = if a = A ∧ b ≤ f ∧ f < b + n then -1 else vl m a f := by
  intro n
  induction n with
  | zero => exact ⟨rfl, rfl, fun _ => rfl, fun _ => rfl, fun a f => by rw [if_neg (by omega)]; rfl⟩
  | succ n ih =>
    obtain ⟨i1, i2, i3, i4, i5⟩ := ih
    refine ⟨i1, i2, i3, i4, fun a f => ?_⟩
    show vl (mst (fl m A b n) A (b + n) (-1)) a f = _
    rw [vl_mst, i5]
    by_cases q : a = A ∧ f = b + n
    · rw [if_pos q, if_pos (by push_cast; omega)]
    · rw [if_neg q]
      by_cases r : a = A ∧ b ≤ f ∧ f < b + n
      · rw [if_pos r, if_pos (by push_cast; omega)]
      · rw [if_neg r, if_neg (by push_cast; omega)]
section
variable {d : Nat} {m m1 m2 : Mem} {M S k C K : Int} {us : List Int}
/-- a row is filled -/
theorem c245_103 {kd : Int} {z3 z4 : PV} (h3 : cat z3 = 1) (h4 : cat z4 = 1) (hz : TZ m) (h : QA m M k K) (hk : k < K) : ∃ m', rn d 245 103 [pR M, pI kd, pI 0, z3, z4] [] m = some (.inl (some (pI k)), m') ∧ QA m' M (k + 1) K ∧ nx m' = nx m ∧ sl m' = sl m ∧ (∀ a, tg m' a = tg m a) ∧ (∀ a, ln m' a = ln m a) ∧ (∀ a f, a ≠ M → a ≠ vl m M 27 → vl m' a f = vl m a f) ∧ (∀ f, f ≠ 29 → vl m' M f = vl m M f) ∧ (∀ x f, 0 ≤ f → f < 8 → rv m' M x f = if x = k then (if f = 0 then kd else -1) else rv m M x f) ∧ ev m' M = ev m M := by
  have h' := h
  obtain ⟨a1, a2, ⟨a3, a4⟩, ⟨a5, a6⟩, a7, a8, a9⟩ := h
  obtain ⟨A, hA⟩ : ∃ A, A = vl m M 27 := ⟨_, rfl⟩
  have nA : A ≠ M := by intro z; rw [← hA, z] at a3; omega
  have loop : ∀ (N j : Nat), 8 - j = N → j ≤ 8 → ∀ Q, rn d 245 103 [pR M, pI kd, pI 8, z3, z4] [] (fl m A (8 * k) 8) = some Q → rn d 245 103 [pR M, pI kd, pI j, z3, z4] [] (fl m A (8 * k) j) = some Q := by
    intro N
    induction N with
    | zero =>
      intro j hj hj8 Q hQ
      have : j = 8 := by omega
      subst this
      exact hQ
    | succ N ih =>
      intro j hj hj8 Q hQ
      obtain ⟨f1, f2, f3, f4, f5⟩ := fl_k m A (8 * k) j
      have hz' : TZ (fl m A (8 * k) j) := fun a ha => by rw [f3]; exact hz a (by rw [f1] at ha; exact ha)
      refine q245_103 hz' h3 h4 _ ?_
      have e27 : vl (fl m A (8 * k) j) M 27 = A := by rw [f5, if_neg (fun z => nA z.1.symm), hA]
      have e29 : vl (fl m A (8 * k) j) M 29 = k := by rw [f5, if_neg (fun z => nA z.1.symm), a2]
      have l27 : ln (fl m A (8 * k) j) A = 8 * K := by rw [f4, hA]; exact a4
      rw [if_pos (by omega), gd_of (by rw [f3]; exact a1), nm_eq, e27, e29, (w32_of (by omega) (by omega) : w32 (8 * k) = 8 * k), nm_eq, (w32_of (by omega) (by omega) : w32 (8 * k + (j : Int)) = 8 * k + j), gd_of (by rw [f3, hA]; exact a3), gd_of (by rw [l27]; omega), (w32_of (by omega) (by omega) : w32 ((j : Int) + 1) = ((j + 1 : Nat) : Int))]
      exact ih (j + 1) (by omega) (by omega) Q hQ
  have lp := loop 8 0 (by omega) (by omega)
  have lp0 : fl m A (8 * k) 0 = m := rfl
  rw [lp0] at lp
  obtain ⟨f1, f2, f3, f4, f5⟩ := fl_k m A (8 * k) 8
  generalize fl m A (8 * k) 8 = mq at *
  have hz' : TZ mq := fun a ha => by rw [f3]; exact hz a (by rw [f1] at ha; exact ha)
  have e27 : vl mq M 27 = A := by rw [f5, if_neg (fun z => nA z.1.symm), hA]
  have e29 : vl mq M 29 = k := by rw [f5, if_neg (fun z => nA z.1.symm), a2]
  have l27 : ln mq A = 8 * K := by rw [f4, hA]; exact a4
  have tA : tq (tg mq A) := by rw [f3, hA]; exact a3
  have tM : tg mq M = 11 := by rw [f3]; exact a1
  obtain ⟨mF, hF⟩ : ∃ mF, mF = mst (mst mq A (8 * k) kd) M 29 (k + 1) := ⟨_, rfl⟩
  have tF : ∀ a, tg mF a = tg m a := fun a => by rw [← f3 a, hF]; rfl
  have lF : ∀ a, ln mF a = ln m a := fun a => by rw [← f4 a, hF]; rfl
  have g5 : ∀ a f, vl mF a f = if a = M ∧ f = 29 then k + 1 else if a = A ∧ f = 8 * k then kd else if a = A ∧ 8 * k ≤ f ∧ f < 8 * k + (8 : Nat) then -1 else vl m a f := fun a f => by
    rw [hF, vl_mst, vl_mst, f5]
  have g27 : vl mF M 27 = A := by rw [g5, if_neg (by omega), if_neg (fun z => nA z.1.symm), if_neg (fun z => nA z.1.symm), hA]
  have n28 : vl m M 28 ≠ A := by intro z; rw [z, hA] at a5; omega
  have n28' : vl m M 28 ≠ M := by intro z; rw [z] at a5; omega
  have o : ∀ f, f ≠ 29 → vl mF M f = vl m M f := fun f hf => by
    rw [g5, if_neg (fun z => hf z.2), if_neg (fun z => nA z.1.symm), if_neg (fun z => nA z.1.symm)]
  refine ⟨mF, lp _ (q245_103 hz' h3 h4 _ ?_), ?_, by rw [← f1, hF]; rfl, by rw [← f2, hF]; rfl, tF, lF, fun a f h1 h2 => ?_, o, fun x f hf0 hf1 => ?_, ?_⟩
  · rw [if_neg (by decide), gd_of tM, nm_eq, e27, nm_eq, e29, nm_eq, (w32_of (by omega) (by omega) : w32 (8 * k) = 8 * k), gd_of tA, gd_of (by rw [l27]; omega), nm_eq, (w32_of (by omega) (by omega) : w32 (k + 1) = k + 1), (w32_of (by omega) (by omega) : w32 (k + 1 - 1) = k + 1 - 1), show k + 1 - 1 = k by omega, hF]
  · exact ⟨by rw [tF]; exact a1, by rw [g5, if_pos ⟨rfl, rfl⟩], ⟨by rw [g27, tF, hA]; exact a3, by rw [g27, lF, hA]; exact a4⟩, ⟨by rw [o 28 (by decide), tF]; exact a5, by rw [o 28 (by decide), lF]; exact a6⟩, by omega, by rw [g27, o 32 (by decide), hA]; exact a8, by rw [o 32 (by decide), tF]; exact a9⟩
  · rw [g5, if_neg (fun z => h1 z.1), if_neg (fun z => h2 (by rw [z.1, hA])), if_neg (fun z => h2 (by rw [z.1, hA]))]
  · unfold rv
    rw [g27, g5, if_neg (fun z => nA z.1), ← hA]
    by_cases hx : x = k
    · rw [if_pos hx]
      by_cases hf : f = 0
      · rw [if_pos hf, if_pos ⟨rfl, by omega⟩]
      · rw [if_neg hf, if_neg (by omega), if_pos ⟨rfl, by omega, by omega⟩]
    · rw [if_neg hx, if_neg (by omega), if_neg (by omega)]
  · funext x f
    unfold ev
    rw [o 28 (by decide), g5, if_neg (fun z => n28' z.1), if_neg (fun z => n28 z.1), if_neg (fun z => n28 z.1)]
/-- the arrays get wider -/
theorem c245_g {kd : Int} (hz : TZ m) (h : QA m M K K) (hK : K ≤ 20000) : ∃ m1 : Mem, (∀ Q, rn d 245 103 [pR M, pI kd, pI 0, pR (nx m + 1), pI (3 * K)] [] m1 = some Q → cl d 245 [pR M, pI kd] m = some Q) ∧ TZ m1 ∧ QA m1 M K (2 * K) ∧ nx m1 = nx m + 2 ∧ sl m1 = sl m + 22 * K ∧ (∀ x f, 0 ≤ x → x < K → 0 ≤ f → f < 8 → rv m1 M x f = rv m M x f) ∧ (∀ x f, 0 ≤ x → x < K → 0 ≤ f → f < 3 → ev m1 M x f = ev m M x f) := by
  have h' := h
  obtain ⟨a1, a2, ⟨a3, a4⟩, ⟨a5, a6⟩, a7, a8, a9⟩ := h
  obtain ⟨A, hA⟩ : ∃ A, A = vl m M 27 := ⟨_, rfl⟩
  obtain ⟨B, hB⟩ : ∃ B, B = vl m M 28 := ⟨_, rfl⟩
  have ltM : M < nx m := tz_lt hz (by omega)
  have ltA : A < nx m := tz_lt hz (by rw [hA]; omega)
  have ltB : B < nx m := tz_lt hz (by rw [hB]; omega)
  have ltL : vl m M 32 < nx m := tz_lt hz (by omega)
  have nAM : A ≠ M := by intro z; rw [← hA, z] at a3; omega
  have nBM : B ≠ M := by intro z; rw [← hB, z] at a5; omega
  have nAB : A ≠ B := by intro z; rw [← hA, z, hB] at a3; omega
  -- the first array
  obtain ⟨m0, hm0⟩ : ∃ m0, m0 = mal m 246101 (16 * K) := ⟨_, rfl⟩
  have z0 : TZ m0 := by rw [hm0]; exact (fr_mal (e := eM 245) (by rfl)).1.1 hz
  have t0 : ∀ a, tg m0 a = if a = nx m then 246101 else tg m a := fun a => by rw [hm0]; rfl
  have l0 : ∀ a, ln m0 a = if a = nx m then 16 * K else ln m a := fun a => by rw [hm0]; rfl
  have v0 : ∀ a f, vl m0 a f = if a = nx m then 0 else vl m a f := fun a f => by rw [hm0]; rfl
  have cpt : ∀ j, (∀ a, tg (mcp m0 A 0 (nx m) 0 j) a = tg m0 a) ∧ (∀ a, ln (mcp m0 A 0 (nx m) 0 j) a = ln m0 a) ∧ (∀ a f, vl (mcp m0 A 0 (nx m) 0 j) a f = if a = nx m ∧ 0 ≤ f ∧ f < 0 + j then vl m0 A (0 + (f - 0)) else vl m0 a f) := fun j => ⟨fun _ => rfl, fun _ => rfl, fun _ _ => rfl⟩
  have loop1 : ∀ (N : Nat) (j : Int), (8 * K - j).toNat = N → 0 ≤ j → j ≤ 8 * K → ∀ Q, rn d 245 27 [pR M, pI kd, pR (nx m), pI (8 * K), pU] [] (mcp m0 A 0 (nx m) 0 (8 * K)) = some Q → rn d 245 27 [pR M, pI kd, pR (nx m), pI j, pU] [] (mcp m0 A 0 (nx m) 0 j) = some Q := by
    intro N
    induction N with
    | zero =>
      intro j hN j0 j1 Q hQ
      have : j = 8 * K := by omega
      rw [this]; exact hQ
    | succ N ih =>
      intro j hN j0 j1 Q hQ
      obtain ⟨c1, c2, c3⟩ := cpt j
      refine q245_27 (m := mcp m0 A 0 (nx m) 0 j) z0 _ ?_
      have e27 : vl (mcp m0 A 0 (nx m) 0 j) M 27 = A := by rw [c3, if_neg (by omega), v0, if_neg (by omega), hA]
      have tA : tg (mcp m0 A 0 (nx m) 0 j) A = tg m A := by rw [c1, t0, if_neg (by omega)]
      have lA : ln (mcp m0 A 0 (nx m) 0 j) A = 8 * K := by rw [c2, l0, if_neg (by omega), hA]; exact a4
      have tN : tg (mcp m0 A 0 (nx m) 0 j) (nx m) = 246101 := by rw [c1, t0, if_pos rfl]
      have lN : ln (mcp m0 A 0 (nx m) 0 j) (nx m) = 16 * K := by rw [c2, l0, if_pos rfl]
      have tM : tg (mcp m0 A 0 (nx m) 0 j) M = 11 := by rw [c1, t0, if_neg (by omega)]; exact a1
      have vA : vl (mcp m0 A 0 (nx m) 0 j) A j = vl m0 A j := by rw [c3, if_neg (by omega)]
      rw [gd_of tM, nm_eq, e27, gd_of (by rw [tA, hA]; exact a3), lA, if_pos (by omega), gd_of ⟨j0, by omega⟩, gd_of tN, gd_of (by rw [lN]; omega), (w32_of (by omega) (by omega) : w32 (j + 1) = j + 1), vA, mcp_mst j0 (by omega)]
      exact ih (j + 1) (by omega) (by omega) (by omega) Q hQ
  -- the second
  obtain ⟨m2, hm2⟩ : ∃ m2, m2 = mal (mst (mcp m0 A 0 (nx m) 0 (8 * K)) M 27 (nx m)) 246102 (6 * K) := ⟨_, rfl⟩
  have n2 : nx (mst (mcp m0 A 0 (nx m) 0 (8 * K)) M 27 (nx m)) = nx m + 1 := by rw [hm0]; rfl
  have z2 : TZ m2 := by rw [hm2]; exact (fr_mal (e := eM 245) (by rfl)).1.1 z0
  have t2 : ∀ a, tg m2 a = if a = nx m + 1 then 246102 else if a = nx m then 246101 else tg m a := fun a => by rw [← t0, hm2, ← n2]; rfl
  have l2 : ∀ a, ln m2 a = if a = nx m + 1 then 6 * K else if a = nx m then 16 * K else ln m a := fun a => by rw [← l0, hm2, ← n2]; rfl
  have v2 : ∀ a f, vl m2 a f = if a = nx m + 1 then 0 else if a = M ∧ f = 27 then nx m else if a = nx m ∧ 0 ≤ f ∧ f < 0 + 8 * K then vl m0 A (0 + (f - 0)) else vl m0 a f := fun a f => by rw [hm2, ← n2]; rfl
  have v2o : ∀ a f, a < nx m → ¬ (a = M ∧ f = 27) → vl m2 a f = vl m a f := fun a f ha hn => by rw [v2, if_neg (by omega), if_neg hn, if_neg (by omega), v0, if_neg (by omega)]
  have cpt2 : ∀ j, (∀ a, tg (mcp m2 B 0 (nx m + 1) 0 j) a = tg m2 a) ∧ (∀ a, ln (mcp m2 B 0 (nx m + 1) 0 j) a = ln m2 a) ∧ (∀ a f, vl (mcp m2 B 0 (nx m + 1) 0 j) a f = if a = nx m + 1 ∧ 0 ≤ f ∧ f < 0 + j then vl m2 B (0 + (f - 0)) else vl m2 a f) := fun j => ⟨fun _ => rfl, fun _ => rfl, fun _ _ => rfl⟩
  have loop2 : ∀ (N : Nat) (j : Int), (3 * K - j).toNat = N → 0 ≤ j → j ≤ 3 * K → ∀ Q, rn d 245 69 [pR M, pI kd, pR (nx m), pR (nx m + 1), pI (3 * K)] [] (mcp m2 B 0 (nx m + 1) 0 (3 * K)) = some Q → rn d 245 69 [pR M, pI kd, pR (nx m), pR (nx m + 1), pI j] [] (mcp m2 B 0 (nx m + 1) 0 j) = some Q := by
    intro N
    induction N with
    | zero =>
      intro j hN j0 j1 Q hQ
      have : j = 3 * K := by omega
      rw [this]; exact hQ
    | succ N ih =>
      intro j hN j0 j1 Q hQ
      obtain ⟨c1, c2, c3⟩ := cpt2 j
      refine q245_69 (m := mcp m2 B 0 (nx m + 1) 0 j) z2 _ ?_
      have e28 : vl (mcp m2 B 0 (nx m + 1) 0 j) M 28 = B := by rw [c3, if_neg (by omega), v2o _ _ ltM (by omega), hB]
      have tB : tg (mcp m2 B 0 (nx m + 1) 0 j) B = tg m B := by rw [c1, t2, if_neg (by omega), if_neg (by omega)]
      have lB : ln (mcp m2 B 0 (nx m + 1) 0 j) B = 3 * K := by rw [c2, l2, if_neg (by omega), if_neg (by omega), hB]; exact a6
      have tN : tg (mcp m2 B 0 (nx m + 1) 0 j) (nx m + 1) = 246102 := by rw [c1, t2, if_pos rfl]
      have lN : ln (mcp m2 B 0 (nx m + 1) 0 j) (nx m + 1) = 6 * K := by rw [c2, l2, if_pos rfl]
      have tM : tg (mcp m2 B 0 (nx m + 1) 0 j) M = 11 := by rw [c1, t2, if_neg (by omega), if_neg (by omega)]; exact a1
      have vB : vl (mcp m2 B 0 (nx m + 1) 0 j) B j = vl m2 B j := by rw [c3, if_neg (by omega)]
      rw [gd_of tM, nm_eq, e28, gd_of (by rw [tB, hB]; exact a5), lB, if_pos (by omega), gd_of ⟨j0, by omega⟩, gd_of tN, gd_of (by rw [lN]; omega), (w32_of (by omega) (by omega) : w32 (j + 1) = j + 1), vB, mcp_mst j0 (by omega)]
      exact ih (j + 1) (by omega) (by omega) (by omega) Q hQ
  -- all
  obtain ⟨m4, hm4⟩ : ∃ m4, m4 = mst (mcp m2 B 0 (nx m + 1) 0 (3 * K)) M 28 (nx m + 1) := ⟨_, rfl⟩
  have t4 : ∀ a, tg m4 a = if a = nx m + 1 then 246102 else if a = nx m then 246101 else tg m a := fun a => by rw [← t2, hm4]; rfl
  have l4 : ∀ a, ln m4 a = if a = nx m + 1 then 6 * K else if a = nx m then 16 * K else ln m a := fun a => by rw [← l2, hm4]; rfl
  have v4 : ∀ a f, vl m4 a f = if a = M ∧ f = 28 then nx m + 1 else if a = nx m + 1 ∧ 0 ≤ f ∧ f < 0 + 3 * K then vl m2 B (0 + (f - 0)) else vl m2 a f := fun a f => by rw [hm4]; rfl
  have e27 : vl m4 M 27 = nx m := by rw [v4, if_neg (by omega), if_neg (by omega), v2, if_neg (by omega), if_pos ⟨rfl, rfl⟩]
  have e28 : vl m4 M 28 = nx m + 1 := by rw [v4, if_pos ⟨rfl, rfl⟩]
  have eo : ∀ f, f ≠ 27 → f ≠ 28 → vl m4 M f = vl m M f := fun f h1 h2 => by rw [v4, if_neg (fun z => h2 z.2), if_neg (by omega), v2o _ _ ltM (fun z => h1 z.2)]
  refine ⟨m4, fun Q hQ => ?_, by rw [hm4]; exact z2, ⟨by rw [t4, if_neg (by omega), if_neg (by omega)]; exact a1, by rw [eo 29 (by decide) (by decide)]; exact a2, ⟨by rw [e27, t4, if_neg (by omega), if_pos rfl]; exact Or.inr rfl, by rw [e27, l4, if_neg (by omega), if_pos rfl]; omega⟩, ⟨by rw [e28, t4, if_pos rfl]; exact Or.inr rfl, by rw [e28, l4, if_pos rfl]; omega⟩, by omega, by rw [e27, eo 32 (by decide) (by decide)]; omega, by rw [eo 32 (by decide) (by decide), t4, if_neg (by omega), if_neg (by omega)]; exact a9⟩, by rw [hm4, hm2, hm0]; show nx m + 1 + 1 = _; omega, by rw [hm4, hm2, hm0]; show sl m + 16 * K + 6 * K = _; omega, fun x f x0 x1 f0 f1 => ?_, fun x f x0 x1 f0 f1 => ?_⟩
  · refine q245 hz _ ?_
    rw [gd_of a1, nm_eq, gd_of a3, a4, a2, (w32_of (by omega) (by omega) : w32 (8 * K) = 8 * K), if_pos rfl, nm_eq, (w32_of (by omega) (by omega) : w32 (2 * (8 * K)) = 2 * (8 * K)), gd_of ⟨by omega, by omega⟩, nw_eq, show 2 * (8 * K) = 16 * K by omega, ← hm0]
    have s1 := loop1 (8 * K).toNat 0 (by omega) (by omega) (by omega) Q
    rw [mcp_0] at s1
    refine s1 ?_
    obtain ⟨c1, c2, c3⟩ := cpt (8 * K)
    refine q245_27 (m := mcp m0 A 0 (nx m) 0 (8 * K)) z0 _ ?_
    have e27' : vl (mcp m0 A 0 (nx m) 0 (8 * K)) M 27 = A := by rw [c3, if_neg (by omega), v0, if_neg (by omega), hA]
    have e28' : vl (mcp m0 A 0 (nx m) 0 (8 * K)) M 28 = B := by rw [c3, if_neg (by omega), v0, if_neg (by omega), hB]
    have tA : tg (mcp m0 A 0 (nx m) 0 (8 * K)) A = tg m A := by rw [c1, t0, if_neg (by omega)]
    have lA : ln (mcp m0 A 0 (nx m) 0 (8 * K)) A = 8 * K := by rw [c2, l0, if_neg (by omega), hA]; exact a4
    have tB : tg (mcp m0 A 0 (nx m) 0 (8 * K)) B = tg m B := by rw [c1, t0, if_neg (by omega)]
    have lB : ln (mcp m0 A 0 (nx m) 0 (8 * K)) B = 3 * K := by rw [c2, l0, if_neg (by omega), hB]; exact a6
    have tM : tg (mcp m0 A 0 (nx m) 0 (8 * K)) M = 11 := by rw [c1, t0, if_neg (by omega)]; exact a1
    rw [gd_of tM, nm_eq, e27', gd_of (by rw [tA, hA]; exact a3), lA, if_neg (by omega), nm_eq, e28', gd_of (by rw [tB, hB]; exact a5), nm_eq, lB, (w32_of (by omega) (by omega) : w32 (2 * (3 * K)) = 2 * (3 * K)), gd_of ⟨by omega, by omega⟩, nw_eq, show 2 * (3 * K) = 6 * K by omega, n2, ← hm2]
    have s2 := loop2 (3 * K).toNat 0 (by omega) (by omega) (by omega) Q
    rw [mcp_0] at s2
    refine s2 ?_
    obtain ⟨k1, k2, k3⟩ := cpt2 (3 * K)
    refine q245_69 (m := mcp m2 B 0 (nx m + 1) 0 (3 * K)) z2 _ ?_
    have e28'' : vl (mcp m2 B 0 (nx m + 1) 0 (3 * K)) M 28 = B := by rw [k3, if_neg (by omega), v2o _ _ ltM (by omega), hB]
    have tB2 : tg (mcp m2 B 0 (nx m + 1) 0 (3 * K)) B = tg m B := by rw [k1, t2, if_neg (by omega), if_neg (by omega)]
    have lB2 : ln (mcp m2 B 0 (nx m + 1) 0 (3 * K)) B = 3 * K := by rw [k2, l2, if_neg (by omega), if_neg (by omega), hB]; exact a6
    have tM2 : tg (mcp m2 B 0 (nx m + 1) 0 (3 * K)) M = 11 := by rw [k1, t2, if_neg (by omega), if_neg (by omega)]; exact a1
    rw [gd_of tM2, nm_eq, e28'', gd_of (by rw [tB2, hB]; exact a5), lB2, if_neg (by omega), ← hm4]
    exact hQ
  · unfold rv
    rw [e27, v4, if_neg (by omega), if_neg (by omega), v2, if_neg (by omega), if_neg (by omega), if_pos ⟨rfl, by omega, by omega⟩, v0, if_neg (by omega), ← hA]
    congr 1; omega
  · unfold ev
    rw [e28, v4, if_neg (by omega), if_pos ⟨rfl, by omega, by omega⟩, v2o _ _ ltB (fun z => nBM z.1), ← hB]
    congr 1; omega
end
