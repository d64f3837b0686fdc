/-! what is known at the law's start -/
set_option maxRecDepth 100000
set_option maxHeartbeats 4000000
theorem kn_all {s : State} {args : Array Value} (hts : ∀ w ∈ lw_tbl, w.before args s = true) (hi : ∀ t ∈ obL, ∃ n, (Cond.instantiable (cNm t) n) ∈ lw_tbl) (hob : ∀ t ∈ obL, OBK t) : ∃ (dC : Nat → ClassId) (dI : Nat → Nat → Nat), ∀ t ∈ obL, u_Kn s (cNm t) (TT t) (fTy t).length (dC t) (dI t) := by
  have h : ∀ t : Nat, ∃ q : ClassId × (Nat → Nat), t ∈ obL → u_Kn s (cNm t) (TT t) (fTy t).length q.1 q.2 := by
    intro t
    by_cases ht : t ∈ obL
    · obtain ⟨n, hn⟩ := hi t ht
      obtain ⟨cC, iS, hk⟩ := u_known (ws := lw_all) (fun w hw => hts w (List.mem_filter.mp hw).1) (hob t ht).1 (hts _ hn)
      exact ⟨(cC, iS), fun _ => hk⟩
    · exact ⟨(0, fun _ => 0), fun h => absurd h ht⟩
  obtain ⟨f, hf⟩ := Classical.axiomOfChoice h
  exact ⟨fun t => (f t).1, fun t => (f t).2, hf⟩
theorem ob_inst : ∀ t ∈ obL, Cond.instantiable (cNm t) (if t = 31 then 4 else (fTy t).length) ∈ lw_tbl := by decide +kernel
theorem kn_at {s : State} {args : Array Value} (hts : ∀ w ∈ lw_tbl, w.before args s = true) : ∃ (dC : Nat → ClassId) (dI : Nat → Nat → Nat), ∀ t ∈ obL, u_Kn s (cNm t) (TT t) (fTy t).length (dC t) (dI t) := kn_all hts (fun t ht => ⟨_, ob_inst t ht⟩) obk
