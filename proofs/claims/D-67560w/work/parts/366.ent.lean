/-! the claim out of a statement on the pure machine -/
set_option maxRecDepth 100000
set_option maxHeartbeats 4000000
def PureLaw : Prop := ∀ (L : Nat) (xs : Nat → Int32), L ≤ 384 → ∃ (n : Nat) (m1 : Mem), exec n 2500 0 0 (ini 8 [pR 1]) [] (m00 L xs) = some (.inl (some (pI 1)), m1) ∧ nx m1 - 92 ≤ 603072 ∧ sl m1 ≤ 7186538
def lw_Q' (s : State) (o : Outcome) (t : State) : Prop := o = .returned (some (.int 1)) ∧ Framed s o t [] 603072 7186538
theorem end_pure {s0 : State} {pre : Int → Nat} {dC : Nat → ClassId} {dI : Nat → Nat → Nat} {below : List Frame} {m1 : Mem} {args : Array Value} {mc ms : Nat} (hmc : mc ≤ 603072) (hms : ms ≤ 7186538) {t : State} (h : vx_MQ below (QcR s0 pre dC dI (.inl (some (pI 1))) m1) (XcR s0 pre dC dI (.inl (some (pI 1))) m1) args s0 mc ms (frO s0) t) : ∃ o, t.status = .running ∧ Ended t below o ∧ lw_Q' s0 o t := by
  obtain ⟨o, h1, h2, h3⟩ := h
  refine ⟨o, h1, h2, ?_⟩
  rcases h3 with ⟨⟨-, w, rfl, rfl, -⟩, L, ⟨h4, h5, h6⟩, h7⟩ | ⟨q, -, h4⟩
  · exact ⟨rfl, h4, h5, same_drop h6 h7 hmc hms⟩
  · obtain ⟨E, ce, L, ⟨-, x, h5, -⟩, -⟩ := h4
    cases h5
