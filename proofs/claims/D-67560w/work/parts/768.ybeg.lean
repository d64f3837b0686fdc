/-! the twin's patches: a member that is a string; one pointer begins another -/
set_option maxRecDepth 100000
set_option maxHeartbeats 4000000
section
variable {d : Nat} {m : Mem} {M T n C : Int} {us : List Int}
/-- the member's index, if it is a string -/
theorem c228 {x : Nat} {dd : ND} {l : Fo} {a : Int} {cs : List Int} (hd : 5 ≤ d) (hM : tg m M = 11) (hT : vl m M 19 = T) (ok : OK m) (h : TW m T n us C) (hN : TN (nv m T) us n x dd l) (h6 : dd.1 = 6) (hw : wfF l) (hS : SC m a cs) :
    (strM l cs = none → cl d 228 [pR M, pI x, pR a] m = some (.inl (some (pI (-1))), m)) ∧ (∀ ks, strM l cs = some ks → ∃ (i : Nat) (d' : ND) (l' : Fo), d'.2.2.1 = ks ∧ d'.1 = 4 ∧ TN (nv m T) us n i d' l' ∧ wfF (foC d' l' foN) ∧ cl d 228 [pR M, pI x, pR a] m = some (.inl (some (pI i)), m)) := by
  have hc := h.2.2.2.2.2.2.1
  have l0 := h.ld (f := 0) ⟨by decide, by decide⟩ (by decide)
  have h229 := c229 (d := d - 1) (by omega) hM hT ok h hN h6 hS
  have hF : TF (nv m T) us n x (dd.1 == 6) l := hN.2.2.2.2.2
  unfold strM
  rcases hF.fnd cs hw with ⟨k1, k2⟩ | ⟨i, d', l', k1, k2, k3, k4, k5⟩
  · rw [k1]
    refine ⟨fun _ => ?_, fun ks hk => (by cases hk)⟩
    refine q228 (by omega) ok.1 _ ?_
    rw [gd_of hM, bI_eq h229, if_pos k2]
  · rw [k1]
    dsimp only
    rw [k2] at h229
    have hi := k3.1
    have e0 : vl m (vl m T 0) i = kT d'.1 := k3.2.1
    by_cases h4 : d'.1 = 4
    · rw [if_pos h4]
      refine ⟨fun hk => (by cases hk), fun ks hk => ?_⟩
      cases hk
      refine ⟨i, d', l', rfl, h4, k3, k4, q228 (by omega) ok.1 _ ?_⟩
      rw [gd_of hM, bI_eq h229, if_neg (by omega), nm_eq, hT, gd_of h.1, nm_eq, gd_of l0.1, gd_of ⟨by omega, by omega⟩, e0, if_pos (by rw [h4]; rfl)]
    · rw [if_neg h4]
      refine ⟨fun _ => ?_, fun ks hk => (by cases hk)⟩
      refine q228 (by omega) ok.1 _ ?_
      rw [gd_of hM, bI_eq h229, if_neg (by omega), nm_eq, hT, gd_of h.1, nm_eq, gd_of l0.1, gd_of ⟨by omega, by omega⟩, e0, if_neg (by unfold kT; split <;> (try split) <;> omega)]
end
