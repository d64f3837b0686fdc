/-! the twin's patches: what stands before a kid -/
set_option maxRecDepth 100000
set_option maxHeartbeats 4000000
section
variable {d : Nat} {m : Mem} {M D n C : Int} {us : List Int}
theorem c239_24 {v p q : Int} {ob : Bool} {k : Nat} {nd : ND} {l B : Fo} (hd : 1 ≤ d) (hM : tg m M = 11) (hD : vl m M 18 = D) (ok : OK m) (h : TW m D n us C) : ∀ (A : Fo) (x : Int), TF (nv m D) us n q ob (fapp A (.inner k nd () l B)) → k ∉ idF A → ∀ Q, rn d 239 24 [pR M, pI k, pI v, pI p, pI (lsI x A), pI k] [] m = some Q → rn d 239 24 [pR M, pI k, pI v, pI p, pI x, pI (hdI (fapp A (.inner k nd () l B)))] [] m = some Q := by
  have hc := h.2.2.2.2.2.2.1
  have l5 := h.ld (f := 5) ⟨by decide, by decide⟩ (by decide)
  intro A
  induction A with
  | leaf => intro x _ _ Q hQ; exact hQ
  | inner j dd u l' r _ ih =>
    intro x hF hk Q hQ
    have f1 : (j : Int) < n := hF.1
    have e5 : vl m (vl m D 5) j = hdI (fapp r (.inner k nd () l B)) := hF.2.2.2.2.2.2.2.1
    have f10 : TF (nv m D) us n q ob (fapp r (.inner k nd () l B)) := hF.2.2.2.2.2.2.2.2.2
    have hjk : (j : Int) ≠ k := by
      intro e
      have : j = k := by omega
      exact hk (by rw [← this]; simp [idF])
    refine q239_24 (by omega) ok.1 _ ?_
    rw [show hdI (fapp (.inner j dd u l' r) (.inner k nd () l B)) = (j : Int) from rfl, if_neg hjk, gd_of hM, nm_eq, hD, gd_of h.1, nm_eq, gd_of l5.1, gd_of ⟨by omega, by omega⟩, e5]
    exact ih (j : Int) f10 (fun e => hk (by simp [idF]; exact Or.inr (Or.inr e))) Q hQ
end
