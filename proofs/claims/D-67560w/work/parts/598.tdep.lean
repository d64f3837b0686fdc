/-! the twin's trees: depth -/
set_option maxRecDepth 100000
set_option maxHeartbeats 4000000
/-- calls within calls along a forest -/
def hI : Fo → Nat
  | .leaf => 1
  | .inner _ _ _ l r => max (1 + hI l) (hI r)
theorem hI_pos (F : Fo) : 1 ≤ hI F := by
  cases F with
  | leaf => exact Nat.le_refl _
  | inner i d u l r => show 1 ≤ max (1 + hI l) (hI r); omega
theorem hI_dp {F : Fo} (hw : wfF F) : hI F ≤ dpF F + 2 := by
  induction F with
  | leaf => show 1 ≤ 0 + 2; omega
  | inner i d u l r ihl ihr =>
    obtain ⟨w1, w2, w3, w4, w5, w6⟩ := hw
    have h2 := ihr w6
    show max (1 + hI l) (hI r) ≤ max (if d.1 < 5 then 0 else 1 + dpF l) (dpF r) + 2
    by_cases h5 : d.1 < 5
    · rw [w3 h5, if_pos h5]
      show max (1 + 1) (hI r) ≤ _
      omega
    · have h1 := ihl w5
      rw [if_neg h5]; omega
section
variable {d : Nat} {m : Mem} {t n C : Int} {us : List Int}
theorem c296_9 (h : TW m t n us C) (ok : OK m) : ∀ (F : Fo) (d : Nat) (x K : Int) (p : Int) (ob : Bool) (acc : Nat) (z : PV), cat z = 1 → hI F ≤ d → wfF F → TF (nv m t) us n p ob F → 0 ≤ x → x < n → nv m t 0 x = K → acc ≤ 50000 ∧ dpF F ≤ 50000 → rn d 296 9 [pR t, pI x, pI acc, pI (hdI F), z] [] m = some (.inl (some (pI (if K < 5 then (max acc (dpF F) : Nat) else (max acc (dpF F) : Nat) + 1))), m) := by
  have hc := h.2.2.2.2.2.2.1
  have l5 := h.ld (f := 5) ⟨by decide, by decide⟩ (by decide)
  have l0 := h.ld (f := 0) ⟨by decide, by decide⟩ (by decide)
  have l4 := h.ld (f := 4) ⟨by decide, by decide⟩ (by decide)
  intro F
  induction F with
  | leaf =>
    intro d x K p ob acc z hz hd _ _ hx hxn hK hb
    have hd1 : 1 ≤ d := hd
    refine q296_9 (by omega) ok.1 hz _ ?_
    unfold nv at hK
    have e0 : max acc (dpF (.leaf : Fo)) = acc := by show max acc 0 = acc; omega
    have hb' : acc ≤ 100000 := by omega
    rw [if_pos (by show (-1 : Int) < 0; decide), gd_of h.1, nm_eq, gd_of l0.1, gd_of ⟨by omega, by omega⟩, hK, e0]
    by_cases h5 : K < 5
    · rw [if_pos h5, if_pos h5]
    · rw [if_neg h5, if_neg h5, w32_of (by omega) (by omega)]
  | inner i dd u l r ihl ihr =>
    intro d x K p ob acc z hz hd hw hF hx hxn hK hb
    obtain ⟨w1, w2, w3, w4, w5, w6⟩ := hw
    obtain ⟨f1, f2, f3, f4, f5, f6, f7, f8, f9, f10⟩ := hF
    have hi : hdI (.inner i dd u l r) = (i : Int) := rfl
    have hh : max (1 + hI l) (hI r) ≤ d := hd
    have hdp : dpF (.inner i dd u l r) = max (if dd.1 < 5 then 0 else 1 + dpF l) (dpF r) := rfl
    have hlp := hI_pos l
    rw [hdp] at hb ⊢
    have hdl : dpF l ≤ (if dd.1 < 5 then 0 else 1 + dpF l) := by
      by_cases h5 : dd.1 < 5
      · rw [w3 h5, if_pos h5]; exact Nat.le_refl _
      · rw [if_neg h5]; omega
    have ecall : cl (d - 1) 296 [pR t, pI (i : Int)] m = some (.inl (some (pI (dpV dd l))), m) := by
      refine q296 ok.1 _ ?_
      have f7' := f7
      unfold nv at f7'
      rw [gd_of h.1, nm_eq, gd_of l4.1, gd_of ⟨by omega, by omega⟩, f7']
      have := ihl (d - 1) (i : Int) (kT dd.1) (i : Int) (dd.1 == 6) 0 pU rfl (by omega) w5 f9 (by omega) f1 f2 (by omega)
      have e2 : max 0 (dpF l) = dpF l := by omega
      rw [e2] at this
      rw [show (pI ((0 : Nat) : Int)) = pI 0 from rfl] at this
      rw [this]
      unfold dpV
      by_cases h5 : dd.1 < 5
      · rw [if_pos ((kT_5 _).mpr h5), if_pos h5, w3 h5]; rfl
      · rw [if_neg (fun q => h5 ((kT_5 _).mp q)), if_neg h5, show ((dpF l : Nat) : Int) + 1 = ((1 + dpF l : Nat) : Int) by omega]
    unfold nv at f8
    refine q296_9 (by omega) ok.1 hz _ ?_
    rw [hi, if_neg (by omega), gd_of h.1, bI_eq ecall]
    have hv : dpV dd l = (if dd.1 < 5 then 0 else 1 + dpF l) := rfl
    rw [← hv] at hb ⊢
    by_cases ha : (acc : Int) < (dpV dd l : Nat)
    · rw [if_pos ha, nm_eq, gd_of l5.1, gd_of ⟨by omega, by omega⟩, f8]
      have := ihr d x K p ob (dpV dd l) (pI (dpV dd l)) rfl (by omega) w6 f10 hx hxn hK (by omega)
      rw [this, show max acc (max (dpV dd l) (dpF r)) = max (dpV dd l) (dpF r) by omega]
    · rw [if_neg ha, nm_eq, gd_of l5.1, gd_of ⟨by omega, by omega⟩, f8]
      have := ihr d x K p ob acc (pI (dpV dd l)) rfl (by omega) w6 f10 hx hxn hK (by omega)
      rw [this, show max acc (max (dpV dd l) (dpF r)) = max acc (dpF r) by omega]
theorem c296 {x : Nat} {dd : ND} {l : Fo} (h : TW m t n us C) (ok : OK m) (hN : TN (nv m t) us n x dd l) (hw : wfF (foC dd l foN)) (hd : hI l ≤ d) (hb : dpF l ≤ 50000) : cl d 296 [pR t, pI x] m = some (.inl (some (pI (dpV dd l))), m) := by
  have hc := h.2.2.2.2.2.2.1
  have l4 := h.ld (f := 4) ⟨by decide, by decide⟩ (by decide)
  obtain ⟨f1, f2, f3, f4, f5, f6⟩ := hN
  obtain ⟨w1, w2, w3, w4, w5, w6⟩ := hw
  refine q296 ok.1 _ ?_
  unfold nv at f5
  rw [gd_of h.1, nm_eq, gd_of l4.1, gd_of ⟨by omega, by omega⟩, f5]
  have := c296_9 h ok l d (x : Int) (kT dd.1) (x : Int) (dd.1 == 6) 0 pU rfl hd w5 f6 (by omega) f1 f2 (by omega)
  have e2 : max 0 (dpF l) = dpF l := by omega
  rw [e2] at this
  rw [show (pI ((0 : Nat) : Int)) = pI 0 from rfl] at this
  rw [this]
  unfold dpV
  by_cases h5 : dd.1 < 5
  · rw [if_pos ((kT_5 _).mpr h5), if_pos h5, w3 h5]; rfl
  · rw [if_neg (fun q => h5 ((kT_5 _).mp q)), if_neg h5, show ((dpF l : Nat) : Int) + 1 = ((1 + dpF l : Nat) : Int) by omega]
end
