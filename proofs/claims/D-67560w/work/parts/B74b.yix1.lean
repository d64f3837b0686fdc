/-! the twin: an index's text -/
set_option maxRecDepth 100000
set_option maxHeartbeats 4000000
section
variable {d n : Nat} {m m1 : Mem} {M : Int} {B : Int → Int} {s : St} {c : Int → Int} {K : Int} {f : Int → Option PV}
/-- an index's text is copied -/
theorem c275_111 {a1 o : Int} {tp : List Int} {a3 : Int} (h1 : 0 ≤ a1 ∧ a1 < 4) (hl : (tp.length : Int) ≤ 1280) (hb : ∀ b ∈ tp, -128 ≤ b ∧ b < 128) : ∀ (N : Nat) (m : Mem) (k : Int), ((tp.length : Int) - k).toNat = N → 0 ≤ k → k ≤ tp.length → TZ m → YP m M B → vl m (B 10) a1 = o → (tg m o = 276103 ∧ ln m o = tp.length) → (∀ j : Int, 0 ≤ j → j < tp.length → vl m (B 0) j = gi tp j) → ∃ m', rn d 275 111 [pR M, pI a1, pI tp.length, pI a3, pI k] [] m = some (.inl none, mst m' M 4 0) ∧ NC (· = o) m m' ∧ (∀ j, k ≤ j → j < tp.length → vl m' o j = gi tp j) ∧ ∀ j, j < k → vl m' o j = vl m o j := by
  intro N
  induction N with
  | zero =>
    intro m k hN k0 k1 hz y h10 ho hv
    refine ⟨m, q275_111 hz _ ?_, NC.refl, fun j j0 j1 => by omega, fun _ _ => rfl⟩
    rw [if_neg (by omega), gd_of y.tm]
  | succ N ih =>
    intro m k hN k0 k1 hz y h10 ho hv
    have hb' := hb (gi tp k) (by
      unfold gi
      rw [List.getD_eq_getElem?_getD, List.getElem?_eq_getElem (show k.toNat < tp.length by omega)]
      exact List.getElem_mem _)
    have k' : NC (· = o) m (mst m o k (gi tp k)) := NC.set rfl
    have nM : o ≠ M := fun z => by have := ho.1; rw [z, y.tm] at this; omega
    have n10 : o ≠ B 10 := fun z => by have := ho.1; rw [z, y.b10.1] at this; omega
    have n0 : o ≠ B 0 := fun z => by have := ho.1; rw [z, y.b0.1] at this; omega
    have y' := y.sf (SFr.nc k') hz fun f _ z => nM z.symm
    obtain ⟨m', e1, e2, e3, e4⟩ := ih _ (k + 1) (by omega) (by omega) (by omega) (k'.tz hz) y' (by rw [vl_mst, if_neg (fun z => n10 z.1.symm)]; exact h10) ho (fun j j0 j1 => by rw [vl_mst, if_neg (fun z => n0 z.1.symm)]; exact hv j j0 j1)
    refine ⟨m', q275_111 hz _ ?_, k'.trans e2, fun j j0 j1 => ?_, fun j j0 => ?_⟩
    · rw [if_pos (by omega), gd_of y.tm, nm_eq, y.f (by unfold qf; omega), gd_of y.b10.1, gd_of ⟨h1.1, by rw [y.b10.2]; exact h1.2⟩, nm_eq, h10, nm_eq, y.f (by unfold qf; omega), gd_of y.b0.1, gd_of ⟨k0, by rw [y.b0.2]; omega⟩, gd_of ho.1, gd_of ⟨k0, by rw [ho.2]; omega⟩, hv k k0 (by omega), w8_of hb'.1 hb'.2, (w32_of (by omega) (by omega) : w32 (k + 1) = k + 1)]
      exact e1
    · by_cases z : j = k
      · rw [z, e4 k (by omega), vl_mst, if_pos ⟨rfl, rfl⟩]
      · exact e3 j (by omega) j1
    · rw [e4 j (by omega), vl_mst, if_neg (fun z => by omega)]
end
