/-! the patcher: replacing what was found -/
set_option maxRecDepth 100000
set_option maxHeartbeats 4000000
section
variable {d : Nat} {m m1 : Mem} {P rt sa rd ro rh aa ct cd co ch : Int} {tks : List (List Int)} {xs os hs : List Int} {v w W : Vl} {k : List Fr}
theorem sps_here (hG : GS m1 P rt sa rd aa tks ct xs cd) (hgp : GP m1 P aa k) (h6 : vl m1 P 6 = ro) (h7 : vl m1 P 7 = rh) : SPS m1 P rd ro rh aa (k.map bfr) := by
  obtain ⟨hPV, hI, h5, hRd, hRt, h12, haa, hal, hsa⟩ := hG
  obtain ⟨g14, g13, gar⟩ := hgp
  refine ⟨hPV.1, hPV.2.1, h5, h6, h7, h12, by rw [g13, List.length_map], haa, hal, fun i i0 i1 => ?_⟩
  rw [arB_map]
  exact gar i i0 (by simpa using i1)
theorem c122_rep (hd : 3 ≤ d) (hG : GS m P rt sa rd aa tks ct xs cd) (g : GF P aa m m1) (hgp : GP m1 P aa k) (h6 : vl m P 6 = ro) (h7 : vl m P 7 = rh) (hRo : RW m ro os co) (hRh : RW m rh hs ch) (hne : rd ≠ ro) (hne2 : rh ≠ ro) (hk : okK k) (hkl : k.length ≤ 33) (hp : plug k w = v) (hx : xs = enV v.2.1 v.2.2) (hhs : hs = enV W.2.1 W.2.2) (hL : xs.length + hs.length ≤ 5900) :
    ∃ m', cl d 122 [pR P, pI (offK k), pI (enV w.2.1 w.2.2).length, pI 0] m1 = some (.inl none, m') ∧ ADR m P rd ro rh co ch (enV (plug k W).2.1 (plug k W).2.2) m' := by
  have hP := hG.1.2.1
  have haa := hG.2.2.2.2.2.2.1
  have hPa : P ≠ aa := by intro q; rw [q] at hP; omega
  have h61 : vl m1 P 6 = ro := by rw [g.2.2.2 P 6 hPa (by omega)]; exact h6
  have h71 : vl m1 P 7 = rh := by rw [g.2.2.2 P 7 hPa (by omega)]; exact h7
  have hs := sps_here (hG.gf g) hgp h61 h71
  obtain ⟨m', e1, a1⟩ := c122_fin (d := d) (K := k.map bfr) (old := enV w.2.1 w.2.2) hd haa g hs hP hG.2.1 (by rw [List.length_map]; exact hkl) hG.2.2.2.1 hRo hRh hne hne2 (by rw [hx, ← hp]; exact enc_hole hk) hL
  rw [offB_map] at e1
  refine ⟨m', e1, ?_⟩
  rw [enc_hole hk, ← hhs]; exact a1
end
