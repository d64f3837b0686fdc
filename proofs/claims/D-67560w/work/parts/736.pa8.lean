/-! the patcher: splicing, all of it -/
set_option maxRecDepth 100000
set_option maxHeartbeats 4000000
theorem gi_drop {xs : List Int} {n : Nat} {j : Int} (hj : 0 ≤ j) : gi (xs.drop n) j = gi xs (n + j) := by
  unfold gi
  rw [show ((n : Int) + j).toNat = n + j.toNat by omega]
  rw [List.getD_eq_getElem?_getD, List.getD_eq_getElem?_getD, List.getElem?_drop]
section
variable {d : Nat} {m : Mem} {P rd ro rh aa cd co ch : Int} {K : List BF} {xs os hs old : List Int} {fr : Nat}
theorem SPS.st {f v : Int} (h : SPS m P rd ro rh aa K) (hr : tg m ro = 8) : SPS (mst m ro f v) P rd ro rh aa K := by
  obtain ⟨ok, h1, h2, h3, h4, h5, h6, h7, h8, h9⟩ := h
  have a1 : P ≠ ro := by intro q; rw [q] at h1; omega
  have a2 : aa ≠ ro := by intro q; rw [q] at h7; omega
  exact ⟨ok, h1, by rw [vl_mst, if_neg (by omega)]; exact h2, by rw [vl_mst, if_neg (by omega)]; exact h3, by rw [vl_mst, if_neg (by omega)]; exact h4, by rw [vl_mst, if_neg (by omega)]; exact h5, by rw [vl_mst, if_neg (by omega)]; exact h6, h7, h8, fun i i0 i1 => by rw [vl_mst, if_neg (by omega)]; exact h9 i i0 i1⟩
theorem c122 (hd : 3 ≤ d) (h : SPS m P rd ro rh aa K) (hI : RI m) (hK : K.length ≤ 33) (hRd : RW m rd xs cd) (hRo : RW m ro os co) (hRh : RW m rh hs ch) (hne : rd ≠ ro) (hne2 : rh ≠ ro) (hxs : xs = prB K (lnB K old.length) ++ (old ++ poB K)) (hfr : fr ≤ hs.length) (hL : xs.length + hs.length ≤ 5900) :
    ∃ m' co', cl d 122 [pR P, pI (offB K), pI old.length, pI fr] m = some (.inl none, mst (mst m' P 5 ro) P 6 rd) ∧ RG ro m co (prB K (lnB K (hs.drop fr).length) ++ (hs.drop fr ++ poB K)) m' co' ∧ SPS m' P rd ro rh aa K := by
  have ok := h.1
  have hX1 := prB_len K (lnB K old.length) (lnB_len _ _)
  have hlen : xs.length = offB K + old.length + (poB K).length := by rw [hxs, List.length_append, List.length_append, hX1]; omega
  have hdl : (hs.drop fr).length = hs.length - fr := List.length_drop ..
  -- cleared
  have g0 := RG.clear hRo hI ok
  have h0 : SPS (mst m ro 1 0) P rd ro rh aa K := h.st hRo.1
  have hRd0 : RW (mst m ro 1 0) rd xs cd := g0.2.1.2 rd hne xs cd hRd
  have hRh0 : RW (mst m ro 1 0) rh hs ch := g0.2.1.2 rh hne2 hs ch hRh
  have e0 : vl (mst m ro 1 0) rd 0 = vl m rd 0 := by rw [vl_mst, if_neg (by omega)]
  have hA1 : At xs 0 (prB K (lnB K old.length)) := by rw [hxs]; exact (At.self).mono
  have hd0 := hRd0
  obtain ⟨b1, b2, b3, b4, b5, b6, b7⟩ := hd0
  rw [e0] at b2 b3 b7
  obtain ⟨m1, c1, e1, g1⟩ := c143 (d := d - 1) (x := vl m rd 0) (fr := 0) (ys := prB K (lnB K old.length)) (n := offB K) (by omega) h0.1 g0.2.1.1 g0.1 (by omega) ⟨by omega, by omega⟩ (fun j j0 j1 => by rw [Int.zero_add, b7 j j0 (by omega)]; have := hA1.2.2 j j0 j1; rw [Int.zero_add] at this; exact this) (by rw [hX1]) (by simp; omega)
  rw [List.nil_append] at g1
  have h1 := h0.fr (cl_FRM e1) (by rfl)
  have hRd1 := g1.2.1.2 rd hne xs cd hRd0
  have hRh1 := g1.2.1.2 rh hne2 hs ch hRh0
  have hh1 := hRh1
  obtain ⟨k1, k2, k3, k4, k5, k6, k7⟩ := hh1
  obtain ⟨m2, c2, e2, g2⟩ := c143 (d := d - 1) (x := vl m1 rh 0) (fr := fr) (ys := hs.drop fr) (n := (hs.length : Int) - fr) (by omega) h1.1 g1.2.1.1 g1.1 (by omega) ⟨by omega, by omega⟩ (fun j j0 j1 => by rw [k7 _ (by omega) (by omega), gi_drop j0]) (by omega) (by omega)
  have h2 := h1.fr (cl_FRM e2) (by rfl)
  have hRd2 := g2.2.1.2 rd hne xs cd hRd1
  have hd2 := hRd2
  obtain ⟨l1, l2', l3, l4, l5, l6, l7⟩ := hd2
  have hA3 : At xs ((offB K : Int) + old.length) (poB K) := by
    have h9 : At xs (((prB K (lnB K old.length) ++ old).length : Nat) : Int) (poB K) := by rw [hxs, ← List.append_assoc]; exact At.end
    rw [List.length_append, hX1] at h9
    rw [show ((offB K : Int) + old.length) = ((offB K + old.length : Nat) : Int) by omega]; exact h9
  obtain ⟨m3, c3, e3, g3⟩ := c143 (d := d - 1) (x := vl m2 rd 0) (fr := (offB K : Int) + old.length) (ys := poB K) (n := (poB K).length) (by omega) h2.1 g2.2.1.1 g2.1 (by omega) ⟨by omega, by omega⟩ (fun j j0 j1 => by rw [l7 _ (by omega) (by omega)]; exact hA3.2.2 j j0 j1) rfl (by rw [List.length_append]; omega)
  have h3 := h2.fr (cl_FRM e3) (by rfl)
  have hRd3 := g3.2.1.2 rd hne xs cd hRd2
  -- the lengths
  have hz1 : ((lnB K old.length).zip (lnB K (hs.drop fr).length)).map Prod.fst = lnB K old.length := List.map_fst_zip (by rw [lnB_len, lnB_len]; omega)
  have hz2 : ((lnB K old.length).zip (lnB K (hs.drop fr).length)).map Prod.snd = lnB K (hs.drop fr).length := List.map_snd_zip (by rw [lnB_len, lnB_len]; omega)
  have hnl : (prB K (lnB K (hs.drop fr).length) ++ (hs.drop fr ++ poB K)).length = offB K + (hs.drop fr).length + (poB K).length := by rw [List.length_append, List.length_append, prB_len K _ (lnB_len _ _)]; omega
  have gA := ((g0.trans g1 (by simp)).trans g2 (by simp)).trans g3 (by simp)
  rw [List.append_assoc] at gA
  obtain ⟨m4, e4, g4, h4⟩ := c122_92 (d := d) (P := P) (rd := rd) (ro := ro) (rh := rh) (aa := aa) (cd := cd) (co := c3) (a1 := offB K) (a2 := old.length) (a3 := fr) (K := K) (xs := xs) (Z := hs.drop fr ++ poB K) (ps := (lnB K old.length).zip (lnB K (hs.drop fr).length)) (more := ((hs.drop fr).length : Int) - old.length) (by omega) hK hne (by omega) (by rw [List.length_zip, lnB_len, lnB_len]; omega) (fun p hp => by
      obtain ⟨i, hi, rfl⟩ := List.getElem_of_mem hp
      rw [List.getElem_zip]
      rw [List.length_zip] at hi
      refine ⟨lnB_add K old.length (hs.drop fr).length i (by omega) (by omega), ?_, ?_⟩
      · have := lnB_le K _ old.length old rfl _ (List.getElem_mem (by omega : i < (lnB K old.length).length))
        rw [← hxs] at this
        show (lnB K old.length)[i] < 60000
        omega
      · have := lnB_le K _ (hs.drop fr).length (hs.drop fr) rfl _ (List.getElem_mem (by omega : i < (lnB K (hs.drop fr).length).length))
        rw [hnl] at this
        show (lnB K (hs.drop fr).length)[i] < 60000
        omega) (Y := old ++ poB K) (by rw [hz1]; exact hxs) K.length K [] ((lnB K old.length).zip (lnB K (hs.drop fr).length)) [] m3 rfl (by simp) (by simp) (by rw [List.length_zip, lnB_len, lnB_len]; omega) h3 g3.2.1.1 hRd3 (by rw [List.map_nil, List.append_nil, hz1]; exact gA.1)
  rw [hz2] at g4
  refine ⟨m4, c3, ?_, gA.trans g4 ?_, h4⟩
  · obtain ⟨-, p1, p5, p6, p7, -⟩ := h
    obtain ⟨-, q1, q5, q6, q7, -⟩ := h1
    obtain ⟨-, r1, r5, r6, r7, -⟩ := h2
    have hsz := hRh.2.2.2.1
    refine q122 (by omega) ok.1 _ ?_
    rw [gd_of p1, nm_eq, p7, gd_of hRh.1, nm_eq, p6, gd_of hRo.1, nm_eq, p5, gd_of hRd.1, bV_eq e1, nm_eq, q6, nm_eq, q7, gd_of k1, gd_of g1.1.1, k4, (w32_of (by omega) (by omega) : w32 ((hs.length : Int) - fr) = (hs.length : Int) - fr), bV_eq e2, nm_eq, r6, nm_eq, r5, gd_of l1, gd_of g2.1.1, l4, (w32_of (by omega) (by omega) : w32 ((offB K : Int) + old.length) = (offB K : Int) + old.length), (w32_of (by omega) (by omega) : w32 ((xs.length : Int) - offB K) = (xs.length : Int) - offB K), (w32_of (by omega) (by omega) : w32 ((xs.length : Int) - offB K - old.length) = (xs.length : Int) - offB K - old.length), show (xs.length : Int) - offB K - old.length = (poB K).length by omega, bV_eq e3, hsz, (w32_of (by omega) (by omega) : w32 ((hs.length : Int) - fr) = (hs.length : Int) - fr), (w32_of (by omega) (by omega) : w32 ((hs.length : Int) - fr - old.length) = (hs.length : Int) - fr - old.length), show (hs.length : Int) - fr - old.length = ((hs.drop fr).length : Int) - old.length by omega]
    exact e4
  · rw [hnl, List.length_append, List.length_append, hX1]; omega
end
