/-! the twin's patches: one pointer begins another -/
set_option maxRecDepth 100000
set_option maxHeartbeats 4000000
theorem gi_take {xs : List Int} {k : Nat} {j : Int} (h0 : 0 ≤ j) (h : j < k) : gi (xs.take k) j = gi xs j := by
  unfold gi
  rw [List.getD_eq_getElem?_getD, List.getD_eq_getElem?_getD, List.getElem?_take, if_pos (by omega)]
theorem pre_iff {fr path : List Int} : fr ++ [47] <+: path ↔ (fr.length < path.length ∧ (∀ i : Int, 0 ≤ i → i < fr.length → gi path i = gi fr i) ∧ gi path fr.length = 47) := by
  constructor
  · rintro ⟨r, rfl⟩
    refine ⟨by simp, fun i i0 i1 => ?_, ?_⟩
    · rw [List.append_assoc, gi_app_l i0 i1]
    · rw [List.append_assoc, gi_app_r (by omega), Int.sub_self]; rfl
  · rintro ⟨h1, h2, h3⟩
    have e1 : path.take fr.length = fr := gi_ext (by rw [List.length_take]; omega) (fun i i0 i1 => by
      rw [List.length_take] at i1
      rw [gi_take i0 (by omega)]; exact h2 i i0 (by omega))
    have e2 : path = fr ++ path.drop fr.length := by
      have := List.take_append_drop fr.length path
      rw [e1] at this; exact this.symm
    cases hd : path.drop fr.length with
    | nil =>
      have := congrArg List.length hd
      rw [List.length_drop] at this
      simp at this; omega
    | cons c r =>
      have h4 := gi_drop (xs := path) (n := fr.length) (j := 0) (by omega)
      rw [hd, Int.add_zero, h3] at h4
      have hc : c = 47 := h4
      exact ⟨r, by rw [e2, hd, hc]; simp⟩
section
variable {d : Nat} {m : Mem} {M T n C : Int} {us : List Int}
theorem c240 {x y : Nat} {dd dd' : ND} {l l' : Fo} (hM : tg m M = 11) (hT : vl m M 19 = T) (ok : OK m) (h : TW m T n us C) (hN : TN (nv m T) us n x dd l) (hN' : TN (nv m T) us n y dd' l') : cl d 240 [pR M, pI x, pI y] m = some (.inl (some (pI (if dd'.2.2.1 ++ [47] <+: dd.2.2.1 then 1 else 0))), m) := by
  have hc := h.2.2.2.2.2.2.1
  have l3 := h.ld (f := 3) ⟨by decide, by decide⟩ (by decide)
  have l2' := h.ld (f := 2) ⟨by decide, by decide⟩ (by decide)
  obtain ⟨f1, f2, f3, ⟨f4, f4'⟩, f5, f6⟩ := hN
  obtain ⟨g1, g2, g3, ⟨g4, g4'⟩, g5, g6⟩ := hN'
  have e3 : vl m (vl m T 3) x = dd.2.2.1.length := f4
  have e3' : vl m (vl m T 3) y = dd'.2.2.1.length := g4
  obtain ⟨u0, u1, u2, u3, u4⟩ := h.uni f4'
  obtain ⟨v0, v1, v2, v3, v4⟩ := h.uni g4'
  have e2 : vl m (vl m T 2) x = nv m T 2 x := rfl
  have e2' : vl m (vl m T 2) y = nv m T 2 y := rfl
  generalize nv m T 2 x = s at *
  generalize nv m T 2 y = s' at *
  generalize dd.2.2.1 = ks at *
  generalize dd'.2.2.1 = fr at *
  refine q240 ok.1 _ ?_
  rw [gd_of hM, nm_eq, hT, gd_of h.1, nm_eq, gd_of l3.1, gd_of ⟨by omega, by omega⟩, nm_eq, e3', gd_of ⟨by omega, by omega⟩, e3]
  by_cases hl : fr.length < ks.length
  · rw [if_pos (by omega)]
    have loop : ∀ (N : Nat) (j : Int), 0 ≤ j → j ≤ fr.length → ((fr.length : Int) - j).toNat = N → (∀ i : Int, 0 ≤ i → i < j → gi ks i = gi fr i) → rn d 240 28 [pR M, pI x, pI y, pI fr.length, pI j] [] m = some (.inl (some (pI (if fr ++ [47] <+: ks then 1 else 0))), m) := by
      intro N
      induction N with
      | zero =>
        intro j j0 j1 hj he
        have hv := u4 fr.length (by omega) (by omega)
        refine q240_28 ok.1 _ ?_
        rw [if_neg (by omega), gd_of hM, nm_eq, hT, gd_of h.1, nm_eq, nm_eq, gd_of l2'.1, gd_of ⟨by omega, by omega⟩, nm_eq, e2, (w32_of (by omega) (by omega) : w32 (s + fr.length) = s + fr.length), gd_of h.2.2.2.1, gd_of ⟨by omega, by omega⟩, hv]
        by_cases h47 : gi ks fr.length = 47
        · rw [if_pos h47, if_pos (pre_iff.mpr ⟨hl, fun i i0 i1 => he i i0 (by omega), h47⟩)]
        · rw [if_neg h47, if_neg (fun q => h47 (pre_iff.mp q).2.2)]
      | succ N ih =>
        intro j j0 j1 hj he
        have hv := u4 j j0 (by omega)
        have hv' := v4 j j0 (by omega)
        refine q240_28 ok.1 _ ?_
        rw [if_pos (by omega), gd_of hM, nm_eq, hT, gd_of h.1, nm_eq, nm_eq, gd_of l2'.1, gd_of ⟨by omega, by omega⟩, nm_eq, e2, (w32_of (by omega) (by omega) : w32 (s + j) = s + j), gd_of h.2.2.2.1, gd_of ⟨by omega, by omega⟩, gd_of ⟨by omega, by omega⟩, nm_eq, e2', (w32_of (by omega) (by omega) : w32 (s' + j) = s' + j), gd_of ⟨by omega, by omega⟩, hv, hv']
        by_cases hg : gi ks j = gi fr j
        · rw [if_pos hg, w32_of (by omega) (by omega)]
          exact ih (j + 1) (by omega) (by omega) (by omega) (fun i i0 i1 => by
            by_cases e : i = j
            · rw [e]; exact hg
            · exact he i i0 (by omega))
        · rw [if_neg hg, if_neg (fun q => hg ((pre_iff.mp q).2.1 j j0 (by omega)))]
    exact loop _ 0 (by omega) (by omega) rfl (fun i i0 i1 => by omega)
  · rw [if_neg (by omega), if_neg (fun q => hl (pre_iff.mp q).1)]
end
