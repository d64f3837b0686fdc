/-! the twin's texts: escaped -/
set_option maxRecDepth 100000
set_option maxHeartbeats 4000000
section
variable {d : Nat} {M tp e q : Int} {t : Int → Int}
theorem mst_comm {m : Mem} {a k k' v w : Int} (h : k ≠ k') : mst (mst m a k v) a k' w = mst (mst m a k' w) a k v := by
  unfold mst
  congr 4
  funext b j
  show (if b = a ∧ j = k' then w else if b = a ∧ j = k then v else m.2.2.2.2 b j) = (if b = a ∧ j = k then v else if b = a ∧ j = k' then w else m.2.2.2.2 b j)
  by_cases h1 : b = a ∧ j = k'
  · rw [if_pos h1, if_neg (by omega), if_pos h1]
  · rw [if_neg h1]
    by_cases h2 : b = a ∧ j = k
    · rw [if_pos h2, if_pos h2]
    · rw [if_neg h2, if_neg h2, if_neg h1]
theorem c204 {i : Int} {m : Mem} (hd : 5 ≤ d) (hz : TZ m) (h : YX m M tp e i t) (hS : SC m 52 cEsc) (hi : i < e) (hq : q = 34 ∨ q = 39) :
    (∀ u j, eU t e q i = .inr (u, j) → 0 ≤ u ∧ u < 65536 ∧ i + 2 ≤ j ∧ j ≤ e ∧ cl d 204 [pR M, pI q] m = some (.inl (some (pI u)), mst m M 12 j)) ∧
    (∀ p, eU t e q i = .inl p → ∃ j, cl d 204 [pR M, pI q] m = some (.inl (some (pI (-1))), mst (mst m M 12 j) M 14 p)) := by
  have b1 := h.1
  have b3 := h.2.2.1
  have b4 := h.2.2.2.1
  have b8 := h.2.2.2.2.1
  have b6 := h.2.2.2.2.2.2.1
  have h1 := h.at (j := i + 1) (by omega) (by omega)
  have hr := pkf_rng t e (i + 1)
  have h199 := c199 (d := d - 1) (m := mst m M 12 (i + 1)) hz h1
  have hv12 : vl (mst m M 12 (i + 1)) M 12 = i + 1 := by rw [vl_mst, if_pos ⟨rfl, rfl⟩]
  have hS1 : SC (mst m M 12 (i + 1)) 52 cEsc := hS.mT (by omega)
  have hS2 : SC (mst m M 12 (i + 2)) 52 cEsc := hS.mT (by omega)
  have e2 : w32 (i + 1 + 1) = i + 2 := by rw [w32_of (by omega) (by omega)]; omega
  have hzz : TZ (mst m M 12 (i + 2)) := hz
  -- how it begins
  have run : ∀ R, (if pk t e (i + 1) = q then some (.inl (some (pI (pk t e (i + 1)))), mst m M 12 (i + 2)) else if pk t e (i + 1) = 92 then some (.inl (some (pI (pk t e (i + 1)))), mst m M 12 (i + 2)) else if pk t e (i + 1) = 47 then some (.inl (some (pI (pk t e (i + 1)))), mst m M 12 (i + 2)) else if pk t e (i + 1) < 0 then rn d 204 63 [pR M, pI q, pI i, pI (pk t e (i + 1)), pU, pU, pU, pU] [pI (-1)] (mst m M 12 (i + 2)) else rn d 204 63 [pR M, pI q, pI i, pI (pk t e (i + 1)), pU, pU, pU, pU] [pI (ixO cEsc (pk t e (i + 1)) 0)] (mst m M 12 (i + 2))) = some R → cl d 204 [pR M, pI q] m = some R := by
    intro R hR
    refine q204 (by omega) hz _ ?_
    rw [gd_of b1, nm_eq, b4, w32_of (by omega) (by omega), bI_eq h199, hv12, e2, mst_mst]
    by_cases c1 : pk t e (i + 1) = q
    · rw [if_pos c1] at hR ⊢; exact hR
    rw [if_neg c1] at hR ⊢
    by_cases c2 : pk t e (i + 1) = 92
    · rw [if_pos c2] at hR ⊢; exact hR
    rw [if_neg c2] at hR ⊢
    by_cases c3 : pk t e (i + 1) = 47
    · rw [if_pos c3] at hR ⊢; exact hR
    rw [if_neg c3] at hR ⊢
    by_cases c4 : pk t e (i + 1) < 0
    · rw [if_pos c4] at hR ⊢; exact hR
    rw [if_neg c4] at hR ⊢
    have h354 := c354 (d := d - 1) (x := pk t e (i + 1)) (m := mst m M 12 (i + 2)) (by omega) hz hS2 (by omega) (by decide)
    rw [gd_of hS1.1, bI_eq h354]; exact hR
  unfold eU
  by_cases g1 : i + 1 < e
  · rw [if_neg (by omega)]
    have hp0 : 0 ≤ pk t e (i + 1) := by unfold pk; rw [if_pos g1]; omega
    have hl : YX (mst m M 12 (i + 2)) M tp e (i + 2) t := h.at (by omega) (by omega)
    have l1 : tg (mst m M 12 (i + 2)) M = 11 := b1
    have l8 : vl (mst m M 12 (i + 2)) M 14 = -1 := hl.2.2.2.2.1
    by_cases c1 : pk t e (i + 1) = 47 ∨ pk t e (i + 1) = 92
    · rw [if_pos c1]
      refine ⟨fun u j hu => ?_, fun p hp => (by cases hp)⟩
      cases hu
      refine ⟨hp0, by omega, by omega, by omega, ?_⟩
      refine run _ ?_
      rw [if_neg (by omega)]
      rcases c1 with c1 | c1
      · rw [if_neg (by omega), if_pos c1]
      · rw [if_pos c1]
    rw [if_neg c1]
    have ce : ∀ k c v : Int, pk t e (i + 1) = c → c ≠ 34 ∧ c ≠ 39 ∧ c ≠ 92 ∧ c ≠ 47 → ixO cEsc c 0 = k → 0 ≤ k → (rn d 204 63 [pR M, pI q, pI i, pI c, pU, pU, pU, pU] [pI k] (mst m M 12 (i + 2)) = some (.inl (some (pI v)), mst m M 12 (i + 2))) → cl d 204 [pR M, pI q] m = some (.inl (some (pI v)), mst m M 12 (i + 2)) := by
      intro k c v hc hcn hk k0 hrn
      refine run _ ?_
      rw [hc, if_neg (by omega), if_neg (by omega), if_neg (by omega), if_neg (by omega), hk]; exact hrn
    by_cases c2 : pk t e (i + 1) = 98
    · rw [if_pos c2]
      refine ⟨fun u j hu => ?_, fun p hp => (by cases hp)⟩
      cases hu
      refine ⟨by decide, by decide, by omega, by omega, ?_⟩
      refine ce 0 98 8 c2 (by decide) (by decide) (by decide) ?_
      refine q204_63 (by omega) hzz _ ?_
      rw [if_neg (by decide), if_pos rfl]
    rw [if_neg c2]
    by_cases c3 : pk t e (i + 1) = 102
    · rw [if_pos c3]
      refine ⟨fun u j hu => ?_, fun p hp => (by cases hp)⟩
      cases hu
      refine ⟨by decide, by decide, by omega, by omega, ?_⟩
      refine ce 1 102 12 c3 (by decide) (by decide) (by decide) ?_
      refine q204_63 (by omega) hzz _ ?_
      rw [if_neg (by decide), if_neg (by decide), if_pos rfl]
    rw [if_neg c3]
    by_cases c4 : pk t e (i + 1) = 110
    · rw [if_pos c4]
      refine ⟨fun u j hu => ?_, fun p hp => (by cases hp)⟩
      cases hu
      refine ⟨by decide, by decide, by omega, by omega, ?_⟩
      refine ce 2 110 10 c4 (by decide) (by decide) (by decide) ?_
      refine q204_63 (by omega) hzz _ ?_
      rw [if_neg (by decide), if_neg (by decide), if_neg (by decide), if_pos rfl]
    rw [if_neg c4]
    by_cases c5 : pk t e (i + 1) = 114
    · rw [if_pos c5]
      refine ⟨fun u j hu => ?_, fun p hp => (by cases hp)⟩
      cases hu
      refine ⟨by decide, by decide, by omega, by omega, ?_⟩
      refine ce 3 114 13 c5 (by decide) (by decide) (by decide) ?_
      refine q204_63 (by omega) hzz _ ?_
      rw [if_neg (by decide), if_neg (by decide), if_neg (by decide), if_neg (by decide), if_pos rfl]
    rw [if_neg c5]
    by_cases c6 : pk t e (i + 1) = 116
    · rw [if_pos c6]
      refine ⟨fun u j hu => ?_, fun p hp => (by cases hp)⟩
      cases hu
      refine ⟨by decide, by decide, by omega, by omega, ?_⟩
      refine ce 4 116 9 c6 (by decide) (by decide) (by decide) ?_
      refine q204_63 (by omega) hzz _ ?_
      rw [if_neg (by decide), if_neg (by decide), if_neg (by decide), if_neg (by decide), if_neg (by decide)]
    rw [if_neg c6]
    have hix : ixO cEsc (pk t e (i + 1)) 0 = -1 := by
      unfold cEsc ixO ixO ixO ixO ixO ixO
      rw [if_neg (by omega), if_neg (by omega), if_neg (by omega), if_neg (by omega), if_neg (by omega)]
    by_cases c7 : pk t e (i + 1) = 117
    · rw [if_pos c7]
      have hU := c204_128 (d := d) (q := q) (fi := i) (x4 := -1) (z3 := 117) (by omega) 4 (i + 2) 0 (mst m M 12 (i + 2)) pU (by omega) rfl hz hl (by omega) (by decide)
      have start : ∀ R, rn d 204 128 [pR M, pI q, pI i, pI 117, pI (-1), pI 0, pI (4 - ((4 : Nat) : Int)), pU] [] (mst m M 12 (i + 2)) = some R → cl d 204 [pR M, pI q] m = some R := by
        intro R hR
        refine run _ ?_
        rw [c7] at hix ⊢
        rw [if_neg (by omega), if_neg (by decide), if_neg (by decide), if_neg (by decide), hix]
        refine q204_63 (by omega) hzz _ ?_
        rw [if_pos (by decide), if_pos rfl]; exact hR
      cases hf : f4 t e i 4 (i + 2) 0 with
      | inl p0 =>
        refine ⟨fun u j hu => (by cases hu), fun p hp => ?_⟩
        cases hp
        obtain ⟨j, j0, j1, c⟩ := hU.2 _ hf
        rw [mst_mst] at c
        exact ⟨j, start _ c⟩
      | inr u0 =>
        refine ⟨fun u j hu => ?_, fun p hp => (by cases hp)⟩
        cases hu
        obtain ⟨k1, k2, k3, c⟩ := hU.1 _ hf
        rw [mst_mst, show i + 2 + ((4 : Nat) : Int) = i + 6 by omega] at c
        exact ⟨k1, k2, by omega, by omega, start _ c⟩
    rw [if_neg c7]
    by_cases c8 : pk t e (i + 1) = q
    · rw [if_pos c8]
      refine ⟨fun u j hu => ?_, fun p hp => (by cases hp)⟩
      cases hu
      refine ⟨by omega, by omega, by omega, by omega, ?_⟩
      refine run _ ?_
      rw [if_pos c8, c8]
    · rw [if_neg c8]
      refine ⟨fun u j hu => (by cases hu), fun p hp => ?_⟩
      cases hp
      refine ⟨i + 2, ?_⟩
      refine run _ ?_
      rw [if_neg c8, if_neg (by omega), if_neg (by omega), if_neg (by omega), hix]
      refine q204_63 (by omega) hzz _ ?_
      rw [if_pos (by decide), if_neg c7, if_neg (by omega), gd_of l1, bI_eq (c202 hzz l1 l8)]
  · rw [if_pos g1]
    refine ⟨fun u j hu => (by cases hu), fun p hp => ?_⟩
    cases hp
    have hp1 : pk t e (i + 1) = -1 := by unfold pk; rw [if_neg g1]
    refine ⟨i + 2, ?_⟩
    refine run _ ?_
    rw [hp1, if_neg (by omega), if_neg (by decide), if_neg (by decide), if_pos (by decide)]
    have l8 : vl (mst m M 12 (i + 2)) M 14 = -1 := by rw [vl_mst, if_neg (by omega)]; exact b8
    have l3 : vl (mst m M 12 (i + 2)) M 13 = e := by rw [vl_mst, if_neg (by omega)]; exact b3
    have l1 : tg (mst m M 12 (i + 2)) M = 11 := b1
    refine q204_63 (by omega) hzz _ ?_
    rw [if_pos (by decide), if_neg (by decide), if_pos (by decide), gd_of l1, l3, bI_eq (c202 hzz l1 l8), show e = i + 1 by omega]
end
