/-! no array is longer than two millions -/
set_option maxRecDepth 100000
set_option maxHeartbeats 4000000
def LB (m : Mem) : Prop := ∀ a, ln m a ≤ 2000000
theorem lb_mal {m : Mem} {t n : Int} (h : LB m) (hn : n ≤ 2000000) : LB (mal m t n) := by
  intro a
  show (if a = nx m then n else ln m a) ≤ _
  split
  · exact hn
  · exact h a
theorem lb_mgr {m : Mem} {t u n k : Int} (h : LB m) (hn : n ≤ 2000000) (hk : k ≤ 2000000) : LB (mgr m t u n k) := by
  intro a
  show (if a = nx m then n else if nx m < a ∧ a ≤ nx m + n then k else ln m a) ≤ _
  split
  · exact hn
  · split
    · exact hk
    · exact h a
theorem rNt_all (c : Nat) : (rNt c).all (fun q => Nat.ble q.2.2.2 100) = true := by
  unfold rNt
  split <;> decide
theorem rNt_le {c n e t f : Nat} (h : lkN (rNt c) n = some (e, t, f)) : (f : Int) ≤ 2000000 := by
  have := Nat.le_of_ble_eq_true (lkN_all (rNt_all c) h)
  dsimp only at this
  omega
theorem stp_LB {c k rk ik pc len p : Nat} {i : Instr} {ls st l s : List PV} {m m1 : Mem} (h : stp c k rk ik i pc len ls st m = some (.inl (p, l, s, m1))) (hB : LB m) : LB m1 := by
  cases i
  case new n =>
    dsimp only [stp] at h
    split at h
    · rename_i q
      rw [nG_m h]; exact lb_mal hB (rNt_le q)
    · split at h
      · exact (nT_m h).elim
      · cases h
    · cases h
  case newarray n =>
    dsimp only [stp] at h
    split at h
    · split at h
      · rename_i q
        rw [nG_m h]; exact lb_mal hB q.2
      · cases h
    · cases h
  case anewarray n =>
    dsimp only [stp] at h
    split at h
    · split at h
      · rename_i q
        rw [nG_m h]; exact lb_mal hB q.2
      · cases h
    · cases h
  case multianewarray n d =>
    dsimp only [stp] at h
    split at h
    · split at h
      · rw [nG_m h]; exact lb_mgr hB (by omega) (by omega)
      · cases h
    · cases h
  all_goals (dsimp only [stp] at h; (repeat' split at h) <;> first | (rw [nG_m h]; exact hB) | (rw [nJ_m h]; exact hB) | exact (nR_m h).elim | exact (nC_m h).elim | exact (nT_m h).elim | cases h)
theorem exec2_LB : ∀ (n d k pc : Nat) (ls st : List PV) (m : Mem) (r : Rs) (m1 : Mem), exec2 n d k pc ls st m = some (r, m1) → LB m → LB m1 := by
  intro n
  induction n with
  | zero => intro d k pc ls st m r m1 h; cases h
  | succ n ih =>
    intro d k pc ls st m r m' h hB
    obtain ⟨c, rk, ik, i, len, hf, hc, h⟩ := run1_inv h
    rcases h with ⟨p, l, s, m1, hs, h⟩ | ⟨k1, as, rest, ln1, d1, e1, r1, m1, hs, rfl, he, hl, hsub, hEE, h⟩ | ⟨v, hs, hq⟩ | ⟨e, m1, hs, hk, hh, hq⟩
    · exact ih _ _ _ _ _ _ _ _ h (stp_LB hs hB)
    · have n1 := ih _ _ _ _ _ _ _ _ hEE hB
      rcases h with ⟨v, rfl, h⟩ | ⟨e, rfl, hk, ⟨h1, hq, h⟩ | ⟨hq, hz⟩⟩
      · exact ih _ _ _ _ _ _ _ _ h n1
      · exact ih _ _ _ _ _ _ _ _ h n1
      · cases hz; exact n1
    · cases hq; exact hB
    · cases hq
      obtain ⟨n2, e2, f2, -, hq, -, -, -, rfl⟩ := stp_thr hs
      exact lb_mal hB (rNt_le hq)
theorem rn_LB {d k pc : Nat} {ls st : List PV} {m m1 : Mem} {r : Rs} (h : rn d k pc ls st m = some (r, m1)) (hB : LB m) : LB m1 := by
  obtain ⟨n, hn⟩ := rn_iff.mp h
  exact exec2_LB _ _ _ _ _ _ _ _ _ hn hB
theorem cl_LB {d k : Nat} {as : List PV} {m m1 : Mem} {r : Rs} (h : cl d k as m = some (r, m1)) (hB : LB m) : LB m1 := by
  unfold cl at h
  split at h
  · split at h
    · cases h
    · exact rn_LB h hB
  · cases h
