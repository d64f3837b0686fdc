/-! frames: what a method leaves alone -/
set_option maxRecDepth 100000
set_option maxHeartbeats 4000000
def TZ (m : Mem) : Prop := ∀ a, nx m ≤ a → tg m a = 0
def KP (m m' : Mem) : Prop := (TZ m → TZ m') ∧ nx m ≤ nx m' ∧ ∀ a, a < nx m → tg m' a = tg m a ∧ ln m' a = ln m a
def FRM (e : Nat) (m m' : Mem) : Prop := KP m m' ∧ (∀ a f, a < nx m → Nat.testBit e (bix (tg m a) f) = false → vl m' a f = vl m a f) ∧ (Nat.testBit e 1 = false → nx m' = nx m ∧ sl m' = sl m)
theorem KP.refl {m : Mem} : KP m m := ⟨fun h => h, Int.le_refl _, fun _ _ => ⟨rfl, rfl⟩⟩
theorem KP.trans {m m1 m2 : Mem} (h : KP m m1) (h' : KP m1 m2) : KP m m2 := by
  refine ⟨fun z => h'.1 (h.1 z), Int.le_trans h.2.1 h'.2.1, fun a ha => ?_⟩
  have h1 := h.2.2 a ha
  have h2 := h'.2.2 a (Int.lt_of_lt_of_le ha h.2.1)
  exact ⟨h2.1.trans h1.1, h2.2.trans h1.2⟩
theorem FRM.refl {e : Nat} {m : Mem} : FRM e m m := ⟨KP.refl, fun _ _ _ _ => rfl, fun _ => ⟨rfl, rfl⟩⟩
theorem FRM.trans {e : Nat} {m m1 m2 : Mem} (h : FRM e m m1) (h' : FRM e m1 m2) : FRM e m m2 := by
  refine ⟨h.1.trans h'.1, fun a f ha hb => ?_, fun he => ?_⟩
  · have h1 := h.2.1 a f ha hb
    have h2 := h'.2.1 a f (Int.lt_of_lt_of_le ha h.1.2.1) (by rw [(h.1.2.2 a ha).1]; exact hb)
    exact h2.trans h1
  · have h1 := h.2.2 he
    have h2 := h'.2.2 he
    exact ⟨h2.1.trans h1.1, h2.2.trans h1.2⟩
theorem subE_bit {k1 k j : Nat} (h : subE k1 k = true) (hb : Nat.testBit (eM k) j = false) : Nat.testBit (eM k1) j = false := by
  have h1 : Nat.land (eM k1) (eM k) = eM k1 := Nat.eq_of_beq_eq_true h
  have h2 : Nat.testBit (eM k1 &&& eM k) j = (Nat.testBit (eM k1) j && Nat.testBit (eM k) j) := Nat.testBit_and _ _ _
  have h3 : Nat.testBit (eM k1 &&& eM k) j = Nat.testBit (eM k1) j := congrArg (fun z => Nat.testBit z j) h1
  rw [hb, Bool.and_false] at h2
  exact h3.symm.trans h2
theorem FRM.sub {k1 k : Nat} {m m' : Mem} (h : FRM (eM k1) m m') (hs : subE k1 k = true) : FRM (eM k) m m' :=
  ⟨h.1, fun a f ha hb => h.2.1 a f ha (subE_bit hs hb), fun he => h.2.2 (subE_bit hs he)⟩
theorem fr_mst {e : Nat} {m : Mem} {a k v : Int} (he : Nat.testBit e (bix (tg m a) k) = true) : FRM e m (mst m a k v) := by
  refine ⟨⟨fun h => h, Int.le_refl _, fun _ _ => ⟨rfl, rfl⟩⟩, fun b f hb hf => ?_, fun _ => ⟨rfl, rfl⟩⟩
  show (if b = a ∧ f = k then v else vl m b f) = vl m b f
  rw [if_neg]
  rintro ⟨rfl, rfl⟩
  rw [he] at hf; cases hf
theorem bix_arr {t j : Int} (h : 1000 ≤ t) : bix t j = bix t 0 := by
  unfold bix; rw [if_neg (by omega), if_neg (by omega)]
theorem fr_mstA {e : Nat} {m : Mem} {a k v : Int} (ht : 1000 ≤ tg m a) (he : Nat.testBit e (bix (tg m a) 0) = true) : FRM e m (mst m a k v) := fr_mst (by rw [bix_arr ht]; exact he)
theorem fr_mcp {e : Nat} {m : Mem} {s sp d dp n : Int} (ht : 1000 ≤ tg m d) (he : Nat.testBit e (bix (tg m d) 0) = true) : FRM e m (mcp m s sp d dp n) := by
  refine ⟨⟨fun h => h, Int.le_refl _, fun _ _ => ⟨rfl, rfl⟩⟩, fun b f hb hf => ?_, fun _ => ⟨rfl, rfl⟩⟩
  show (if b = d ∧ dp ≤ f ∧ f < dp + n then vl m s (sp + (f - dp)) else vl m b f) = vl m b f
  rw [if_neg]
  rintro ⟨rfl, -⟩
  rw [bix_arr ht, he] at hf; cases hf
theorem fr_mal {e : Nat} {m : Mem} {t n : Int} (he : Nat.testBit e 1 = true) : FRM e m (mal m t n) := by
  refine ⟨⟨fun h a ha => ?_, ?_, fun a ha => ?_⟩, fun b f hb hf => ?_, fun h => ?_⟩
  · have ha : nx m + 1 ≤ a := ha
    show (if a = nx m then t else tg m a) = 0
    rw [if_neg (by omega)]; exact h a (by omega)
  · show nx m ≤ nx m + 1
    omega
  · show (if a = nx m then t else tg m a) = tg m a ∧ (if a = nx m then n else ln m a) = ln m a
    rw [if_neg (by omega), if_neg (by omega)]; exact ⟨rfl, rfl⟩
  · show (if b = nx m then 0 else vl m b f) = vl m b f
    rw [if_neg (by omega)]
  · rw [he] at h; cases h
theorem fr_mgr {e : Nat} {m : Mem} {t u n k : Int} (hn : 0 ≤ n) (he : Nat.testBit e 1 = true) : FRM e m (mgr m t u n k) := by
  refine ⟨⟨fun h a ha => ?_, ?_, fun a ha => ?_⟩, fun b f hb hf => ?_, fun h => ?_⟩
  · have ha : nx m + 1 + n ≤ a := ha
    show (if a = nx m then t else if nx m < a ∧ a ≤ nx m + n then u else tg m a) = 0
    rw [if_neg (by omega), if_neg (by omega)]; exact h a (by omega)
  · show nx m ≤ nx m + 1 + n
    omega
  · show (if a = nx m then t else if nx m < a ∧ a ≤ nx m + n then u else tg m a) = tg m a ∧ (if a = nx m then n else if nx m < a ∧ a ≤ nx m + n then k else ln m a) = ln m a
    rw [if_neg (by omega), if_neg (by omega), if_neg (by omega), if_neg (by omega)]; exact ⟨rfl, rfl⟩
  · show (if b = nx m then (if 0 ≤ f ∧ f < n then nx m + 1 + f else 0) else if nx m < b ∧ b ≤ nx m + n then 0 else vl m b f) = vl m b f
    rw [if_neg (by omega), if_neg (by omega)]
  · rw [he] at h; cases h
theorem nG_m {a p : Nat} {b c l s : List PV} {d m1 : Mem} (h : nG a b c d = some (.inl (p, l, s, m1))) : m1 = d := by unfold nG at h; cases h; rfl
theorem nJ_m {a p : Nat} {o : Int} {b c l s : List PV} {d m1 : Mem} (h : nJ a o b c d = some (.inl (p, l, s, m1))) : m1 = d := by
  unfold nJ at h; split at h
  · exact nG_m h
  · cases h
theorem nR_m {v : Option PV} {x : Nat × List PV × List PV × Mem} (h : nR v = some (.inl x)) : False := by unfold nR at h; cases h
theorem nT_m {e : Int} {m : Mem} {x : Nat × List PV × List PV × Mem} (h : nT e m = some (.inl x)) : False := by unfold nT at h; cases h
theorem nC_m {k : Nat} {as rest : List PV} {len : Nat} {x : Nat × List PV × List PV × Mem} (h : nCall k as rest len = some (.inl x)) : False := by
  unfold nCall nC at h; split at h <;> cases h
theorem stp_FRM {c k rk ik pc len p : Nat} {i : Instr} {ls st l s : List PV} {m m1 : Mem} (h : stp c k rk ik i pc len ls st m = some (.inl (p, l, s, m1))) (hc : chk c k i st m = true) : FRM (eM k) m m1 := by
  cases i
  case putfield n =>
    dsimp only [stp] at h
    dsimp only [chk] at hc
    split at h
    · rename_i ty f t1 t2 fin v a r hq
      rw [hq] at hc
      dsimp only at hc
      split at h
      · split at h <;> first | (rw [nG_m h]; exact fr_mst hc) | cases h | (split at h <;> first | (rw [nG_m h]; exact fr_mst hc) | cases h)
      · cases h
    · cases h
  case iastore =>
    dsimp only [stp] at h
    split at h
    · split at h
      · rename_i h0
        rw [nG_m h]; exact fr_mstA h0.1 hc
      · cases h
    · cases h
  case lastore =>
    dsimp only [stp] at h
    split at h
    · split at h
      · rename_i h0
        rw [nG_m h]; exact fr_mstA h0.1 hc
      · cases h
    · cases h
  case castore =>
    dsimp only [stp] at h
    split at h
    · split at h
      · rename_i h0
        rw [nG_m h]; exact fr_mstA h0.1 hc
      · cases h
    · cases h
  case aastore =>
    dsimp only [stp] at h
    split at h
    · split at h
      · rename_i h0
        rw [nG_m h]; exact fr_mstA h0.1 hc
      · cases h
    · cases h
  case bastore =>
    dsimp only [stp] at h
    split at h
    · split at h
      · rename_i h0
        split at h
        · rw [nG_m h]; exact fr_mstA h0.1 hc
        · split at h
          · rw [nG_m h]; exact fr_mstA h0.1 hc
          · cases h
      · cases h
    · cases h
  case new n =>
    dsimp only [stp] at h
    split at h
    · rw [nG_m h]; exact fr_mal hc
    · split at h
      · exact (nT_m h).elim
      · cases h
    · cases h
  case newarray n =>
    dsimp only [stp] at h
    split at h
    · split at h
      · rw [nG_m h]; exact fr_mal hc
      · cases h
    · cases h
  case anewarray n =>
    dsimp only [stp] at h
    split at h
    · split at h
      · rw [nG_m h]; exact fr_mal hc
      · cases h
    · cases h
  case multianewarray n d =>
    dsimp only [stp] at h
    split at h
    · split at h
      · rename_i h0
        rw [nG_m h]; exact fr_mgr (by omega) hc
      · cases h
    · cases h
  case invokestatic n =>
    dsimp only [stp] at h
    dsimp only [chk] at hc
    split at h
    · split at h
      · exact (nC_m h).elim
      · cases h
    · split at h
      · split at h
        · rw [nG_m h]; exact FRM.refl
        · cases h
      · cases h
    · split at h
      · split at h
        · rw [nG_m h]; exact FRM.refl
        · cases h
      · cases h
    · split at h
      · split at h
        · rw [nG_m h]; exact FRM.refl
        · cases h
      · cases h
    · split at h
      · split at h
        · rw [nG_m h]; exact FRM.refl
        · cases h
      · cases h
    · rename_i hq
      rw [hq] at hc
      split at h
      · split at h
        · rename_i h0
          rw [nG_m h]; exact fr_mcp h0.2.2.2.2.2.2.1 hc
        · cases h
      · cases h
    · cases h
  all_goals (dsimp only [stp] at h; (repeat' split at h) <;> first | (rw [nG_m h]; exact FRM.refl) | (rw [nJ_m h]; exact FRM.refl) | exact (nR_m h).elim | exact (nC_m h).elim | exact (nT_m h).elim | cases h)
theorem exec2_FRM : ∀ (n d k pc : Nat) (ls st : List PV) (m : Mem) (r : Rs) (m1 : Mem), exec2 n d k pc ls st m = some (r, m1) → FRM (eM k) m m1 := by
  intro n
  induction n with
  | zero => intro d k pc ls st m r m1 h; cases h
  | succ n ih =>
    intro d k pc ls st m r m' h
    obtain ⟨c, rk, ik, i, len, hf, hc, h⟩ := run1_inv h
    rcases h with ⟨p, l, s, m1, hs, h⟩ | ⟨k1, as, rest, ln1, d1, e1, r1, m1, hs, rfl, he, hl, hsub, hEE, h⟩ | ⟨v, hs, hq⟩ | ⟨e, m1, hs, hk, hh, hq⟩
    · exact (stp_FRM hs hc).trans (ih _ _ _ _ _ _ _ _ h)
    · have f1 := (ih _ _ _ _ _ _ _ _ hEE).sub hsub
      rcases h with ⟨v, rfl, h⟩ | ⟨e, rfl, hk, ⟨h1, hq, h⟩ | ⟨hq, hz⟩⟩
      · exact f1.trans (ih _ _ _ _ _ _ _ _ h)
      · exact f1.trans (ih _ _ _ _ _ _ _ _ h)
      · cases hz; exact f1
    · cases hq; exact FRM.refl
    · cases hq
      obtain ⟨n2, e2, f2, rfl, -, -, -, -, rfl⟩ := stp_thr hs
      exact fr_mal hc
theorem rn_FRM {d k pc : Nat} {ls st : List PV} {m m1 : Mem} {r : Rs} (h : rn d k pc ls st m = some (r, m1)) : FRM (eM k) m m1 := by
  obtain ⟨n, hn⟩ := rn_iff.mp h
  exact exec2_FRM _ _ _ _ _ _ _ _ _ hn
theorem cl_FRM {d k : Nat} {as : List PV} {m m1 : Mem} {r : Rs} (h : cl d k as m = some (r, m1)) : FRM (eM k) m m1 := by
  unfold cl at h
  split at h
  · split at h
    · cases h
    · exact rn_FRM h
  · cases h
