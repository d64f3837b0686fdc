/-! printing strings -/
set_option maxRecDepth 100000
set_option maxHeartbeats 4000000
section
variable {d : Nat} {m : Mem} {s cap r c a u : Int} {ys xs : List Int}
theorem c142 (hz : TZ m) (hR : RW m r xs c) (hA : At xs a (utf u)) (hu : 0 ≤ u ∧ u < 65536) : cl d 142 [pR r, pI a] m = some (.inl (some (pI (utf u).length)), m) := by
  obtain ⟨ht, hb, hc, hs, hl, hcc, hv⟩ := hR
  have h0 := hA.1
  have h1 := hA.2.1
  have h2 := utf_len u
  refine q142 hz _ ?_
  rw [gd_of ht, nm_eq, gd_of hb, gd_of ⟨by omega, by omega⟩, nm_eq, hv a (by omega) (by omega), pAnd_255]
  unfold utf at hA ⊢
  by_cases k1 : u < 128
  · rw [if_pos k1] at hA ⊢
    rw [hA.cons.1, if_pos (by omega)]; rfl
  · rw [if_neg k1] at hA ⊢
    by_cases k2 : u < 2048
    · rw [if_pos k2] at hA ⊢
      have e : w8 (192 + u / 64) % 256 = 192 + u / 64 := by unfold w8; omega
      rw [hA.cons.1, e, if_neg (by omega), if_pos (by omega)]; rfl
    · rw [if_neg k2] at hA ⊢
      have e : w8 (224 + u / 4096) % 256 = 224 + u / 4096 := by unfold w8; omega
      rw [hA.cons.1, e, if_neg (by omega), if_neg (by omega)]; rfl
theorem c141 (hz : TZ m) (hR : RW m r xs c) (hA : At xs a (utf u)) (hu : 0 ≤ u ∧ u < 65536) : cl d 141 [pR r, pI a] m = some (.inl (some (pI u)), m) := by
  obtain ⟨ht, hb, hc, hs, hl, hcc, hv⟩ := hR
  have h0 := hA.1
  have h1 := hA.2.1
  have h2 := utf_len u
  refine q141 hz _ ?_
  rw [gd_of ht, nm_eq, gd_of hb, gd_of ⟨by omega, by omega⟩, nm_eq, hv a (by omega) (by omega), pAnd_255]
  unfold utf at hA h1
  by_cases k1 : u < 128
  · rw [if_pos k1] at hA
    rw [hA.cons.1, if_pos (by omega), show u % 256 = u by omega]
  · rw [if_neg k1] at hA h1
    by_cases k2 : u < 2048
    · rw [if_pos k2] at hA h1
      simp at h1
      have e : w8 (192 + u / 64) % 256 = 192 + u / 64 := by unfold w8; omega
      have f : w8 (128 + u % 64) % 64 = u % 64 := by unfold w8; omega
      have e1 : pShl ((192 + u / 64) % 32) 6 = ((192 + u / 64) % 32) * ((2 ^ 6 : Nat) : Int) := pShl_mul 6 (by decide) (by omega) (by simp; omega)
      rw [hA.cons.1, e, if_neg (by omega), if_pos (by omega), nm_eq, w32_of (by omega) (by omega), gd_of ⟨by omega, by omega⟩, hv (a + 1) (by omega) (by omega), hA.cons.2.cons.1, pAnd_31, pAnd_63, f, e1, pOr_add 6 (by omega) (by omega) (by simp; omega) (by simp; omega)]
      congr 4
      simp; omega
    · rw [if_neg k2] at hA h1
      simp at h1
      have e : w8 (224 + u / 4096) % 256 = 224 + u / 4096 := by unfold w8; omega
      have f : w8 (128 + u % 64) % 64 = u % 64 := by unfold w8; omega
      have f2 : w8 (128 + u / 64 % 64) % 64 = u / 64 % 64 := by unfold w8; omega
      have e1 : pShl ((224 + u / 4096) % 16) 12 = ((224 + u / 4096) % 16) * ((2 ^ 12 : Nat) : Int) := pShl_mul 12 (by decide) (by omega) (by simp; omega)
      have e2 : pShl (u / 64 % 64) 6 = (u / 64 % 64) * ((2 ^ 6 : Nat) : Int) := pShl_mul 6 (by decide) (by omega) (by simp; omega)
      have e3 : pOr (((224 + u / 4096) % 16) * ((2 ^ 12 : Nat) : Int)) ((u / 64 % 64) * ((2 ^ 6 : Nat) : Int)) = (u / 64) * ((2 ^ 6 : Nat) : Int) := by
        rw [pOr_add 12 (by omega) (by simp; omega) (by simp; omega) (by simp; omega)]; simp; omega
      rw [hA.cons.1, e, if_neg (by omega), if_neg (by omega), nm_eq, w32_of (z := a + 1) (by omega) (by omega), gd_of ⟨by omega, by omega⟩, nm_eq, w32_of (z := a + 2) (by omega) (by omega), gd_of ⟨by omega, by omega⟩, hv (a + 1) (by omega) (by omega), hv (a + 2) (by omega) (by omega), hA.cons.2.cons.1, show a + 2 = a + 1 + 1 by omega, hA.cons.2.cons.2.cons.1, pAnd_15, pAnd_63, pAnd_63, f, f2, e1, e2, e3, pOr_add 6 (by omega) (by omega) (by simp; omega) (by simp; omega)]
      congr 4
      simp; omega
theorem uts_len_pos {us : List Int} (h : us ≠ []) : 1 ≤ (uts us).length := by
  cases us with
  | nil => exact absurd rfl h
  | cons u us => have := utf_len u; rw [uts_cons, List.length_append]; omega
theorem c56_l {q a0 n : Int} (hd : 4 ≤ d) (hq : q = 34 ∨ q = 39) : ∀ (us : List Int) (k : Int) (m : Mem) (ys : List Int) (z : PV), cat z = 1 → wfU us → OK m → SI m → SK m s ys cap → RW m r xs c → At xs k (uts us) → 0 ≤ a0 → 0 ≤ n → k + (uts us).length = a0 + n → PRC (rn d 56 9 [pR s, pR r, pI a0, pI n, pI q, pI k, z] [] m) s m ys cap (us.flatMap (prC q) ++ [q]) := by
  intro us
  induction us with
  | nil =>
    intro k m ys z hcz hw ok hI h hR hA ha0 hn hk
    have hl := hR.2.2.2.2.1
    have hc2 := hR.2.2.2.2.2.1
    have hA1 := hA.2.1
    rw [uts_nil] at hk hA1
    simp at hk hA1
    have hp := (c54 (d := d - 1) (b := q) ok hI h).last
    rw [w8_of (by omega) (by omega)] at hp
    refine hp.imp (fun Q hQ => q56_9 (by omega) ok.1 hcz _ ?_)
    rw [if_neg (by rw [w32_of (by omega) (by omega)]; omega), gd_of h.1]; exact hQ
  | cons u us ih =>
    intro k m ys z hcz hw ok hI h hR hA ha0 hn hk
    have hl := hR.2.2.2.2.1
    have hc2 := hR.2.2.2.2.2.1
    have hu := hw u (by simp)
    have hA1 := hA.1
    have hA2 := hA.2.1
    rw [uts_cons] at hA hk hA2
    rw [List.length_append] at hk hA2
    obtain ⟨A1, A2⟩ := hA.app
    have h141 := c141 (d := d - 1) ok.1 hR A1 hu
    have hul := utf_len u
    have hnext : ∀ (m1 : Mem) (ys1 : List Int), FRM (eM 52) m m1 → SI m1 → SK m1 s ys1 cap → PRC (bI (cl (d - 1) 142 [pR r, pI k] m1) fun v3 m3 => rn d 56 9 [pR s, pR r, pI a0, pI n, pI q, pI (w32 (k + v3)), pI u] [] m3) s m1 ys1 cap (us.flatMap (prC q) ++ [q]) := by
      intro m1 ys1 hf hI1 h1
      have ok1 := ok.fr hf
      have hR1 := hR.fr hf ok.1 (by rfl)
      have h142 := c142 (d := d - 1) ok1.1 hR1 A1 hu
      rw [bI_eq h142, w32_of (by omega) (by omega)]
      exact ih (k + (utf u).length) m1 ys1 (pI u) rfl (fun w hw' => hw w (by simp [hw'])) ok1 hI1 h1 hR1 A2 ha0 hn (by omega)
    have ent : ∀ (X : RM) (Q : Rs × Mem), (if u = q then (rn d 56 39 [pR s, pR r, pI a0, pI n, pI q, pI k, pI u] [] m) else if u = 92 then (rn d 56 39 [pR s, pR r, pI a0, pI n, pI q, pI k, pI u] [] m) else bI (cl (d - 1) 57 [pI u] m) fun v3 m3 => if v3 = 0 then (if u < 32 then (rn d 56 94 [pR s, pR r, pI a0, pI n, pI q, pI k, pI u] [] m3) else if 126 < u then (rn d 56 94 [pR s, pR r, pI a0, pI n, pI q, pI k, pI u] [] m3) else gd (tg m3 s = 2) <| bV (cl (d - 1) 54 [pR s, pI u] m3) fun m4 => bI (cl (d - 1) 142 [pR r, pI k] m4) fun v5 m5 => rn d 56 9 [pR s, pR r, pI a0, pI n, pI q, pI (w32 (k + v5)), pI u] [] m5) else gd (tg m3 s = 2) <| bV (cl (d - 1) 54 [pR s, pI 92] m3) fun m6 => bI (cl (d - 1) 57 [pI u] m6) fun v7 m7 => bV (cl (d - 1) 54 [pR s, pI v7] m7) fun m8 => bI (cl (d - 1) 142 [pR r, pI k] m8) fun v9 m9 => rn d 56 9 [pR s, pR r, pI a0, pI n, pI q, pI (w32 (k + v9)), pI u] [] m9) = X → X = some Q → rn d 56 9 [pR s, pR r, pI a0, pI n, pI q, pI k, z] [] m = some Q := by
      intro X Q hX hQ
      refine q56_9 (by omega) ok.1 hcz _ ?_
      rw [if_pos (by rw [w32_of (by omega) (by omega)]; omega), gd_of hR.1, bI_eq h141, hX]; exact hQ
    rw [List.flatMap_cons, List.append_assoc]
    unfold prC
    by_cases k1 : u = q ∨ u = 92
    · rw [if_pos k1]
      have hu8 : w8 u = u := w8_of (by omega) (by omega)
      have hp := (c54 (d := d - 1) (b := 92) ok hI h).bind (f := fun m1 => bV (cl (d - 1) 54 [pR s, pI u] m1) fun m2 => gd (tg m2 r = 8) <| bI (cl (d - 1) 142 [pR r, pI k] m2) fun v3 m3 => rn d 56 9 [pR s, pR r, pI a0, pI n, pI q, pI (w32 (k + v3)), pI u] [] m3) (z2 := [w8 u] ++ (us.flatMap (prC q) ++ [q])) (fun m1 g1 => (c54 (d := d - 1) (b := u) (ok.fr g1.2.2.1) g1.2.1.1 g1.1).bind (fun m2 g2 => by
        have hf := g1.2.2.1.trans g2.2.2.1
        rw [gd_of (hR.fr hf ok.1 (by rfl)).1]
        exact hnext m2 _ hf g2.2.1.1 g2.1))
      rw [hu8] at hp
      refine (hp.cast (by rfl)).imp (fun Q hQ => ?_)
      have h39 : rn d 56 39 [pR s, pR r, pI a0, pI n, pI q, pI k, pI u] [] m = some Q := by
        refine q56_39 (by omega) ok.1 _ ?_
        rw [gd_of h.1]; exact hQ
      refine ent (some Q) Q ?_ rfl
      by_cases k2 : u = q
      · rw [if_pos k2]; exact h39
      · rw [if_neg k2, if_pos (by omega)]; exact h39
    · rw [if_neg k1]
      have h57 := fun m1 (hz : TZ m1) => c57 (d := d - 1) (m := m1) (u := u) hz
      have esc : ∀ b : Int, (if u = 8 then (98 : Int) else if u = 9 then 116 else if u = 10 then 110 else if u = 12 then 102 else if u = 13 then 114 else 0) = b → 0 < b → b < 128 → PRC (rn d 56 9 [pR s, pR r, pI a0, pI n, pI q, pI k, z] [] m) s m ys cap ([92, b] ++ (us.flatMap (prC q) ++ [q])) := by
        intro b hb hb0 hb1
        rw [hb] at h57
        have hp := (c54 (d := d - 1) (b := 92) ok hI h).bind (f := fun m6 => bI (cl (d - 1) 57 [pI u] m6) fun v7 m7 => bV (cl (d - 1) 54 [pR s, pI v7] m7) fun m8 => bI (cl (d - 1) 142 [pR r, pI k] m8) fun v9 m9 => rn d 56 9 [pR s, pR r, pI a0, pI n, pI q, pI (w32 (k + v9)), pI u] [] m9) (z2 := [w8 b] ++ (us.flatMap (prC q) ++ [q])) (fun m1 g1 => by
          show PRC (bI (cl (d - 1) 57 [pI u] m1) _) _ _ _ _ _
          rw [bI_eq (h57 m1 (ok.fr g1.2.2.1).1)]
          exact (c54 (d := d - 1) (b := b) (ok.fr g1.2.2.1) g1.2.1.1 g1.1).bind (fun m2 g2 => hnext m2 _ (g1.2.2.1.trans g2.2.2.1) g2.2.1.1 g2.1))
        rw [w8_of (z := b) (by omega) hb1] at hp
        refine (hp.cast (by rfl)).imp (fun Q hQ => ent (some Q) Q ?_ rfl)
        rw [if_neg (fun e => k1 (Or.inl e)), if_neg (fun e => k1 (Or.inr e)), bI_eq (h57 m ok.1), if_neg (by omega), gd_of h.1]; exact hQ
      by_cases k8 : u = 8
      · rw [if_pos k8]; exact esc 98 (by rw [if_pos k8]) (by decide) (by decide)
      · rw [if_neg k8]
        by_cases k9 : u = 9
        · rw [if_pos k9]; exact esc 116 (by rw [if_neg k8, if_pos k9]) (by decide) (by decide)
        · rw [if_neg k9]
          by_cases k10 : u = 10
          · rw [if_pos k10]; exact esc 110 (by rw [if_neg k8, if_neg k9, if_pos k10]) (by decide) (by decide)
          · rw [if_neg k10]
            by_cases k12 : u = 12
            · rw [if_pos k12]; exact esc 102 (by rw [if_neg k8, if_neg k9, if_neg k10, if_pos k12]) (by decide) (by decide)
            · rw [if_neg k12]
              by_cases k13 : u = 13
              · rw [if_pos k13]; exact esc 114 (by rw [if_neg k8, if_neg k9, if_neg k10, if_neg k12, if_pos k13]) (by decide) (by decide)
              · rw [if_neg k13]
                have h570 := h57 m ok.1
                rw [if_neg k8, if_neg k9, if_neg k10, if_neg k12, if_neg k13] at h570
                by_cases kx : u < 32 ∨ 126 < u
                · rw [if_pos kx]
                  have hp := (c58 (d := d - 1) (by omega) hu ok hI h).bind (f := fun m1 => gd (tg m1 r = 8) <| bI (cl (d - 1) 142 [pR r, pI k] m1) fun v3 m3 => rn d 56 9 [pR s, pR r, pI a0, pI n, pI q, pI (w32 (k + v3)), pI u] [] m3) (z2 := (us.flatMap (prC q) ++ [q])) (fun m1 g1 => by
                    rw [gd_of (hR.fr g1.2.2.1 ok.1 (by rfl)).1]
                    exact hnext m1 _ g1.2.2.1 g1.2.1.1 g1.1)
                  refine hp.imp (fun Q hQ => ?_)
                  have h94 : rn d 56 94 [pR s, pR r, pI a0, pI n, pI q, pI k, pI u] [] m = some Q := by
                    refine q56_94 (by omega) ok.1 _ ?_
                    rw [gd_of h.1]; exact hQ
                  refine ent (some Q) Q ?_ rfl
                  rw [if_neg (fun e => k1 (Or.inl e)), if_neg (fun e => k1 (Or.inr e)), bI_eq h570, if_pos rfl]
                  by_cases k32 : u < 32
                  · rw [if_pos k32]; exact h94
                  · rw [if_neg k32, if_pos (by omega)]; exact h94
                · rw [if_neg kx]
                  have hp := (c54 (d := d - 1) (b := u) ok hI h).bind (f := fun m1 => bI (cl (d - 1) 142 [pR r, pI k] m1) fun v3 m3 => rn d 56 9 [pR s, pR r, pI a0, pI n, pI q, pI (w32 (k + v3)), pI u] [] m3) (z2 := (us.flatMap (prC q) ++ [q])) (fun m1 g1 => hnext m1 _ g1.2.2.1 g1.2.1.1 g1.1)
                  rw [w8_of (z := u) (by omega) (by omega)] at hp
                  refine hp.imp (fun Q hQ => ent (some Q) Q ?_ rfl)
                  rw [if_neg (fun e => k1 (Or.inl e)), if_neg (fun e => k1 (Or.inr e)), bI_eq h570, if_pos rfl, if_neg (by omega), if_neg (by omega), gd_of h.1]; exact hQ
theorem c56 {q n : Int} {us : List Int} (hd : 4 ≤ d) (hq : q = 34 ∨ q = 39) (hw : wfU us) (ok : OK m) (hI : SI m) (h : SK m s ys cap) (hR : RW m r xs c) (hA : At xs a (uts us)) (hn : n = (uts us).length) : PRC (cl d 56 [pR s, pR r, pI a, pI n, pI q] m) s m ys cap (prS q us) := by
  have hp := (c54 (d := d - 1) (b := q) ok hI h).bind (f := fun m1 => rn d 56 9 [pR s, pR r, pI a, pI n, pI q, pI a, pU] [] m1) (z2 := us.flatMap (prC q) ++ [q]) (fun m1 g1 => c56_l hd hq us a m1 _ pU rfl hw (ok.fr g1.2.2.1) g1.2.1.1 g1.1 (hR.fr g1.2.2.1 ok.1 (by rfl)) hA hA.1 (by omega) (by omega))
  rw [w8_of (by omega) (by omega)] at hp
  refine (hp.cast (by rfl)).imp (fun Q hQ => q56 (by omega) ok.1 _ ?_)
  rw [gd_of h.1]; exact hQ
end
