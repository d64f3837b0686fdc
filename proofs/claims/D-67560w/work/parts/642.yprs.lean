/-! the twin prints: strings and values -/
set_option maxRecDepth 100000
set_option maxHeartbeats 4000000
def cBtn : List Int := [98, 116, 110, 102, 114]
def cBu : List Int := [92, 117]
def cHex : List Int := [48, 49, 50, 51, 52, 53, 54, 55, 56, 57, 97, 98, 99, 100, 101, 102]
/-- a tree that is printed -/
def WPS (m : Mem) (tr n : Int) (us : List Int) (C : Int) : Prop := OK m ∧ TW m tr n us C ∧ (SC m 46 cNul ∧ SC m 48 cTru ∧ SC m 50 cFls) ∧ (SC m 54 cBtn ∧ SC m 56 cBu ∧ SC m 58 cHex)
theorem WPS.wf {M tr n C : Int} {m m' : Mem} {ys us : List Int} (h : WPS m tr n us C) (hk : WK m M ys) (w : WF M m m') : WPS m' tr n us C :=
  ⟨h.1.wf w, (h.2.1.wf hk w).1, ⟨h.2.2.1.1.wf hk w, h.2.2.1.2.1.wf hk w, h.2.2.1.2.2.wf hk w⟩, ⟨h.2.2.2.1.wf hk w, h.2.2.2.2.1.wf hk w, h.2.2.2.2.2.wf hk w⟩⟩
theorem hex_gi {x : Int} (h : 0 ≤ x ∧ x < 16) : gi cHex x = hx x := by
  have : x = 0 ∨ x = 1 ∨ x = 2 ∨ x = 3 ∨ x = 4 ∨ x = 5 ∨ x = 6 ∨ x = 7 ∨ x = 8 ∨ x = 9 ∨ x = 10 ∨ x = 11 ∨ x = 12 ∨ x = 13 ∨ x = 14 ∨ x = 15 := by omega
  rcases this with h | h | h | h | h | h | h | h | h | h | h | h | h | h | h | h <;> subst h <;> rfl
section
variable {d : Nat} {m : Mem} {M tr n C : Int} {ys us : List Int}
theorem c214_s {u a2 a3 a4 a5 a7 : Int} (hd : 4 ≤ d) (j : Nat) (hj : j ≤ 12) (k : Int) (hk : k = (j : Int) - 4) {zs : List Int} (hu : 0 ≤ u ∧ u < 65536) (h : WPS m tr n us C) (hK : WK m M ys) (hn : ∀ (m1 : Mem) (ys1 : List Int), WPS m1 tr n us C → WK m1 M ys1 → PWC (rn d 214 164 [pR M, pR tr, pI a2, pI a3, pI a4, pI a5, pI u, pI a7, pI k] [] m1) M m1 ys1 zs) : PWC (rn d 214 164 [pR M, pR tr, pI a2, pI a3, pI a4, pI a5, pI u, pI a7, pI (j : Int)] [] m) M m ys (hx (u / ((2 ^ j : Nat) : Int) % 16) :: zs) := by
  have hs : pAnd (pShr u (j : Int)) 15 = u / ((2 ^ j : Nat) : Int) % 16 := by rw [pShr_div j (by omega) ⟨by omega, by omega⟩, pAnd_15]
  generalize hw : u / ((2 ^ j : Nat) : Int) % 16 = w at *
  have hw16 : 0 ≤ w ∧ w < 16 := by omega
  have h58 := h.2.2.2.2.2
  have h351 := c351 (d := d - 1) (j := w) (by omega) h.1.1 h58 hw16.1 (by show w < 16; omega)
  rw [hex_gi hw16] at h351
  have hp := c212 (d := d - 1) (b := hx w) h.1.1 hK
  have hx8 : w8 (hx w) = hx w := by unfold hx; split <;> exact w8_of (by omega) (by omega)
  rw [hx8] at hp
  have := hp.bind hK (f := fun m1 => rn d 214 164 [pR M, pR tr, pI a2, pI a3, pI a4, pI a5, pI u, pI a7, pI k] [] m1) (z2 := zs) (fun m1 k1 w1 => hn m1 _ (h.wf hK w1) k1)
  refine (this.cast (by rfl)).imp (fun q hq => q214_164 (by omega) h.1.1 _ ?_)
  have ek : w32 ((j : Int) + (-4)) = k := by rw [w32_of (by omega) (by omega)]; omega
  rw [if_neg (by omega), gd_of h58.1, hs, bI_eq h351, gd_of hK.1, ek]; exact hq
/-- one unit -/
theorem c214_u {q u a2 a3 k : Int} {z6 z7 z8 : PV} {zs : List Int} (hd : 6 ≤ d) (hq : q = 34 ∨ q = 39) (h6 : cat z6 = 1) (h7 : cat z7 = 1) (h8 : cat z8 = 1) (h : WPS m tr n us C) (hK : WK m M ys) (hu : 0 ≤ u ∧ u < 65536) (hk : 0 ≤ k ∧ k < us.length) (hg : gi us k = u) (ha : 0 ≤ a2 ∧ 0 ≤ a3 ∧ a2 + a3 ≤ us.length ∧ k < a2 + a3)
    (hn : ∀ (m1 : Mem) (ys1 : List Int) (y6 y7 y8 : PV), cat y6 = 1 → cat y7 = 1 → cat y8 = 1 → WPS m1 tr n us C → WK m1 M ys1 → PWC (rn d 214 9 [pR M, pR tr, pI a2, pI a3, pI q, pI (k + 1), y6, y7, y8] [] m1) M m1 ys1 zs) : PWC (rn d 214 9 [pR M, pR tr, pI a2, pI a3, pI q, pI k, z6, z7, z8] [] m) M m ys (prC q u ++ zs) := by
  have ok := h.1
  have hw := h.2.1
  have hcu := hw.2.2.2.2.2.2.2.1
  have hv : vl m (vl m tr 11) k = u := by rw [hw.2.2.2.2.2.2.2.2 k hk.1 hk.2, hg]
  have e1 : w32 (k + 1) = k + 1 := w32_of (by omega) (by omega)
  have s1 : ∀ s : Int, (s = if u = 8 then 0 else if u = 9 then 1 else if u = 10 then 2 else if u = 12 then 3 else if u = 13 then 4 else -1) → ∀ Q, rn d 214 82 [pR M, pR tr, pI a2, pI a3, pI q, pI k, pI u, z7, z8] [pI s] m = some Q → rn d 214 9 [pR M, pR tr, pI a2, pI a3, pI q, pI k, z6, z7, z8] [] m = some Q := by
    intro s hs Q hQ
    refine q214_9 (by omega) ok.1 h6 h7 h8 _ ?_
    rw [w32_of (by omega) (by omega), if_pos (by omega), gd_of hw.1, nm_eq, gd_of hw.2.2.2.1, gd_of ⟨by omega, by omega⟩, nm_eq, hv]
    by_cases c1 : u = 8
    · rw [if_pos c1] at hs ⊢; rw [hs] at hQ; exact hQ
    rw [if_neg c1] at hs ⊢
    by_cases c2 : u = 9
    · rw [if_pos c2] at hs ⊢; rw [hs] at hQ; exact hQ
    rw [if_neg c2] at hs ⊢
    by_cases c3 : u = 10
    · rw [if_pos c3] at hs ⊢; rw [hs] at hQ; exact hQ
    rw [if_neg c3] at hs ⊢
    by_cases c4 : u = 12
    · rw [if_pos c4] at hs ⊢; rw [hs] at hQ; exact hQ
    rw [if_neg c4] at hs ⊢
    by_cases c5 : u = 13
    · rw [if_pos c5] at hs ⊢; rw [hs] at hQ; exact hQ
    rw [if_neg c5] at hs ⊢; rw [hs] at hQ; exact hQ
  obtain ⟨s, hs⟩ : ∃ s : Int, s = if u = 8 then 0 else if u = 9 then 1 else if u = 10 then 2 else if u = 12 then 3 else if u = 13 then 4 else -1 := ⟨_, rfl⟩
  have nxt := fun (m1 : Mem) (ys1 : List Int) (z : PV) (hz : cat z = 1) => hn m1 ys1 (pI u) (pI s) z rfl rfl hz
  unfold prC
  by_cases b0 : u = q ∨ u = 92
  · rw [if_pos b0]
    have p1 := c212 (d := d - 1) (b := 92) ok.1 hK
    have p2 := p1.bind hK (f := fun m1 => bV (cl (d - 1) 212 [pR M, pI u] m1) fun m2 => rn d 214 9 [pR M, pR tr, pI a2, pI a3, pI q, pI (k + 1), pI u, pI s, z8] [] m2) (z2 := [w8 u] ++ zs) (fun m1 k1 w1 => (c212 (d := d - 1) (b := u) (ok.wf w1).1 k1).bind k1 (fun m2 k2 w2 => nxt m2 _ z8 h8 ((h.wf hK w1).wf k1 w2) k2))
    rw [show w8 u = u from w8_of (by omega) (by omega)] at p2
    refine (p2.cast (by rfl)).imp (fun Q hQ => s1 s hs Q ?_)
    have r98 : rn d 214 98 [pR M, pR tr, pI a2, pI a3, pI q, pI k, pI u, pI s, z8] [] m = some Q := by
      refine q214_98 (by omega) ok.1 h8 _ ?_
      rw [gd_of hK.1, e1]; exact hQ
    refine q214_82 (by omega) ok.1 h7 h8 _ ?_
    by_cases b1 : u = q
    · rw [if_pos b1]; exact r98
    · rw [if_neg b1, if_pos (by omega)]; exact r98
  rw [if_neg b0]
  have esc : ∀ (j c : Int), s = j → 0 ≤ j → j < 5 → gi cBtn j = c → 0 ≤ c ∧ c < 128 → PWC (rn d 214 9 [pR M, pR tr, pI a2, pI a3, pI q, pI k, z6, z7, z8] [] m) M m ys ([92, c] ++ zs) := by
    intro j c hj j0 j1 hc hcr
    have p1 := c212 (d := d - 1) (b := 92) ok.1 hK
    have h54 := h.2.2.2.1
    have p2 := p1.bind hK (f := fun m1 => gd (tg m1 54 = 31) <| bI (cl (d - 1) 351 [pR 54, pI j] m1) fun v5 m5 => bV (cl (d - 1) 212 [pR M, pI v5] m5) fun m6 => rn d 214 9 [pR M, pR tr, pI a2, pI a3, pI q, pI (k + 1), pI u, pI s, z8] [] m6) (z2 := [w8 c] ++ zs) (fun m1 k1 w1 => by
      have h1 := h.wf hK w1
      have h351 := c351 (d := d - 1) (j := j) (by omega) h1.1.1 h1.2.2.2.1 j0 (by show j < 5; exact j1)
      rw [hc] at h351
      rw [gd_of h1.2.2.2.1.1, bI_eq h351]
      exact (c212 (d := d - 1) (b := c) h1.1.1 k1).bind k1 (fun m2 k2 w2 => nxt m2 _ z8 h8 (h1.wf k1 w2) k2))
    rw [show w8 c = c from w8_of (by omega) (by omega)] at p2
    refine (p2.cast (by rfl)).imp (fun Q hQ => s1 s hs Q ?_)
    refine q214_82 (by omega) ok.1 h7 h8 _ ?_
    rw [if_neg (by omega), if_neg (by omega), if_neg (by omega), gd_of hK.1, e1, hj]
    rw [hj] at hQ; exact hQ
  by_cases c1 : u = 8
  · rw [if_pos c1] at hs ⊢; exact esc 0 98 hs (by decide) (by decide) rfl (by decide)
  rw [if_neg c1] at hs ⊢
  by_cases c2 : u = 9
  · rw [if_pos c2] at hs ⊢; exact esc 1 116 hs (by decide) (by decide) rfl (by decide)
  rw [if_neg c2] at hs ⊢
  by_cases c3 : u = 10
  · rw [if_pos c3] at hs ⊢; exact esc 2 110 hs (by decide) (by decide) rfl (by decide)
  rw [if_neg c3] at hs ⊢
  by_cases c4 : u = 12
  · rw [if_pos c4] at hs ⊢; exact esc 3 102 hs (by decide) (by decide) rfl (by decide)
  rw [if_neg c4] at hs ⊢
  by_cases c5 : u = 13
  · rw [if_pos c5] at hs ⊢; exact esc 4 114 hs (by decide) (by decide) rfl (by decide)
  rw [if_neg c5] at hs ⊢
  by_cases c6 : u < 32 ∨ 126 < u
  · rw [if_pos c6]
    have l0 : ∀ (m1 : Mem) (ys1 : List Int), WPS m1 tr n us C → WK m1 M ys1 → PWC (rn d 214 164 [pR M, pR tr, pI a2, pI a3, pI q, pI k, pI u, pI s, pI (-4)] [] m1) M m1 ys1 zs := fun m1 ys1 g1 g2 => (nxt m1 ys1 (pI (-4)) rfl g1 g2).imp (fun Q hQ => q214_164 (by omega) g1.1.1 _ (by rw [if_pos (by decide), e1]; exact hQ))
    have l1 : ∀ (m1 : Mem) (ys1 : List Int), WPS m1 tr n us C → WK m1 M ys1 → PWC (rn d 214 164 [pR M, pR tr, pI a2, pI a3, pI q, pI k, pI u, pI s, pI 0] [] m1) M m1 ys1 (hx (u % 16) :: zs) := fun m1 ys1 g1 g2 => (c214_s (by omega) 0 (by omega) (-4) (by decide) hu g1 g2 l0).cast (by simp)
    have l2 : ∀ (m1 : Mem) (ys1 : List Int), WPS m1 tr n us C → WK m1 M ys1 → PWC (rn d 214 164 [pR M, pR tr, pI a2, pI a3, pI q, pI k, pI u, pI s, pI 4] [] m1) M m1 ys1 (hx (u / 16 % 16) :: hx (u % 16) :: zs) := fun m1 ys1 g1 g2 => (c214_s (by omega) 4 (by omega) 0 (by decide) hu g1 g2 l1).cast (by simp)
    have l3 : ∀ (m1 : Mem) (ys1 : List Int), WPS m1 tr n us C → WK m1 M ys1 → PWC (rn d 214 164 [pR M, pR tr, pI a2, pI a3, pI q, pI k, pI u, pI s, pI 8] [] m1) M m1 ys1 (hx (u / 256 % 16) :: hx (u / 16 % 16) :: hx (u % 16) :: zs) := fun m1 ys1 g1 g2 => (c214_s (by omega) 8 (by omega) 4 (by decide) hu g1 g2 l2).cast (by simp)
    have l4 : ∀ (m1 : Mem) (ys1 : List Int), WPS m1 tr n us C → WK m1 M ys1 → PWC (rn d 214 164 [pR M, pR tr, pI a2, pI a3, pI q, pI k, pI u, pI s, pI 12] [] m1) M m1 ys1 (hx (u / 4096 % 16) :: hx (u / 256 % 16) :: hx (u / 16 % 16) :: hx (u % 16) :: zs) := fun m1 ys1 g1 g2 => (c214_s (by omega) 12 (by omega) 8 (by decide) hu g1 g2 l3).cast (by simp)
    have p1 := (c211 (d := d - 1) (by omega) ok hK h.2.2.2.2.1).bind hK (f := fun m1 => rn d 214 164 [pR M, pR tr, pI a2, pI a3, pI q, pI k, pI u, pI s, pI 12] [] m1) (z2 := hx (u / 4096 % 16) :: hx (u / 256 % 16) :: hx (u / 16 % 16) :: hx (u % 16) :: zs) (fun m1 k1 w1 => l4 m1 _ (h.wf hK w1) k1)
    refine (p1.cast (by rfl)).imp (fun Q hQ => s1 s (by rw [if_neg c1, if_neg c2, if_neg c3, if_neg c4, if_neg c5]; exact hs) Q ?_)
    refine q214_82 (by omega) ok.1 h7 h8 _ ?_
    rw [if_neg (by omega), if_neg (by omega), if_pos (by omega)]
    by_cases c7 : u < 32
    · rw [if_pos c7, gd_of hK.1]; exact hQ
    · rw [if_neg c7, if_pos (by omega), gd_of hK.1]; exact hQ
  · rw [if_neg c6]
    have p1 := (c212 (d := d - 1) (b := u) ok.1 hK).bind hK (f := fun m1 => rn d 214 9 [pR M, pR tr, pI a2, pI a3, pI q, pI (k + 1), pI u, pI s, z8] [] m1) (z2 := zs) (fun m1 k1 w1 => nxt m1 _ z8 h8 (h.wf hK w1) k1)
    rw [show w8 u = u from w8_of (by omega) (by omega)] at p1
    refine p1.imp (fun Q hQ => s1 s (by rw [if_neg c1, if_neg c2, if_neg c3, if_neg c4, if_neg c5]; exact hs) Q ?_)
    refine q214_82 (by omega) ok.1 h7 h8 _ ?_
    rw [if_neg (by omega), if_neg (by omega), if_pos (by omega), if_neg (by omega), if_neg (by omega), gd_of hK.1, e1]; exact hQ
theorem c214_l {q a2 a3 : Int} (hd : 6 ≤ d) (hq : q = 34 ∨ q = 39) : ∀ (vs : List Int) (k : Int) (m : Mem) (ys : List Int) (z6 z7 z8 : PV), cat z6 = 1 → cat z7 = 1 → cat z8 = 1 → wfU vs → WPS m tr n us C → WK m M ys → At us k vs → 0 ≤ a2 → 0 ≤ a3 → k + vs.length = a2 + a3 → PWC (rn d 214 9 [pR M, pR tr, pI a2, pI a3, pI q, pI k, z6, z7, z8] [] m) M m ys (vs.flatMap (prC q) ++ [q]) := by
  intro vs
  induction vs with
  | nil =>
    intro k m ys z6 z7 z8 h6 h7 h8 hw h hK hA a20 a30 hk
    have hu := h.2.1.2.2.2.2.2.2.2.1
    have h1 := hA.2.1
    simp at hk h1
    have p := (c212 (d := d - 1) (b := q) h.1.1 hK).last
    rw [show w8 q = q from w8_of (by omega) (by omega)] at p
    refine (p.cast (by simp)).imp (fun Q hQ => q214_9 (by omega) h.1.1 h6 h7 h8 _ ?_)
    rw [w32_of (by omega) (by omega), if_neg (by omega), gd_of hK.1]; exact hQ
  | cons u vs ih =>
    intro k m ys z6 z7 z8 h6 h7 h8 hw h hK hA a20 a30 hk
    have h0 := hA.1
    have h1 := hA.2.1
    obtain ⟨g1, g2⟩ := hA.cons
    simp only [List.length_cons] at hk h1
    have := c214_u (d := d) (M := M) (q := q) (u := u) (a2 := a2) (a3 := a3) (k := k) (zs := vs.flatMap (prC q) ++ [q]) hd hq h6 h7 h8 h hK (hw u (by simp)) ⟨h0, by omega⟩ g1 ⟨a20, a30, by omega, by omega⟩ (fun m1 ys1 y6 y7 y8 c6 c7 c8 hh hk1 => ih (k + 1) m1 ys1 y6 y7 y8 c6 c7 c8 (fun v hv => hw v (by simp [hv])) hh hk1 g2 a20 a30 (by omega))
    exact this.cast (by simp)
theorem c214 {q a2 a3 : Int} {vs : List Int} (hd : 6 ≤ d) (hq : q = 34 ∨ q = 39) (hw : wfU vs) (h : WPS m tr n us C) (hK : WK m M ys) (hA : At us a2 vs) (ha : a3 = vs.length) : PWC (cl d 214 [pR M, pR tr, pI a2, pI a3, pI q] m) M m ys (prS q vs) := by
  have p := (c212 (d := d - 1) (b := q) h.1.1 hK).bind hK (f := fun m1 => rn d 214 9 [pR M, pR tr, pI a2, pI a3, pI q, pI a2, pU, pU, pU] [] m1) (z2 := vs.flatMap (prC q) ++ [q]) (fun m1 k1 w1 => c214_l hd hq vs a2 m1 _ pU pU pU rfl rfl rfl hw (h.wf hK w1) k1 hA hA.1 (by omega) (by omega))
  rw [show w8 q = q from w8_of (by omega) (by omega)] at p
  refine (p.cast (by rfl)).imp (fun Q hQ => q214 (by omega) h.1.1 _ ?_)
  rw [gd_of hK.1]; exact hQ
def PWF (M tr n C : Int) (us : List Int) (F : Fo) : Prop := ∀ (d : Nat) (m : Mem) (ys : List Int) (x p h0 : Int) (ob fst : Bool), 9 + hI F ≤ d → WPS m tr n us C → WK m M ys → wfF F → TF (nv m tr) us n p ob F → (idF F).Nodup → (0 ≤ x ∧ x < n) → nv m tr 4 x = h0 → (fst = true → F = .leaf ∨ hdI F = h0) → (fst = false → ∀ i, i ∈ idF F → (i : Int) ≠ h0) → PWC (rn d 210 141 [pR M, pR tr, pI x, pI (if ob then 0 else 1), pI (hdI F)] [] m) M m ys (prF ob fst F ++ [clo ob])
theorem c210_of {nd : ND} {l : Fo} {x : Nat} (hF : PWF M tr n C us l) (hd : 9 + hI l ≤ d) (hw : wfF (foC nd l foN)) (h : WPS m tr n us C) (hK : WK m M ys) (hN : TN (nv m tr) us n x nd l) (nl : (idF l).Nodup) : PWC (cl d 210 [pR M, pR tr, pI x] m) M m ys (prV nd l) := by
  obtain ⟨⟨w1, w2, w3, w4, w5⟩, w6, w7, w8', w9, -⟩ := hw
  have ok := h.1
  have hT := h.2.1
  have hc := hT.2.2.2.2.2.2.1
  obtain ⟨n1, n2, n3, n4, n5, n6⟩ := hN
  have l0 := hT.ld (f := 0) ⟨by decide, by decide⟩ (by decide)
  have l2' := hT.ld (f := 2) ⟨by decide, by decide⟩ (by decide)
  have l3 := hT.ld (f := 3) ⟨by decide, by decide⟩ (by decide)
  have l1 := hT.2.2.1
  have l4 := hT.ld (f := 4) ⟨by decide, by decide⟩ (by decide)
  unfold prV prD
  by_cases k0 : nd.1 = 0
  · rw [if_pos k0]
    rw [k0] at n2
    have e2 : vl m (vl m tr 0) x = 0 := n2
    refine ((c211 (d := d - 1) (by omega) ok hK h.2.2.1.1).last).imp (fun Q hQ => q210 (by omega) ok.1 _ ?_)
    rw [gd_of hT.1, nm_eq, gd_of l0.1, gd_of ⟨by omega, by omega⟩, nm_eq, e2, if_pos rfl, gd_of hK.1]; exact hQ
  rw [if_neg k0]
  by_cases k1 : nd.1 = 1
  · rw [if_pos k1]
    rw [k1] at n2
    have e2 : vl m (vl m tr 0) x = 2 := n2
    refine ((c211 (d := d - 1) (by omega) ok hK h.2.2.1.2.2).last).imp (fun Q hQ => q210 (by omega) ok.1 _ ?_)
    rw [gd_of hT.1, nm_eq, gd_of l0.1, gd_of ⟨by omega, by omega⟩, nm_eq, e2, if_neg (by decide), if_neg (by decide), if_pos rfl, gd_of hK.1]; exact hQ
  rw [if_neg k1]
  by_cases k2 : nd.1 = 2
  · rw [if_pos k2]
    rw [k2] at n2
    have e2 : vl m (vl m tr 0) x = 1 := n2
    refine ((c211 (d := d - 1) (by omega) ok hK h.2.2.1.2.1).last).imp (fun Q hQ => q210 (by omega) ok.1 _ ?_)
    rw [gd_of hT.1, nm_eq, gd_of l0.1, gd_of ⟨by omega, by omega⟩, nm_eq, e2, if_neg (by decide), if_pos rfl, gd_of hK.1]; exact hQ
  rw [if_neg k2]
  rw [kT_6 (by omega)] at n2
  have e2 : vl m (vl m tr 0) x = (nd.1 : Int) := n2
  by_cases k3 : nd.1 = 3
  · rw [if_pos k3]
    have e3 : vl m (vl m tr 1) x = nd.2.1 := n3 k3
    refine ((c213 (d := d - 1) (v := nd.2.1) (by omega) ok hK (by omega) (by omega)).last).imp (fun Q hQ => q210 (by omega) ok.1 _ ?_)
    rw [gd_of hT.1, nm_eq, gd_of l0.1, gd_of ⟨by omega, by omega⟩, nm_eq, e2, if_neg (by omega), if_neg (by omega), if_neg (by omega), if_pos (by omega), nm_eq, gd_of l1.1, gd_of ⟨by omega, by omega⟩, gd_of hK.1, e3]; exact hQ
  rw [if_neg k3]
  by_cases k4 : nd.1 = 4
  · rw [if_pos k4]
    have e3 : vl m (vl m tr 3) x = nd.2.2.1.length := n4.1
    refine ((c214 (d := d - 1) (q := 34) (by omega) (Or.inl rfl) w4 h hK n4.2 e3).last).imp (fun Q hQ => q210 (by omega) ok.1 _ ?_)
    rw [gd_of hT.1, nm_eq, gd_of l0.1, gd_of ⟨by omega, by omega⟩, nm_eq, e2, if_neg (by omega), if_neg (by omega), if_neg (by omega), if_neg (by omega), if_pos (by omega), nm_eq, gd_of l2'.1, gd_of ⟨by omega, by omega⟩, nm_eq, gd_of l3.1, gd_of ⟨by omega, by omega⟩, gd_of hK.1]; exact hQ
  rw [if_neg k4]
  have opn : ∀ (ob : Bool) (ch : Int), (nd.1 == 6) = ob → 0 ≤ ch → ch < 128 → PWC (bV (cl (d - 1) 212 [pR M, pI ch] m) fun m1 => gd (tg m1 tr = 13) <| nm (vl m1 tr 4) fun v3 => gd (tg m1 v3 = 284101 ∨ tg m1 v3 = 287101) <| gd ((0 : Int) ≤ x ∧ (x : Int) < ln m1 v3) <| rn d 210 141 [pR M, pR tr, pI x, pI (if ob then 0 else 1), pI (vl m1 v3 x)] [] m1) M m ys (ch :: (prF ob true l ++ [clo ob])) := by
    intro ob ch hob c0 c1
    have p := (c212 (d := d - 1) (b := ch) ok.1 hK).bind hK (f := fun m1 => gd (tg m1 tr = 13) <| nm (vl m1 tr 4) fun v3 => gd (tg m1 v3 = 284101 ∨ tg m1 v3 = 287101) <| gd ((0 : Int) ≤ x ∧ (x : Int) < ln m1 v3) <| rn d 210 141 [pR M, pR tr, pI x, pI (if ob then 0 else 1), pI (vl m1 v3 x)] [] m1) (z2 := prF ob true l ++ [clo ob]) (fun m1 k1 w1 => by
      have h1 := h.wf hK w1
      have hnv := (hT.wf hK w1).2
      have l41 := h1.2.1.ld (f := 4) ⟨by decide, by decide⟩ (by decide)
      have e4 : vl m1 (vl m1 tr 4) x = hdI l := by
        have := hnv 4 x (by decide) (by decide)
        rw [n5] at this; exact this
      rw [gd_of h1.2.1.1, nm_eq, gd_of l41.1, gd_of ⟨by omega, by omega⟩, e4]
      refine hF d m1 _ x x (hdI l) ob true (by omega) h1 k1 w9 ?_ nl ⟨by omega, n1⟩ ?_ (fun _ => Or.inr rfl) (fun q => (by cases q))
      · rw [hob] at n6
        exact n6.keep0 (fun f j f0 f1 _ => hnv f j f0 f1)
      · rw [hnv 4 x (by decide) (by decide)]; exact n5)
    rw [show w8 ch = ch from w8_of (by omega) (by omega)] at p
    exact p.cast rfl
  have s1 : ∀ Q, rn d 210 117 [pR M, pR tr, pI x, pU, pU] [pI (if nd.1 = 5 then 1 else 0)] m = some Q → cl d 210 [pR M, pR tr, pI x] m = some Q := by
    intro Q hQ
    refine q210 (by omega) ok.1 _ ?_
    rw [gd_of hT.1, nm_eq, gd_of l0.1, gd_of ⟨by omega, by omega⟩, nm_eq, e2, if_neg (by omega), if_neg (by omega), if_neg (by omega), if_neg (by omega), if_neg (by omega)]
    by_cases k5 : nd.1 = 5
    · rw [if_pos k5] at hQ
      rw [if_pos (by omega)]; exact hQ
    · rw [if_neg k5] at hQ
      rw [if_neg (by omega)]; exact hQ
  by_cases k5 : nd.1 = 5
  · rw [if_pos k5] at s1 ⊢
    have hob : (nd.1 == 6) = false := by rw [k5]; rfl
    rw [hob]
    refine (opn false 91 hob (by decide) (by decide)).imp (fun Q hQ => s1 Q (q210_117 (by omega) ok.1 _ ?_))
    rw [if_neg (by decide), gd_of hK.1]; exact hQ
  · rw [if_neg k5] at s1 ⊢
    have hob : (nd.1 == 6) = true := by rw [show nd.1 = 6 by omega]; rfl
    rw [hob]
    refine (opn true 123 hob (by decide) (by decide)).imp (fun Q hQ => s1 Q (q210_117 (by omega) ok.1 _ ?_))
    rw [if_pos rfl, gd_of hK.1]; exact hQ
theorem PWF_all : ∀ F : Fo, PWF M tr n C us F := by
  intro F
  induction F with
  | leaf =>
    intro d m ys x p h0 ob fst hd h hK hw hF hnd hx h4 hf1 hf2
    have hhd : hdI .leaf = -1 := rfl
    have e : prF ob fst .leaf ++ [clo ob] = [clo ob] := by rw [show prF ob fst .leaf = [] from prF_leaf ob fst]; rfl
    rw [e, hhd]
    have p := (c212 (d := d - 1) (b := clo ob) h.1.1 hK).last
    rw [show w8 (clo ob) = clo ob by cases ob <;> rfl] at p
    refine p.imp (fun Q hQ => q210_141 (by omega) h.1.1 _ ?_)
    rw [if_pos (by decide)]
    cases ob with
    | false => rw [if_neg (show ¬ (if false = true then (0 : Int) else 1) = 0 by decide), gd_of hK.1]; exact hQ
    | true => rw [if_pos (show (if true = true then (0 : Int) else 1) = 0 by decide), gd_of hK.1]; exact hQ
  | inner i nd u l r ihl ihr =>
    intro d m ys x p h0 ob fst hd h hK hw hF hnd hx h4 hf1 hf2
    have ok := h.1
    have hT := h.2.1
    have hc := hT.2.2.2.2.2.2.1
    obtain ⟨w1, w2, w3, w4, w5, w6⟩ := hw
    have hF' := hF
    obtain ⟨f1, f2, f3, f4, f5, f6, f7, f8, f9, f10⟩ := hF
    have hh : max (1 + hI l) (hI r) + 9 ≤ d := by have : hI (.inner i nd u l r) = max (1 + hI l) (hI r) := rfl; omega
    simp only [idF, List.nodup_cons, List.nodup_append, List.mem_append, not_or] at hnd
    obtain ⟨⟨nil_, nir⟩, ndl, ndr, -⟩ := hnd
    have l4 := hT.ld (f := 4) ⟨by decide, by decide⟩ (by decide)
    have hhd : hdI (.inner i nd u l r) = (i : Int) := rfl
    rw [hhd]
    -- the value and what comes behind it
    have pv : ∀ (m1 : Mem) (ys1 : List Int), WF M m m1 → WK m1 M ys1 → PWC (rn d 210 194 [pR M, pR tr, pI x, pI (if ob then 0 else 1), pI i] [] m1) M m1 ys1 (prV nd l ++ (prF ob false r ++ [clo ob])) := by
      intro m1 ys1 wf1 k1
      have h1 := h.wf hK wf1
      have hnv := (hT.wf hK wf1).2
      have hN1 : TN (nv m1 tr) us n i nd l := by
        have : TN (nv m tr) us n i nd l := ⟨f1, f2, f3, f4, f7, f9⟩
        exact this.keep0 (fun f j f0 f1 _ => hnv f j f0 f1) (fun f f0 f1 => hnv f i f0 (by omega))
      have pc := c210_of (d := d - 1) (M := M) (x := i) ihl (by omega) ⟨w1, w2, w3, w4, w5, trivial⟩ h1 k1 hN1 ndl
      have pb := pc.bind k1 (f := fun m1 => gd (tg m1 tr = 13) <| nm (vl m1 tr 5) fun v2 => gd (tg m1 v2 = 284101 ∨ tg m1 v2 = 287101) <| gd ((0 : Int) ≤ i ∧ (i : Int) < ln m1 v2) <| rn d 210 141 [pR M, pR tr, pI x, pI (if ob then 0 else 1), pI (vl m1 v2 i)] [] m1) (z2 := prF ob false r ++ [clo ob]) (fun m2 k2 wf2 => by
        have h2 := h1.wf k1 wf2
        have hnv2 := (h1.2.1.wf k1 wf2).2
        have l5 := h2.2.1.ld (f := 5) ⟨by decide, by decide⟩ (by decide)
        have e5 : vl m2 (vl m2 tr 5) i = hdI r := by
          have := hnv2 5 i (by decide) (by decide)
          rw [hnv 5 i (by decide) (by decide), f8] at this; exact this
        rw [gd_of h2.2.1.1, nm_eq, gd_of l5.1, gd_of ⟨by omega, by omega⟩, e5]
        refine ihr d m2 _ x p h0 ob false (by omega) h2 k2 w6 ?_ ndr hx ?_ (fun q => (by cases q)) (fun _ => ?_)
        · exact f10.keep0 (fun f j f0 f1 _ => by rw [hnv2 f j f0 f1, hnv f j f0 f1])
        · rw [hnv2 4 x (by decide) (by decide), hnv 4 x (by decide) (by decide)]; exact h4
        · intro j hj q
          cases hfs : fst with
          | true =>
            rcases hf1 hfs with e | e
            · cases e
            · rw [hhd] at e
              have : j = i := by omega
              exact nir (this ▸ hj)
          | false => exact hf2 hfs j (by simp only [idF, List.mem_cons, List.mem_append]; exact Or.inr (Or.inr hj)) q)
      refine pb.imp (fun Q hQ => q210_194 (by omega) h1.1.1 _ ?_)
      rw [gd_of k1.1]; exact hQ
    have pn : ∀ (m1 : Mem) (ys1 : List Int), WF M m m1 → WK m1 M ys1 → PWC (rn d 210 163 [pR M, pR tr, pI x, pI (if ob then 0 else 1), pI i] [] m1) M m1 ys1 ((if ob then prS 34 nd.2.2.2 ++ [58] else []) ++ (prV nd l ++ (prF ob false r ++ [clo ob]))) := by
      intro m1 ys1 wf1 k1
      have h1 := h.wf hK wf1
      have hnv := (hT.wf hK wf1).2
      cases ob with
      | false =>
        rw [if_neg (by decide), if_neg (by decide), List.nil_append]
        have := pv m1 ys1 wf1 k1
        rw [if_neg (by decide)] at this
        refine this.imp (fun Q hQ => q210_163 (by omega) h1.1.1 _ ?_)
        rw [if_neg (by decide)]; exact hQ
      | true =>
        rw [if_pos rfl, if_pos rfl]
        obtain ⟨g7, g6⟩ := f5 rfl
        have l6 := h1.2.1.ld (f := 6) ⟨by decide, by decide⟩ (by decide)
        have l7 := h1.2.1.ld (f := 7) ⟨by decide, by decide⟩ (by decide)
        have e7 : vl m1 (vl m1 tr 7) i = nd.2.2.2.length := by
          have := hnv 7 i (by decide) (by decide)
          rw [g7] at this; exact this
        have e6 : At us (vl m1 (vl m1 tr 6) i) nd.2.2.2 := by
          have := hnv 6 i (by decide) (by decide)
          rw [← this] at g6; exact g6
        have p1 := (c214 (d := d - 1) (q := 34) (by omega) (Or.inl rfl) w1.2.2.2.2 h1 k1 e6 e7).bind k1 (f := fun m1 => bV (cl (d - 1) 212 [pR M, pI 58] m1) fun m2 => rn d 210 194 [pR M, pR tr, pI x, pI 0, pI i] [] m2) (z2 := [w8 58] ++ (prV nd l ++ (prF true false r ++ [clo true]))) (fun m2 k2 wf2 => (c212 (d := d - 1) (b := 58) (h1.wf k1 wf2).1.1 k2).bind k2 (fun m3 k3 wf3 => by
          have := pv m3 _ ((wf1.trans wf2 hK).trans wf3 hK) k3
          rw [if_pos rfl] at this; exact this))
        refine (p1.cast (by rw [show w8 58 = 58 from rfl]; simp)).imp (fun Q hQ => q210_163 (by omega) h1.1.1 _ ?_)
        rw [if_pos rfl, gd_of h1.2.1.1, nm_eq, gd_of l6.1, gd_of ⟨by omega, by omega⟩, nm_eq, gd_of l7.1, gd_of ⟨by omega, by omega⟩, gd_of k1.1]; exact hQ
    have e0 : vl m (vl m tr 4) x = h0 := h4
    rw [prF_inner]
    cases hfs : fst with
    | true =>
      rw [if_pos rfl, List.nil_append]
      have ei : (i : Int) = h0 := by
        rcases hf1 hfs with e | e
        · cases e
        · rw [hhd] at e; exact e
      refine ((pn m ys WF.refl hK).cast (by simp)).imp (fun Q hQ => q210_141 (by omega) ok.1 _ ?_)
      rw [if_neg (by omega), gd_of hT.1, nm_eq, gd_of l4.1, gd_of ⟨by omega, by omega⟩, e0, if_pos ei]; exact hQ
    | false =>
      rw [if_neg (show ¬ (false = true) by decide)]
      have ei : (i : Int) ≠ h0 := hf2 hfs i (by simp [idF])
      have p1 := (c212 (d := d - 1) (b := 44) ok.1 hK).bind hK (f := fun m3 => rn d 210 163 [pR M, pR tr, pI x, pI (if ob then 0 else 1), pI i] [] m3) (z2 := (if ob then prS 34 nd.2.2.2 ++ [58] else []) ++ (prV nd l ++ (prF ob false r ++ [clo ob]))) (fun m1 k1 w1 => pn m1 _ w1 k1)
      refine (p1.cast (by rw [show w8 44 = 44 from rfl]; simp)).imp (fun Q hQ => q210_141 (by omega) ok.1 _ ?_)
      rw [if_neg (by omega), gd_of hT.1, nm_eq, gd_of l4.1, gd_of ⟨by omega, by omega⟩, e0, if_neg ei, gd_of hK.1]; exact hQ
theorem c210 {nd : ND} {l : Fo} {x : Nat} (hd : 9 + hI l ≤ d) (hw : wfF (foC nd l foN)) (h : WPS m tr n us C) (hK : WK m M ys) (hN : TN (nv m tr) us n x nd l) (nl : (idF l).Nodup) : PWC (cl d 210 [pR M, pR tr, pI x] m) M m ys (prV nd l) := c210_of (PWF_all l) hd hw h hK hN nl
theorem c209 (hz : TZ m) (hM : tg m M = 11) (h2 : tg m (vl m M 15) = 186103) (h3 : ln m (vl m M 15) = 32776) : cl d 209 [pR M] m = some (.inl none, mst (mst m M 16 0) M 17 0) ∧ WK (mst (mst m M 16 0) M 17 0) M [] ∧ WF M m (mst (mst m M 16 0) M 17 0) := by
  have hne : vl m M 15 ≠ M := by intro q; rw [q] at h2; omega
  have ev : vl (mst (mst m M 16 0) M 17 0) M 15 = vl m M 15 := by rw [vl_mst, if_neg (by omega), vl_mst, if_neg (by omega)]
  refine ⟨q209 hz _ (by rw [gd_of hM]), ⟨hM, by rw [ev]; exact h2, by rw [ev]; exact h3, ?_, ?_, fun i i0 i1 => absurd i1 (by simp; omega)⟩, rfl, rfl, fun a => ⟨rfl, rfl⟩, fun a k ha hb => ?_⟩
  · rw [vl_mst, if_neg (by omega), vl_mst, if_pos ⟨rfl, rfl⟩]; rfl
  · rw [vl_mst, if_pos ⟨rfl, rfl⟩]; rfl
  · rw [vl_mst, if_neg (by omega), vl_mst, if_neg (by omega)]
end
