/-! the disk: what was staged is written, then the header -/
set_option maxRecDepth 100000
set_option maxHeartbeats 4000000
/-- a header's bytes -/
def hb (s r n j : Int) : Int := if j = 0 then 4 else if j = 3 then w8 (s / 256) else if j = 4 then w8 s else if j = 5 then w8 (r / 256) else if j = 6 then w8 r else if j = 7 then w8 (n / 256) else if j = 8 then w8 n else 0
/-- a header's block -/
def HB (f : Int → Int) (s r n : Int) : Prop := (∀ j : Int, 0 ≤ j → j < 732 → f j = hb s r n j) ∧ SLD f
theorem HB.rd {f : Int → Int} {s r n : Int} (h : HB f s r n) (hs : 0 ≤ s ∧ s < 65536) (hr : 0 ≤ r ∧ r < 65536) (hn : 0 ≤ n ∧ n < 65536) : f 0 = 4 ∧ ftw f 1 = 0 ∧ ftw f 3 = s ∧ ftw f 5 = r ∧ ftw f 7 = n ∧ SLD f := by
  have g : ∀ j : Int, 0 ≤ j → j < 732 → f j = hb s r n j := h.1
  refine ⟨by rw [g 0 (by decide) (by decide)]; rfl, ?_, ftw_of ?_ ?_ hs, ftw_of ?_ ?_ hr, ftw_of ?_ ?_ hn, h.2⟩
  · exact ftw_of (v := 0) (by rw [g 1 (by decide) (by decide)]; rfl) (by rw [g (1 + 1) (by decide) (by decide)]; rfl) (by decide)
  all_goals (rw [g _ (by decide) (by decide)]; rfl)
/-- with some blocks anew -/
def ovr (c c' : RF) (S : List Int) : RF := fun b => if b ∈ S then c' b else c b
section
variable {d : Nat} {K : Int} {c c' : RF} {sg u ns : List Int} {cnt : Nat}
theorem c154_33 {m0 : Mem} {s r n kd : Int} (h : DSt m0 K c c' sg u ns cnt) : ∀ (N i k : Nat) (m : Mem), k - i = N → i ≤ k → k ≤ sg.length → AO (vl m0 K 0) m0 m → BC m K (ovr c c' (sg.take i)) → ∃ m', (∀ Z, rn d 154 33 [pR K, pI s, pI r, pI n, pI kd, pI k, pI k] [] m' = some Z → 0 < d → rn d 154 33 [pR K, pI s, pI r, pI n, pI kd, pI k, pI i] [] m = some Z) ∧ AO (vl m0 K 0) m0 m' ∧ BC m' K (ovr c c' (sg.take k)) := by
  intro N
  induction N with
  | zero =>
    intro i k m hN hi hk ha hb
    have : i = k := by omega
    subst this
    exact ⟨m, fun Z hZ _ => hZ, ha, hb⟩
  | succ N ih =>
    intro i k m hN hi hk ha hb
    have hD0 := h.2.1
    obtain ⟨s1, s2, s3, s4, s5, s6⟩ := h.2.2.2.1
    obtain ⟨hK9, a0, a1, a2, a3, a5, a7, n01, n02, n12⟩ := hD0
    have hK0 : K ≠ vl m0 K 0 := by intro z; rw [z, a0.1] at hK9; omega
    have g : ∀ f, vl m K f = vl m0 K f := fun f => ha.2.2.2 K f hK0
    have t : ∀ b, tg m b = tg m0 b := fun b => (ha.2.2.1 b).1
    have l : ∀ b, ln m b = ln m0 b := fun b => (ha.2.2.1 b).2
    have hg : gi sg i = sg[i] := by unfold gi; rw [Int.toNat_natCast, List.getD_eq_getElem?_getD, List.getElem?_eq_getElem (by omega)]; rfl
    have hbk := s5 sg[i] (List.getElem_mem _)
    have hv3 : vl m (vl m0 K 3) i = sg[i] := by rw [ha.2.2.2 _ _ (fun z => by rw [z, a0.1] at a3; omega), s2 i (by omega) (by omega), hg]
    have ha' : AO (vl m0 K 0) m0 (mcp m (vl m0 K 2) (736 * i) (vl m0 K 0) (736 * sg[i]) 736) := ha.trans AO.cp
    have hb' : BC (mcp m (vl m0 K 2) (736 * i) (vl m0 K 0) (736 * sg[i]) 736) K (ovr c c' (sg.take (i + 1))) := by
      intro b j b0 b1 j0 j1
      have hbm := hb b j b0 b1 j0 j1
      rw [g 0] at hbm
      rw [ha'.2.2.2 K 0 hK0, mcp_vl]
      unfold ovr
      rw [← List.take_append_getElem (by omega : i < sg.length)]
      by_cases z : b = sg[i]
      · rw [if_pos ⟨rfl, by omega, by omega⟩, if_pos (by rw [z]; exact List.mem_append_right _ List.mem_cons_self)]
        have := s3 i j (by omega) (by omega) j0 j1
        rw [hg] at this
        rw [ha.2.2.2 _ _ (fun w => n02 w.symm), z, ← this]
        congr 1; omega
      · rw [if_neg (by rintro ⟨-, y1, y2⟩; omega), hbm]
        unfold ovr
        by_cases y : b ∈ sg.take i
        · rw [if_pos y, if_pos (List.mem_append_left _ y)]
        · rw [if_neg y, if_neg (fun w => by
            rcases List.mem_append.mp w with v | v
            · exact y v
            · exact z (List.mem_singleton.mp v))]
    obtain ⟨m', k1, k2, k3⟩ := ih (i + 1) k _ (by omega) (by omega) hk ha' hb'
    refine ⟨m', fun Z hZ hd => q154_33 hd (ha.tz h.1.1) _ ?_, k2, k3⟩
    have sl := s1.2
    rw [if_pos (by omega), gd_of (by rw [t]; exact hK9), g 2, g 0, g 3, nm_eq, nm_eq, nm_eq, nm_eq, gd_of (by rw [t]; exact a3.1), gd_of ⟨by omega, by rw [l, a3.2]; omega⟩, hv3, nm_eq, (by rw [Int.mul_comm]; exact w32_of (by omega) (by omega) : w32 ((i : Int) * 736) = 736 * i), (by rw [Int.mul_comm]; exact w32_of (by omega) (by omega) : w32 (sg[i] * 736) = 736 * sg[i]), gd_of (by rw [t]; exact a2.1), gd_of (by rw [t]; exact a0.1), gd_of ⟨by decide, by omega, by omega, by rw [l, a2.2]; omega, by rw [l, a0.2]; omega⟩, (w32_of (by omega) (by omega) : w32 ((i : Int) + 1) = ((i + 1 : Nat) : Int))]
    exact k1 Z hZ hd
/-- what a commit leaves on the disk: kd = 0 nothing, 1 half of the blocks, 2 all and a torn header, else all -/
def CMT (c c' : RF) (sg : List Int) (s r n kd : Int) (c2 : RF) : Prop :=
  (kd = 0 → ∀ b, c2 b = c b) ∧ (kd = 1 → ∀ b, c2 b = if b ∈ sg.take (sg.length / 2) then c' b else c b) ∧
  (kd = 2 → (∀ b, b ≠ s % 2 → c2 b = c' b) ∧ (∀ j, 0 ≤ j → j < 368 → c2 (s % 2) j = hb s r n j) ∧ ∀ j, 368 ≤ j → c2 (s % 2) j = c (s % 2) j) ∧
  (kd = 3 → (∀ b, b ≠ s % 2 → c2 b = c' b) ∧ HB (c2 (s % 2)) s r n)
/-- the change is written, as far as it goes -/
theorem c154 {m : Mem} {s r n kd : Int} (hd : 3 ≤ d) (h : DSt m K c c' sg u ns cnt) (hs : 0 ≤ s ∧ s < 65536) (hr : 0 ≤ r ∧ r < 65536) (hn : 0 ≤ n ∧ n < 65536) (hk : 0 ≤ kd ∧ kd ≤ 3) : ∃ m' c2, cl d 154 [pR K, pI s, pI r, pI n, pI kd] m = some (.inl none, m') ∧ NC (fun a => a = vl m K 0 ∨ a = vl m K 1) m m' ∧ BC m' K c2 ∧ CMT c c' sg s r n kd c2 := by
  have hD := h.2.1
  have hsg := h.2.2.2.1
  obtain ⟨s1, s2, s3, s4, s5, s6⟩ := hsg
  obtain ⟨hK9, a0, a1, a2, a3, a5, a7, n01, n02, n12⟩ := h.2.1
  have hb0 : BC m K (ovr c c' (sg.take 0)) := by
    intro b j b0 b1 j0 j1
    rw [h.2.2.1 b j b0 b1 j0 j1]
    unfold ovr; rw [if_neg (by simp)]
  have o0 : ∀ b, ovr c c' (sg.take 0) b = c b := fun b => by unfold ovr; rw [if_neg (by simp)]
  have oA : ∀ b, ovr c c' (sg.take sg.length) b = c' b := fun b => by
    unfold ovr
    rw [List.take_length]
    by_cases z : b ∈ sg
    · rw [if_pos z]
    · rw [if_neg z, s6 b z]
  -- the header comes to be
  have head : 2 ≤ kd → ∃ m' c2, cl d 154 [pR K, pI s, pI r, pI n, pI kd] m = some (.inl none, m') ∧ NC (fun a => a = vl m K 0 ∨ a = vl m K 1) m m' ∧ BC m' K c2 ∧ CMT c c' sg s r n kd c2 := by
    intro hk2
    obtain ⟨m1, k1, b1, c1⟩ := c154_33 (d := d) (s := s) (r := r) (n := n) (kd := kd) h _ 0 sg.length m rfl (by omega) (Nat.le_refl _) AO.refl hb0
    have hK0 : K ≠ vl m K 0 := by intro z; rw [z, a0.1] at hK9; omega
    have hK1 : K ≠ vl m K 1 := by intro z; rw [z, a1.1] at hK9; omega
    have g1 : ∀ f, vl m1 K f = vl m K f := fun f => b1.2.2.2 K f hK0
    have ok1 := b1.ok h.1
    have hD1 : DA m1 K := hD.ao b1 (by rw [a0.1]; decide)
    obtain ⟨m2, e2, x2, v2⟩ := c155 (d := d - 1) (kd := 4) ok1.1 hD1
    rw [g1] at x2 v2
    have ok2 := x2.ok ok1
    have hD2 : DA m2 K := hD1.ao x2 (by rw [(b1.2.2.1 _).1, a1.1]; decide)
    have g2 : ∀ f, vl m2 K f = vl m K f := fun f => by rw [x2.2.2.2 K f hK1, g1]
    have pz : pShr s 16 = 0 := by
      have := pShr_div (x := s) 16 (by decide) ⟨by omega, by omega⟩
      rw [show ((16 : Nat) : Int) = 16 from rfl] at this
      rw [this]; omega
    obtain ⟨m3, e3, x3, v3⟩ := c156 (d := d - 1) (a := 1) (v := 0) ok2.1 hD2 (by omega) (by omega)
    rw [g2] at x3 v3
    have ok3 := x3.ok ok2
    have t1 : ∀ b, tg m1 b = tg m b := fun b => (b1.2.2.1 b).1
    have t2 : ∀ b, tg m2 b = tg m b := fun b => by rw [(x2.2.2.1 b).1, t1]
    have t3 : ∀ b, tg m3 b = tg m b := fun b => by rw [(x3.2.2.1 b).1, t2]
    have hD3 : DA m3 K := hD2.ao x3 (by rw [t2, a1.1]; decide)
    have g3 : ∀ f, vl m3 K f = vl m K f := fun f => by rw [x3.2.2.2 K f hK1, g2]
    obtain ⟨m4, e4, x4, v4⟩ := c156 (d := d - 1) (a := 3) (v := s) ok3.1 hD3 (by omega) (by omega)
    rw [g3] at x4 v4
    have ok4 := x4.ok ok3
    have t4 : ∀ b, tg m4 b = tg m b := fun b => by rw [(x4.2.2.1 b).1, t3]
    have hD4 : DA m4 K := hD3.ao x4 (by rw [t3, a1.1]; decide)
    have g4 : ∀ f, vl m4 K f = vl m K f := fun f => by rw [x4.2.2.2 K f hK1, g3]
    obtain ⟨m5, e5, x5, v5⟩ := c156 (d := d - 1) (a := 5) (v := r) ok4.1 hD4 (by omega) (by omega)
    rw [g4] at x5 v5
    have ok5 := x5.ok ok4
    have t5 : ∀ b, tg m5 b = tg m b := fun b => by rw [(x5.2.2.1 b).1, t4]
    have hD5 : DA m5 K := hD4.ao x5 (by rw [t4, a1.1]; decide)
    have g5 : ∀ f, vl m5 K f = vl m K f := fun f => by rw [x5.2.2.2 K f hK1, g4]
    obtain ⟨m6, e6, x6, v6⟩ := c156 (d := d - 1) (a := 7) (v := n) ok5.1 hD5 (by omega) (by omega)
    rw [g5] at x6 v6
    have ok6 := x6.ok ok5
    have t6 : ∀ b, tg m6 b = tg m b := fun b => by rw [(x6.2.2.1 b).1, t5]
    have g6 : ∀ f, vl m6 K f = vl m K f := fun f => by rw [x6.2.2.2 K f hK1, g5]
    have l6 : ∀ b, ln m6 b = ln m b := fun b => by rw [(x6.2.2.1 b).2, (x5.2.2.1 b).2, (x4.2.2.1 b).2, (x3.2.2.1 b).2, (x2.2.2.1 b).2, (b1.2.2.1 b).2]
    obtain ⟨m7, e7, x7, v7, w7⟩ := c157 (d := d - 1) (A := vl m6 K 1) (by omega) ok6.1 (by rw [g6, t6]; exact a1.1) (by rw [g6, l6, a1.2]; decide)
    rw [g6] at x7 v7 w7
    have ok7 := x7.ok ok6
    have t7 : ∀ b, tg m7 b = tg m b := fun b => by rw [(x7.2.2.1 b).1, t6]
    have l7 : ∀ b, ln m7 b = ln m b := fun b => by rw [(x7.2.2.1 b).2, l6]
    have g7 : ∀ f, vl m7 K f = vl m K f := fun f => by rw [x7.2.2.2 K f hK1, g6]
    have xx : AO (vl m K 1) m1 m7 := x2.trans (x3.trans (x4.trans (x5.trans (x6.trans x7))))
    have hbl : ∀ j : Int, 0 ≤ j → j < 732 → vl m7 (vl m K 1) j = hb s r n j := by
      intro j j0 j1
      rw [v7 j j1, v6, v5, v4, v3, v2 j j0 (by omega)]
      unfold hb
      by_cases q0 : j = 0
      · subst q0; simp; decide
      by_cases q1 : j = 1
      · subst q1; simp; decide
      by_cases q2 : j = 2
      · subst q2; simp; decide
      by_cases q3 : j = 3
      · subst q3; simp
      by_cases q4 : j = 4
      · subst q4; simp
      by_cases q5 : j = 5
      · subst q5; simp
      by_cases q6 : j = 6
      · subst q6; simp
      by_cases q7 : j = 7
      · subst q7; simp
      by_cases q8 : j = 8
      · subst q8; simp
      rw [if_neg q7, if_neg (by omega), if_neg q5, if_neg (by omega), if_neg q3, if_neg (by omega), if_neg q1, if_neg (by omega), if_neg q0, if_neg q0, if_neg q3, if_neg q4, if_neg q5, if_neg q6, if_neg q7, if_neg q8]
    have hB7 : BC m7 K c' := by
      intro b j b0 b1' j0 j1
      rw [g7, xx.2.2.2 _ _ n01]
      have := c1 b j b0 b1' j0 j1
      rw [g1] at this
      rw [this, oA]
    have hslot : 0 ≤ s % 2 ∧ s % 2 < 2 := by omega
    have hns : s % 2 ∉ sg := fun w => by have := (s5 _ w).2.1; omega
    have hcs : c' (s % 2) = c (s % 2) := s6 _ hns
    have wsl : w32 (pAnd s 1 * 736) = 736 * (s % 2) := by rw [pAnd_1, Int.mul_comm]; exact w32_of (by omega) (by omega)
    have kk : NC (fun a => a = vl m K 0 ∨ a = vl m K 1) m m7 := (b1.nc (Or.inl rfl)).trans (xx.nc (Or.inr rfl))
    have st : ∀ Z, (if kd = 2 then (some (.inl none, mcp m7 (vl m K 1) 0 (vl m K 0) (736 * (s % 2)) 368) : RM) else some (.inl none, mcp m7 (vl m K 1) 0 (vl m K 0) (736 * (s % 2)) 736)) = some Z → cl d 154 [pR K, pI s, pI r, pI n, pI kd] m = some Z := fun Z hZ => by
      refine q154 h.1.1 _ ?_
      rw [if_neg (by omega), if_neg (by omega), gd_of hK9, s1.1]
      refine k1 Z (q154_33 (by omega) ok1.1 _ ?_) (by omega)
      rw [if_neg (by omega), if_neg (by omega), if_neg (by omega), gd_of hD1.1, bV_eq e2, pz, bV_eq e3, bV_eq e4, bV_eq e5, bV_eq e6, bV_eq e7, nm_eq, nm_eq, nm_eq, g7, g7, wsl]
      by_cases z : kd = 2
      · rw [if_pos z] at hZ ⊢
        rw [gd_of (by rw [t7]; exact a1.1), gd_of (by rw [t7]; exact a0.1), gd_of ⟨by decide, by decide, by omega, by rw [l7, a1.2]; decide, by rw [l7, a0.2]; omega⟩]
        exact hZ
      · rw [if_neg z] at hZ ⊢
        rw [gd_of (by rw [t7]; exact a1.1), gd_of (by rw [t7]; exact a0.1), gd_of ⟨by decide, by decide, by omega, by rw [l7, a1.2]; decide, by rw [l7, a0.2]; omega⟩]
        exact hZ
    by_cases z : kd = 2
    · rw [if_pos z] at st
      refine ⟨_, fun b j => if b = s % 2 ∧ j < 368 then hb s r n j else c' b j, st _ rfl, kk.trans (AO.cp.nc (Or.inl rfl)), fun b j b0 b1' j0 j1 => ?_, fun w => absurd w (by omega), fun w => absurd w (by omega), fun _ => ⟨fun b hb => ?_, fun j j0 j1 => ?_, fun j j0 => ?_⟩, fun w => absurd w (by omega)⟩
      · have := hB7 b j b0 b1' j0 j1
        rw [g7] at this
        rw [AO.cp.2.2.2 K 0 hK0, g7, mcp_vl]
        dsimp only
        by_cases y : b = s % 2 ∧ j < 368
        · rw [if_pos ⟨rfl, by omega, by omega⟩, if_pos y]
          rw [← hbl j j0 (by omega)]; congr 1; omega
        · rw [if_neg (by rintro ⟨-, y1, y2⟩; omega), if_neg y, this]
      · funext j
        dsimp only
        rw [if_neg (fun y => hb y.1)]
      · dsimp only
        rw [if_pos ⟨rfl, j1⟩]
      · dsimp only
        rw [if_neg (by omega), hcs]
    · rw [if_neg z] at st
      refine ⟨_, fun b j => if b = s % 2 then vl m7 (vl m K 1) j else c' b j, st _ rfl, kk.trans (AO.cp.nc (Or.inl rfl)), fun b j b0 b1' j0 j1 => ?_, fun w => absurd w (by omega), fun w => absurd w (by omega), fun w => absurd w z, fun _ => ⟨fun b hb => ?_, fun j j0 j1 => ?_, ?_⟩⟩
      · have := hB7 b j b0 b1' j0 j1
        rw [g7] at this
        rw [AO.cp.2.2.2 K 0 hK0, g7, mcp_vl]
        dsimp only
        by_cases y : b = s % 2
        · rw [if_pos ⟨rfl, by omega, by omega⟩, if_pos y]
          congr 1; omega
        · rw [if_neg (by rintro ⟨-, y1, y2⟩; omega), if_neg y, this]
      · funext j
        dsimp only
        rw [if_neg hb]
      · dsimp only
        rw [if_pos rfl]; exact hbl j j0 j1
      · dsimp only
        rw [show (fun j => if s % 2 = s % 2 then vl m7 (vl m K 1) j else c' (s % 2) j) = fun j => vl m7 (vl m K 1) j from funext fun j => if_pos rfl]
        exact w7
  by_cases z0 : kd = 0
  · subst z0
    refine ⟨m, c, q154 h.1.1 _ ?_, NC.refl, h.2.2.1, fun _ _ => rfl, fun w => absurd w (by decide), fun w => absurd w (by decide), fun w => absurd w (by decide)⟩
    rw [if_pos rfl]
    refine q154_33 (by omega) h.1.1 _ ?_
    rw [if_neg (by omega), if_pos rfl]
  · by_cases z1 : kd = 1
    · subst z1
      obtain ⟨m1, k1, b1, c1⟩ := c154_33 (d := d) (s := s) (r := r) (n := n) (kd := 1) h _ 0 (sg.length / 2) m rfl (by omega) (by omega) AO.refl hb0
      refine ⟨m1, ovr c c' (sg.take (sg.length / 2)), q154 h.1.1 _ ?_, b1.nc (Or.inl rfl), c1, fun w => absurd w (by decide), fun _ b => rfl, fun w => absurd w (by decide), fun w => absurd w (by decide)⟩
      have hdiv : w32 ((vl m K 4).tdiv 2) = ((sg.length / 2 : Nat) : Int) := by
        rw [s1.1, Int.tdiv_eq_ediv_of_nonneg (by omega), w32_of (by omega) (by omega)]; push_cast; rfl
      rw [if_neg (by decide), if_pos rfl, gd_of hK9, hdiv]
      refine k1 _ (q154_33 (by omega) (b1.tz h.1.1) _ ?_) (by omega)
      rw [if_neg (by omega), if_neg (by decide), if_pos rfl]
    · exact head (by omega)
end
