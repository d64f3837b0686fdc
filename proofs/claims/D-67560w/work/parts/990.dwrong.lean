/-! the disk: a change begins; what is wrong -/
set_option maxRecDepth 100000
set_option maxHeartbeats 4000000
section
variable {K : Int} {c : RF}
theorem c153_2 {d : Nat} : ∀ (N : Nat) (m : Mem) (i : Int), TZ m → DA m K → (1600 - i).toNat = N → 2 ≤ i → i ≤ 1600 → (∀ j, 2 ≤ j → j < i → vl m (vl m K 5) j = 0) → ∃ m', rn d 153 2 [pR K, pI i] [] m = some (.inl none, m') ∧ (nx m' = nx m ∧ sl m' = sl m ∧ ∀ a, tg m' a = tg m a ∧ ln m' a = ln m a) ∧ (∀ a j, a ≠ K → a ≠ vl m K 5 → vl m' a j = vl m a j) ∧ (∀ f, f ≠ 4 → f ≠ 8 → vl m' K f = vl m K f) ∧ (vl m' K 4 = 0 ∧ vl m' K 8 = 0) ∧ UM m' K [0, 1] := by
  intro N
  induction N with
  | zero =>
    intro m i hz hD hN h0 h1 hv
    obtain ⟨t5, l5⟩ := hD.2.2.2.2.2.1
    have hK : K ≠ vl m K 5 := by intro z; have := hD.1; rw [z, t5] at this; omega
    refine ⟨mst (mst (mst (mst m (vl m K 5) 0 1) (vl m K 5) 1 1) K 4 0) K 8 0, q153_2 hz _ ?_, ⟨rfl, rfl, fun _ => ⟨rfl, rfl⟩⟩, fun a j h1 h2 => by rw [vl_mst, if_neg (fun z => h1 z.1), vl_mst, if_neg (fun z => h1 z.1), vl_mst, if_neg (fun z => h2 z.1), vl_mst, if_neg (fun z => h2 z.1)], fun f h4 h8 => by rw [vl_mst, if_neg (fun z => h8 z.2), vl_mst, if_neg (fun z => h4 z.2), vl_mst, if_neg (fun z => hK z.1), vl_mst, if_neg (fun z => hK z.1)], ⟨by rw [vl_mst, if_neg (by omega), vl_mst, if_pos ⟨rfl, rfl⟩], by rw [vl_mst, if_pos ⟨rfl, rfl⟩]⟩, fun b b0 b1 => ?_⟩
    · rw [if_neg (by omega), gd_of hD.1, nm_eq, gd_of t5, gd_of (by rw [l5]; omega), gd_of (by rw [l5]; omega)]
    · have e5 : vl (mst (mst (mst (mst m (vl m K 5) 0 1) (vl m K 5) 1 1) K 4 0) K 8 0) K 5 = vl m K 5 := by
        rw [vl_mst, if_neg (by omega), vl_mst, if_neg (by omega), vl_mst, if_neg (fun z => hK z.1), vl_mst, if_neg (fun z => hK z.1)]
      rw [e5, vl_mst, if_neg (fun z => hK z.1.symm), vl_mst, if_neg (fun z => hK z.1.symm), vl_mst]
      by_cases z1 : b = 1
      · rw [if_pos ⟨rfl, z1⟩, if_pos (by rw [z1]; simp)]
      · rw [if_neg (fun y => z1 y.2), vl_mst]
        by_cases z0 : b = 0
        · rw [if_pos ⟨rfl, z0⟩, if_pos (by rw [z0]; simp)]
        · rw [if_neg (fun y => z0 y.2), hv b (by omega) (by omega), if_neg (by simp; omega)]
  | succ N ih =>
    intro m i hz hD hN h0 h1 hv
    obtain ⟨t5, l5⟩ := hD.2.2.2.2.2.1
    have hK : K ≠ vl m K 5 := by intro z; have := hD.1; rw [z, t5] at this; omega
    have ka : AO (vl m K 5) m (mst m (vl m K 5) i 0) := AO.set
    obtain ⟨j1, j2, j3⟩ := AO.da5 hD ka
    obtain ⟨m', g1, g2, g3, g4, g5, g6⟩ := ih (mst m (vl m K 5) i 0) (i + 1) hz j1 (by omega) (by omega) (by omega) (fun j j0 j1 => by
      rw [j2, vl_mst]
      by_cases z : j = i
      · rw [if_pos ⟨rfl, z⟩]
      · rw [if_neg (fun y => z y.2)]; exact hv j j0 (by omega))
    rw [j2] at g3
    refine ⟨m', q153_2 hz _ ?_, g2, fun a j h1 h2 => by rw [g3 a j h1 h2, ka.2.2.2 a j h2], fun f h4 h8 => by rw [g4 f h4 h8, j2], g5, g6⟩
    rw [if_pos (by omega), gd_of hD.1, nm_eq, gd_of t5, gd_of (by rw [l5]; omega), (w32_of (by omega) (by omega) : w32 (i + 1) = i + 1)]
    exact g1
/-- a change begins -/
theorem c153 {d : Nat} {m : Mem} (hz : TZ m) (hD : DA m K) : ∃ m', cl d 153 [pR K] m = some (.inl none, m') ∧ (nx m' = nx m ∧ sl m' = sl m ∧ ∀ a, tg m' a = tg m a ∧ ln m' a = ln m a) ∧ (∀ a j, a ≠ K → a ≠ vl m K 5 → vl m' a j = vl m a j) ∧ (∀ f, f ≠ 4 → f ≠ 8 → vl m' K f = vl m K f) ∧ (vl m' K 4 = 0 ∧ vl m' K 8 = 0) ∧ UM m' K [0, 1] := by
  obtain ⟨m', g1, g2⟩ := c153_2 (d := d) _ m 2 hz hD rfl (by omega) (by omega) (fun j j0 j1 => absurd j1 (by omega))
  exact ⟨m', q153 hz _ g1, g2⟩
/-- trees as VTr, but for how few children there may be -/
def WT (c : RF) : Nat → Int → DL → List Int → Prop
  | 0, b, L, bs => bs = [b] ∧ ∃ id xs, L = [(id, xs)] ∧ bDoc (c b) xs
  | h + 1, b, L, bs => ∃ ch : CH, bNode (c b) (h == 0) (ents ch) ∧ L = flL ch ∧ bs = b :: flB ch ∧ (1 ≤ ch.length ∧ ch.length ≤ 8) ∧ ∀ x ∈ ch, WT c h x.1 x.2.1 x.2.2
theorem VTr.wt : ∀ {h : Nat} {b : Int} {L : DL} {bs : List Int}, VTr c h b L bs → WT c h b L bs := by
  intro h
  induction h with
  | zero => intro b L bs h; exact h
  | succ h ih => rintro b L bs ⟨ch, a1, a2, a3, a4, a5⟩; exact ⟨ch, a1, a2, a3, ⟨by omega, a4.2⟩, fun x hx => ih (a5 x hx)⟩
theorem WT.ne : ∀ {h : Nat} {b : Int} {L : DL} {bs : List Int}, WT c h b L bs → L ≠ [] := by
  intro h
  induction h with
  | zero => rintro b L bs ⟨-, id, xs, rfl, -⟩; simp
  | succ h ih =>
    rintro b L bs ⟨ch, -, rfl, -, hl, hv⟩
    cases ch with
    | nil => simp at hl
    | cons x ch =>
      rw [flL_cons]
      intro hh
      exact ih (hv x List.mem_cons_self) (List.append_eq_nil_iff.mp hh).1
theorem WT.hd {h : Nat} {b : Int} {L : DL} {bs : List Int} (hv : WT c h b L bs) : b ∈ bs ∧ SLD (c b) := by
  cases h with
  | zero => obtain ⟨rfl, id, xs, -, d1, d2, d3, d4, d5⟩ := hv; exact ⟨List.mem_cons_self, d4⟩
  | succ h => obtain ⟨ch, n, -, rfl, -⟩ := hv; exact ⟨List.mem_cons_self, n.2.2.2⟩
/-- nothing is wrong in a tree -/
theorem c183 : ∀ (h d : Nat) (m : Mem) (b lo hi : Int) (L : DL) (bs u : List Int), 2 * h + 6 ≤ d → TZ m → DA m K → BC m K c → WT c h b L bs → srt L → (∀ z ∈ L, lo ≤ z.1 ∧ z.1 < hi) → bs.Nodup → (∀ x ∈ bs, 2 ≤ x ∧ x < 1600) → UM m K u → (∀ x ∈ bs, x ∉ u) → ∃ m' u', cl d 183 [pR K, pI b, pI lo, pI hi] m = some (.inl (some (pI 0)), m') ∧ AO (vl m K 5) m m' ∧ UM m' K u' ∧ ∀ x, x ∈ u' ↔ x ∈ u ∨ x ∈ bs := by
  intro h
  induction h with
  | zero =>
    rintro d m b lo hi L bs u hd hz hD hc ⟨rfl, id, xs, rfl, hdoc⟩ hs hL hnd hr hU hdis
    have hb := hr b List.mem_cons_self
    obtain ⟨t5, l5⟩ := hD.2.2.2.2.2.1
    obtain ⟨f1, f2, f3⟩ := hD.b0 hc (b := b) ⟨by omega, hb.2⟩
    have hu := hU b (by omega) hb.2
    rw [if_neg (hdis b List.mem_cons_self)] at hu
    have e160 := (c160 (d := d - 1) (b := b) (by omega) hz hD hc ⟨by omega, hb.2⟩).1 hdoc.2.2.2.1
    refine ⟨mst m (vl m K 5) b 1, b :: u, q183 (by omega) hz _ ?_, AO.set, hU.set hD, fun x => ?_⟩
    · rw [if_neg (by omega), gd_of hD.1, nm_eq, gd_of t5, gd_of (by rw [l5]; omega), if_pos hu, bI_eq e160, if_neg (by decide), nm_eq, gd_of t5, gd_of (by rw [l5]; omega), nm_eq, nm_eq, f1, gd_of hD.2.1.1, gd_of f2, f3, if_pos hdoc.1]
    · rw [List.mem_cons, List.mem_singleton]; exact Or.comm
  | succ h ih =>
    rintro d m b lo hi L bs u hd hz hD hc ⟨ch, ⟨n1, n2, n3, n4⟩, rfl, rfl, hl, hv⟩ hs hL hnd hr hU hdis
    rw [ents_len] at n2
    have hb := hr b List.mem_cons_self
    obtain ⟨t5, l5⟩ := hD.2.2.2.2.2.1
    obtain ⟨f1, f2, f3⟩ := hD.b0 hc (b := b) ⟨by omega, hb.2⟩
    have hu := hU b (by omega) hb.2
    rw [if_neg (hdis b List.mem_cons_self)] at hu
    have e160 := (c160 (d := d - 1) (b := b) (by omega) hz hD hc ⟨by omega, hb.2⟩).1 n4
    rw [List.nodup_cons] at hnd
    have ka : AO (vl m K 5) m (mst m (vl m K 5) b 1) := AO.set
    obtain ⟨j1, j2, j3⟩ := AO.da5 hD ka
    -- over the children
    have loop : ∀ (B A : CH) (m1 : Mem) (u1 : List Int) (z7 : PV), cat z7 = 1 → ch = A ++ B → TZ m1 → DA m1 K → BC m1 K c → vl m1 K 5 = vl m K 5 → UM m1 K u1 → (∀ x, x ∈ u1 ↔ (x = b ∨ x ∈ u) ∨ x ∈ flB A) → ∃ m' u', rn d 183 76 [pR K, pI b, pI lo, pI hi, pI ch.length, pI 0, pI A.length, z7] [] m1 = some (.inl (some (pI 0)), m') ∧ AO (vl m K 5) m1 m' ∧ UM m' K u' ∧ ∀ x, x ∈ u' ↔ (x = b ∨ x ∈ u) ∨ x ∈ flB ch := by
      intro B
      induction B with
      | nil =>
        intro A m1 u1 z7 c7 hp hz1 hD1 hc1 h5 hU1 hm1
        rw [List.append_nil] at hp
        refine ⟨m1, u1, q183_76 (by omega) hz1 c7 _ ?_, AO.refl, hU1, by rw [hp]; exact hm1⟩
        rw [if_neg (by rw [hp]; omega)]
      | cons x B ih2 =>
        intro A m1 u1 z7 c7 hp hz1 hD1 hc1 h5 hU1 hm1
        have hlen : ch.length = A.length + B.length + 1 := by rw [hp]; simp; omega
        have hxm : x ∈ ch := by rw [hp]; simp
        have hvx := hv x hxm
        have hxne := hvx.ne
        have hk := n3 A.length (hdId x.2.1, x.1) (by rw [hp]; exact ents_at)
        have e166 := c166 (d := d - 1) (b := b) (k := (A.length : Int)) (by omega) hz1 hD1 hc1 ⟨by omega, hb.2⟩ (by omega)
        have e167 := c167 (d := d - 1) (b := b) (k := (A.length : Int)) (by omega) hz1 hD1 hc1 ⟨by omega, hb.2⟩ (by omega)
        rw [hk.1] at e166
        rw [hk.2] at e167
        have e166 : cl (d - 1) 166 [pR K, pI b, pI A.length] m1 = some (.inl (some (pI (hdId x.2.1))), m1) := e166
        have e167 : cl (d - 1) 167 [pR K, pI b, pI A.length] m1 = some (.inl (some (pI x.1)), m1) := e167
        have hsx : srt x.2.1 := by rw [hp] at hs; exact spl_mid hs
        have hmem : ∀ z ∈ x.2.1, z ∈ flL ch := fun z hz => List.mem_flatMap.mpr ⟨x, hxm, hz⟩
        obtain ⟨xs0, hh⟩ := hdId_mem hxne
        have hlo := (hL _ (hmem _ hh)).1
        -- the upper bound
        obtain ⟨to, hto1, hto2⟩ : ∃ to : Int, (∀ z ∈ x.2.1, z.1 < to) ∧ ∀ Z, rn d 183 105 [pR K, pI b, pI lo, pI hi, pI ch.length, pI 0, pI A.length, z7] [pI to] m1 = some Z → rn d 183 76 [pR K, pI b, pI lo, pI hi, pI ch.length, pI 0, pI A.length, z7] [] m1 = some Z := by
          cases B with
          | nil =>
            refine ⟨hi, fun z hz => (hL z (hmem z hz)).2, fun Z hZ => q183_76 (by omega) hz1 c7 _ ?_⟩
            simp at hlen
            rw [if_pos (by omega), (w32_of (by omega) (by omega) : w32 ((A.length : Int) + 1) = A.length + 1), if_neg (by omega)]
            exact hZ
          | cons y B =>
            have hk2 := n3 (A.length + 1) (hdId y.2.1, y.1) (by
              rw [hp]
              have := ents_at (A := A ++ [x]) (B := B) (x := y)
              rw [show (A ++ [x]) ++ y :: B = A ++ x :: y :: B by simp, show (A ++ [x]).length = A.length + 1 by simp] at this
              exact this)
            have e166' := c166 (d := d - 1) (b := b) (k := ((A.length + 1 : Nat) : Int)) (by omega) hz1 hD1 hc1 ⟨by omega, hb.2⟩ (by omega)
            rw [hk2.1] at e166'
            have hym : y ∈ ch := by rw [hp]; simp
            refine ⟨hdId y.2.1, fun z hz => ?_, fun Z hZ => q183_76 (by omega) hz1 c7 _ ?_⟩
            · obtain ⟨ys0, hy0⟩ := hdId_mem (hv y hym).ne
              rw [hp, flL_app, flL_cons] at hs
              exact (srt_app.mp (srt_app.mp hs).2.1).2.2 z hz _ (by rw [flL_cons]; exact List.mem_append_left _ hy0)
            · simp only [List.length_cons] at hlen
              rw [Int.natCast_add, Int.natCast_one] at e166'
              rw [if_pos (by omega), (w32_of (by omega) (by omega) : w32 ((A.length : Int) + 1) = (A.length : Int) + 1), if_pos (by omega), gd_of hD1.1, bI_eq e166']
              exact hZ
        have hsub : ∀ q ∈ x.2.2, q ∈ flB ch := fun q hq => List.mem_flatMap.mpr ⟨x, hxm, hq⟩
        have hnd2 : x.2.2.Nodup ∧ ∀ q ∈ x.2.2, q ∉ flB A := by
          have := hnd.2
          rw [hp, flB_app, flB_cons, List.nodup_append, List.nodup_append] at this
          exact ⟨this.2.1.1, fun q hq hA => this.2.2 q hA q (List.mem_append_left _ hq) rfl⟩
        obtain ⟨m2, u2, g1, g2, g3, g5⟩ := ih (d - 1) m1 x.1 (hdId x.2.1) to x.2.1 x.2.2 u1 (by omega) hz1 hD1 hc1 hvx hsx (fun z hz => ⟨hdId_le hsx hz, hto1 z hz⟩) hnd2.1 (fun q hq => hr q (List.mem_cons_of_mem _ (hsub q hq))) hU1 (fun q hq hqu => by
          rcases (hm1 q).mp hqu with (w | w) | w
          · exact hnd.1 (by rw [← w]; exact hsub q hq)
          · exact hdis q (List.mem_cons_of_mem _ (hsub q hq)) w
          · exact hnd2.2 q hq w)
        obtain ⟨i1, i2, i3⟩ := AO.da5 hD1 g2
        rw [h5] at g2
        obtain ⟨m3, u3, k1, k2, k3, k5⟩ := ih2 (A ++ [x]) m2 u2 (pI to) rfl (by rw [hp]; simp) (g2.tz hz1) i1 (i3 c hc1) (by rw [i2, h5]) g3 (fun q => by
          rw [g5, hm1, flB_app, List.mem_append, flB_cons, show flB [] = [] from rfl, List.append_nil]
          constructor
          · rintro (w | w)
            · rcases w with w | w
              · exact Or.inl w
              · exact Or.inr (Or.inl w)
            · exact Or.inr (Or.inr w)
          · rintro (w | w | w)
            · exact Or.inl (Or.inl w)
            · exact Or.inl (Or.inr w)
            · exact Or.inr w)
        have e9 : ((A ++ [x]).length : Int) = A.length + 1 := by simp
        rw [e9] at k1
        refine ⟨m3, u3, hto2 _ (q183_105 (by omega) hz1 c7 _ ?_), g2.trans k2, k3, k5⟩
        rw [gd_of hD1.1, bI_eq e166, if_neg (by omega), bI_eq e166, if_pos (hto1 _ hh)]
        refine q183_133 (by omega) hz1 _ ?_
        rw [gd_of hD1.1, bI_eq e167, bI_eq e166, bI_eq g1, (w32_of (by omega) (by omega) : w32 ((0 : Int) + 0) = 0), (w32_of (by omega) (by omega) : w32 ((A.length : Int) + 1) = A.length + 1)]
        exact k1
    obtain ⟨m', u', g1, g2, g3, g5⟩ := loop ch [] (mst m (vl m K 5) b 1) (b :: u) pU rfl rfl hz j1 (j3 c hc) (j2 5) (hU.set hD) (fun x => by
      rw [List.mem_cons, show flB [] = [] from rfl]
      exact ⟨Or.inl, fun h => h.elim id fun w => (by cases w)⟩)
    have e181 := c181 (d := d - 1) (b := b) (m := mst m (vl m K 5) b 1) (by omega) hz j1 (j3 c hc) ⟨by omega, hb.2⟩
    rw [n2] at e181
    refine ⟨m', u', q183 (by omega) hz _ ?_, ka.trans g2, g3, fun x => ?_⟩
    · have hk1 : ¬ c b 0 = 1 := by rw [n1]; split <;> decide
      rw [if_neg (by omega), gd_of hD.1, nm_eq, gd_of t5, gd_of (by rw [l5]; omega), if_pos hu, bI_eq e160, if_neg (by decide), nm_eq, gd_of t5, gd_of (by rw [l5]; omega), nm_eq, nm_eq, f1, gd_of hD.2.1.1, gd_of f2, f3, if_neg hk1, bI_eq e181, if_neg (by omega), if_neg (by omega)]
      exact g1
    · rw [g5, List.mem_cons]
      constructor
      · rintro ((q | q) | q)
        · exact Or.inr (Or.inl q)
        · exact Or.inl q
        · exact Or.inr (Or.inr q)
      · rintro (q | q | q)
        · exact Or.inl (Or.inr q)
        · exact Or.inl (Or.inl q)
        · exact Or.inr q
end
