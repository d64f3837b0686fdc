/-! the patcher: the document's row after a splice -/
set_option maxRecDepth 100000
set_option maxHeartbeats 4000000
/-- the document is now L, in the row that was the other one; what is held may be anything -/
def ADR (m : Mem) (P rd ro rh co ch : Int) (L : List Int) (m' : Mem) : Prop := ∃ co' ch' hs', RW m' ro L co' ∧ RW m' rh hs' ch' ∧ RI m' ∧ OK m' ∧ vl m' P 5 = ro ∧ vl m' P 6 = rd ∧ (∀ r', r' ≠ ro → r' ≠ rh → ∀ ys c, RW m r' ys c → RW m' r' ys c) ∧ GR m m' (co + ch) (co' + ch') ∧ co' ≤ max co 12000 ∧ ch' ≤ max ch 12000
section
variable {d : Nat} {m m1 : Mem} {P rd ro rh rt aa cd co ch ct : Int} {K : List BF} {xs os hs old ts : List Int}
/-- splicing what is held in place of old -/
theorem c122_fin (hd : 3 ≤ d) (ha : tg m aa = 112101) (g : GF P aa m m1) (h : SPS m1 P rd ro rh aa K) (hP : tg m P = 7) (hI : RI m) (hK : K.length ≤ 33) (hRd : RW m rd xs cd) (hRo : RW m ro os co) (hRh : RW m rh hs ch) (hne : rd ≠ ro) (hne2 : rh ≠ ro) (hxs : xs = prB K (lnB K old.length) ++ (old ++ poB K)) (hL : xs.length + hs.length ≤ 5900) :
    ∃ m', cl d 122 [pR P, pI (offB K), pI old.length, pI 0] m1 = some (.inl none, m') ∧ ADR m P rd ro rh co ch (prB K (lnB K hs.length) ++ (hs ++ poB K)) m' := by
  obtain ⟨m2, co', e2, g2, s2⟩ := c122 (d := d) (fr := 0) hd h (hI.gf hP ha g) hK (hRd.gf hP ha g) (hRo.gf hP ha g) (hRh.gf hP ha g) hne hne2 hxs (Nat.zero_le _) hL
  rw [List.drop_zero] at g2
  have hP2 := s2.2.1
  have h8 : tg m2 P ≠ 8 ∧ tg m2 P < 100 := by omega
  have hlen : (prB K (lnB K hs.length) ++ (hs ++ poB K)).length ≤ 6000 := by
    have h1 := prB_len K (lnB K old.length) (lnB_len _ _)
    have h2 := prB_len K (lnB K hs.length) (lnB_len _ _)
    have h3 := congrArg List.length hxs
    simp only [List.length_append, h1, h2] at h3 ⊢
    omega
  have mt : ∀ r ys c, RW m2 r ys c → RW (mst (mst m2 P 5 ro) P 6 rd) r ys c := fun r ys c hw => RW.mT (m := mst m2 P 5 ro) h8 (hw.mT h8)
  refine ⟨_, e2, co', ch, hs, mt _ _ _ g2.1, mt _ _ _ (g2.2.1.2 rh hne2 hs ch (hRh.gf hP ha g)), RI.mT (m := mst m2 P 5 ro) (by exact h8.1) (g2.2.1.1.mT h8.1), s2.1, ?_, ?_, fun r' n1 n2 ys c hw => mt _ _ _ (g2.2.1.2 r' n1 ys c (hw.gf hP ha g)), ?_, ?_, by omega⟩
  · rw [vl_mst, if_neg (by omega), vl_mst, if_pos ⟨rfl, rfl⟩]
  · rw [vl_mst, if_pos ⟨rfl, rfl⟩]
  · obtain ⟨q1, q2, q3⟩ := g2.2.2.1
    have q4 := g.1
    have q5 := g.2.1
    exact ⟨by omega, by show nx m2 - nx m ≤ _; omega, by show sl m2 - sl m ≤ _; omega⟩
  · have := g2.2.2.2; omega
/-- a name and what is held come in -/
theorem c125 {b : Int} {tk : List Int} (hd : 4 ≤ d) (ha : tg m aa = 112101) (g : GF P aa m m1) (h : SPS m1 P rd ro rh aa K) (h9 : vl m1 P 9 = rt) (hP : tg m P = 7) (hI : RI m) (hK : K.length ≤ 33) (hRd : RW m rd xs cd) (hRo : RW m ro os co) (hRh : RW m rh hs ch) (hRt : RW m rt ts ct) (hne : rd ≠ ro) (hne2 : rh ≠ ro) (hne3 : rd ≠ rh) (hne4 : rt ≠ rh) (hne5 : rt ≠ ro) (hxs : xs = prB K (lnB K 0) ++ ([] ++ poB K)) (htk : At ts b (nmB tk)) (hx : ts.length < 60000) (hL : xs.length + 2 * hs.length + (nmB tk).length ≤ 5900) :
    ∃ m', cl d 125 [pR P, pI (offB K), pI b] m1 = some (.inl none, m') ∧ ADR m P rd ro rh co ch (prB K (lnB K (nmB tk ++ hs).length) ++ ((nmB tk ++ hs) ++ poB K)) m' := by
  have hI1 := hI.gf hP ha g
  have hRd1 := hRd.gf hP ha g
  have hRo1 := hRo.gf hP ha g
  have hRh1 := hRh.gf hP ha g
  have hRt1 := hRt.gf hP ha g
  have ok1 := h.1
  have hnl := nmB_len tk
  have hb0 := htk.1
  have hb1 := htk.2.1
  have h134 := c134 (d := d - 1) (a := b) ok1.1 hRt1 hb0 (by omega)
  rw [tw_nm htk (by omega)] at h134
  have hRt1' := hRt1
  obtain ⟨b1, b2, b3, b4, b5, b6, b7⟩ := hRt1'
  obtain ⟨m2, c2, e2, g2⟩ := c143 (d := d - 1) (x := vl m1 rt 0) (fr := b) (ys := nmB tk) (n := 2 + (uts tk).length) (by omega) ok1 hI1 hRh1 (by omega) ⟨hb0, by omega⟩ (fun j j0 j1 => by rw [b7 _ (by omega) (by omega)]; exact htk.2.2 j j0 j1) (by omega) (by omega)
  have h2 := h.fr (cl_FRM e2) (by rfl)
  have hg2 := g2.1
  obtain ⟨k1, k2, k3, k4, k5, k6, k7⟩ := hg2
  rw [List.length_append] at k4 k5 k7
  obtain ⟨m3, c3, e3, g3⟩ := c143 (d := d - 1) (x := vl m2 rh 0) (fr := 0) (ys := hs) (n := hs.length) (by omega) h2.1 g2.2.1.1 g2.1 (by omega) ⟨by omega, by omega⟩ (fun j j0 j1 => by rw [Int.zero_add, k7 j j0 (by omega), gi_app_l j0 j1]) rfl (by rw [List.length_append]; omega)
  have h3 := h2.fr (cl_FRM e3) (by rfl)
  have gA := g2.trans g3 (by simp)
  have edr : ((hs ++ nmB tk) ++ hs).drop hs.length = nmB tk ++ hs := by rw [List.append_assoc, List.drop_left]
  obtain ⟨m4, co', e4, g4, s4⟩ := c122 (d := d - 1) (fr := hs.length) (old := []) (by omega) h3 g3.2.1.1 hK (gA.2.1.2 rd hne3 xs cd hRd1) (gA.2.1.2 ro (Ne.symm hne2) os co hRo1) g3.1 hne hne2 hxs (by simp) (by simp; omega)
  rw [edr] at g4
  have hP4 := s4.2.1
  have h8 : tg m4 P ≠ 8 ∧ tg m4 P < 100 := by omega
  have hlen : (prB K (lnB K (nmB tk ++ hs).length) ++ ((nmB tk ++ hs) ++ poB K)).length ≤ 6000 := by
    have h1 := prB_len K (lnB K 0) (lnB_len _ _)
    have h2 := prB_len K (lnB K (nmB tk ++ hs).length) (lnB_len _ _)
    have h3 := congrArg List.length hxs
    rw [List.length_append, h1, List.length_append] at h3
    rw [List.length_append, h2, List.length_append, List.length_append]
    simp only [List.length_nil] at h3
    omega
  have mt : ∀ r ys c, RW m4 r ys c → RW (mst (mst m4 P 5 ro) P 6 rd) r ys c := fun r ys c hw => RW.mT (m := mst m4 P 5 ro) h8 (hw.mT h8)
  refine ⟨mst (mst m4 P 5 ro) P 6 rd, ?_, co', c3, _, mt _ _ _ g4.1, mt _ _ _ (g4.2.1.2 rh hne2 _ c3 g3.1), RI.mT (m := mst m4 P 5 ro) (by exact h8.1) (g4.2.1.1.mT h8.1), s4.1, ?_, ?_, fun r' n1 n2 ys c hw => mt _ _ _ (g4.2.1.2 r' n1 ys c (gA.2.1.2 r' n2 ys c (hw.gf hP ha g))), ?_, ?_, ?_⟩
  · obtain ⟨-, p1, p5, p6, p7, -⟩ := h
    obtain ⟨-, r1, r5, r6, r7, -⟩ := h2
    have hsz := hRh1.2.2.2.1
    refine q125 (by omega) ok1.1 _ ?_
    rw [gd_of p1, nm_eq, p7, gd_of hRh1.1, nm_eq, hsz, nm_eq, h9, gd_of hRt1.1, bI_eq h134, (w32_of (by omega) (by omega) : w32 (2 + ((uts tk).length : Int)) = 2 + ((uts tk).length : Int)), bV_eq e2, nm_eq, r7, gd_of k1, bV_eq e3]
    rw [show ((([] : List Int).length : Nat) : Int) = 0 from rfl] at e4
    rw [bV_eq e4]
  · rw [vl_mst, if_neg (by omega), vl_mst, if_pos ⟨rfl, rfl⟩]
  · rw [vl_mst, if_pos ⟨rfl, rfl⟩]
  · obtain ⟨q1, q2, q3⟩ := g4.2.2.1
    obtain ⟨q6, q7, q8⟩ := gA.2.2.1
    have q4 := g.1
    have q5 := g.2.1
    exact ⟨by omega, by show nx m4 - nx m ≤ _; omega, by show sl m4 - sl m ≤ _; omega⟩
  · have := g4.2.2.2; omega
  · have := gA.2.2.2
    simp only [List.length_append] at this
    omega
end
