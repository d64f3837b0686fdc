/-! the patcher: pointers -/
set_option maxRecDepth 100000
set_option maxHeartbeats 4000000
def tkB (tks : List (List Int)) : List Int := tks.flatMap nmB
def stL : Int → List (List Int) → List Int
  | _, [] => []
  | b, t :: ts => b :: stL (b + (nmB t).length) ts
theorem tkB_app (a b : List (List Int)) : tkB (a ++ b) = tkB a ++ tkB b := by unfold tkB; rw [List.flatMap_append]
theorem tkB_one (t : List Int) : tkB [t] = nmB t := by unfold tkB; simp
theorem stL_app : ∀ (a b : List (List Int)) (x : Int), stL x (a ++ b) = stL x a ++ stL (x + (tkB a).length) b := by
  intro a
  induction a with
  | nil => intro b x; simp [stL, tkB]
  | cons t a ih =>
    intro b x
    simp only [List.cons_append, stL, ih]
    congr 3
    unfold tkB
    simp only [List.flatMap_cons, List.length_append]; omega
theorem stL_len : ∀ (a : List (List Int)) (x : Int), (stL x a).length = a.length := by
  intro a
  induction a with
  | nil => intro x; rfl
  | cons t a ih => intro x; simp only [stL, List.length_cons, ih]
/-- the k-th token stands where its start says -/
theorem stL_at : ∀ (tks : List (List Int)) (pre : List Int) (k : Nat) (hk : k < tks.length), At (pre ++ tkB tks) (gi (stL pre.length tks) k) (nmB tks[k]) := by
  intro tks
  induction tks with
  | nil => intro pre k hk; simp at hk
  | cons t tks ih =>
    intro pre k hk
    have e : tkB (t :: tks) = nmB t ++ tkB tks := by unfold tkB; rw [List.flatMap_cons]
    cases k with
    | zero =>
      show At (pre ++ tkB (t :: tks)) (pre.length : Int) (nmB t)
      rw [e, ← List.append_assoc]
      exact (At.end (xs := pre) (ys := nmB t)).mono
    | succ k =>
      have := ih (pre ++ nmB t) k (by simp at hk; omega)
      rw [e, ← List.append_assoc]
      have e2 : gi (stL (pre.length : Int) (t :: tks)) ((k + 1 : Nat) : Int) = gi (stL ((pre ++ nmB t).length : Int) tks) k := by
        simp only [stL]
        rw [gi_succ (by omega), show ((k + 1 : Nat) : Int) - 1 = k by omega, List.length_append]
        congr 2
      rw [e2]
      exact this
/-- something of a row, and a throw -/
def RX (r : Int) (m : Mem) (c : Int) (m' : Mem) : Prop := ∃ L c1, RW m' r L c1 ∧ RO r m m' ∧ (c ≤ c1 ∧ nx m' - nx m ≤ (c1 - c) / 16 + 1 ∧ sl m' - sl m ≤ 2 * (c1 - c) + 6) ∧ c1 ≤ max c 12000
theorem RX.of {r c c1 t : Int} {m m1 : Mem} {L : List Int} (g : RG r m c L m1 c1) (ok : OK m1) (hl : L.length ≤ 6000) (ht : t ≠ 8) : RX r m c (mal m1 t 6) := by
  obtain ⟨g1, g2, g3, g4⟩ := g
  unfold GR at g3
  refine ⟨L, c1, g1.mal ok.1, ⟨RI_mal ht g2.1, fun r' hr ys c' h => (g2.2 r' hr ys c' h).mal ok.1⟩, ⟨by omega, ?_, ?_⟩, by omega⟩
  · show nx m1 + 1 - nx m ≤ _; omega
  · show sl m1 + 6 - sl m ≤ _; omega
theorem RX.pre {r c c1 : Int} {m m1 m' : Mem} {L : List Int} (h : RX r m1 c1 m') (g : RG r m c L m1 c1) (hl : L.length ≤ 6000) : RX r m c m' := by
  obtain ⟨L2, c2, h1, h2, h3, h4⟩ := h
  obtain ⟨g1, g2, g3, g4⟩ := g
  unfold GR at g3
  exact ⟨L2, c2, h1, g2.trans h2, by omega, by omega⟩
def PIV (m : Mem) (P rt sa : Int) (st : List Int) : Prop := OK m ∧ tg m P = 7 ∧ vl m P 9 = rt ∧ vl m P 10 = sa ∧ tg m sa = 112101 ∧ ln m sa = 16384 ∧ vl m P 11 = st.length ∧ ∀ j : Int, 0 ≤ j → j < st.length → vl m sa j = gi st j
def pvN (e : Nat) : Bool := !(Nat.testBit e (bix 7 9)) && !(Nat.testBit e (bix 7 10)) && !(Nat.testBit e (bix 7 11)) && !(Nat.testBit e (bix 112101 0))
theorem PIV.fr {k : Nat} {m m' : Mem} {P rt sa : Int} {st : List Int} (h : PIV m P rt sa st) (hf : FRM (eM k) m m') (hn : pvN (eM k) = true) : PIV m' P rt sa st := by
  obtain ⟨ok, h1, h2, h3, h4, h5, h6, h7⟩ := h
  unfold pvN at hn
  simp only [Bool.and_eq_true, Bool.not_eq_true'] at hn
  obtain ⟨⟨⟨n1, n2⟩, n3⟩, n4⟩ := hn
  have hz := ok.1
  refine ⟨ok.fr hf, by rw [tg_of hf hz (by omega)]; exact h1, by rw [vl_of hf hz h1 (by decide) n1]; exact h2, by rw [vl_of hf hz h1 (by decide) n2]; exact h3, by rw [tg_of hf hz (by omega)]; exact h4, by rw [ln_of hf hz (by omega)]; exact h5, by rw [vl_of hf hz h1 (by decide) n3]; exact h6, fun j j0 j1 => ?_⟩
  rw [vl_of hf hz h4 (by decide) (by rw [bix_arr (by decide)]; exact n4)]
  exact h7 j j0 j1
section
variable {d : Nat} {P r rt sa c a2 e : Int} {xs : List Int}
/-- the end of a token -/
theorem c120_207 {m : Mem} {k ct : Int} {tks : List (List Int)} {acc st : List Int} {z : PV} (hd : 1 ≤ d) (hz : cat z = 1) (h : PIV m P rt sa st) (hI : RI m) (hT : RW m rt (tkB tks ++ 0 :: 0 :: uts acc) ct) (hL : (tkB tks ++ 0 :: 0 :: uts acc).length ≤ 6000) :
    ∃ m1, RG rt m ct (tkB (tks ++ [acc])) m1 ct ∧ PIV m1 P rt sa st ∧ ∀ Q, rn d 120 24 [pR P, pR r, pI a2, pI e, pI k, pI (tkB tks).length, z] [] m1 = some Q → rn d 120 207 [pR P, pR r, pI a2, pI e, pI k, pI (tkB tks).length, z] [] m = some Q := by
  have ok := h.1
  have hs := hT.2.2.2.1
  simp only [List.length_append, List.length_cons] at hs hL
  obtain ⟨m1, e1, g1⟩ := c133 (d := d - 1) (a := (tkB tks).length) (b := (uts acc).length) ok hI hT rfl ⟨by omega, by omega⟩
  have e2 : tkB tks ++ w8 (((uts acc).length : Int) / 256) :: w8 ((uts acc).length : Int) :: uts acc = tkB (tks ++ [acc]) := by
    rw [tkB_app, tkB_one]; rfl
  rw [e2] at g1
  refine ⟨m1, g1, h.fr (cl_FRM e1) (by rfl), fun Q hQ => ?_⟩
  refine q120_207 (by omega) ok.1 hz _ ?_
  have ew : w32 (w32 (vl m rt 1 - (tkB tks).length) - 2) = (uts acc).length := by
    rw [hs, w32_of (z := (((tkB tks).length + ((uts acc).length + 1 + 1) : Nat) : Int) - (tkB tks).length) (by omega) (by omega), w32_of (by omega) (by omega)]; omega
  rw [gd_of h.2.1, nm_eq, h.2.2.1, gd_of hT.1, ew, bV_eq e1]; exact hQ
/-- the beginning of a token -/
theorem c120_24 {m : Mem} {k ct : Int} {tks : List (List Int)} {st : List Int} {z5 z6 : PV} (hd : 2 ≤ d) (h5 : cat z5 = 1) (h6 : cat z6 = 1) (h : PIV m P rt sa st) (hI : RI m) (hne : r ≠ rt) (hR : RW m r xs c) (hT : RW m rt (tkB tks) ct) (hL : (tkB tks).length + 2 ≤ 6000) (hst : (st.length : Int) < 16000) (hk : 0 ≤ k ∧ k < e ∧ e ≤ xs.length) (hx : xs.length < 60000) (hg : gi xs k = 47) :
    ∃ m1 c1, RG rt m ct (tkB tks ++ [0, 0]) m1 c1 ∧ PIV m1 P rt sa (st ++ [((tkB tks).length : Int)]) ∧ ∀ Q, rn d 120 96 [pR P, pR r, pI a2, pI e, pI (k + 1), pI (tkB tks).length, z6] [] m1 = some Q → rn d 120 24 [pR P, pR r, pI a2, pI e, pI k, z5, z6] [] m = some Q := by
  obtain ⟨ok, p1, p2, p3, p4, p5, p6, p7⟩ := h
  have hll := hR.2.2.2.2.1
  have hlc := hR.2.2.1
  have hgv : vl m (vl m r 0) k = 47 := by rw [hR.2.2.2.2.2.2 k hk.1 (by omega), hg]
  have hPs : P ≠ sa := by intro q; rw [q] at p1; omega
  have hPr : P ≠ rt := by intro q; have := hT.1; rw [← q] at this; omega
  have hsr : sa ≠ rt := by intro q; have := hT.1; rw [← q] at this; omega
  have hP8 : tg m P ≠ 8 ∧ tg m P < 100 := by omega
  have hs := hT.2.2.2.1
  have hke : k < e := hk.2.1
  have hgk : (0 : Int) ≤ k ∧ k < ln m (vl m r 0) := ⟨hk.1, by omega⟩
  have hst0 : (0 : Int) ≤ (st.length : Int) := Int.natCast_nonneg _
  have hgd : (0 : Int) ≤ (st.length : Int) ∧ (st.length : Int) < ln m sa := ⟨hst0, by rw [p5]; exact Int.lt_trans hst (by decide)⟩
  -- the start is noted
  have hsb : sa ≠ vl m rt 0 := by intro q; have := hT.2.1; rw [← q] at this; omega
  have w1 : RW (mst m P 11 ((st.length : Int) + 1)) rt (tkB tks) ct := hT.mT hP8
  have ro1 : RO rt m (mst m P 11 ((st.length : Int) + 1)) := RO.mT hP8 hI
  have key : ∀ r' ys c', RW (mst m P 11 ((st.length : Int) + 1)) r' ys c' → RW (mst (mst m P 11 ((st.length : Int) + 1)) sa st.length (tkB tks).length) r' ys c' := by
    intro r' ys c' hw
    obtain ⟨b1, b2, b3, b4, b5, b6, b7⟩ := hw
    have n1 : r' ≠ sa := by intro q; rw [q] at b1; have : tg m sa = 8 := b1; omega
    have e0 : vl (mst (mst m P 11 ((st.length : Int) + 1)) sa st.length (tkB tks).length) r' 0 = vl (mst m P 11 ((st.length : Int) + 1)) r' 0 := by rw [vl_mst, if_neg (by omega)]
    have n2 : vl (mst m P 11 ((st.length : Int) + 1)) r' 0 ≠ sa := by intro q; rw [q] at b2; have : tg m sa = 130103 ∨ tg m sa = 132103 := b2; omega
    refine ⟨b1, by rw [e0]; exact b2, by rw [e0]; exact b3, by rw [vl_mst, if_neg (by omega)]; exact b4, b5, b6, fun i i0 i1 => ?_⟩
    rw [e0, vl_mst, if_neg (by omega)]; exact b7 i i0 i1
  have ri2 : RI (mst (mst m P 11 ((st.length : Int) + 1)) sa st.length (tkB tks).length) := by
    have e0 : ∀ r', tg m r' = 8 → vl (mst (mst m P 11 ((st.length : Int) + 1)) sa st.length (tkB tks).length) r' 0 = vl (mst m P 11 ((st.length : Int) + 1)) r' 0 := by
      intro r' hr'
      rw [vl_mst, if_neg (by rintro ⟨q, -⟩; rw [q] at hr'; omega)]
    refine ⟨fun r' hr' => ?_, fun r1 r2 h1 h2 hn h0 => ?_⟩
    · rw [e0 r' hr']; exact ro1.1.1 r' hr'
    · rw [e0 r1 h1] at h0 ⊢
      rw [e0 r2 h2]; exact ro1.1.2 r1 r2 h1 h2 hn h0
  have hT2 := key _ _ _ w1
  have ro2 : RO rt m (mst (mst m P 11 ((st.length : Int) + 1)) sa st.length (tkB tks).length) := ⟨ri2, fun r' hr ys c' hw => key _ _ _ (ro1.2 r' hr ys c' hw)⟩
  have g0 : RG rt m ct (tkB tks) (mst (mst m P 11 ((st.length : Int) + 1)) sa st.length (tkB tks).length) ct := ⟨hT2, ro2, ⟨by omega, by show nx m - nx m ≤ _; omega, by show sl m - sl m ≤ _; omega⟩, by omega⟩
  have h2 : PIV (mst (mst m P 11 ((st.length : Int) + 1)) sa st.length (tkB tks).length) P rt sa (st ++ [((tkB tks).length : Int)]) := by
    refine ⟨ok, p1, ?_, ?_, p4, p5, ?_, fun j j0 j1 => ?_⟩
    · rw [vl_mst, if_neg (by omega), vl_mst, if_neg (by omega)]; exact p2
    · rw [vl_mst, if_neg (by omega), vl_mst, if_neg (by omega)]; exact p3
    · rw [vl_mst, if_neg (by omega), vl_mst, if_pos ⟨rfl, rfl⟩]; simp
    · simp at j1
      rw [vl_mst]
      by_cases hj : j = st.length
      · rw [if_pos ⟨rfl, hj⟩, hj, gi_app_r (by omega), Int.sub_self]; rfl
      · rw [if_neg (by omega), vl_mst, if_neg (by omega), gi_app_l j0 (by omega)]; exact p7 j j0 (by omega)
  clear key ri2 ro2 hT2 ro1 w1
  generalize hm2 : mst (mst m P 11 ((st.length : Int) + 1)) sa st.length (tkB tks).length = m2 at *
  obtain ⟨m3, c3, e3, g3⟩ := c130 (d := d - 1) (b := 0) (by omega) h2.1 g0.2.1.1 g0.1 (by omega)
  have h3 := h2.fr (cl_FRM e3) (by rfl)
  obtain ⟨m4, c4, e4, g4⟩ := c130 (d := d - 1) (b := 0) (by omega) h3.1 g3.2.1.1 g3.1 (by simp; omega)
  have h4 := h3.fr (cl_FRM e4) (by rfl)
  have gA := (g0.trans g3 (by simp)).trans g4 (by simp)
  rw [show w8 0 = 0 from rfl, List.append_assoc] at gA
  refine ⟨m4, c4, gA, h4, fun Q hQ => ?_⟩
  refine q120_24 ok.1 h5 h6 _ ?_
  rw [if_pos hke, gd_of hR.1, nm_eq, gd_of hR.2.1, gd_of hgk, if_pos hgv]
  refine q120_47 (by omega) ok.1 h5 h6 _ ?_
  rw [bV_eq (c115_1 ok.1), gd_of p1, nm_eq, p2, gd_of hT.1, nm_eq]
  rw [nm_eq, p3, nm_eq, p6, gd_of p4, gd_of hgd]
  rw [(w32_of (by omega) (by omega) : w32 ((st.length : Int) + 1) = (st.length : Int) + 1), hs, hm2, bV_eq e3, nm_eq, h3.2.2.1, gd_of g3.1.1, bV_eq e4, w32_of (by omega) (by omega)]; exact hQ
/-- a byte of a token -/
theorem c120_b {m : Mem} {k ct b st0 : Int} {L st : List Int} {z : PV} (hd : 2 ≤ d) (hz : cat z = 1) (h : PIV m P rt sa st) (hI : RI m) (hR : RW m r xs c) (hT : RW m rt L ct) (hL : L.length + 1 ≤ 6000) (hk : 0 ≤ k ∧ k < e ∧ e ≤ xs.length) (hx : xs.length < 60000) (hg : gi xs k = b) (hb : b ≠ 47 ∧ b ≠ 126 ∧ -128 ≤ b ∧ b < 128) :
    ∃ m1 c1, RG rt m ct (L ++ [b]) m1 c1 ∧ PIV m1 P rt sa st ∧ ∀ Q, rn d 120 96 [pR P, pR r, pI a2, pI e, pI (k + 1), pI st0, pI b] [] m1 = some Q → rn d 120 96 [pR P, pR r, pI a2, pI e, pI k, pI st0, z] [] m = some Q := by
  have ok := h.1
  have hll := hR.2.2.2.2.1
  have hlc := hR.2.2.1
  have hgv : vl m (vl m r 0) k = b := by rw [hR.2.2.2.2.2.2 k hk.1 (by omega), hg]
  obtain ⟨m1, c1, e1, g1⟩ := c130 (d := d - 1) (b := b) (by omega) ok hI hT (by omega)
  rw [show w8 b = b by unfold w8; omega] at g1
  refine ⟨m1, c1, g1, h.fr (cl_FRM e1) (by rfl), fun Q hQ => ?_⟩
  refine q120_96 (by omega) ok.1 hz _ ?_
  rw [if_pos (by omega), gd_of hR.1, nm_eq, gd_of hR.2.1, gd_of ⟨by omega, by omega⟩, nm_eq, hgv, if_neg hb.1, nm_eq, w32_of (by omega) (by omega), if_neg hb.2.1, gd_of h.2.1, nm_eq, h.2.2.1, gd_of hT.1, bV_eq e1]; exact hQ
/-- bytes of a token -/
theorem c120_bs {st0 : Int} (hd : 2 ≤ d) (hne : r ≠ rt) (hx : xs.length < 60000) (he : e ≤ xs.length) : ∀ (bs : List Int) (m : Mem) (k ct : Int) (L st : List Int) (z : PV), cat z = 1 → PIV m P rt sa st → RI m → RW m r xs c → RW m rt L ct → L.length + bs.length ≤ 6000 → 0 ≤ k → k + bs.length ≤ e → At xs k bs → (∀ b, b ∈ bs → b ≠ 47 ∧ b ≠ 126 ∧ -128 ≤ b ∧ b < 128) →
    ∃ m1 c1 z1, cat z1 = 1 ∧ RG rt m ct (L ++ bs) m1 c1 ∧ PIV m1 P rt sa st ∧ ∀ Q, rn d 120 96 [pR P, pR r, pI a2, pI e, pI (k + bs.length), pI st0, z1] [] m1 = some Q → rn d 120 96 [pR P, pR r, pI a2, pI e, pI k, pI st0, z] [] m = some Q := by
  intro bs
  induction bs with
  | nil =>
    intro m k ct L st z hz h hI hR hT hL k0 k1 hA hb
    refine ⟨m, ct, z, hz, by rw [List.append_nil]; exact RG.self hI hT, h, fun Q hQ => ?_⟩
    simpa using hQ
  | cons b bs ih =>
    intro m k ct L st z hz h hI hR hT hL k0 k1 hA hb
    simp only [List.length_cons] at hL k1
    obtain ⟨hg, hA2⟩ := hA.cons
    obtain ⟨m1, c1, g1, h1, s1⟩ := c120_b (d := d) (a2 := a2) (st0 := st0) hd hz h hI hR hT (by omega) ⟨k0, by omega, he⟩ hx hg (hb b (by simp))
    obtain ⟨m2, c2, z2, hz2, g2, h2, s2⟩ := ih m1 (k + 1) c1 (L ++ [b]) st (pI b) rfl h1 g1.2.1.1 (g1.2.1.2 r hne xs c hR) g1.1 (by simp; omega) (by omega) (by omega) hA2 (fun x hx => hb x (by simp [hx]))
    refine ⟨m2, c2, z2, hz2, ?_, h2, fun Q hQ => s1 Q (s2 Q ?_)⟩
    · have := g1.trans g2 (by simp)
      simpa using this
    · rw [show k + 1 + (bs.length : Int) = k + ((b :: bs).length : Int) by simp; omega]; exact hQ
end
