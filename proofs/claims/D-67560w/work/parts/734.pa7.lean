/-! the patcher: splicing -/
set_option maxRecDepth 100000
set_option maxHeartbeats 4000000
/-- around some bytes: the kind, what stands before them, what stands behind -/
abbrev BF : Type := Int × List Int × List Int
def prB : List BF → List Nat → List Int
  | f :: k, n :: ns => prB k ns ++ (f.1 :: (l2 n ++ f.2.1))
  | _, _ => []
def poB : List BF → List Int
  | [] => []
  | f :: k => f.2.2 ++ poB k
def lnB : List BF → Nat → List Nat
  | [], _ => []
  | f :: k, n => (f.2.1.length + n + f.2.2.length) :: lnB k (3 + f.2.1.length + n + f.2.2.length)
def offB : List BF → Nat
  | [] => 0
  | f :: k => offB k + (3 + f.2.1.length)
def arB : List BF → List Int
  | [] => []
  | f :: k => arB k ++ [(offB k : Int)]
def bfr (f : Fr) : BF := ((f.2.1.1 : Int), frB f, frT f)
theorem offB_map (k : List Fr) : offB (k.map bfr) = offK k := by
  induction k with
  | nil => rfl
  | cons f k ih => simp only [List.map_cons, offB, offK, ih, bfr, frOf_len]
theorem arB_map (k : List Fr) : arB (k.map bfr) = arK k := by
  induction k with
  | nil => rfl
  | cons f k ih => simp only [List.map_cons, arB, arK, ih, offB_map]
theorem prB_map : ∀ (k : List Fr) (ns : List Nat), prB (k.map bfr) ns = prL k ns := by
  intro k
  induction k with
  | nil => intro ns; simp [prB, prL]
  | cons f k ih =>
    intro ns
    cases ns with
    | nil => simp [prB, prL]
    | cons n ns => simp only [List.map_cons, prB, prL, ih, bfr]
theorem poB_map (k : List Fr) : poB (k.map bfr) = poK k := by
  induction k with
  | nil => rfl
  | cons f k ih => simp only [List.map_cons, poB, poK, ih, bfr]
theorem lnB_map : ∀ (k : List Fr) (n : Nat), lnB (k.map bfr) n = lnK k n := by
  intro k
  induction k with
  | nil => intro n; rfl
  | cons f k ih => intro n; simp only [List.map_cons, lnB, lnK, ih, bfr]
theorem lnB_len : ∀ (k : List BF) (n : Nat), (lnB k n).length = k.length := by
  intro k
  induction k with
  | nil => intro n; rfl
  | cons f k ih => intro n; simp only [lnB, List.length_cons, ih]
theorem arB_len (k : List BF) : (arB k).length = k.length := by
  induction k with
  | nil => rfl
  | cons f k ih => simp only [arB, List.length_append, List.length_cons, List.length_nil, ih]
theorem prB_len : ∀ (k : List BF) (ns : List Nat), ns.length = k.length → (prB k ns).length = offB k := by
  intro k
  induction k with
  | nil => intro ns _; simp [prB, offB]
  | cons f k ih =>
    intro ns h
    cases ns with
    | nil => simp at h
    | cons n ns => simp only [prB, offB, List.length_append, List.length_cons, l2_len, ih ns (by simpa using h)]; omega
theorem prB_mid : ∀ (k1 : List BF) (f : BF) (k2 : List BF) (n1 : List Nat) (n2 : List Nat), n1.length = k1.length → ∃ tail, ∀ n', prB (k1 ++ f :: k2) (n1 ++ n' :: n2) = (prB k2 n2 ++ [f.1]) ++ w8 ((n' : Int) / 256) :: w8 n' :: tail := by
  intro k1
  induction k1 with
  | nil =>
    intro f k2 n1 n2 h
    cases n1 with
    | cons a n1 => simp at h
    | nil => exact ⟨f.2.1, fun n' => by simp [prB, l2]⟩
  | cons g k1 ih =>
    intro f k2 n1 n2 h
    cases n1 with
    | nil => simp at h
    | cons a n1 =>
      obtain ⟨tail, ht⟩ := ih f k2 n1 n2 (by simpa using h)
      refine ⟨tail ++ (g.1 :: (l2 a ++ g.2.1)), fun n' => ?_⟩
      simp only [List.cons_append, prB, ht n']
      simp
theorem arB_mid : ∀ (k1 : List BF) (f : BF) (k2 : List BF), gi (arB (k1 ++ f :: k2)) k2.length = offB k2 := by
  intro k1
  induction k1 with
  | nil =>
    intro f k2
    show gi (arB k2 ++ [(offB k2 : Int)]) k2.length = offB k2
    rw [gi_app_r (by rw [arB_len]; omega), arB_len, Int.sub_self]; rfl
  | cons g k1 ih =>
    intro f k2
    show gi (arB (k1 ++ f :: k2) ++ [_]) k2.length = offB k2
    rw [gi_app_l (by omega) (by rw [arB_len]; simp; omega), ih]
theorem lnB_add : ∀ (k : List BF) (n n' : Nat) (i : Nat) (h : i < (lnB k n).length) (h' : i < (lnB k n').length), ((lnB k n')[i] : Int) = ((lnB k n)[i] : Int) + ((n' : Int) - n) := by
  intro k
  induction k with
  | nil => intro n n' i h; simp [lnB] at h
  | cons f k ih =>
    intro n n' i h h'
    cases i with
    | zero => simp only [lnB, List.getElem_cons_zero]; omega
    | succ i =>
      simp only [lnB, List.getElem_cons_succ]
      have := ih (3 + f.2.1.length + n + f.2.2.length) (3 + f.2.1.length + n' + f.2.2.length) i (by simpa [lnB] using h) (by simpa [lnB] using h')
      rw [this]; omega
theorem lnB_le : ∀ (k : List BF) (ns : List Nat) (n : Nat) (ys : List Int), ns = lnB k n → ∀ x, x ∈ ns → x ≤ (prB k ns ++ (ys ++ poB k)).length + n - ys.length := by
  intro k
  induction k with
  | nil => intro ns n ys h x hx; rw [h] at hx; simp [lnB] at hx
  | cons f k ih =>
    intro ns n ys h x hx
    subst h
    simp only [lnB, List.mem_cons] at hx
    simp only [lnB, prB, poB, List.length_append, List.length_cons, l2_len]
    rcases hx with hx | hx
    · omega
    · have := ih _ (3 + f.2.1.length + n + f.2.2.length) [] rfl x hx
      simp only [List.length_append, List.length_nil] at this
      omega
/-- what splicing wants of the patcher -/
def SPS (m : Mem) (P rd ro rh aa : Int) (K : List BF) : Prop := OK m ∧ tg m P = 7 ∧ vl m P 5 = rd ∧ vl m P 6 = ro ∧ vl m P 7 = rh ∧ vl m P 12 = aa ∧ vl m P 13 = K.length ∧ tg m aa = 112101 ∧ ln m aa = 33 ∧ ∀ i : Int, 0 ≤ i → i < K.length → vl m aa i = gi (arB K) i
def spN' (e : Nat) : Bool := !(Nat.testBit e (bix 7 5)) && !(Nat.testBit e (bix 7 6)) && !(Nat.testBit e (bix 7 7)) && !(Nat.testBit e (bix 7 12)) && !(Nat.testBit e (bix 7 13)) && !(Nat.testBit e (bix 112101 0))
theorem SPS.fr {k : Nat} {m m' : Mem} {P rd ro rh aa : Int} {K : List BF} (h : SPS m P rd ro rh aa K) (hf : FRM (eM k) m m') (hn : spN' (eM k) = true) : SPS m' P rd ro rh aa K := by
  obtain ⟨ok, h1, h2, h3, h4, h5, h6, h7, h8, h9⟩ := h
  unfold spN' at hn
  simp only [Bool.and_eq_true, Bool.not_eq_true'] at hn
  obtain ⟨⟨⟨⟨⟨n1, n2⟩, n3⟩, n4⟩, n5⟩, n6⟩ := hn
  have hz := ok.1
  refine ⟨ok.fr hf, by rw [tg_of hf hz (by omega)]; exact h1, by rw [vl_of hf hz h1 (by decide) n1]; exact h2, by rw [vl_of hf hz h1 (by decide) n2]; exact h3, by rw [vl_of hf hz h1 (by decide) n3]; exact h4, by rw [vl_of hf hz h1 (by decide) n4]; exact h5, by rw [vl_of hf hz h1 (by decide) n5]; exact h6, by rw [tg_of hf hz (by omega)]; exact h7, by rw [ln_of hf hz (by omega)]; exact h8, fun j j0 j1 => ?_⟩
  rw [vl_of hf hz h7 (by decide) (by rw [bix_arr (by decide)]; exact n6)]
  exact h9 j j0 j1
section
variable {d : Nat} {P rd ro rh aa cd co a1 a2 a3 : Int} {K : List BF} {xs Z : List Int} {ps : List (Nat × Nat)} {more : Int}
theorem c122_92 (hd : 2 ≤ d) (hK : K.length ≤ 33) (hne : rd ≠ ro) (hx : xs.length < 60000) (hps : ps.length = K.length) (hpm : ∀ p, p ∈ ps → (p.2 : Int) = p.1 + more ∧ p.1 < 60000 ∧ p.2 < 60000) {Y : List Int} (hxs : xs = prB K (ps.map Prod.fst) ++ Y) : ∀ (N : Nat) (K1 K2 : List BF) (ps1 ps2 : List (Nat × Nat)) (m : Mem), K1.length = N → K = K1 ++ K2 → ps = ps1 ++ ps2 → ps1.length = K1.length → SPS m P rd ro rh aa K → RI m → RW m rd xs cd → RW m ro (prB K (ps1.map Prod.fst ++ ps2.map Prod.snd) ++ Z) co →
    ∃ m', rn d 122 92 [pR P, pI a1, pI a2, pI a3, pI more, pI K2.length] [] m = some (.inl none, mst (mst m' P 5 ro) P 6 rd) ∧ RG ro m co (prB K (ps.map Prod.snd) ++ Z) m' co ∧ SPS m' P rd ro rh aa K := by
  intro N
  induction N with
  | zero =>
    intro K1 K2 ps1 ps2 m hN hKK hpp hl h hI hRd hRo
    have hK1 : K1 = [] := List.length_eq_zero_iff.mp hN
    subst hK1
    have hp1 : ps1 = [] := List.length_eq_zero_iff.mp (by rw [hl]; rfl)
    subst hp1
    simp only [List.nil_append, List.map_nil] at hKK hpp hRo
    refine ⟨m, ?_, by rw [hpp]; exact RG.self hI hRo, h⟩
    obtain ⟨ok, h1, h2, h3, h4, h5, h6, h7, h8, h9⟩ := h
    refine q122_92 (by omega) ok.1 _ ?_
    rw [gd_of h1, if_neg (by rw [h6, hKK]; omega), h2, h3]
  | succ N ih =>
    intro K1 K2 ps1 ps2 m hN hKK hpp hl h hI hRd hRo
    have hne1 : K1 ≠ [] := by intro q; rw [q] at hN; simp at hN
    have hne2 : ps1 ≠ [] := by intro q; rw [q] at hl; simp at hl; omega
    obtain ⟨K1', f, hK1⟩ : ∃ K1' f, K1 = K1' ++ [f] := ⟨K1.dropLast, K1.getLast hne1, (List.dropLast_concat_getLast hne1).symm⟩
    obtain ⟨ps1', p, hp1⟩ : ∃ ps1' p, ps1 = ps1' ++ [p] := ⟨ps1.dropLast, ps1.getLast hne2, (List.dropLast_concat_getLast hne2).symm⟩
    subst hK1 hp1
    simp only [List.length_append, List.length_cons, List.length_nil] at hN hl
    have hl' : ps1'.length = K1'.length := by omega
    have eK : K = K1' ++ f :: K2 := by rw [hKK]; simp
    have eP : ps = ps1' ++ p :: ps2 := by rw [hpp]; simp
    obtain ⟨q1, q2, q3⟩ := hpm p (by rw [eP]; simp)
    have hl2 : ps2.length = K2.length := by
      have h1 := congrArg List.length eK
      have h2 := congrArg List.length eP
      simp only [List.length_append, List.length_cons] at h1 h2
      omega
    obtain ⟨tl, htl⟩ := prB_mid K1' f K2 (ps1'.map Prod.fst) (ps2.map Prod.snd) (by rw [List.length_map]; exact hl')
    obtain ⟨tl0, htl0⟩ := prB_mid K1' f K2 (ps1'.map Prod.fst) (ps2.map Prod.fst) (by rw [List.length_map]; exact hl')
    have hR0 := hRo
    have e1 : prB K ((ps1' ++ [p]).map Prod.fst ++ ps2.map Prod.snd) ++ Z = (prB K2 (ps2.map Prod.snd) ++ [f.1]) ++ w8 ((p.1 : Int) / 256) :: w8 p.1 :: (tl ++ Z) := by
      rw [eK, List.map_append, List.append_assoc]
      show prB (K1' ++ f :: K2) (ps1'.map Prod.fst ++ (p.1 :: ps2.map Prod.snd)) ++ Z = _
      rw [htl p.1]; simp
    have e2 : prB K (ps1'.map Prod.fst ++ (p :: ps2).map Prod.snd) ++ Z = (prB K2 (ps2.map Prod.snd) ++ [f.1]) ++ w8 ((p.2 : Int) / 256) :: w8 p.2 :: (tl ++ Z) := by
      rw [eK]
      show prB (K1' ++ f :: K2) (ps1'.map Prod.fst ++ (p.2 :: ps2.map Prod.snd)) ++ Z = _
      rw [htl p.2]; simp
    have e3 : xs = (prB K2 (ps2.map Prod.fst) ++ [f.1]) ++ w8 ((p.1 : Int) / 256) :: w8 p.1 :: (tl0 ++ Y) := by
      rw [hxs, eK, eP, List.map_append]
      show prB (K1' ++ f :: K2) (ps1'.map Prod.fst ++ (p.1 :: ps2.map Prod.fst)) ++ Y = _
      rw [htl0 p.1]; simp
    have hof : (prB K2 (ps2.map Prod.snd)).length = offB K2 := prB_len _ _ (by rw [List.length_map]; exact hl2)
    have hof0 : (prB K2 (ps2.map Prod.fst)).length = offB K2 := prB_len _ _ (by rw [List.length_map]; exact hl2)
    have hAt : At xs ((offB K2 : Int) + 1) (l2 p.1) := by
      rw [e3]
      have := (At.end (xs := prB K2 (ps2.map Prod.fst) ++ [f.1]) (ys := l2 p.1)).mono (zs := tl0 ++ Y)
      rw [List.append_assoc] at this
      have e5 : ((prB K2 (ps2.map Prod.fst) ++ [f.1]).length : Int) = (offB K2 : Int) + 1 := by rw [List.length_append, hof0]; simp
      rw [e5] at this
      exact this
    have htw := tw_l2 hAt (by omega)
    have hA1 := hAt.2.1
    rw [l2_len] at hA1
    obtain ⟨ok, h1, h2, h3, h4, h5, h6, h7, h8, h9⟩ := h
    have h : SPS m P rd ro rh aa K := ⟨ok, h1, h2, h3, h4, h5, h6, h7, h8, h9⟩
    have h134 := c134 (d := d - 1) (a := (offB K2 : Int) + 1) ok.1 hRd (by omega) (by omega)
    rw [htw] at h134
    rw [e1] at hRo
    obtain ⟨m1, e6, g1⟩ := c133 (d := d - 1) (a := (offB K2 : Int) + 1) (b := (p.2 : Int)) ok hI hRo (by rw [List.length_append, hof]; simp) ⟨by omega, by omega⟩
    rw [← e2] at g1
    have hk2 : K2.length < K.length := by rw [eK]; simp; omega
    have har : vl m aa K2.length = offB K2 := by rw [h9 K2.length (by omega) (by omega), eK]; exact arB_mid K1' f K2
    obtain ⟨m2, e7, g2, s2⟩ := ih K1' (f :: K2) ps1' (p :: ps2) m1 (by omega) eK eP hl' (h.fr (cl_FRM e6) (by rfl)) g1.2.1.1 (g1.2.1.2 rd hne xs cd hRd) g1.1
    refine ⟨m2, ?_, ?_, s2⟩
    · refine q122_92 (by omega) ok.1 _ ?_
      rw [gd_of h1, if_pos (by rw [h6]; omega), nm_eq, nm_eq, h5, gd_of h7, gd_of ⟨by omega, by omega⟩, nm_eq, har, nm_eq, h2, gd_of hRd.1, (w32_of (by omega) (by omega) : w32 ((offB K2 : Int) + 1) = (offB K2 : Int) + 1), bI_eq h134, h3, gd_of hRo.1, (w32_of (by omega) (by omega) : w32 ((p.1 : Int) + more) = (p.1 : Int) + more), ← q1, bV_eq e6, (w32_of (by omega) (by omega) : w32 ((K2.length : Int) + 1) = (K2.length : Int) + 1)]
      rw [show ((f :: K2).length : Int) = (K2.length : Int) + 1 by simp] at e7
      exact e7
    · refine g1.trans g2 ?_
      rw [List.length_append, List.length_append, prB_len K _ (by rw [List.length_append, List.length_map, List.length_map, eK]; simp; omega), prB_len K _ (by rw [List.length_map]; exact hps)]
      exact Nat.le_refl _
end
