/-! texts: words, numbers -/
set_option maxRecDepth 100000
set_option maxHeartbeats 4000000
def sW (t : Int → Int) (e : Int) : List Int → Int → Int ⊕ Int
  | [], i => .inr i
  | c :: r, i => if pk t e i = c then sW t e r (i + 1) else .inl i
abbrev dg (c : Int) : Prop := 48 ≤ c ∧ c ≤ 57
def pDg : Nat → (Int → Int) → Int → Int → Int × Int
  | 0, _, i, v => (v, i)
  | n + 1, p, i, v => if dg (p i) then pDg n p (i + 1) (min (10 * v + p i - 48) 9007199254740992) else (v, i)
def sDg (t : Int → Int) (e i v : Int) : Int × Int := pDg (e - i).toNat (pk t e) i v
theorem sDg_eq (t : Int → Int) (e i v : Int) : sDg t e i v = if dg (pk t e i) then sDg t e (i + 1) (min (10 * v + pk t e i - 48) 9007199254740992) else (v, i) := by
  unfold sDg
  by_cases h : dg (pk t e i)
  · have hi : i < e := pkf_lt (t := t) (by omega)
    rw [if_pos h, show (e - i).toNat = (e - (i + 1)).toNat + 1 by omega]
    show (if dg (pk t e i) then _ else _) = _
    rw [if_pos h]
  · rw [if_neg h]
    cases hn : (e - i).toNat with
    | zero => rfl
    | succ n => show (if dg (pk t e i) then _ else _) = _; rw [if_neg h]
theorem pDg_rng (p : Int → Int) : ∀ (n : Nat) (i v : Int), 0 ≤ v → v ≤ 9007199254740992 → 0 ≤ (pDg n p i v).1 ∧ (pDg n p i v).1 ≤ 9007199254740992 ∧ i ≤ (pDg n p i v).2 ∧ (pDg n p i v).2 ≤ i + n ∧ (pDg n p i v).1 < (v + 1) * ((10 ^ ((pDg n p i v).2 - i).toNat : Nat) : Int) := by
  intro n
  induction n with
  | zero => intro i v h0 h1; simp [pDg]; omega
  | succ n ih =>
    intro i v h0 h1
    unfold pDg; split
    · rename_i h
      obtain ⟨a1, a2, a3, a4, a5⟩ := ih (i + 1) (min (10 * v + p i - 48) 9007199254740992) (by omega) (by omega)
      refine ⟨a1, a2, by omega, by omega, ?_⟩
      generalize hw : pDg n p (i + 1) (min (10 * v + p i - 48) 9007199254740992) = w at *
      have e1 : (w.2 - i).toNat = (w.2 - (i + 1)).toNat + 1 := by omega
      rw [e1, Nat.pow_succ]
      have h2 : min (10 * v + p i - 48) 9007199254740992 + 1 ≤ 10 * (v + 1) := by omega
      generalize ((10 ^ (w.2 - (i + 1)).toNat : Nat)) = P at *
      have h3 : (min (10 * v + p i - 48) 9007199254740992 + 1) * (P : Int) ≤ 10 * (v + 1) * (P : Int) := Int.mul_le_mul_of_nonneg_right h2 (by omega)
      have h4 : (v + 1) * ((P * 10 : Nat) : Int) = 10 * (v + 1) * (P : Int) := by
        rw [Int.natCast_mul, Int.mul_comm 10 (v + 1), Int.mul_assoc, Int.mul_comm (P : Int)]; rfl
      omega
    · simp; omega
theorem vi_len2 : ∀ (k n : Nat) (u : Int), 0 ≤ u → u < ((128 ^ (k + 1) : Nat) : Int) → (vi n u).length ≤ k + 1 := by
  intro k
  induction k with
  | zero =>
    intro n u h0 h
    cases n with
    | zero => simp [vi]
    | succ n =>
      unfold vi
      rw [if_pos (by simp at h; omega)]; simp
  | succ k ih =>
    intro n u h0 h
    cases n with
    | zero => simp [vi]
    | succ n =>
      unfold vi; split
      · simp
      · have := ih n (u / 128) (by omega) (by rw [Nat.pow_succ] at h; omega)
        simp; omega
def nI0 (t : Int → Int) (e i : Int) : Int := if pk t e i = 45 then i + 1 else i
def nDV (t : Int → Int) (e i : Int) : Int × Int := if pk t e i = 48 then (0, i + 1) else sDg t e i 0
/-- a number -/
def sNm (t : Int → Int) (e i : Int) : Int ⊕ (Int × Int) :=
  if ¬ dg (pk t e (nI0 t e i)) then .inl (nI0 t e i) else
  if 9007199254740991 < (nDV t e (nI0 t e i)).1 ∨ pk t e (nDV t e (nI0 t e i)).2 = 46 ∨ pk t e (nDV t e (nI0 t e i)).2 = 101 ∨ pk t e (nDV t e (nI0 t e i)).2 = 69 then .inl i else
  .inr (if pk t e i = 45 then -(nDV t e (nI0 t e i)).1 else (nDV t e (nI0 t e i)).1, (nDV t e (nI0 t e i)).2)
theorem nDV_rng {t : Int → Int} {e i : Int} (h : dg (pk t e i)) : 0 ≤ (nDV t e i).1 ∧ (nDV t e i).1 ≤ 9007199254740992 ∧ i < (nDV t e i).2 ∧ (nDV t e i).2 ≤ e ∧ 1 + ((nuB (nDV t e i).1).length : Int) ≤ 3 * ((nDV t e i).2 - i) ∧ 1 + ((nuB (-(nDV t e i).1)).length : Int) ≤ 3 * ((nDV t e i).2 - i) := by
  have hi : i < e := pkf_lt (t := t) (by omega)
  have hz : ∀ v : Int, 0 ≤ v → 0 ≤ zz v ∧ zz v ≤ 2 * v ∧ 0 ≤ zz (-v) ∧ zz (-v) ≤ 2 * v := by intro v hv; unfold zz; split <;> split <;> omega
  unfold nDV
  by_cases h48 : pk t e i = 48
  · rw [if_pos h48]
    refine ⟨by show (0 : Int) ≤ 0; decide, by show (0 : Int) ≤ 9007199254740992; decide, by show i < i + 1; omega, by show i + 1 ≤ e; omega, ?_, ?_⟩
    · show 1 + ((nuB 0).length : Int) ≤ 3 * (i + 1 - i); have : (nuB 0).length = 1 := by decide
      omega
    · show 1 + ((nuB (-0)).length : Int) ≤ 3 * (i + 1 - i); have : (nuB (-0)).length = 1 := by decide
      omega
  · rw [if_neg h48]
    have e1 : sDg t e i 0 = sDg t e (i + 1) (min (10 * 0 + pk t e i - 48) 9007199254740992) := by rw [sDg_eq, if_pos h]
    have r0 := pDg_rng (pk t e) (e - i).toNat i 0 (by decide) (by decide)
    have r1 := pDg_rng (pk t e) (e - (i + 1)).toNat (i + 1) (min (10 * 0 + pk t e i - 48) 9007199254740992) (by omega) (by omega)
    change 0 ≤ (sDg t e i 0).1 ∧ _ at r0
    obtain ⟨a1, a2, a3, a4, a5⟩ := r0
    have b3 : i + 1 ≤ (sDg t e i 0).2 := by rw [e1]; exact r1.2.2.1
    change (sDg t e i 0).1 ≤ 9007199254740992 at a2
    change (sDg t e i 0).1 < (0 + 1) * ((10 ^ ((sDg t e i 0).2 - i).toNat : Nat) : Int) at a5
    change (sDg t e i 0).2 ≤ i + ((e - i).toNat : Int) at a4
    generalize (sDg t e i 0).1 = v at *
    generalize (sDg t e i 0).2 = j at *
    obtain ⟨z1, z2, z3, z4⟩ := hz v a1
    have fin : ∀ w, 0 ≤ zz w → zz w ≤ 2 * v → 1 + ((nuB w).length : Int) ≤ 3 * (j - i) := by
      intro w w0 w1
      unfold nuB
      by_cases d1 : j = i + 1
      · have : v < 10 := by rw [d1, show (i + 1 - i).toNat = 1 by omega] at a5; omega
        have := vi_len2 0 9 (zz w) w0 (by simp; omega)
        omega
      · by_cases d2 : j = i + 2
        · have : v < 100 := by rw [d2, show (i + 2 - i).toNat = 2 by omega] at a5; omega
          have := vi_len2 1 9 (zz w) w0 (by simp; omega)
          omega
        · have := vi_len2 7 9 (zz w) w0 (by simp; omega)
          omega
    exact ⟨a1, a2, by omega, by omega, fin v z1 z2, fin (-v) z3 z4⟩
section
variable {d : Nat} {T tp e r c : Int} {t : Int → Int}
theorem c64_l {a : Int} {cs : List Int} (hd : 4 ≤ d) : ∀ (rest pre : List Int) (i : Int) (m : Mem), cs = pre ++ rest → TZ m → TX m T tp e i t → SC m a cs →
    (∀ j, sW t e rest i = .inr j → i ≤ j ∧ j ≤ e ∧ j = i + rest.length ∧ rn d 64 2 [pR T, pR a, pI pre.length] [] m = some (.inl none, mst m T 2 j)) ∧
    (∀ p, sW t e rest i = .inl p → ∃ j, 0 ≤ j ∧ j ≤ e ∧ rn d 64 2 [pR T, pR a, pI pre.length] [] m = some (.inr 204, mal (mst (mst m T 2 j) T 3 p) 204 6)) := by
  intro rest
  induction rest with
  | nil =>
    intro pre i m hcs hz h hS
    have h349 := c349 (d := d - 1) (by omega) hz hS
    have hS1 := hS.1
    have b4 := h.2.2.2.1
    have b6 := h.2.2.2.2.2.1
    rw [List.append_nil] at hcs
    refine ⟨fun j hj => ?_, fun p hp => (by cases hp)⟩
    cases hj
    refine ⟨by omega, by omega, by simp, ?_⟩
    rw [mst_self b4]
    refine q64_2 (by omega) hz _ ?_
    rw [hcs] at h349
    rw [gd_of hS1, bI_eq h349, if_neg (by omega)]
  | cons x rest ih =>
    intro pre i m hcs hz h hS
    have h349 := c349 (d := d - 1) (by omega) hz hS
    have hl : (cs.length : Int) = pre.length + 1 + rest.length := by rw [hcs]; simp; omega
    have hS6 := hS.2.2.2.2.2.1
    have h351 := c351 (d := d - 1) (j := pre.length) (by omega) hz hS (by omega) (by omega)
    have hx : gi cs pre.length = x := by rw [hcs, gi_app_r (by omega), Int.sub_self]; rfl
    have hx2 := hS.2.2.2.2.2.2 pre.length (by omega) (by omega)
    have hS1 := hS.1
    have hT := h.1
    have b4 := h.2.2.2.1
    have b6 := h.2.2.2.2.2.1
    rw [hx] at h351 hx2
    unfold sW
    by_cases hp : pk t e i = x
    · rw [if_pos hp]
      have hie : i < e := pkf_lt (t := t) (by omega)
      have h65 := c65_1 (d := d - 1) (x := x) (by omega) hz h hp (by omega)
      have hI := ih (pre ++ [x]) (i + 1) (mst m T 2 (i + 1)) (by simp [hcs]) hz (h.at (by omega) (by omega)) (hS.mT (by omega))
      have step : ∀ Q, rn d 64 2 [pR T, pR a, pI (pre ++ [x]).length] [] (mst m T 2 (i + 1)) = some Q → rn d 64 2 [pR T, pR a, pI pre.length] [] m = some Q := by
        intro Q hQ
        refine q64_2 (by omega) hz _ ?_
        rw [gd_of hS1, bI_eq h349, if_pos (by omega), bI_eq h351, gd_of hT, bV_eq h65, w32_of (by omega) (by omega)]
        have : ((pre ++ [x]).length : Int) = pre.length + 1 := by simp
        rw [this] at hQ; exact hQ
      refine ⟨fun j hj => ?_, fun p hp => ?_⟩
      · obtain ⟨a1, a2, a3, a4⟩ := hI.1 j hj
        refine ⟨by omega, a2, by simp; omega, step _ ?_⟩
        rw [a4, mst_mst]
      · obtain ⟨j, j0, j1, a4⟩ := hI.2 p hp
        refine ⟨j, j0, j1, step _ ?_⟩
        rw [a4, mst_mst]
    · rw [if_neg hp]
      refine ⟨fun j hj => (by cases hj), fun p hp2 => ?_⟩
      cases hp2
      have h65 := c65_0 (d := d - 1) (x := x) (by omega) hz h hp
      refine ⟨i, by omega, by omega, ?_⟩
      rw [mst_self b4]
      refine q64_2 (by omega) hz _ ?_
      rw [gd_of hS1, bI_eq h349, if_pos (by omega), bI_eq h351, gd_of hT, bV_xq h65]
theorem c64 {a i : Int} {m : Mem} {cs : List Int} (hd : 4 ≤ d) (hz : TZ m) (h : TX m T tp e i t) (hS : SC m a cs) :
    (∀ j, sW t e cs i = .inr j → i ≤ j ∧ j ≤ e ∧ j = i + cs.length ∧ cl d 64 [pR T, pR a] m = some (.inl none, mst m T 2 j)) ∧
    (∀ p, sW t e cs i = .inl p → ∃ j, 0 ≤ j ∧ j ≤ e ∧ cl d 64 [pR T, pR a] m = some (.inr 204, mal (mst (mst m T 2 j) T 3 p) 204 6)) := by
  have hl := c64_l (cs := cs) hd cs [] i m rfl hz h hS
  refine ⟨fun j hj => ?_, fun p hp => ?_⟩
  · obtain ⟨a1, a2, a3, a4⟩ := hl.1 j hj
    exact ⟨a1, a2, a3, q64 hz _ a4⟩
  · obtain ⟨j, j0, j1, a4⟩ := hl.2 p hp
    exact ⟨j, j0, j1, q64 hz _ a4⟩
theorem c79_l {i mi : Int} (hd : 3 ≤ d) : ∀ (n : Nat) (k v : Int) (m : Mem), (e - k).toNat = n → TZ m → tg m T = 4 → TX m T tp e k t → 0 ≤ v → v ≤ 9007199254740992 → ∀ Q, rn d 79 117 [pR T, pR r, pI i, pI mi, pL (sDg t e k v).1, pU] [] (mst m T 2 (sDg t e k v).2) = some Q → rn d 79 70 [pR T, pR r, pI i, pI mi, pL v, pU] [] m = some Q := by
  intro n
  induction n with
  | zero =>
    intro k v m hn hz h4 h v0 v1 Q hQ
    have h63 := c63 (d := d - 1) hz h
    have h73 := c73 (d := d - 1) (x := pk t e k) hz
    have hp : pk t e k = -1 := by unfold pk; rw [if_neg (by omega)]
    have b4 := h.2.2.2.1
    rw [sDg_eq, if_neg (by rw [hp]; decide)] at hQ
    rw [if_neg (by rw [hp]; decide)] at h73
    refine q79_70 (by omega) hz _ ?_
    rw [gd_of h4, bI_eq h63, bI_eq h73, if_pos rfl]
    rw [mst_self b4] at hQ; exact hQ
  | succ n ih =>
    intro k v m hn hz h4 h v0 v1 Q hQ
    have h63 := c63 (d := d - 1) hz h
    have h73 := c73 (d := d - 1) (x := pk t e k) hz
    have b4 := h.2.2.2.1
    have b6 := h.2.2.2.2.2.1
    rw [sDg_eq] at hQ
    refine q79_70 (by omega) hz _ ?_
    by_cases hD : dg (pk t e k)
    · rw [if_pos hD] at hQ h73
      have hI := ih (k + 1) (min (10 * v + pk t e k - 48) 9007199254740992) (mst m T 2 (k + 1)) (by omega) hz h4 (h.at (by omega) (by omega)) (by omega) (by omega) Q (by rw [mst_mst]; exact hQ)
      rw [gd_of h4, bI_eq h63, bI_eq h73, if_neg (by decide), bI_eq h63, b4, w32_of (by omega) (by omega)]
      have e1 : w64 (w64 (w64 (10 * v) + pk t e k) - 48) = 10 * v + pk t e k - 48 := by
        rw [w64_of (z := 10 * v) (by omega) (by omega), w64_of (z := 10 * v + _) (by omega) (by omega), w64_of (by omega) (by omega)]
      rw [e1]; exact hI
    · rw [if_neg hD] at hQ h73
      rw [gd_of h4, bI_eq h63, bI_eq h73, if_pos rfl]
      rw [mst_self b4] at hQ; exact hQ
theorem c79 {i : Int} {m : Mem} {xs : List Int} (hd : 5 ≤ d) (ok : OK m) (hI : RI m) (h4 : tg m T = 4) (h : TX m T tp e i t) (hR : RW m r xs c) (hL : xs.length + 12 ≤ 6000) :
    (∀ v j, sNm t e i = .inr (v, j) → -9007199254740992 < v ∧ v < 9007199254740992 ∧ i < j ∧ j ≤ e ∧ 1 + ((nuB v).length : Int) ≤ 3 * (j - i) ∧ ∃ m' c', cl d 79 [pR T, pR r] m = some (.inl none, m') ∧ TX m' T tp e j t ∧ RG r m c (xs ++ 3 :: nuB v) m' c') ∧
    (∀ p, sNm t e i = .inl p → ∃ m', cl d 79 [pR T, pR r] m = some (.inr 204, m') ∧ BR T r m c p m') := by
  have h63 := c63 (d := d - 1) ok.1 h
  have hT := h.1
  have b4 := h.2.2.2.1
  have b6 := h.2.2.2.2.2.1
  have hr8 := hR.1
  have hi0 : i ≤ nI0 t e i ∧ nI0 t e i ≤ e := by
    unfold nI0; split
    · have : i < e := pkf_lt (t := t) (by omega)
      omega
    · omega
  obtain ⟨mi, hmi, hmv⟩ : ∃ mi : Int, (mi = if pk t e i = 45 then 1 else 0) ∧ True := ⟨_, rfl, trivial⟩
  have s1 : ∀ Q, rn d 79 34 [pR T, pR r, pI i, pI mi, pU, pU] [] (mst m T 2 (nI0 t e i)) = some Q → cl d 79 [pR T, pR r] m = some Q := by
    intro Q hQ
    refine q79 (by omega) ok.1 _ ?_
    rw [gd_of h4, nm_eq, b4, bI_eq h63]
    unfold nI0 at hQ
    by_cases h45 : pk t e i = 45
    · have : i < e := pkf_lt (t := t) (by omega)
      rw [if_pos h45] at hQ hmi
      rw [if_pos h45, if_neg (by decide), b4, w32_of (by omega) (by omega)]
      rw [hmi] at hQ; exact hQ
    · rw [if_neg h45] at hQ hmi
      rw [if_neg h45, if_pos rfl]
      rw [hmi, mst_self b4] at hQ; exact hQ
  have hx0 := h.at (j := nI0 t e i) (by omega) hi0.2
  have ok0 : OK (mst m T 2 (nI0 t e i)) := ok
  have h40 : tg (mst m T 2 (nI0 t e i)) T = 4 := h4
  have h63b := c63 (d := d - 1) ok0.1 hx0
  have h73b := c73 (d := d - 1) (x := pk t e (nI0 t e i)) ok0.1
  unfold sNm
  by_cases hD : dg (pk t e (nI0 t e i))
  · rw [if_neg (fun q => q hD)]
    rw [if_pos hD] at h73b
    obtain ⟨r1, r2, r3, r4, r5, r6⟩ := nDV_rng hD
    have h66 := c66_1 (d := d - 1) (T := T) (m := mst m T 2 (nI0 t e i)) (by omega) ok0.1
    have s2 : ∀ Q, rn d 79 117 [pR T, pR r, pI i, pI mi, pL (nDV t e (nI0 t e i)).1, pU] [] (mst m T 2 (nDV t e (nI0 t e i)).2) = some Q → cl d 79 [pR T, pR r] m = some Q := by
      intro Q hQ
      refine s1 _ (q79_34 (by omega) ok0.1 _ ?_)
      rw [gd_of h40, bI_eq h63b, bI_eq h73b, bV_eq h66, bI_eq h63b]
      unfold nDV at hQ
      by_cases h48 : pk t e (nI0 t e i) = 48
      · rw [if_pos h48] at hQ
        have hl : nI0 t e i < e := pkf_lt (t := t) (by omega)
        rw [if_pos h48, vl_mst, if_pos ⟨rfl, rfl⟩, w32_of (by omega) (by omega), mst_mst]; exact hQ
      · rw [if_neg h48] at hQ
        rw [if_neg h48]
        exact c79_l (by omega) _ _ 0 _ rfl ok0.1 h40 hx0 (by decide) (by decide) Q (by rw [mst_mst]; exact hQ)
    generalize hV : (nDV t e (nI0 t e i)).1 = v at *
    generalize hJ : (nDV t e (nI0 t e i)).2 = j at *
    have hx1 := h.at (j := j) (by omega) r4
    have ok1 : OK (mst m T 2 j) := ok
    have h63c := c63 (d := d - 1) ok1.1 hx1
    have h67 := c67 (d := d - 1) (p := i) (m := mst m T 2 j) ok1.1 hT
    have h41 : tg (mst m T 2 j) T = 4 := h4
    by_cases hb : 9007199254740991 < v ∨ pk t e j = 46 ∨ pk t e j = 101 ∨ pk t e j = 69
    · rw [if_pos hb]
      refine ⟨fun v j hE => (by cases hE), fun p hp => ?_⟩
      cases hp
      refine ⟨_, s2 _ (q79_117 (by omega) ok1.1 _ ?_), BR.mk2 (j := j) (p := i) ok.1 h hI hR⟩
      by_cases b1 : 9007199254740991 < v
      · rw [if_pos b1, gd_of h41, bV_xq h67]
      · rw [if_neg b1, gd_of h41, bI_eq h63c]
        by_cases b2 : pk t e j = 46
        · rw [if_pos b2, bV_xq h67]
        · rw [if_neg b2, bI_eq h63c]
          by_cases b3 : pk t e j = 101
          · rw [if_pos b3, bV_xq h67]
          · rw [if_neg b3, bI_eq h63c, if_pos (by omega), bV_xq h67]
    · rw [if_neg hb]
      refine ⟨fun v' j' hE => ?_, fun p hp => (by cases hp)⟩
      cases hE
      have g0 : RG r m c xs (mst m T 2 j) c := RG.atR hR hT hI
      obtain ⟨m1, c1, e1, g1⟩ := c130 (d := d - 1) (b := 3) (by omega) ok1 g0.2.1.1 g0.1 (by omega)
      have ok2 := ok1.fr (cl_FRM e1)
      have s3 : ∀ Q, rn d 79 158 [pR T, pR r, pI i, pI mi, pL v, pU] [] (mst m T 2 j) = some Q → cl d 79 [pR T, pR r] m = some Q := by
        intro Q hQ
        refine s2 _ (q79_117 (by omega) ok1.1 _ ?_)
        rw [if_neg (by omega), gd_of h41, bI_eq h63c, if_neg (by omega), bI_eq h63c, if_neg (by omega), bI_eq h63c, if_neg (by omega)]; exact hQ
      have hx2 := hx1.fr (cl_FRM e1) ok1.1 (by rfl)
      have hr81 : tg (mst m T 2 j) r = 8 := hr8
      by_cases h45 : pk t e i = 45
      · rw [if_pos h45] at hmi ⊢
        obtain ⟨m2, c2, e2, g2⟩ := c138 (d := d - 1) (b := -v) (by omega) ok2 g1.2.1.1 g1.1 (by omega) (by omega) (by simp; omega)
        refine ⟨by omega, by omega, by omega, r4, by have := hi0.1; omega, m2, c2, s3 _ (q79_158 (by omega) ok1.1 _ ?_), hx2.fr (cl_FRM e2) ok2.1 (by rfl), ?_⟩
        · rw [gd_of hr81, bV_eq e1, if_neg (by omega), w64_of (by omega) (by omega), bV_eq e2]
        · have := (g0.trans g1 (by simp)).trans g2 (by simp)
          simpa [show w8 3 = 3 from rfl] using this
      · rw [if_neg h45] at hmi ⊢
        obtain ⟨m2, c2, e2, g2⟩ := c138 (d := d - 1) (b := v) (by omega) ok2 g1.2.1.1 g1.1 (by omega) (by omega) (by simp; omega)
        refine ⟨by omega, by omega, by omega, r4, by have := hi0.1; omega, m2, c2, s3 _ (q79_158 (by omega) ok1.1 _ ?_), hx2.fr (cl_FRM e2) ok2.1 (by rfl), ?_⟩
        · rw [gd_of hr81, bV_eq e1, if_pos hmi, bV_eq e2]
        · have := (g0.trans g1 (by simp)).trans g2 (by simp)
          simpa [show w8 3 = 3 from rfl] using this
  · rw [if_pos hD]
    rw [if_neg hD] at h73b
    refine ⟨fun v j hE => (by cases hE), fun p hp => ?_⟩
    cases hp
    have h660 := c66_0 (d := d - 1) (by omega) ok0.1 hx0
    refine ⟨_, s1 _ (q79_34 (by omega) ok0.1 _ ?_), BR.mk2 (j := nI0 t e i) (p := nI0 t e i) ok.1 h hI hR⟩
    rw [gd_of h40, bI_eq h63b, bI_eq h73b, bV_xq h660]
end
