/-! reading what was printed: strings and numbers -/
set_option maxRecDepth 100000
set_option maxHeartbeats 4000000
/-- the text has ys at a -/
def AtT (t : Int → Int) (e a : Int) (ys : List Int) : Prop := 0 ≤ a ∧ a + ys.length ≤ e ∧ ∀ j : Int, 0 ≤ j → j < ys.length → pk t e (a + j) = gi ys j
section
variable {t : Int → Int} {e a : Int} {ys zs : List Int}
theorem AtT.app (h : AtT t e a (ys ++ zs)) : AtT t e a ys ∧ AtT t e (a + ys.length) zs := by
  obtain ⟨h0, h1, h2⟩ := h
  rw [List.length_append] at h1 h2
  refine ⟨⟨h0, by omega, fun j j0 j1 => ?_⟩, ⟨by omega, by omega, fun j j0 j1 => ?_⟩⟩
  · rw [h2 j j0 (by omega), gi_app_l j0 j1]
  · rw [Int.add_assoc, h2 _ (by omega) (by omega), gi_app_r (by omega)]; congr 1; omega
theorem AtT.cons {y : Int} (h : AtT t e a (y :: ys)) : pk t e a = y ∧ AtT t e (a + 1) ys := by
  have h' : AtT t e a ([y] ++ ys) := h
  obtain ⟨h1, h2⟩ := h'.app
  refine ⟨?_, h2⟩
  have := h1.2.2 0 (by omega) (by simp)
  rw [Int.add_zero] at this; exact this
theorem AtT.of {L : List Int} (h : ∀ j : Int, 0 ≤ j → j < L.length → t j = gi L j) (hb : ∀ c, c ∈ L → 0 ≤ c ∧ c < 128) : AtT t L.length 0 L := by
  refine ⟨by omega, by omega, fun j j0 j1 => ?_⟩
  unfold pk
  rw [Int.zero_add, if_pos j1, h j j0 j1]
  have : gi L j ∈ L := by
    unfold gi
    rw [List.getD_eq_getElem?_getD, List.getElem?_eq_getElem (by omega)]
    exact List.getElem_mem _
  have := hb _ this
  omega
theorem sB_here {i : Int} (h : ¬ bk (pk t e i)) : sB t e i = i := by rw [sB_eq, if_neg h]
theorem hexV_hx {x : Int} (h : 0 ≤ x ∧ x < 16) : hexV (hx x) = x := by
  unfold hexV hx
  by_cases h1 : x < 10
  · rw [if_pos h1, if_pos (by omega)]; omega
  · rw [if_neg h1, if_neg (by omega), if_pos (by omega)]; omega
theorem f4_rd {u fi : Int} (hu : 0 ≤ u ∧ u < 65536) (h : AtT t e a [hx (u / 4096 % 16), hx (u / 256 % 16), hx (u / 16 % 16), hx (u % 16)]) : f4 t e fi 4 a 0 = .inr u := by
  have hl := h.2.1
  simp at hl
  obtain ⟨p1, h1⟩ := h.cons
  obtain ⟨p2, h2⟩ := h1.cons
  obtain ⟨p3, h3⟩ := h2.cons
  obtain ⟨p4, h4⟩ := h3.cons
  unfold f4
  rw [if_pos (by omega), p1, hexV_hx (by omega), if_neg (by omega)]
  unfold f4
  rw [if_pos (by omega), p2, hexV_hx (by omega), if_neg (by omega)]
  unfold f4
  rw [if_pos (by omega), p3, hexV_hx (by omega), if_neg (by omega)]
  unfold f4
  rw [if_pos (by omega), p4, hexV_hx (by omega), if_neg (by omega)]
  unfold f4
  congr 1
  omega
theorem prC_u {q u : Int} (h : ¬ (u = q ∨ u = 92)) (h1 : 126 < u) : prC q u = [92, 117, hx (u / 4096 % 16), hx (u / 256 % 16), hx (u / 16 % 16), hx (u % 16)] := by
  unfold prC
  rw [if_neg h, if_neg (by omega), if_neg (by omega), if_neg (by omega), if_neg (by omega), if_neg (by omega), if_pos (by omega)]
theorem sC_rd {u : Int} (hu : 0 ≤ u ∧ u < 65536) (hs : ¬ (55296 ≤ u ∧ u ≤ 57343)) (h : AtT t e a (prC 34 u)) : sC t e 34 a = .inr ([u], a + (prC 34 u).length) ∧ pk t e a ≠ 34 := by
  have bs : ∀ c v : Int, pk t e a = 92 → pk t e (a + 1) = c → a + 2 ≤ e → (c = 34 ∧ v = 34 ∨ c = 92 ∧ v = 92 ∨ c = 98 ∧ v = 8 ∨ c = 102 ∧ v = 12 ∨ c = 110 ∧ v = 10 ∨ c = 114 ∧ v = 13 ∨ c = 116 ∧ v = 9) → sC t e 34 a = .inr ([v], a + 2) := by
    intro c v p1 p2 hl hcv
    unfold sC
    rw [if_neg (by omega), if_neg (by omega), if_neg (by omega), p2]
    rcases hcv with ⟨rfl, rfl⟩ | ⟨rfl, rfl⟩ | ⟨rfl, rfl⟩ | ⟨rfl, rfl⟩ | ⟨rfl, rfl⟩ | ⟨rfl, rfl⟩ | ⟨rfl, rfl⟩ <;> simp
  have two : ∀ c : Int, prC 34 u = [92, c] → (c = 34 ∧ u = 34 ∨ c = 92 ∧ u = 92 ∨ c = 98 ∧ u = 8 ∨ c = 102 ∧ u = 12 ∨ c = 110 ∧ u = 10 ∨ c = 114 ∧ u = 13 ∨ c = 116 ∧ u = 9) → sC t e 34 a = .inr ([u], a + (prC 34 u).length) ∧ pk t e a ≠ 34 := by
    intro c hc hcv
    rw [hc] at h ⊢
    have hl := h.2.1
    simp at hl
    obtain ⟨p1, h1⟩ := h.cons
    obtain ⟨p2, h2⟩ := h1.cons
    exact ⟨bs c u p1 p2 (by omega) hcv, by omega⟩
  by_cases b0 : u = 34 ∨ u = 92
  · exact two u (by unfold prC; rw [if_pos b0]) (by omega)
  by_cases c1 : u = 8
  · exact two 98 (by rw [c1]; rfl) (by omega)
  by_cases c2 : u = 9
  · exact two 116 (by rw [c2]; rfl) (by omega)
  by_cases c3 : u = 10
  · exact two 110 (by rw [c3]; rfl) (by omega)
  by_cases c4 : u = 12
  · exact two 102 (by rw [c4]; rfl) (by omega)
  by_cases c5 : u = 13
  · exact two 114 (by rw [c5]; rfl) (by omega)
  by_cases c6 : u < 32 ∨ 126 < u
  · have hc : prC 34 u = [92, 117, hx (u / 4096 % 16), hx (u / 256 % 16), hx (u / 16 % 16), hx (u % 16)] := by
      unfold prC
      rw [if_neg b0, if_neg c1, if_neg c2, if_neg c3, if_neg c4, if_neg c5, if_pos c6]
    rw [hc] at h ⊢
    have hl := h.2.1
    simp at hl
    obtain ⟨p1, h1⟩ := h.cons
    obtain ⟨p2, h2⟩ := h1.cons
    refine ⟨?_, by omega⟩
    unfold sC
    rw [if_neg (by omega), if_neg (by omega), if_neg (by omega), p2, if_neg (by decide), if_neg (by decide), if_neg (by decide), if_neg (by decide), if_neg (by decide), if_neg (by decide), if_pos rfl]
    unfold sU
    rw [show a + 2 = a + 1 + 1 by omega, f4_rd hu h2]
    dsimp only
    rw [if_neg (by omega), if_pos (by omega)]
    simp; omega
  · have hc : prC 34 u = [u] := by
      unfold prC
      rw [if_neg b0, if_neg c1, if_neg c2, if_neg c3, if_neg c4, if_neg c5, if_neg c6]
    rw [hc] at h ⊢
    obtain ⟨p1, h1⟩ := h.cons
    refine ⟨?_, by omega⟩
    unfold sC
    rw [p1, if_neg c6, if_pos (by omega)]
    simp
theorem sC_rd2 {u v : Int} (hu : 55296 ≤ u ∧ u ≤ 56319) (hv : 56320 ≤ v ∧ v ≤ 57343) (h : AtT t e a (prC 34 u ++ prC 34 v)) : sC t e 34 a = .inr ([u, v], a + 12) ∧ pk t e a ≠ 34 ∧ (prC 34 u).length = 6 ∧ (prC 34 v).length = 6 := by
  have e1 := prC_u (q := 34) (u := u) (by omega) (by omega)
  have e2 := prC_u (q := 34) (u := v) (by omega) (by omega)
  rw [e1, e2] at h
  have hl := h.2.1
  simp at hl
  obtain ⟨ha, hb⟩ := h.app
  obtain ⟨p1, h1⟩ := ha.cons
  obtain ⟨p2, h2⟩ := h1.cons
  simp only [List.length_cons, List.length_nil] at hb
  obtain ⟨p3, h3⟩ := hb.cons
  obtain ⟨p4, h4⟩ := h3.cons
  refine ⟨?_, by omega, by rw [e1]; rfl, by rw [e2]; rfl⟩
  unfold sC
  rw [if_neg (by omega), if_neg (by omega), if_neg (by omega), p2, if_neg (by decide), if_neg (by decide), if_neg (by decide), if_neg (by decide), if_neg (by decide), if_neg (by decide), if_pos rfl]
  unfold sU
  rw [show a + 2 = a + 1 + 1 by omega, f4_rd (by omega) h2]
  dsimp only
  rw [if_neg (by omega), if_neg (by omega), if_neg (by omega)]
  rw [show a + ((0 + 1 + 1 + 1 + 1 + 1 + 1 : Nat) : Int) = a + 1 + 1 + 4 by omega] at p3 p4 h4
  rw [if_neg (by omega), if_neg (by omega)]
  rw [show a + 1 + 1 + 4 + 1 = a + 1 + 1 + 5 by omega] at p4 h4
  rw [if_neg (by omega), show a + 1 + 1 + 6 = a + 1 + 1 + 5 + 1 by omega, f4_rd (by omega) h4]
  dsimp only
  rw [if_neg (by omega), show a + 1 + 1 + 10 = a + 12 by omega]
theorem pS_rd : ∀ (us : List Int) (n : Nat) (a : Int), wfU us → sur us → us.length < n → AtT t e a (us.flatMap (prC 34) ++ [34]) → pS t e 34 n a = .inr (us, a + (us.flatMap (prC 34)).length + 1)
  | [], n, a, hw, hs, hn, h => by
    cases n with
    | zero => simp at hn
    | succ n =>
      have := h.cons.1
      unfold pS
      rw [if_pos this]
      simp
  | [u], n, a, hw, hs, hn, h => by
    cases n with
    | zero => simp at hn
    | succ n =>
      simp only [List.flatMap_cons, List.flatMap_nil, List.append_nil] at h ⊢
      obtain ⟨h1, h2⟩ := h.app
      obtain ⟨k1, k2⟩ := sC_rd (hw u (by simp)) hs h1
      have ih := pS_rd [] n (a + (prC 34 u).length) (fun x hx => absurd hx (by simp)) trivial (by simp at hn ⊢; omega) h2
      unfold pS
      rw [if_neg k2, k1]
      dsimp only
      rw [ih]
      simp
  | u :: v :: r, n, a, hw, hs, hn, h => by
    cases n with
    | zero => simp at hn
    | succ n =>
      rcases hs with ⟨s1, s2, s3, s4, s5⟩ | ⟨s1, s2⟩
      · simp only [List.flatMap_cons] at h ⊢
        rw [List.append_assoc, List.append_assoc, ← List.append_assoc] at h
        obtain ⟨h1, h2⟩ := h.app
        obtain ⟨k1, k2, k3, k4⟩ := sC_rd2 ⟨s1, s2⟩ ⟨s3, s4⟩ h1
        have ih := pS_rd r n (a + (prC 34 u ++ prC 34 v).length) (fun x hx => hw x (by simp [hx])) s5 (by simp at hn ⊢; omega) h2
        unfold pS
        rw [if_neg k2, k1]
        dsimp only
        rw [show a + 12 = a + ((prC 34 u ++ prC 34 v).length : Int) by rw [List.length_append, k3, k4]; omega, ih]
        simp only [List.cons_append, List.nil_append, List.length_append]
        congr 2
        omega
      · rw [List.flatMap_cons, List.append_assoc] at h
        obtain ⟨h1, h2⟩ := h.app
        obtain ⟨k1, k2⟩ := sC_rd (hw u (by simp)) s1 h1
        have ih := pS_rd (v :: r) n (a + (prC 34 u).length) (fun x hx => hw x (List.mem_cons_of_mem _ hx)) s2 (by simp at hn ⊢; omega) h2
        unfold pS
        rw [if_neg k2, k1]
        dsimp only
        rw [ih, show (u :: v :: r).flatMap (prC 34) = prC 34 u ++ (v :: r).flatMap (prC 34) from List.flatMap_cons]
        simp only [List.cons_append, List.nil_append, List.length_append]
        congr 2
        omega
theorem prC_len (q u : Int) : 1 ≤ (prC q u).length := by unfold prC; split <;> (try split) <;> (try split) <;> (try split) <;> (try split) <;> (try split) <;> (try split) <;> simp
theorem prCs_len (q : Int) (us : List Int) : us.length ≤ (us.flatMap (prC q)).length := by
  induction us with
  | nil => simp
  | cons u us ih => have := prC_len q u; simp only [List.flatMap_cons, List.length_append, List.length_cons]; omega
theorem sS_rd {us : List Int} (hw : wfU us) (hs : sur us) (h : AtT t e a (prS 34 us)) : pk t e a = 34 ∧ sS t e 34 (a + 1) = .inr (us, a + (prS 34 us).length) := by
  unfold prS at h ⊢
  obtain ⟨h1, h2⟩ := h.cons
  refine ⟨h1, ?_⟩
  have hl := h2.2.1
  have h0 := h2.1
  have hc := prCs_len 34 us
  rw [List.length_append] at hl
  simp only [List.length_cons, List.length_nil] at hl
  unfold sS
  rw [pS_rd us _ (a + 1) hw hs (by omega) h2]
  simp only [List.length_cons, List.length_append, List.length_nil]
  congr 2
  omega
theorem dl_len : ∀ (k : Nat) (u : Int), (dl k u).length = k + 1 := by
  intro k
  induction k with
  | zero => intro u; rfl
  | succ k ih => intro u; simp only [dl, List.length_cons, ih]
theorem sDg_rd : ∀ (k U V : Nat) (a : Int), V * 10 ^ (k + 1) + U % 10 ^ (k + 1) ≤ 9007199254740991 → AtT t e a (dl k (U : Int)) → ¬ dg (pk t e (a + k + 1)) → sDg t e a (V : Int) = (((V * 10 ^ (k + 1) + U % 10 ^ (k + 1) : Nat) : Int), a + k + 1) := by
  intro k
  induction k with
  | zero =>
    intro U V a hb h hn
    obtain ⟨p1, -⟩ := h.cons
    simp only [Nat.zero_add, Nat.pow_one] at hb ⊢
    have hn' : ¬ dg (pk t e (a + 1)) := by simpa using hn
    rw [sDg_eq, if_pos (show dg (pk t e a) by rw [p1]; show 48 ≤ _ ∧ _ ≤ 57; omega), sDg_eq, if_neg hn', p1]
    refine Prod.ext ?_ ?_
    · show min (10 * (V : Int) + (48 + (U : Int) % 10) - 48) 9007199254740992 = _
      omega
    · show a + 1 = a + ((0 : Nat) : Int) + 1
      omega
  | succ k ih =>
    intro U V a hb h hn
    have h' : AtT t e a ((48 + (U : Int) / ((10 ^ (k + 1) : Nat) : Int) % 10) :: dl k U) := h
    obtain ⟨p1, h1⟩ := h'.cons
    have hP : 0 < 10 ^ (k + 1) := Nat.pow_pos (by decide)
    have e1 : (U : Int) / ((10 ^ (k + 1) : Nat) : Int) % 10 = ((U / 10 ^ (k + 1) % 10 : Nat) : Int) := by first | rfl | norm_cast
    have e2 : U % 10 ^ (k + 1 + 1) = U % 10 ^ (k + 1) + 10 ^ (k + 1) * (U / 10 ^ (k + 1) % 10) := by rw [Nat.pow_succ 10 (k + 1), Nat.mod_mul]
    have hD : U / 10 ^ (k + 1) % 10 < 10 := Nat.mod_lt _ (by decide)
    rw [e1] at p1
    rw [e2, Nat.pow_succ 10 (k + 1)] at hb ⊢
    generalize 10 ^ (k + 1) = P at *
    generalize U / P % 10 = D at *
    have e3 : (10 * V + D) * P + U % P = V * (P * 10) + (U % P + P * D) := by
      rw [Nat.add_mul, Nat.mul_comm D P, show 10 * V * P = V * (P * 10) by rw [Nat.mul_comm 10 V, Nat.mul_assoc, Nat.mul_comm 10 P]]; omega
    have hle : 10 * V + D ≤ (10 * V + D) * P := Nat.le_mul_of_pos_right _ hP
    have ih' := ih U (10 * V + D) (a + 1) (by rw [e3]; exact hb) h1 (by rw [show a + 1 + (k : Int) + 1 = a + ((k + 1 : Nat) : Int) + 1 by omega]; exact hn)
    have em : min (10 * (V : Int) + (48 + (D : Int)) - 48) 9007199254740992 = ((10 * V + D : Nat) : Int) := by omega
    rw [sDg_eq, if_pos (show dg (pk t e a) by rw [p1]; show 48 ≤ _ ∧ _ ≤ 57; omega), p1, em, ih', e3]
    refine Prod.ext rfl ?_
    show a + 1 + (k : Int) + 1 = a + ((k + 1 : Nat) : Int) + 1
    omega
theorem kd_spec : ∀ (n : Nat) (u : Int), 0 ≤ u → u < ((10 ^ (n + 1) : Nat) : Int) → u < ((10 ^ (kd n u + 1) : Nat) : Int) ∧ (kd n u = 0 ∨ ((10 ^ (kd n u) : Nat) : Int) ≤ u) := by
  intro n
  induction n with
  | zero => intro u h0 h1; exact ⟨h1, Or.inl rfl⟩
  | succ n ih =>
    intro u h0 h1
    unfold kd
    by_cases h : u < 10
    · rw [if_pos h]; exact ⟨by simpa using h, Or.inl rfl⟩
    · rw [if_neg h]
      rw [Nat.pow_succ] at h1
      obtain ⟨k1, k2⟩ := ih (u / 10) (by omega) (by omega)
      rw [Nat.pow_succ 10 (kd n (u / 10) + 1)]
      refine ⟨by omega, Or.inr ?_⟩
      rw [Nat.pow_succ]
      rcases k2 with k2 | k2
      · rw [k2]; simp; omega
      · omega
theorem dl_hd (k : Nat) (u : Int) : ∃ r, dl k u = (48 + u / ((10 ^ k : Nat) : Int) % 10) :: r := by
  cases k with
  | zero => exact ⟨[], by simp [dl]⟩
  | succ k => exact ⟨dl k u, rfl⟩
theorem nDV_rd {u : Int} (hu : 0 ≤ u ∧ u < 9007199254740992) (h : AtT t e a (dl (kd 17 u) u)) (hn : ¬ dg (pk t e (a + (dl (kd 17 u) u).length))) : dg (pk t e a) ∧ nDV t e a = (u, a + (dl (kd 17 u) u).length) := by
  obtain ⟨k1, k2⟩ := kd_spec 17 u hu.1 (by omega)
  obtain ⟨r, hr⟩ := dl_hd (kd 17 u) u
  rw [dl_len] at hn ⊢
  have h' := h
  rw [hr] at h'
  obtain ⟨p1, -⟩ := h'.cons
  generalize kd 17 u = k at *
  have hP : 0 < 10 ^ k := Nat.pow_pos (by decide)
  have hdg : dg (pk t e a) := by rw [p1]; show 48 ≤ _ ∧ _ ≤ 57; omega
  refine ⟨hdg, ?_⟩
  unfold nDV
  by_cases hz : u = 0
  · have hk0 : k = 0 := by
      rcases k2 with k2 | k2
      · exact k2
      · omega
    subst hk0
    rw [hz] at p1 ⊢
    rw [if_pos (by rw [p1]; rfl)]
    simp
  · have hne : ¬ pk t e a = 48 := by
      rw [p1]
      have b1 : u / ((10 ^ k : Nat) : Int) < 10 := by
        rw [Nat.pow_succ] at k1
        exact Int.ediv_lt_of_lt_mul (by omega) (by omega)
      have b2 : 1 ≤ u / ((10 ^ k : Nat) : Int) := by
        rcases k2 with k2 | k2
        · rw [k2]; simp; omega
        · exact (Int.le_ediv_iff_mul_le (by omega)).mpr (by omega)
      omega
    rw [if_neg hne]
    obtain ⟨U, rfl⟩ := Int.eq_ofNat_of_zero_le hu.1
    have hm : U % 10 ^ (k + 1) = U := Nat.mod_eq_of_lt (by omega)
    have := sDg_rd (t := t) (e := e) k U 0 a (by rw [hm]; omega) h (by rw [show a + (k : Int) + 1 = a + ((k + 1 : Nat) : Int) by omega]; exact hn)
    rw [hm] at this
    rw [show ((0 : Nat) : Int) = 0 from rfl] at this
    rw [this]
    refine Prod.ext ?_ ?_
    · show ((0 * 10 ^ (k + 1) + U : Nat) : Int) = (U : Int)
      rw [Nat.zero_mul, Nat.zero_add]
    · show a + (k : Int) + 1 = a + ((k + 1 : Nat) : Int)
      omega
/-- what may follow a value -/
abbrev fol (c : Int) : Prop := c = 44 ∨ c = 93 ∨ c = 125 ∨ c = -1
theorem sNm_rd {v : Int} (hv : -9007199254740992 < v ∧ v < 9007199254740992) (h : AtT t e a (prN v)) (hf : fol (pk t e (a + (prN v).length))) : sNm t e a = .inr (v, a + (prN v).length) ∧ (pk t e a = 45 ∨ dg (pk t e a)) := by
  unfold prN at h hf ⊢
  by_cases hn : v < 0
  · rw [if_pos hn] at h hf ⊢
    obtain ⟨p1, h1⟩ := h.cons
    simp only [List.length_cons] at hf ⊢
    obtain ⟨d1, d2⟩ := nDV_rd (u := -v) (by omega) h1 (by rw [show a + 1 + ((dl (kd 17 (-v)) (-v)).length : Int) = a + (((dl (kd 17 (-v)) (-v)).length + 1 : Nat) : Int) by omega]; intro q; rcases hf with hf | hf | hf | hf <;> rw [hf] at q <;> revert q <;> decide)
    refine ⟨?_, Or.inl p1⟩
    have e0 : nI0 t e a = a + 1 := by unfold nI0; rw [if_pos p1]
    unfold sNm
    rw [e0, if_neg (fun q => q d1), d2]
    dsimp only
    rw [show a + 1 + ((dl (kd 17 (-v)) (-v)).length : Int) = a + (((dl (kd 17 (-v)) (-v)).length + 1 : Nat) : Int) by omega, if_neg (by omega), if_pos p1, Int.neg_neg]
  · rw [if_neg hn] at h hf ⊢
    obtain ⟨d1, d2⟩ := nDV_rd (u := v) (by omega) h (by intro q; rcases hf with hf | hf | hf | hf <;> rw [hf] at q <;> revert q <;> decide)
    have d1' : 48 ≤ pk t e a ∧ pk t e a ≤ 57 := d1
    refine ⟨?_, Or.inr d1⟩
    have e0 : nI0 t e a = a := by unfold nI0; rw [if_neg (by omega)]
    unfold sNm
    rw [e0, if_neg (fun q => q d1), d2]
    dsimp only
    rw [if_neg (by omega), if_neg (by omega)]
theorem sW_rd : ∀ (cs : List Int) (a : Int), AtT t e a cs → sW t e cs a = .inr (a + cs.length) := by
  intro cs
  induction cs with
  | nil => intro a h; simp [sW]
  | cons c cs ih =>
    intro a h
    obtain ⟨p1, h1⟩ := h.cons
    unfold sW
    rw [if_pos p1, ih (a + 1) h1]
    simp; omega
end
