/-! the disk: finding a document, loading it -/
set_option maxRecDepth 100000
set_option maxHeartbeats 4000000
/-- where an id belongs among children -/
theorem spl (id : Int) : ∀ (N : Nat) (ch : CH), ch.length = N + 1 → ∃ A x B, ch = A ++ x :: B ∧ (∀ y ∈ B, id < hdId y.2.1) ∧ (A ≠ [] → hdId x.2.1 ≤ id) := by
  intro N
  induction N with
  | zero =>
    intro ch h
    cases ch with
    | nil => cases h
    | cons x ch =>
      have : ch = [] := List.length_eq_zero_iff.mp (by simpa using h)
      subst this
      exact ⟨[], x, [], rfl, fun y hy => (by cases hy), fun h => absurd rfl h⟩
  | succ N ih =>
    intro ch h
    obtain ⟨ch', z, rfl⟩ : ∃ ch' z, ch = ch' ++ [z] := by
      rcases List.eq_nil_or_concat ch with q | ⟨l, a, q⟩
      · rw [q] at h; cases h
      · exact ⟨l, a, by rw [q, List.concat_eq_append]⟩
    rw [List.length_append, List.length_singleton] at h
    by_cases hz : hdId z.2.1 ≤ id
    · exact ⟨ch', z, [], rfl, fun y hy => (by cases hy), fun _ => hz⟩
    · obtain ⟨A, x, B, rfl, h1, h2⟩ := ih ch' (by omega)
      refine ⟨A, x, B ++ [z], by simp, fun y hy => ?_, h2⟩
      rcases List.mem_append.mp hy with q | q
      · exact h1 y q
      · rw [List.mem_singleton.mp q]; omega
theorem hdId_le {L : DL} (h : srt L) {z : Int × List Int} (hz : z ∈ L) : hdId L ≤ z.1 := by
  cases L with
  | nil => cases hz
  | cons x L =>
    rcases List.mem_cons.mp hz with q | q
    · rw [q]; exact Int.le_refl _
    · have := h.1 z q
      show x.1 ≤ z.1
      omega
theorem hdId_mem {L : DL} (h : L ≠ []) : ∃ xs, (hdId L, xs) ∈ L := by
  cases L with
  | nil => exact absurd rfl h
  | cons x L => exact ⟨x.2, List.mem_cons_self⟩
section
variable {id : Int} {A B : CH} {x : Int × DL × List Int}
theorem spl_lt (hs : srt (flL (A ++ x :: B))) (hA : A ≠ [] → hdId x.2.1 ≤ id) (hx : x.2.1 ≠ []) : ∀ y ∈ flL A, y.1 < id := by
  intro y hy
  have hne : A ≠ [] := by intro z; rw [z] at hy; cases hy
  rw [flL_app, flL_cons] at hs
  obtain ⟨xs, hm⟩ := hdId_mem hx
  have := (srt_app.mp hs).2.2 y hy (hdId x.2.1, xs) (List.mem_append_left _ hm)
  have := hA hne
  have h2 : y.1 < hdId x.2.1 := by assumption
  omega
theorem spl_gt (hs : srt (flL (A ++ x :: B))) (hB : ∀ y ∈ B, id < hdId y.2.1) : ∀ z ∈ flL B, id < z.1 := by
  intro z hz
  obtain ⟨y, hy, hzy⟩ := List.mem_flatMap.mp hz
  rw [flL_app, flL_cons] at hs
  have h1 := (srt_app.mp (srt_app.mp hs).2.1).2.1
  have h2 : srt y.2.1 := by
    obtain ⟨P, Q, rfl⟩ := List.append_of_mem hy
    rw [flL_app, flL_cons] at h1
    exact (srt_app.mp (srt_app.mp h1).2.1).1
  have := hB y hy
  have := hdId_le h2 hzy
  omega
theorem spl_mid (hs : srt (flL (A ++ x :: B))) : srt x.2.1 := by
  rw [flL_app, flL_cons] at hs
  exact (srt_app.mp (srt_app.mp hs).2.1).1
theorem spl_lk (hs : srt (flL (A ++ x :: B))) (hA : A ≠ [] → hdId x.2.1 ≤ id) (hx : x.2.1 ≠ []) (hB : ∀ y ∈ B, id < hdId y.2.1) : lkL id (flL (A ++ x :: B)) = lkL id x.2.1 := by
  rw [flL_app, flL_cons, lkL_mid fun y hy => by have := spl_lt hs hA hx y hy; omega, lkL_end fun y hy => by have := spl_gt hs hB y hy; omega]
theorem spl_ins {xs : List Int} (hs : srt (flL (A ++ x :: B))) (hA : A ≠ [] → hdId x.2.1 ≤ id) (hx : x.2.1 ≠ []) (hB : ∀ y ∈ B, id < hdId y.2.1) : insL id xs (flL (A ++ x :: B)) = flL A ++ (insL id xs x.2.1 ++ flL B) := by
  rw [flL_app, flL_cons, insL_mid fun y hy => spl_lt hs hA hx y hy, insL_end fun y hy => spl_gt hs hB y hy]
theorem spl_rm (hs : srt (flL (A ++ x :: B))) (hA : A ≠ [] → hdId x.2.1 ≤ id) (hx : x.2.1 ≠ []) (hB : ∀ y ∈ B, id < hdId y.2.1) : rmL id (flL (A ++ x :: B)) = flL A ++ (rmL id x.2.1 ++ flL B) := by
  rw [flL_app, flL_cons, rmL_mid fun y hy => by have := spl_lt hs hA hx y hy; omega, rmL_end fun y hy => by have := spl_gt hs hB y hy; omega]
end
theorem ents_at {A B : CH} {x : Int × DL × List Int} : (ents (A ++ x :: B))[A.length]? = some (hdId x.2.1, x.1) := by
  unfold ents
  rw [List.getElem?_map, List.getElem?_append_right (Nat.le_refl _), Nat.sub_self]
  rfl
theorem ents_len {ch : CH} : (ents ch).length = ch.length := by unfold ents; rw [List.length_map]
section
variable {d : Nat} {m : Mem} {K b id : Int} {c : RF}
theorem c165_16 {a1 : Int} {A : CH} {x : Int × DL × List Int} (hd : 2 ≤ d) (hz : TZ m) (hD : DA m K) (hc : BC m K c) (hb : 0 ≤ b ∧ b < 1600) (hA : A ≠ [] → hdId x.2.1 ≤ id) (hl : A.length ≤ 20) : ∀ (B : CH), (∀ y ∈ B, id < hdId y.2.1) → B.length ≤ 20 → (∀ (j : Nat) (e : Int × Int), (ents (A ++ x :: B))[j]? = some e → ftw (c b) (3 + 4 * j) = e.1) → ∀ Z, rn d 165 38 [pR K, pI a1, pI id, pI b, pI A.length] [] m = some Z → rn d 165 16 [pR K, pI a1, pI id, pI b, pI ((A.length : Int) + B.length)] [] m = some Z := by
  have key : ∀ (N : Nat) (B : CH), B.length = N → (∀ y ∈ B, id < hdId y.2.1) → B.length ≤ 20 → (∀ (j : Nat) (e : Int × Int), (ents (A ++ x :: B))[j]? = some e → ftw (c b) (3 + 4 * j) = e.1) → ∀ Z, rn d 165 38 [pR K, pI a1, pI id, pI b, pI A.length] [] m = some Z → rn d 165 16 [pR K, pI a1, pI id, pI b, pI ((A.length : Int) + B.length)] [] m = some Z := by
    intro N
    induction N with
    | zero =>
      intro B hN hB hBl hk Z hZ
      have : B = [] := List.length_eq_zero_iff.mp hN
      subst this
      refine q165_16 (by omega) hz _ ?_
      rw [show (A.length : Int) + ([] : CH).length = A.length by simp]
      by_cases z : 0 < (A.length : Int)
      · have e166 := c166 (d := d - 1) (k := (A.length : Int)) (by omega) hz hD hc hb (by omega)
        have := hk A.length _ ents_at
        rw [this] at e166
        have hne : A ≠ [] := by intro q; rw [q] at z; simp at z
        rw [if_pos z, gd_of hD.1, bI_eq e166, if_neg (by have := hA hne; show ¬ id < hdId x.2.1; omega)]
        exact hZ
      · rw [if_neg z]; exact hZ
    | succ N ih =>
      intro B hN hB hBl hk Z hZ
      obtain ⟨B', z, rfl⟩ : ∃ B' z, B = B' ++ [z] := by
        rcases List.eq_nil_or_concat B with q | ⟨l, a, q⟩
        · rw [q] at hN; cases hN
        · exact ⟨l, a, by rw [q, List.concat_eq_append]⟩
      rw [List.length_append, List.length_singleton] at hN hBl
      have hzk := hB z (by simp)
      have e1 : (ents (A ++ x :: (B' ++ [z])))[A.length + B'.length + 1]? = some (hdId z.2.1, z.1) := by
        have := ents_at (A := A ++ x :: B') (B := []) (x := z)
        rw [show (A ++ x :: B') ++ [z] = A ++ x :: (B' ++ [z]) by simp, show (A ++ x :: B').length = A.length + B'.length + 1 by simp; omega] at this
        exact this
      have hkz := hk _ _ e1
      have e166 := c166 (d := d - 1) (k := ((A.length + B'.length + 1 : Nat) : Int)) (by omega) hz hD hc hb (by omega)
      rw [hkz] at e166
      have rcc := ih B' (by omega) (fun y hy => hB y (by simp [hy])) (by omega) (fun j e he => hk j e (by
        have hj : j < (ents (A ++ x :: B')).length := (List.getElem?_eq_some_iff.mp he).1
        rw [show A ++ x :: (B' ++ [z]) = (A ++ x :: B') ++ [z] by simp]
        unfold ents at he hj ⊢
        rw [List.map_append, List.getElem?_append_left hj]
        exact he)) Z hZ
      refine q165_16 (by omega) hz _ ?_
      rw [show (A.length : Int) + (B' ++ [z]).length = ((A.length + B'.length + 1 : Nat) : Int) by rw [List.length_append, List.length_singleton]; push_cast; omega, if_pos (by omega), gd_of hD.1, bI_eq e166, if_pos hzk, show w32 (((A.length + B'.length + 1 : Nat) : Int) + -1) = (A.length : Int) + B'.length by rw [w32_of (by omega) (by omega)]; push_cast; omega]
      exact rcc
  intro B hB hBl hk Z hZ
  exact key B.length B rfl hB hBl hk Z hZ
/-- from a node on -/
theorem c165_node {a1 : Int} {L : DL} (hz : TZ m) (hD : DA m K) (hc : BC m K c) : ∀ (h : Nat) (d : Nat) (b : Int) (ch : CH) (z4 : PV), 4 ≤ d → cat z4 = 1 → 2 ≤ b ∧ b < 1600 → bNode (c b) (h == 0) (ents ch) → 1 ≤ ch.length → ch.length ≤ 8 → chV c h ch → srt (flL ch) → (∀ y ∈ flB ch, 2 ≤ y ∧ y < 1600) → ∃ v, rn d 165 2 [pR K, pI a1, pI id, pI b, z4] [] m = some (.inl (some (pI v)), m) ∧ (lkL id (flL ch) = none → v = 0) ∧ ∀ xs, lkL id (flL ch) = some xs → v ∈ flB ch ∧ bDoc (c v) xs := by
  intro h
  induction h with
  | zero =>
    intro d b ch z4 hd c4 hb hn h1 h8 hv hs hr
    obtain ⟨A, x, B, rfl, hB, hA⟩ := spl id (ch.length - 1) ch (by omega)
    have hVx := hv x (by simp)
    obtain ⟨hbx, i, xs, hx, hdoc⟩ := hVx
    have hxne : x.2.1 ≠ [] := by rw [hx]; simp
    rw [spl_lk hs hA hxne hB, hx]
    obtain ⟨n1, n2, n3, n4⟩ := hn
    rw [ents_len] at n2
    rw [List.length_append, List.length_cons] at n2 h8
    push_cast at n2
    have e162 := c162 (d := d - 1) (a := 1) hz hD hc ⟨by omega, hb.2⟩ (by omega)
    rw [n2] at e162
    have hk0 := n3 A.length _ ents_at
    have hdx : hdId x.2.1 = i := by rw [hx]; rfl
    have e166 := c166 (d := d - 1) (b := b) (k := (A.length : Int)) (by omega) hz hD hc ⟨by omega, hb.2⟩ (by omega)
    have e167 := c167 (d := d - 1) (b := b) (k := (A.length : Int)) (by omega) hz hD hc ⟨by omega, hb.2⟩ (by omega)
    rw [hk0.1] at e166
    rw [hk0.2] at e167
    obtain ⟨f1, f2, f3⟩ := hD.b0 hc (b := b) ⟨by omega, hb.2⟩
    have st : ∀ Z, (if i = id then (some (.inl (some (pI x.1)), m) : RM) else some (.inl (some (pI 0)), m)) = some Z → rn d 165 2 [pR K, pI a1, pI id, pI b, z4] [] m = some Z := fun Z hZ => by
      refine q165_2 (by omega) hz c4 _ ?_
      rw [if_neg (by omega), gd_of hD.1, bI_eq e162, (w32_of (by omega) (by omega) : w32 ((A.length : Int) + (B.length + 1) - 1) = (A.length : Int) + (B.length + 1) - 1), show (A.length : Int) + (B.length + 1) - 1 = A.length + B.length by omega]
      refine c165_16 (by omega) hz hD hc ⟨by omega, hb.2⟩ hA (by omega) B hB (by omega) (fun j e he => (n3 j e he).1) Z (q165_38 (by omega) hz _ ?_)
      rw [gd_of hD.1, nm_eq, nm_eq, f1, gd_of hD.2.1.1, gd_of f2, f3, n1, if_pos (show (if ((0 : Nat) == 0) = true then (2 : Int) else 3) = 2 from rfl), bI_eq e166]
      show (if hdId x.2.1 = id then _ else _) = some Z
      rw [hdx]
      by_cases q : i = id
      · rw [if_pos q] at hZ ⊢; rw [bI_eq e167]; exact hZ
      · rw [if_neg q] at hZ ⊢; exact hZ
    have hl : lkL id [(i, xs)] = if i = id then some xs else none := rfl
    rw [hl]
    by_cases q : i = id
    · rw [if_pos q] at st ⊢
      refine ⟨x.1, st _ rfl, fun z => (by cases z), fun ys z => ?_⟩
      cases z
      exact ⟨List.mem_flatMap.mpr ⟨x, by simp, by rw [hbx]; exact List.mem_singleton_self _⟩, hdoc⟩
    · rw [if_neg q] at st ⊢
      exact ⟨0, st _ rfl, fun _ => rfl, fun ys z => (by cases z)⟩
  | succ h ih =>
    intro d b ch z4 hd c4 hb hn h1 h8 hv hs hr
    obtain ⟨A, x, B, rfl, hB, hA⟩ := spl id (ch.length - 1) ch (by omega)
    have hVx := hv x (by simp)
    have hxne := hVx.ne
    rw [spl_lk hs hA hxne hB]
    obtain ⟨ch', hn', hL', hbs', hl', hv'⟩ := hVx
    have hx1 : x.1 ∈ flB (A ++ x :: B) := List.mem_flatMap.mpr ⟨x, by simp, by rw [hbs']; exact List.mem_cons_self⟩
    have hsx := spl_mid hs
    rw [hL'] at hsx ⊢
    obtain ⟨v, g1, g2, g3⟩ := ih d x.1 ch' (pI A.length) hd rfl (hr _ hx1) hn' (by omega) hl'.2 hv' hsx (fun y hy => hr y (List.mem_flatMap.mpr ⟨x, by simp, by rw [hbs']; exact List.mem_cons_of_mem _ hy⟩))
    refine ⟨v, ?_, g2, fun xs hx => ⟨List.mem_flatMap.mpr ⟨x, by simp, by rw [hbs']; exact List.mem_cons_of_mem _ (g3 xs hx).1⟩, (g3 xs hx).2⟩⟩
    obtain ⟨n1, n2, n3, n4⟩ := hn
    rw [ents_len] at n2
    rw [List.length_append, List.length_cons] at n2 h8
    push_cast at n2
    have e162 := c162 (d := d - 1) (a := 1) hz hD hc ⟨by omega, hb.2⟩ (by omega)
    rw [n2] at e162
    have hk0 := n3 A.length _ ents_at
    have e167 := c167 (d := d - 1) (b := b) (k := (A.length : Int)) (by omega) hz hD hc ⟨by omega, hb.2⟩ (by omega)
    rw [hk0.2] at e167
    obtain ⟨f1, f2, f3⟩ := hD.b0 hc (b := b) ⟨by omega, hb.2⟩
    refine q165_2 (by omega) hz c4 _ ?_
    rw [if_neg (by omega), gd_of hD.1, bI_eq e162, (w32_of (by omega) (by omega) : w32 ((A.length : Int) + (B.length + 1) - 1) = (A.length : Int) + (B.length + 1) - 1), show (A.length : Int) + (B.length + 1) - 1 = A.length + B.length by omega]
    refine c165_16 (by omega) hz hD hc ⟨by omega, hb.2⟩ hA (by omega) B hB (by omega) (fun j e he => (n3 j e he).1) _ (q165_38 (by omega) hz _ ?_)
    have n1' : c b 0 = 3 := n1
    rw [gd_of hD.1, nm_eq, nm_eq, f1, gd_of hD.2.1.1, gd_of f2, f3, n1', if_neg (by decide), bI_eq e167]
    exact g1
/-- the block of a document in a version; 0 for none -/
theorem c165 {root : Int} {L : DL} {bs : List Int} (hd : 4 ≤ d) (hz : TZ m) (hD : DA m K) (hc : BC m K c) (hV : VsO c root L bs) : ∃ v, cl d 165 [pR K, pI root, pI id] m = some (.inl (some (pI v)), m) ∧ (lkL id L = none → v = 0) ∧ ∀ xs, lkL id L = some xs → v ∈ bs ∧ bDoc (c v) xs := by
  obtain ⟨hV, hs, hid, hnd, hr⟩ := hV
  rcases hV with ⟨rfl, rfl, rfl⟩ | ⟨h, ch, hn, rfl, rfl, hl, hv⟩
  · refine ⟨0, q165 hz _ (q165_2 (by omega) hz rfl _ ?_), fun _ => rfl, fun xs hx => (by cases hx)⟩
    rw [if_pos rfl]
  · obtain ⟨v, g1, g2, g3⟩ := c165_node (a1 := root) (L := flL ch) (id := id) hz hD hc h d root ch pU hd rfl (hr root List.mem_cons_self) hn hl.1 hl.2.1 hv hs (fun y hy => hr y (List.mem_cons_of_mem _ hy))
    exact ⟨v, q165 hz _ g1, g2, fun xs hx => ⟨List.mem_cons_of_mem _ (g3 xs hx).1, (g3 xs hx).2⟩⟩
/-- a document comes into a row -/
theorem c178 {r c0 : Int} {xs ys : List Int} (hd : 2 ≤ d) (ok : OK m) (hI : RI m) (hD : DA m K) (hc : BC m K c) (hb : 0 ≤ b ∧ b < 1600) (hR : RW m r ys c0) (hdoc : bDoc (c b) xs) : ∃ m' c', cl d 178 [pR K, pI b, pR r] m = some (.inl none, m') ∧ RW m' r xs c' ∧ RO r m m' ∧ GR m m' c0 c' ∧ c' ≤ max c0 (2 * xs.length) := by
  obtain ⟨d1, d2, d3, d4, d5⟩ := hdoc
  obtain ⟨w1, w2⟩ := hR.clear hI ok
  have hrt := hR.1
  have h9 := hD.1
  have hK : K ≠ r := by intro z; rw [z] at h9; omega
  have hDr : DA (mst m r 1 0) K := by
    obtain ⟨h1, h2, h3, h4, h5, h6, h7, h8⟩ := hD
    have g : ∀ f, vl (mst m r 1 0) K f = vl m K f := fun f => by rw [vl_mst, if_neg (fun z => hK z.1)]
    exact ⟨h1, by rw [g]; exact h2, by rw [g]; exact h3, by rw [g]; exact h4, by rw [g]; exact h5, by rw [g]; exact h6, by rw [g]; exact h7, by rw [g, g, g]; exact h8⟩
  have hK0 : vl m K 0 ≠ r := by intro z; have := hD.2.1.1; rw [z] at this; omega
  have g0 : vl (mst m r 1 0) K 0 = vl m K 0 := by rw [vl_mst, if_neg (fun z => hK z.1)]
  have hcr : BC (mst m r 1 0) K c := fun b j b0 b1 j0 j1 => by rw [g0, vl_mst, if_neg (fun z => hK0 z.1)]; exact hc b j b0 b1 j0 j1
  have ok1 : OK (mst m r 1 0) := ok
  have e162 := c162 (d := d - 1) (a := 1) ok1.1 hDr hcr hb (by omega)
  rw [d2] at e162
  have wb : w32 (w32 (b * 736) + 3) = 736 * b + 3 := by
    rw [show w32 (b * 736) = 736 * b by rw [Int.mul_comm]; exact w32_of (by omega) (by omega)]
    exact w32_of (by omega) (by omega)
  obtain ⟨m', c', e1, h1, h2, h3, h4⟩ := c143 (d := d - 1) (x := vl (mst m r 1 0) K 0) (fr := 736 * b + 3) (ys := xs) (n := xs.length) (by omega) ok1 w2.1 w1 (by rw [hDr.2.1.1]; exact Or.inr (Or.inr rfl)) (by rw [hDr.2.1.2]; omega) (fun j j0 j1 => by
    have := hcr b (3 + j) hb.1 hb.2 (by omega) (by omega)
    rw [show 736 * b + 3 + j = 736 * b + (3 + j) by omega, this]; exact d3 j j0 j1) rfl (by simp; omega)
  rw [List.nil_append] at h1 h4
  refine ⟨m', c', q178 (by omega) ok.1 _ ?_, h1, w2.trans h2, ?_, by omega⟩
  · rw [g0] at e1
    rw [gd_of hR.1, gd_of hD.1, bI_eq e162, wb, bV_eq e1]
  · obtain ⟨a1, a2, a3⟩ := h3
    exact ⟨a1, a2, a3⟩
end
