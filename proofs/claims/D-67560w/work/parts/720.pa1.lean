/-! the patcher: its small parts -/
set_option maxRecDepth 100000
set_option maxHeartbeats 4000000
theorem uts_ascii : ∀ (cs : List Int), (∀ c, c ∈ cs → 0 ≤ c ∧ c < 128) → uts cs = cs := by
  intro cs
  induction cs with
  | nil => intro _; rfl
  | cons c cs ih =>
    intro h
    have hc := h c (by simp)
    rw [uts_cons, ih (fun x hx => h x (by simp [hx]))]
    unfold utf
    rw [if_pos hc.2]; rfl
theorem uts_is {us cs : List Int} (hw : wfU us) (hc : ∀ c, c ∈ cs → 0 ≤ c ∧ c < 128) : uts us = cs ↔ us = cs := by
  constructor
  · intro h
    have e := uts_ascii cs hc
    exact uts_inj hw (fun u hu => by have := hc u hu; omega) (by rw [h, e])
  · intro h; rw [h]; exact uts_ascii cs hc
theorem utf_rng {u : Int} (hu : 0 ≤ u ∧ u < 65536) : ∀ b, b ∈ utf u → -128 ≤ b ∧ b < 128 := by
  intro b hb
  unfold utf at hb
  split at hb
  · simp at hb; omega
  · split at hb
    · simp at hb; rcases hb with h | h <;> rw [h] <;> unfold w8 <;> omega
    · simp at hb; rcases hb with h | h | h <;> rw [h] <;> unfold w8 <;> omega
theorem uts_rng {us : List Int} (hw : wfU us) : ∀ b, b ∈ uts us → -128 ≤ b ∧ b < 128 := by
  intro b hb
  unfold uts at hb
  obtain ⟨u, h1, h2⟩ := List.mem_flatMap.mp hb
  exact utf_rng (hw u h1) b h2
theorem utf_big {u : Int} (hu : 128 ≤ u ∧ u < 65536) : ∃ b r, utf u = b :: r ∧ b < 0 := by
  unfold utf
  rw [if_neg (by omega)]
  split
  · exact ⟨_, _, rfl, by unfold w8; omega⟩
  · exact ⟨_, _, rfl, by unfold w8; omega⟩
theorem digs_uts : ∀ (tk : List Int) (v : Nat), wfU tk → digs (uts tk) v = digs tk v := by
  intro tk
  induction tk with
  | nil => intro v _; rfl
  | cons u tk ih =>
    intro v hw
    have hu := hw u (by simp)
    rw [uts_cons]
    by_cases h : u < 128
    · have e : utf u = [u] := by unfold utf; rw [if_pos h]
      rw [e]
      show digs (u :: uts tk) v = digs (u :: tk) v
      unfold digs
      rw [ih _ (fun x hx => hw x (by simp [hx]))]
    · obtain ⟨b, r, e, hb⟩ := utf_big (u := u) (by omega)
      rw [e]
      show digs (b :: (r ++ uts tk)) v = digs (u :: tk) v
      unfold digs
      rw [if_neg (by omega), if_neg (by omega)]
theorem ixT_uts {tk : List Int} (hw : wfU tk) : ixT (uts tk) = ixT tk := by
  unfold ixT
  rw [digs_uts tk 0 hw]
  have : (uts tk = [] ∨ (1 < (uts tk).length ∧ (uts tk).head? = some 48)) ↔ (tk = [] ∨ (1 < tk.length ∧ tk.head? = some 48)) := by
    cases tk with
    | nil => simp [uts_nil]
    | cons u tk =>
      have hu := hw u (by simp)
      rw [uts_cons]
      by_cases h : u < 128
      · have e : utf u = [u] := by unfold utf; rw [if_pos h]
        rw [e]
        have hl : (uts tk).length = 0 ↔ tk.length = 0 := by
          cases tk with
          | nil => simp [uts_nil]
          | cons v tk => rw [uts_cons]; have := utf_len v; simp only [List.length_append, List.length_cons]; omega
        simp only [List.cons_append, List.nil_append, List.length_cons, List.head?_cons, reduceCtorEq, false_or]
        constructor
        · intro q; exact ⟨by omega, q.2⟩
        · intro q; exact ⟨by omega, q.2⟩
      · obtain ⟨b, r, e, hb⟩ := utf_big (u := u) (by omega)
        rw [e]
        simp only [List.cons_append, List.length_cons, List.head?_cons, reduceCtorEq, false_or, Option.some.injEq]
        constructor
        · intro q; omega
        · intro q; omega
  by_cases h : tk = [] ∨ (1 < tk.length ∧ tk.head? = some 48)
  · rw [if_pos h, if_pos (this.mpr h)]
  · rw [if_neg h, if_neg (fun q => h (this.mp q))]
section
variable {d : Nat} {m : Mem} {r c : Int} {xs : List Int}
theorem RW.clear (h : RW m r xs c) (hI : RI m) (ok : OK m) : RW (mst m r 1 0) r [] c ∧ RO r m (mst m r 1 0) := by
  have hb := h.b0 ok.2.1
  have hcc := h.2.2.2.2.2.1
  exact h.upd hI hb rfl (fun _ => rfl) (fun _ => rfl) (by simp; omega) (by rw [vl_mst, if_pos ⟨rfl, rfl⟩]; rfl) (fun a => Or.inl (by rw [vl_mst, if_neg (by omega)])) (fun i i0 i1 => absurd i1 (by simp; omega)) (fun a f ha _ => by rw [vl_mst, if_neg (by omega)])
theorem RG.clear (h : RW m r xs c) (hI : RI m) (ok : OK m) : RG r m c [] (mst m r 1 0) c := ⟨(h.clear hI ok).1, (h.clear hI ok).2, ⟨by omega, by show nx m - nx m ≤ _; omega, by show sl m - sl m ≤ _; omega⟩, by omega⟩
theorem c115_1 (hz : TZ m) : cl d 115 [pI 1] m = some (.inl none, m) := q115 hz _ (by rw [if_neg (by decide)])
theorem c115_0 (hz : TZ m) : cl d 115 [pI 0] m = some (.inr 206, mal m 206 6) := q115 hz _ (by rw [if_pos rfl])
theorem c117 {a s : Int} {us cs : List Int} (hd : 4 ≤ d) (hz : TZ m) (hR : RW m r xs c) (hA : At xs (a + 1) (nmB us)) (ha : 0 ≤ a) (hx : xs.length < 60000) (hS : SC m s cs) : cl d 117 [pR r, pI a, pR s] m = some (.inl (some (pI (if uts us = cs then 1 else 0))), m) := by
  have hlen := nmB_len us
  have h1 := hA.2.1
  have t2 := tw_nm hA (by omega)
  have h134 := c134 (d := d - 1) (a := a + 1) hz hR (by omega) (by omega)
  rw [t2] at h134
  have h349 := c349 (d := d - 1) (by omega) hz hS
  have hB : At xs (a + 3) (uts us) := by
    have := hA.app.2
    rw [l2_len] at this
    rw [show a + 3 = a + 1 + ((2 : Nat) : Int) by omega]; exact this
  have hcs := hS.2.2.2.2.2.1
  refine q117 (by omega) hz _ ?_
  rw [gd_of hR.1, w32_of (by omega) (by omega), bI_eq h134, gd_of hS.1, bI_eq h349]
  by_cases hl : (uts us).length = cs.length
  · rw [if_pos (by omega)]
    obtain ⟨hB0, hB1, hB2⟩ := hB
    have loop : ∀ (N : Nat) (j : Int), 0 ≤ j → j ≤ cs.length → ((cs.length : Int) - j).toNat = N → (∀ i : Int, 0 ≤ i → i < j → gi (uts us) i = gi cs i) → rn d 117 18 [pR r, pI a, pR s, pI j] [] m = some (.inl (some (pI (if uts us = cs then 1 else 0))), m) := by
      intro N
      induction N with
      | zero =>
        intro j j0 j1 hj he
        refine q117_18 (by omega) hz _ ?_
        rw [gd_of hS.1, bI_eq h349, if_neg (by omega), if_pos (gi_ext hl (fun i i0 i1 => he i i0 (by omega)))]
      | succ N ih =>
        intro j j0 j1 hj he
        have h351 := c351 (d := d - 1) (j := j) (by omega) hz hS j0 (by omega)
        have hv := hR.2.2.2.2.2.2 (a + 3 + j) (by omega) (by omega)
        rw [hB2 j j0 (by omega)] at hv
        have hll := hR.2.2.2.2.1
        have hlc := hR.2.2.1
        refine q117_18 (by omega) hz _ ?_
        rw [gd_of hS.1, bI_eq h349, if_pos (by omega), gd_of hR.1, nm_eq, nm_eq, (w32_of (by omega) (by omega) : w32 (a + 3) = a + 3), (w32_of (by omega) (by omega) : w32 (a + 3 + j) = a + 3 + j), gd_of hR.2.1, gd_of ⟨by omega, by omega⟩, bI_eq h351, hv]
        by_cases hg : gi (uts us) j = gi cs j
        · rw [if_pos hg, w32_of (by omega) (by omega)]
          exact ih (j + 1) (by omega) (by omega) (by omega) (fun i i0 i1 => by
            by_cases e : i = j
            · rw [e]; exact hg
            · exact he i i0 (by omega))
        · rw [if_neg hg, if_neg (fun e => hg (by rw [e]))]
    exact loop _ 0 (by omega) (by omega) rfl (fun i i0 i1 => by omega)
  · rw [if_neg (by omega), if_neg (fun e => hl (by rw [e]))]
/-- a member of an object in a row, by a name in another row -/
theorem mem_at {a b r2 c2 : Int} {nd : ND} {l : Fo} {k : List Int} {ys : List Int} (hd : 4 ≤ d) (hz : TZ m) (hR : RW m r xs c) (hR2 : RW m r2 ys c2) (hA : At xs a (enV nd l)) (hw : wfF (foC nd l foN)) (h6 : nd.1 = 6) (hx : xs.length < 60000) (hn : At ys b (nmB k)) (hnw : wfU k) (hnl : (uts k).length < 65536) :
    (fndF l k = none ∧ cl d 144 [pR r, pI a, pR r2, pI b] m = some (.inl (some (pI (-1))), m)) ∨ (∃ (d' : ND) (l' : Fo) (p v : Int), fndF l k = some (d', l') ∧ d'.2.2.2 = k ∧ wfF (foC d' l' foN) ∧ 0 ≤ p ∧ v = p + (nmB k).length ∧ At xs v (enV d' l') ∧ dpV d' l' ≤ dpF l ∧ cl d 144 [pR r, pI a, pR r2, pI b] m = some (.inl (some (pI p)), m) ∧ ∀ d1, 1 ≤ d1 → cl d1 136 [pR r, pI p] m = some (.inl (some (pI v)), m)) := by
  have h144 := c144 (d := d) (by omega) hz hR hR2 hA hw h6 hx hn hnw hnl
  obtain ⟨e, hg, hb, hl, h2⟩ := enV_many hA (by omega)
  have e6 : (nd.1 == 6) = true := by rw [h6]; rfl
  rw [e6] at hb
  have h0 := hA.1
  rcases memP_fnd l k (a + 3) (by omega) hw.2.2.2.2.1 hb with ⟨k1, k2⟩ | ⟨d', l', k1, k2, k3, k4, k5, k6, k7⟩
  · rw [k2] at h144; exact Or.inl ⟨k1, h144⟩
  · refine Or.inr ⟨d', l', memP l k (a + 3), _, k1, k2, k3, by omega, rfl, k6, k7, h144, fun d1 hd1 => ?_⟩
    have hlen := nmB_len k
    have h5 := k5.2.1
    have := c136 (d := d1) (a := memP l k (a + 3)) hd1 hz hR (by omega) (by omega)
    rw [tw_nm k5 hnl] at this
    rw [this, hlen]
    congr 5
    omega
end
section
variable {d : Nat} {m : Mem} {P r c a : Int} {xs ws : List Int} {cw : Int} {nd : ND} {l : Fo}
theorem c116 {b : Int} {k : List Int} (hd : 5 ≤ d) (hP : tg m P = 7) (hz : TZ m) (hR : RW m r xs c) (hW : RW m (vl m P 0) ws cw) (hA : At xs a (enV nd l)) (hw : wfF (foC nd l foN)) (h6 : nd.1 = 6) (hx : xs.length < 60000) (hn : At ws b (nmB k)) (hnw : wfU k) (hnl : (uts k).length < 65536) :
    (strM l k = none → cl d 116 [pR P, pR r, pI a, pI b] m = some (.inr 206, mal m 206 6)) ∧ (∀ us, strM l k = some us → wfU us ∧ ∃ v, 0 ≤ v ∧ At xs (v + 1) (nmB us) ∧ At xs v (4 :: nmB us) ∧ cl d 116 [pR P, pR r, pI a, pI b] m = some (.inl (some (pI v)), m)) := by
  unfold strM
  rcases mem_at (d := d - 1) (by omega) hz hR hW hA hw h6 hx hn hnw hnl with ⟨k1, k2⟩ | ⟨d', l', p, v, k1, k2, k3, k4, k5, k6, k7, k8, k9⟩
  · rw [k1]
    refine ⟨fun _ => ?_, fun us h => (by cases h)⟩
    refine q116 (by omega) hz _ ?_
    rw [gd_of hP, gd_of hR.1, bI_eq k2, if_pos (by decide), bV_xq (c115_0 hz)]
  · rw [k1]
    dsimp only
    have h136 := k9 (d - 1) (by omega)
    have hv0 := k6.1
    have hv1 := k6.2.1
    have hp := enV_pos d' l'
    have h139 := c139 (d := d - 1) (a := v) hz hR hv0 (by omega)
    have hg : gi xs v = d'.1 := by
      unfold enV enD at k6
      split at k6
      · exact k6.cons.1
      · split at k6
        · rename_i h3; rw [k6.cons.1]; omega
        · split at k6
          · rename_i h4; rw [k6.cons.1]; omega
          · exact k6.cons.1
    rw [hg] at h139
    by_cases h4 : d'.1 = 4
    · rw [if_pos h4]
      have e : enV d' l' = 4 :: nmB d'.2.2.1 := by unfold enV enD; rw [if_neg (by omega), if_neg (by omega), if_pos h4]
      rw [e] at k6
      refine ⟨fun h => (by cases h), fun us h => ?_⟩
      cases h
      refine ⟨k3.1.2.2.2.1, v, hv0, k6.cons.2, k6, ?_⟩
      refine q116 (by omega) hz _ ?_
      rw [gd_of hP, gd_of hR.1, bI_eq k8, if_neg (by omega), bI_eq h136, bI_eq h139, if_pos (by omega), bV_eq (c115_1 hz), bI_eq h136]
    · rw [if_neg h4]
      refine ⟨fun _ => ?_, fun us h => (by cases h)⟩
      refine q116 (by omega) hz _ ?_
      rw [gd_of hP, gd_of hR.1, bI_eq k8, if_neg (by omega), bI_eq h136, bI_eq h139, if_neg (by omega), bV_xq (c115_0 hz)]
theorem c118 (hd : 5 ≤ d) (hP : tg m P = 7) (hz : TZ m) (hR : RW m r xs c) (hW : RW m (vl m P 0) ws cw) (hA : At xs a (enV nd l)) (hw : wfF (foC nd l foN)) (h6 : nd.1 = 6) (hx : xs.length < 60000) (hn : At ws (vl m P 3) (nmB wVal)) :
    (fndF l wVal = none → cl d 118 [pR P, pR r, pI a] m = some (.inr 206, mal m 206 6)) ∧ (∀ d' l', fndF l wVal = some (d', l') → wfF (foC d' l' foN) ∧ dpV d' l' ≤ dpF l ∧ ∃ v, At xs v (enV d' l') ∧ cl d 118 [pR P, pR r, pI a] m = some (.inl (some (pI v)), m)) := by
  rcases mem_at (d := d - 1) (by omega) hz hR hW hA hw h6 hx hn (by intro u hu; unfold wVal at hu; simp at hu; omega) (by decide) with ⟨k1, k2⟩ | ⟨d', l', p, v, k1, k2, k3, k4, k5, k6, k7, k8, k9⟩
  · rw [k1]
    refine ⟨fun _ => ?_, fun d' l' h => (by cases h)⟩
    refine q118 (by omega) hz _ ?_
    rw [gd_of hP, gd_of hR.1, bI_eq k2, if_pos (by decide), bV_xq (c115_0 hz)]
  · rw [k1]
    have h136 := k9 (d - 1) (by omega)
    refine ⟨fun h => (by cases h), fun d1 l1 h => ?_⟩
    cases h
    refine ⟨k3, k7, v, k6, ?_⟩
    refine q118 (by omega) hz _ ?_
    rw [gd_of hP, gd_of hR.1, bI_eq k8, if_neg (by omega), bV_eq (c115_1 hz), bI_eq h136]
/-- a value is held -/
theorem c119 {hs : List Int} {ch : Int} (hd : 3 ≤ d) (hP : tg m P = 7) (ok : OK m) (hI : RI m) (hR : RW m r xs c) (hH : RW m (vl m P 7) hs ch) (hne : r ≠ vl m P 7) (hA : At xs a (enV nd l)) (hw : wfN nd) (hx : xs.length < 60000) : ∃ m' c', cl d 119 [pR P, pR r, pI a] m = some (.inl none, m') ∧ RG (vl m P 7) m ch (enV nd l) m' c' := by
  have g1 := RG.clear hH hI ok
  have hR1 : RW (mst m (vl m P 7) 1 0) r xs c := g1.2.1.2 r hne xs c hR
  have ok1 : OK (mst m (vl m P 7) 1 0) := ok
  have h0 := hA.1
  have h1 := hA.2.1
  have hll := hR.2.2.2.2.1
  have h137 := c137 (d := d - 1) (by omega) ok1.1 hR1 hA hw (by omega)
  have e0 : vl (mst m (vl m P 7) 1 0) r 0 = vl m r 0 := by rw [vl_mst, if_neg (by omega)]
  have hR1' := hR1
  obtain ⟨b1, b2, b3, b4, b5, b6, b7⟩ := hR1'
  rw [e0] at b2 b3 b7
  obtain ⟨m2, c2, e2, g2⟩ := c143 (d := d - 1) (x := vl m r 0) (fr := a) (ys := enV nd l) (n := (enV nd l).length) (by omega) ok1 g1.2.1.1 g1.1 (by omega) ⟨h0, by omega⟩ (fun j j0 j1 => by rw [b7 _ (by omega) (by omega)]; exact hA.2.2 j j0 j1) rfl (by simp; omega)
  refine ⟨m2, c2, ?_, g1.trans g2 (by simp)⟩
  refine q119 (by omega) ok.1 _ ?_
  have e3 : w32 (a + ((enV nd l).length : Int) - a) = (enV nd l).length := by rw [w32_of (by omega) (by omega)]; omega
  rw [gd_of hP, nm_eq, gd_of hH.1, gd_of hR.1, bI_eq h137, e3, bV_eq e2]
/-- the index that a token says -/
theorem c124 {b n : Int} {ts tk : List Int} {ct : Int} (hd : 2 ≤ d) (hP : tg m P = 7) (hz : TZ m) (hT : RW m (vl m P 9) ts ct) (hA : At ts b (nmB tk)) (hw : wfU tk) (hx : ts.length < 60000) (hn : -1 ≤ n ∧ n < 90000) : cl d 124 [pR P, pI b, pI n] m = some (.inl (some (pI (match ixT tk with
    | none => -1
    | some i => if (i : Int) ≤ n then i else -1))), m) := by
  have hlen := nmB_len tk
  have h0 := hA.1
  have h1 := hA.2.1
  have t2 := tw_nm hA (by omega)
  have h134 := c134 (d := d - 1) (a := b) hz hT h0 (by omega)
  rw [t2] at h134
  have hB : At ts (b + 2) (uts tk) := by
    have := hA.app.2
    rw [l2_len] at this; exact this
  obtain ⟨hB0, hB1, hB2⟩ := hB
  have hr := uts_rng hw
  have hv : ∀ j : Int, 0 ≤ j → j < (uts tk).length → vl m (vl m (vl m P 9) 0) (b + 2 + j) = gi (uts tk) j := fun j j0 j1 => by rw [hT.2.2.2.2.2.2 _ (by omega) (by omega)]; exact hB2 j j0 j1
  have hll := hT.2.2.2.2.1
  have hlc := hT.2.2.1
  rw [← ixT_uts hw]
  generalize hbs : uts tk = bs at *
  have loop : ∀ (rest pre : List Int) (v : Nat) (z : PV), cat z = 1 → bs = pre ++ rest → rn d 124 42 [pR P, pI b, pI n, pI bs.length, pI (min (v : Int) 100000), pI pre.length, z] [] m = some (.inl (some (pI (match digs rest v with
      | none => -1
      | some i => if (i : Int) ≤ n then i else -1))), m) := by
    intro rest
    induction rest with
    | nil =>
      intro pre v z hz' hb
      rw [List.append_nil] at hb
      refine q124_42 hz hz' _ ?_
      rw [if_neg (by rw [hb]; omega)]
      show _ = (some (.inl (some (pI (if (v : Int) ≤ n then (v : Int) else -1))), m) : RM)
      by_cases h : (v : Int) ≤ n
      · rw [if_neg (by omega), if_pos h, show min (v : Int) 100000 = v by omega]
      · rw [if_pos (by omega), if_neg h]
    | cons x rest ih =>
      intro pre v z hz' hb
      have hl : (bs.length : Int) = pre.length + 1 + rest.length := by rw [hb]; simp; omega
      have hx1 := hv pre.length (by omega) (by omega)
      have hg : gi bs pre.length = x := by rw [hb, gi_app_r (by omega), Int.sub_self]; rfl
      rw [hg] at hx1
      have hxr := hr x (by rw [hb]; simp)
      refine q124_42 hz hz' _ ?_
      rw [if_pos (by omega), gd_of hP, nm_eq, gd_of hT.1, nm_eq, nm_eq, (w32_of (by omega) (by omega) : w32 (b + 2) = b + 2), (w32_of (by omega) (by omega) : w32 (b + 2 + pre.length) = b + 2 + pre.length), gd_of hT.2.1, gd_of ⟨by omega, by omega⟩, hx1, nm_eq, (w32_of (by omega) (by omega) : w32 (x - 48) = x - 48)]
      unfold digs
      by_cases hd0 : 48 ≤ x ∧ x ≤ 57
      · rw [if_neg (by omega), if_neg (by omega), if_pos hd0]
        have := ih (pre ++ [x]) (10 * v + (x - 48).toNat) (pI (x - 48)) rfl (by simp [hb])
        have e1 : ((pre ++ [x]).length : Int) = pre.length + 1 := by simp
        rw [e1] at this
        rw [(w32_of (by omega) (by omega) : w32 (10 * min (v : Int) 100000) = 10 * min (v : Int) 100000), (w32_of (by omega) (by omega) : w32 (10 * min (v : Int) 100000 + (x - 48)) = 10 * min (v : Int) 100000 + (x - 48)), w32_of (by omega) (by omega), show min (10 * min (v : Int) 100000 + (x - 48)) 100000 = min ((10 * v + (x - 48).toNat : Nat) : Int) 100000 by omega]
        exact this
      · rw [if_neg hd0]
        by_cases hd1 : x - 48 < 0
        · rw [if_pos hd1]
        · rw [if_neg hd1, if_pos (by omega)]
  have start := loop bs [] 0 pU rfl rfl
  unfold ixT
  refine q124 (by omega) hz _ ?_
  rw [gd_of hP, nm_eq, gd_of hT.1, bI_eq h134]
  cases bs with
  | nil => rw [if_pos (by simp), if_pos (Or.inl rfl)]
  | cons x rest =>
    rw [if_neg (by simp only [List.length_cons]; omega)]
    by_cases h2 : 1 < (x :: rest).length
    · have hx1 := hv 0 (by omega) (by omega)
      rw [Int.add_zero, gi_zero] at hx1
      rw [if_pos (by omega), nm_eq, gd_of hT.1, nm_eq, nm_eq, (w32_of (by omega) (by omega) : w32 (b + 2) = b + 2), gd_of hT.2.1, gd_of ⟨by omega, by omega⟩, hx1]
      by_cases h48 : x = 48
      · rw [if_pos h48, if_pos (Or.inr ⟨h2, by rw [h48]; rfl⟩)]
      · rw [if_neg h48, if_neg (by
          rintro (q | ⟨-, q⟩)
          · cases q
          · simp at q; exact h48 q)]
        exact start
    · rw [if_neg (by omega), if_neg (by
        rintro (q | ⟨q, -⟩)
        · cases q
        · exact h2 q)]
      exact start
end
