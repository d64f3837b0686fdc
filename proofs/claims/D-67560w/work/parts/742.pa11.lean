/-! the patcher: adding -/
set_option maxRecDepth 100000
set_option maxHeartbeats 4000000
theorem adZ_app (init : List (List Int)) (tk : List Int) (w v : Vl) : adZ (init ++ [tk]) w v = match goZ init [] v with
    | none => none
    | some (k, u) => (ad1 tk w u).map (fun l => plug k (u.1, u.2.1, l)) := by
  unfold adZ
  rw [List.reverse_append]
  simp only [List.reverse_cons, List.reverse_nil, List.nil_append, List.cons_append, List.reverse_reverse]
  cases goZ init [] v <;> rfl
section
variable {d : Nat} {m : Mem} {P rt sa rd ro rh aa ct cd co ch : Int} {tks : List (List Int)} {xs os hs : List Int} {v w : Vl}
/-- what is found is noted as around -/
theorem sps_push {k : List Fr} {m1 : Mem} {g : BF} (hG : GS m1 P rt sa rd aa tks ct xs cd) (hgp : GP m1 P aa k) (h6 : vl m1 P 6 = ro) (h7 : vl m1 P 7 = rh) : GF P aa m1 (mst (mst m1 P 13 ((k.length : Int) + 1)) aa k.length (offK k)) ∧ SPS (mst (mst m1 P 13 ((k.length : Int) + 1)) aa k.length (offK k)) P rd ro rh aa (g :: k.map bfr) := by
  obtain ⟨hPV, hI, h5, hRd, hRt, h12, haa, hal, hsa⟩ := hG
  obtain ⟨g14, g13, gar⟩ := hgp
  have hP := hPV.2.1
  have hPa : P ≠ aa := by intro q; rw [q] at hP; omega
  refine ⟨(GF.p (Or.inl rfl)).trans GF.a, hPV.1, hP, ?_, ?_, ?_, ?_, ?_, haa, hal, fun i i0 i1 => ?_⟩
  · rw [vl_mst, if_neg (by omega), vl_mst, if_neg (by omega)]; exact h5
  · rw [vl_mst, if_neg (by omega), vl_mst, if_neg (by omega)]; exact h6
  · rw [vl_mst, if_neg (by omega), vl_mst, if_neg (by omega)]; exact h7
  · rw [vl_mst, if_neg (by omega), vl_mst, if_neg (by omega)]; exact h12
  · rw [vl_mst, if_neg (by omega), vl_mst, if_pos ⟨rfl, rfl⟩]; simp
  · show _ = gi (arB (k.map bfr) ++ [(offB (k.map bfr) : Int)]) i
    rw [arB_map, offB_map]
    simp only [List.length_cons, List.length_map] at i1
    have hl := arK_len k
    rw [vl_mst]
    by_cases hi : i = k.length
    · rw [if_pos ⟨rfl, hi⟩, gi_app_r (by omega), hi, hl, Int.sub_self]; rfl
    · rw [if_neg (by omega), vl_mst, if_neg (by omega), gi_app_l i0 (by omega)]; exact gar i i0 (by omega)
theorem c121_root (hd : 7 ≤ d) (hG : GS m P rt sa rd aa [] ct xs cd) (h6 : vl m P 6 = ro) (h7 : vl m P 7 = rh) (hRo : RW m ro os co) (hRh : RW m rh hs ch) (hne : rd ≠ ro) (hne2 : rh ≠ ro) (hL : xs.length + hs.length ≤ 5900) : ∃ m', cl d 121 [pR P] m = some (.inl none, m') ∧ ADR m P rd ro rh co ch hs m' := by
  obtain ⟨hPV, hI, h5, hRd, hRt, h12, haa, hal, hsa⟩ := hG
  have hP := hPV.2.1
  have hPa : P ≠ aa := by intro q; rw [q] at hP; omega
  have h11 : vl m P 11 = 0 := hPV.2.2.2.2.2.2.1
  have g : GF P aa m (mst m P 13 0) := GF.p (Or.inl rfl)
  have hs0 : SPS (mst m P 13 0) P rd ro rh aa [] := by
    refine ⟨hPV.1, hP, ?_, ?_, ?_, ?_, ?_, haa, hal, fun i i0 i1 => absurd i1 (by simp; omega)⟩
    · rw [vl_mst, if_neg (by omega)]; exact h5
    · rw [vl_mst, if_neg (by omega)]; exact h6
    · rw [vl_mst, if_neg (by omega)]; exact h7
    · rw [vl_mst, if_neg (by omega)]; exact h12
    · rw [vl_mst, if_pos ⟨rfl, rfl⟩]; rfl
  obtain ⟨m', e1, a1⟩ := c122_fin (d := d - 1) (K := []) (old := xs) (by omega) haa g hs0 hP hI (by simp) hRd hRo hRh hne hne2 (by simp [prB, poB]) hL
  have eL : prB [] (lnB [] hs.length) ++ (hs ++ poB []) = hs := by simp [prB, poB]
  rw [eL] at a1
  refine ⟨m', ?_, a1⟩
  refine q121 (by omega) hPV.1.1 _ ?_
  rw [gd_of hP, nm_eq, h11, if_pos rfl, nm_eq, h5, gd_of hRd.1, hRd.2.2.2.1]
  rw [bV_eq (show cl (d - 1) 122 [pR P, pI 0, pI xs.length, pI 0] (mst m P 13 0) = some (.inl none, m') from e1)]
theorem c121 {init : List (List Int)} {tk : List Int} (hd : 7 ≤ d) (hx : xs = enV v.2.1 v.2.2) (hhs : hs = enV w.2.1 w.2.2) (htk : ∀ t, t ∈ init ++ [tk] → wfU t ∧ (uts t).length < 6000) (htl : (tkB (init ++ [tk])).length ≤ 6000) (hw : wfF (foC v.2.1 v.2.2 foN)) (hdp : dpV v.2.1 v.2.2 ≤ 32) (hG : GS m P rt sa rd aa (init ++ [tk]) ct xs cd) (h6 : vl m P 6 = ro) (h7 : vl m P 7 = rh) (hRo : RW m ro os co) (hRh : RW m rh hs ch) (hne : rd ≠ ro) (hne2 : rh ≠ ro) (hne3 : rd ≠ rh) (hne4 : rt ≠ rh) (hne5 : rt ≠ ro) (hL : xs.length + 2 * hs.length + (nmB tk).length ≤ 5900) :
    (∀ v', adZ (init ++ [tk]) w v = some v' → ∃ m', cl d 121 [pR P] m = some (.inl none, m') ∧ ADR m P rd ro rh co ch (enV v'.2.1 v'.2.2) m') ∧
    (adZ (init ++ [tk]) w v = none → ∃ m1, cl d 121 [pR P] m = some (.inr 206, mal m1 206 6) ∧ GF P aa m m1) := by
  have hPV := hG.1
  have hP := hPV.2.1
  have haa := hG.2.2.2.2.2.2.1
  have hPa : P ≠ aa := by intro q; rw [q] at hP; omega
  have hI := hG.2.1
  have hRd := hG.2.2.2.1
  have hRt := hG.2.2.2.2.1
  have h11 : vl m P 11 = (init.length : Int) + 1 := by
    have := hPV.2.2.2.2.2.2.1
    rw [stL_len] at this
    rw [this]; simp
  have hA : At xs 0 (enV v.2.1 v.2.2) := by rw [hx]; exact At.self
  have htn := tkB_ge (init ++ [tk])
  simp only [List.length_append, List.length_cons, List.length_nil] at htn
  have hgo := c123 (d := d - 1) (n := init.length) (by omega) (by omega) hA htk htl (by simp) hw hdp hG
  rw [List.take_left] at hgo
  have s0 : ∀ X : RM, (bV (cl (d - 1) 123 [pR P, pI init.length] m) fun m1 => nm (vl m1 P 10) fun v6 => nm (w32 ((vl m1 P 11) - 1)) fun v7 => gd (tg m1 v6 = 112101) <| gd ((0 : Int) ≤ v7 ∧ v7 < ln m1 v6) <| nm (vl m1 v6 v7) fun v8 => nm (vl m1 P 14) fun v9 => nm (vl m1 P 5) fun v10 => gd (tg m1 v10 = 8) <| bI (cl (d - 1) 139 [pR v10, pI v9] m1) fun v2 m2 => if v2 < 5 then (rn d 121 70 [pR P, pI v8, pI v9, pU, pU, pU] [pI 0] m2) else rn d 121 70 [pR P, pI v8, pI v9, pU, pU, pU] [pI 1] m2) = X → ∀ Q, X = some Q → cl d 121 [pR P] m = some Q := by
    intro X hX Q hQ
    refine q121 (by omega) hPV.1.1 _ ?_
    rw [gd_of hP, nm_eq, h11, if_neg (by omega), w32_of (by omega) (by omega), show (init.length : Int) + 1 - 1 = init.length by omega]
    exact (by exact hX : _ = X).trans hQ
  rw [adZ_app]
  cases hz : goZ init [] v with
  | none =>
    refine ⟨fun v' h => (by cases h), fun _ => ?_⟩
    obtain ⟨m1, e1, g1⟩ := hgo.2 hz
    exact ⟨m1, s0 _ (by rw [bV_xq e1]) _ rfl, g1⟩
  | some p =>
    obtain ⟨k, u⟩ := p
    obtain ⟨b1, b2, b3, b4, m1, e1, g1, gp1⟩ := hgo.1 k u hz
    dsimp only
    have hG1 := hG.gf g1
    obtain ⟨hPV1, hI1, h51, hRd1, hRt1, h121, haa1, hal1, hsa1⟩ := hG1
    have hG1 : GS m1 P rt sa rd aa (init ++ [tk]) ct xs cd := ⟨hPV1, hI1, h51, hRd1, hRt1, h121, haa1, hal1, hsa1⟩
    have ok1 := hPV1.1
    have hP1 := hPV1.2.1
    have h61 : vl m1 P 6 = ro := by rw [g1.2.2.2 P 6 hPa (by omega)]; exact h6
    have h71 : vl m1 P 7 = rh := by rw [g1.2.2.2 P 7 hPa (by omega)]; exact h7
    have h111 : vl m1 P 11 = (init.length : Int) + 1 := by rw [g1.2.2.2 P 11 hPa (by omega)]; exact h11
    have hjt : init.length < (init ++ [tk]).length := by simp
    have hts : At (tkB (init ++ [tk])) (gi (stL 0 (init ++ [tk])) init.length) (nmB tk) := by
      have := stL_at (init ++ [tk]) [] init.length hjt
      rw [show (init ++ [tk])[init.length] = tk by simp] at this
      exact this
    have hst1 : vl m1 sa init.length = gi (stL 0 (init ++ [tk])) init.length := hPV1.2.2.2.2.2.2.2 init.length (by omega) (by rw [stL_len]; simp; omega)
    generalize hto : gi (stL 0 (init ++ [tk])) init.length = to at *
    obtain ⟨wtk, ltk⟩ := htk tk (by simp)
    have hAu : At xs (offK k) (enV u.2.1 u.2.2) := by
      have := at_plug k u b2 (a := 0) (xs := xs) (by rw [b1]; exact hA)
      rwa [Int.zero_add] at this
    have ho1 := hAu.2.1
    have hpu := enV_pos u.2.1 u.2.2
    have htg := enV_tag hAu
    have h139 := c139 (d := d - 1) (a := offK k) ok1.1 hRd1 (by omega) (by omega)
    rw [htg] at h139
    have hexu : xs = enV (plug k u).2.1 (plug k u).2.2 := by rw [b1]; exact hx
    have s1 : ∀ s : Int, (s = if u.2.1.1 < 5 then 0 else 1) → ∀ Q, rn d 121 70 [pR P, pI to, pI (offK k), pU, pU, pU] [pI s] m1 = some Q → cl d 121 [pR P] m = some Q := by
      intro s hs Q hQ
      refine s0 _ ?_ _ hQ
      rw [bV_eq e1, nm_eq, hPV1.2.2.2.1, nm_eq, h111, w32_of (by omega) (by omega), show (init.length : Int) + 1 - 1 = init.length by omega, gd_of hPV1.2.2.2.2.1, gd_of ⟨by omega, by rw [hPV1.2.2.2.2.2.1]; omega⟩, nm_eq, hst1, nm_eq, gp1.1, nm_eq, h51, gd_of hRd1.1, bI_eq h139]
      by_cases k5 : u.2.1.1 < 5
      · rw [if_pos k5] at hs; rw [if_pos (by omega), hs]
      · rw [if_neg k5] at hs; rw [if_neg (by omega), hs]
    by_cases k5 : u.2.1.1 < 5
    · have had : ad1 tk w u = none := by unfold ad1; rw [if_neg (by omega), if_neg (by omega)]
      rw [had]
      refine ⟨fun v' h => (by cases h), fun _ => ⟨m1, s1 0 (by rw [if_pos k5]) _ (q121_70 (by omega) ok1.1 _ ?_), g1⟩⟩
      rw [bV_xq (c115_0 ok1.1)]
    have hk56 : u.2.1.1 = 5 ∨ u.2.1.1 = 6 := by have := b3.1.1; omega
    have hdk : k.length ≤ 31 := by unfold dpV at b4; rw [if_neg k5] at b4; omega
    have hg13 := gp1.2.1
    have elen : (enV u.2.1 u.2.2).length = (enF (u.2.1.1 == 6) u.2.2).length + 3 := (enV_many hAu (by omega)).2.2.2.1
    have gf0 : GF P aa m1 (mst (mst m1 P 13 ((k.length : Int) + 1)) aa k.length (offK k)) := (GF.p (Or.inl rfl)).trans GF.a
    have sp : ∀ g : BF, SPS (mst (mst m1 P 13 ((k.length : Int) + 1)) aa k.length (offK k)) P rd ro rh aa (g :: k.map bfr) := fun g => (sps_push (g := g) hG1 gp1 h61 h71).2
    have hm92 : vl (mst (mst m1 P 13 ((k.length : Int) + 1)) aa k.length (offK k)) P 9 = rt := by rw [gf0.2.2.2 P 9 hPa (by omega)]; exact hPV1.2.2.1
    generalize hm2 : mst (mst m1 P 13 ((k.length : Int) + 1)) aa k.length (offK k) = m2 at *
    have gA := g1.trans gf0
    have hRd2 := hRd1.gf hP1 haa1 gf0
    have ok2 := ok1.gf gf0
    have h52 : vl m2 P 5 = rd := (sp ((0 : Int), [], [])).2.2.1
    have hKl : ∀ g : BF, (g :: k.map bfr).length ≤ 33 := fun g => by simp; omega
    have hofb : ∀ g : BF, (offB (g :: k.map bfr) : Int) = (offK k : Int) + 3 + g.2.1.length := fun g => by simp only [offB, offB_map]; omega
    rcases hk56 with k5' | k6
    · have hob : (u.2.1.1 == 6) = false := by rw [k5']; rfl
      rw [hob] at elen
      have hcn := cnt_en false u.2.2
      have h145 := c145 (d := d - 1) (by omega) ok1.1 hRd1 hAu b3 (by omega) (by omega)
      have hnl := nmB_len tk
      have ht0 := hts.1
      have ht1 := hts.2.1
      have h134 := c134 (d := d - 1) (a := to) ok1.1 hRt1 ht0 (by omega)
      rw [tw_nm hts (by omega)] at h134
      have h124 := c124 (d := d - 1) (m := m1) (P := P) (b := to) (n := (cntF u.2.2 : Int)) (ts := tkB (init ++ [tk])) (tk := tk) (ct := ct) (by omega) hP1 ok1.1 (by rw [hPV1.2.2.1]; exact hRt1) hts wtk (by omega) ⟨by omega, by omega⟩
      have s2 : ∀ q : Int, (q = if tk = [45] then 1 else 0) → ∀ Q, rn d 121 209 [pR P, pI to, pI (offK k), pI (cntF u.2.2), pU, pU] [pI q] m1 = some Q → cl d 121 [pR P] m = some Q := by
        intro q hq Q hQ
        refine s1 1 (by rw [if_neg k5]) Q (q121_70 (by omega) ok1.1 _ ?_)
        rw [bV_eq (c115_1 ok1.1), gd_of hP1, nm_eq, h51, gd_of hRd1.1, bI_eq h139, if_neg (by omega), nm_eq, h51, gd_of hRd1.1, bI_eq h145, nm_eq, hPV1.2.2.1, gd_of hRt1.1, bI_eq h134]
        by_cases hl1 : (uts tk).length = 1
        · have hB : At (tkB (init ++ [tk])) (to + 2) (uts tk) := by
            have := hts.app.2
            rw [l2_len] at this; exact this
          obtain ⟨y, hy⟩ : ∃ y, uts tk = [y] := List.length_eq_one_iff.mp hl1
          rw [hy] at hB
          have hg := hB.cons.1
          have hll := hRt1.2.2.2.2.1
          have hlc := hRt1.2.2.1
          have hv : vl m1 (vl m1 rt 0) (to + 2) = y := by rw [hRt1.2.2.2.2.2.2 _ (by omega) (by omega)]; exact hg
          rw [if_pos (by omega), nm_eq, hPV1.2.2.1, gd_of hRt1.1, nm_eq, nm_eq, w32_of (by omega) (by omega), gd_of hRt1.2.1, gd_of ⟨by omega, by omega⟩, hv]
          by_cases h45 : y = 45
          · have : tk = [45] := (uts_is wtk (by intro c hc; simp at hc; omega)).mp (by rw [hy, h45])
            rw [if_pos this] at hq
            rw [if_pos h45, ← hq]; exact hQ
          · have : tk ≠ [45] := by intro q2; rw [q2] at hy; apply h45; have : uts [45] = [45] := rfl; rw [this] at hy; injection hy with q3; exact q3.symm
            rw [if_neg this] at hq
            rw [if_neg h45, ← hq]; exact hQ
        · have : tk ≠ [45] := by intro q2; rw [q2] at hl1; exact hl1 rfl
          rw [if_neg this] at hq
          rw [if_neg (by omega), ← hq]; exact hQ
      -- the place is known
      have fin : ∀ i : Nat, i ≤ cntF u.2.2 → (∀ z : Int, ∀ Q, rn d 121 238 [pR P, pI to, pI (offK k), pI (cntF u.2.2), pI z, pI i] [pI 1] m1 = some Q → (z = (if tk = [45] then 1 else 0) → cl d 121 [pR P] m = some Q)) → ∃ m', cl d 121 [pR P] m = some (.inl none, m') ∧ ADR m P rd ro rh co ch (enV (plug k (u.1, u.2.1, amg (cutI i u.2.2).1 w [] (cutI i u.2.2).2)).2.1 (plug k (u.1, u.2.1, amg (cutI i u.2.2).1 w [] (cutI i u.2.2).2)).2.2) m' := by
        intro i hi hst
        have eb0 := enc_body (k := k) (i := u.1) (nd := u.2.1) (l := u.2.2) (B1 := enF false (cutI i u.2.2).1) (mid := []) (B2 := enF false (cutI i u.2.2).2) b2 (Or.inl k5') (by rw [hob]; exact enF_cut0 i u.2.2)
        have eb1 := enc_body (k := k) (i := u.1) (nd := u.2.1) (l := amg (cutI i u.2.2).1 w [] (cutI i u.2.2).2) (B1 := enF false (cutI i u.2.2).1) (mid := hs) (B2 := enF false (cutI i u.2.2).2) b2 (Or.inl k5') (by rw [hob, hhs]; exact enF_cut i u.2.2 w)
        obtain ⟨m', e3, a3⟩ := c122_fin (d := d - 1) (m := m) (m1 := m2) (old := []) (by omega) haa gA (sp ((u.2.1.1 : Int), enF false (cutI i u.2.2).1, enF false (cutI i u.2.2).2)) hP hI (hKl _) hRd hRo hRh hne hne2 (hexu.trans eb0) (by omega)
        rw [hofb] at e3
        rw [eb1]
        refine ⟨m', hst (if tk = [45] then 1 else 0) _ (q121_238 (by omega) ok1.1 _ ?_) rfl, a3⟩
        rw [bV_eq (c115_1 ok1.1), gd_of hP1, nm_eq, h121, nm_eq, hg13, gd_of haa1, gd_of ⟨by omega, by omega⟩, (w32_of (by omega) (by omega) : w32 ((k.length : Int) + 1) = (k.length : Int) + 1), hm2]
        have e3' : cl (d - 1) 122 [pR P, pI ((offK k : Int) + 3 + (enF false (cutI i u.2.2).1).length), pI 0, pI 0] m2 = some (.inl none, m') := e3
        by_cases hic : i = cntF u.2.2
        · have h137 := c137 (d := d - 1) (by omega) ok2.1 hRd2 hAu b3.1 (by omega)
          have ec : (cutI i u.2.2).1 = u.2.2 := by rw [hic, cutI_all]
          rw [ec] at e3'
          rw [if_pos (by omega), nm_eq, h51, gd_of hRd1.1, bI_eq h137, show (offK k : Int) + ((enV u.2.1 u.2.2).length : Int) = (offK k : Int) + 3 + (enF false u.2.2).length by omega, bV_eq e3']
        · have h146 := c146 (d := d - 1) (i := (i : Int)) (by omega) ok2.1 hRd2 hAu b3 k5' (by omega) (by omega) (by omega)
          rw [eltP_cut u.2.2 i _ (by omega)] at h146
          rw [if_neg (by omega), nm_eq, h51, gd_of hRd1.1, bI_eq h146, bV_eq e3']
      have had : ad1 tk w u = match (if tk = [45] then some (cntF u.2.2) else ixT tk) with
          | none => none
          | some i => if i ≤ cntF u.2.2 then some (amg (cutI i u.2.2).1 w [] (cutI i u.2.2).2) else none := by
        unfold ad1; rw [if_neg (by omega), if_pos k5']
        generalize (if tk = [45] then some (cntF u.2.2) else ixT tk) = q
        cases q <;> rfl
      rw [had]
      by_cases h45 : tk = [45]
      · rw [if_pos h45]
        dsimp only
        rw [if_pos (Nat.le_refl _)]
        refine ⟨fun v' h => ?_, fun h => (by cases h)⟩
        cases h
        refine fin (cntF u.2.2) (Nat.le_refl _) (fun z Q hQ hz => s2 1 (by rw [if_pos h45]) Q (q121_209 (by omega) ok1.1 _ ?_))
        rw [if_pos h45] at hz
        subst hz
        rw [if_neg (by decide), if_neg (by omega)]; exact hQ
      · rw [if_neg h45]
        have s3 : ∀ X : RM, (bI (cl (d - 1) 124 [pR P, pI to, pI (cntF u.2.2)] m1) fun v1 m1 => if v1 < 0 then (rn d 121 238 [pR P, pI to, pI (offK k), pI (cntF u.2.2), pI 0, pI v1] [pI 0] m1) else rn d 121 238 [pR P, pI to, pI (offK k), pI (cntF u.2.2), pI 0, pI v1] [pI 1] m1) = X → ∀ Q, X = some Q → cl d 121 [pR P] m = some Q := by
          intro X hX Q hQ
          refine s2 0 (by rw [if_neg h45]) Q (q121_209 (by omega) ok1.1 _ ?_)
          rw [if_pos rfl, gd_of hP1]
          exact (by exact hX : _ = X).trans hQ
        have bad : cl (d - 1) 124 [pR P, pI to, pI (cntF u.2.2)] m1 = some (.inl (some (pI (-1))), m1) → cl d 121 [pR P] m = some (.inr 206, mal m1 206 6) := fun hc => s3 _ (by
          rw [bI_eq hc, if_pos (by decide)]
          refine q121_238 (by omega) ok1.1 _ ?_
          rw [bV_xq (c115_0 ok1.1)]) _ rfl
        cases hi : ixT tk with
        | none =>
          rw [hi] at h124
          exact ⟨fun v' h => (by cases h), fun _ => ⟨m1, bad h124, g1⟩⟩
        | some i =>
          rw [hi] at h124
          dsimp only at h124 ⊢
          by_cases hic : i ≤ cntF u.2.2
          · rw [if_pos (by omega)] at h124
            rw [if_pos hic]
            refine ⟨fun v' h => ?_, fun h => (by cases h)⟩
            cases h
            refine fin i hic (fun z Q hQ hz => s3 _ ?_ _ rfl)
            rw [if_neg h45] at hz
            subst hz
            rw [bI_eq h124, if_neg (by omega)]; exact hQ
          · rw [if_neg (by omega)] at h124
            rw [if_neg hic]
            exact ⟨fun v' h => (by cases h), fun _ => ⟨m1, bad h124, g1⟩⟩
    · have hob : (u.2.1.1 == 6) = true := by rw [k6]; rfl
      rw [hob] at elen
      have hnl := nmB_len tk
      have h144 := c144 (d := d - 1) (by omega) ok1.1 hRd1 hRt1 hAu b3 k6 (by omega) hts wtk (by omega)
      have hsn := spN_mem (k := tk) (F := u.2.2) ((offK k : Int) + 3)
      have s2 : ∀ X : RM, (if memP u.2.2 tk ((offK k : Int) + 3) < 0 then (bI (cl (d - 1) 137 [pR rd, pI (offK k)] m2) fun v6 m6 => bV (cl (d - 1) 125 [pR P, pI v6, pI to] m6) fun m7 => some (.inl none, m7)) else bI (cl (d - 1) 136 [pR rd, pI (memP u.2.2 tk ((offK k : Int) + 3))] m2) fun v8 m8 => nm (vl m8 P 5) fun v17 => gd (tg m8 v17 = 8) <| bI (cl (d - 1) 137 [pR v17, pI v8] m8) fun v9 m9 => bV (cl (d - 1) 122 [pR P, pI v8, pI (w32 (v9 - v8)), pI 0] m9) fun m10 => some (.inl none, m10)) = X → ∀ Q, X = some Q → cl d 121 [pR P] m = some Q := by
        intro X hX Q hQ
        refine s1 1 (by rw [if_neg k5]) Q (q121_70 (by omega) ok1.1 _ ?_)
        rw [bV_eq (c115_1 ok1.1), gd_of hP1, nm_eq, h51, gd_of hRd1.1, bI_eq h139, if_pos (by omega), nm_eq, h51, gd_of hRd1.1, hPV1.2.2.1, bI_eq h144, nm_eq, h121, nm_eq, hg13, gd_of haa1, gd_of ⟨by omega, by omega⟩, (w32_of (by omega) (by omega) : w32 ((k.length : Int) + 1) = (k.length : Int) + 1), hm2]
        by_cases hneg : memP u.2.2 tk ((offK k : Int) + 3) < 0
        · rw [if_pos hneg] at hX ⊢
          rw [nm_eq, h51, gd_of hRd1.1, hX]; exact hQ
        · rw [if_neg hneg] at hX ⊢
          rw [nm_eq, h51, gd_of hRd1.1, hX]; exact hQ
      cases hsp : spN tk u.2.2 with
      | none =>
        have had : ad1 tk w u = some (amg u.2.2 w tk foN) := by unfold ad1; rw [if_pos k6, hsp]
        rw [had]
        refine ⟨fun v' h => ?_, fun h => (by cases h)⟩
        cases h
        have eb0 := enc_body (k := k) (i := u.1) (nd := u.2.1) (l := u.2.2) (B1 := enF true u.2.2) (mid := []) (B2 := []) b2 (Or.inr k6) (by rw [hob]; simp)
        have eb1 := enc_body (k := k) (i := u.1) (nd := u.2.1) (l := amg u.2.2 w tk foN) (B1 := enF true u.2.2) (mid := nmB tk ++ hs) (B2 := []) b2 (Or.inr k6) (by
          rw [hob, enF_amg, hhs]
          simp [nmF, show enF true foN = [] from rfl])
        have h137 := c137 (d := d - 1) (by omega) ok2.1 hRd2 hAu b3.1 (by omega)
        obtain ⟨m', e3, a3⟩ := c125 (d := d - 1) (m := m) (m1 := m2) (b := to) (tk := tk) (rt := rt) (ct := ct) (ts := tkB (init ++ [tk])) (by omega) haa gA (sp ((u.2.1.1 : Int), enF true u.2.2, [])) hm92 hP hI (hKl _) hRd hRo hRh hRt hne hne2 hne3 hne4 hne5 (hexu.trans eb0) hts (by omega) hL
        rw [hofb] at e3
        rw [eb1]
        refine ⟨m', s2 _ ?_ _ rfl, a3⟩
        rw [hsn.2 hsp, if_pos (by decide), bI_eq h137, show (offK k : Int) + ((enV u.2.1 u.2.2).length : Int) = (offK k : Int) + 3 + (enF true u.2.2).length by omega, bV_eq e3]
      | some x =>
        obtain ⟨q1, q2, q3⟩ := spN_eq hsp
        have had : ad1 tk w u = some (amg x.1 w x.2.2.1.2.2.2 x.2.2.2.2) := by unfold ad1; rw [if_pos k6, hsp]
        rw [had]
        refine ⟨fun v' h => ?_, fun h => (by cases h)⟩
        cases h
        have hbd : enF true u.2.2 = (enF true x.1 ++ nmF true x.2.2.1.2.2.2) ++ (enV x.2.2.1 x.2.2.2.1 ++ enF true x.2.2.2.2) := by
          have := enF_sp true x.1 x.2.1 x.2.2.1 x.2.2.2.1 x.2.2.2.2
          rw [← q1] at this; exact this
        have eb0 := enc_body (k := k) (i := u.1) (nd := u.2.1) (l := u.2.2) (B1 := enF true x.1 ++ nmF true x.2.2.1.2.2.2) (mid := enV x.2.2.1 x.2.2.2.1) (B2 := enF true x.2.2.2.2) b2 (Or.inr k6) (by rw [hob]; exact hbd)
        have eb1 := enc_body (k := k) (i := u.1) (nd := u.2.1) (l := amg x.1 w x.2.2.1.2.2.2 x.2.2.2.2) (B1 := enF true x.1 ++ nmF true x.2.2.1.2.2.2) (mid := hs) (B2 := enF true x.2.2.2.2) b2 (Or.inr k6) (by
          rw [hob, enF_amg, hhs]; simp)
        obtain ⟨m', e3, a3⟩ := c122_fin (d := d - 1) (m := m) (m1 := m2) (old := enV x.2.2.1 x.2.2.2.1) (by omega) haa gA (sp ((u.2.1.1 : Int), enF true x.1 ++ nmF true x.2.2.1.2.2.2, enF true x.2.2.2.2)) hP hI (hKl _) hRd hRo hRh hne hne2 (hexu.trans eb0) (by omega)
        rw [hofb] at e3
        rw [eb1]
        refine ⟨m', s2 _ ?_ _ rfl, a3⟩
        have enm : nmF true x.2.2.1.2.2.2 = nmB tk := by rw [q2]; rfl
        rw [enm] at e3
        have hBody : At xs ((offK k : Int) + 3) (enF true u.2.2) := by
          have := (enV_many hAu (by omega)).2.2.1
          rw [hob] at this; exact this
        rw [hbd, enm] at hBody
        have hnmA := hBody.app.1.app.2
        have hvA := hBody.app.2.app.1
        simp only [List.length_append] at hvA e3
        have hn0 := hnmA.1
        have hn1 := hnmA.2.1
        have h136 := c136 (d := d - 1) (a := (offK k : Int) + 3 + (enF true x.1).length) (by omega) ok2.1 hRd2 hn0 (by omega)
        rw [tw_nm hnmA (by omega)] at h136
        have wx := wf_mid (A := x.1) (i := x.2.1) (d := x.2.2.1) (l := x.2.2.2.1) (B := x.2.2.2.2) (by rw [← q1]; exact b3.2.2.2.2.1)
        have hvl := hvA.2.1
        have h137 := c137 (d := d - 1) (nd := noN x.2.2.1) (l := x.2.2.2.1) (a := (offK k : Int) + 3 + (((enF true x.1).length + (nmB tk).length : Nat) : Int)) (by omega) ok2.1 hRd2 hvA wx.1.1 (by show (enV x.2.2.1 x.2.2.2.1).length < 65536; omega)
        rw [hsn.1 x hsp, if_neg (by omega), bI_eq h136, nm_eq, h52, gd_of hRd2.1, show (offK k : Int) + 3 + ((enF true x.1).length : Int) + 2 + ((uts tk).length : Int) = (offK k : Int) + 3 + (((enF true x.1).length + (nmB tk).length : Nat) : Int) by omega, bI_eq h137]
        have ew : (offK k : Int) + 3 + (((enF true x.1).length + (nmB tk).length : Nat) : Int) + ((enV (noN x.2.2.1) x.2.2.2.1).length : Int) - ((offK k : Int) + 3 + (((enF true x.1).length + (nmB tk).length : Nat) : Int)) = (enV x.2.2.1 x.2.2.2.1).length := by
          show _ + ((enV x.2.2.1 x.2.2.2.1).length : Int) - _ = _
          omega
        rw [ew, w32_of (by omega) (by omega), bV_eq e3]
end
