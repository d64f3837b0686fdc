/-! the patcher: going along tokens -/
set_option maxRecDepth 100000
set_option maxHeartbeats 4000000
/-- nothing but found, deep and around was changed -/
def GF (P aa : Int) (m m' : Mem) : Prop := nx m' = nx m ∧ sl m' = sl m ∧ (∀ a, tg m' a = tg m a ∧ ln m' a = ln m a) ∧ ∀ a k, a ≠ aa → ¬ (a = P ∧ (k = 13 ∨ k = 14)) → vl m' a k = vl m a k
theorem GF.refl {P aa : Int} {m : Mem} : GF P aa m m := ⟨rfl, rfl, fun _ => ⟨rfl, rfl⟩, fun _ _ _ _ => rfl⟩
theorem GF.trans {P aa : Int} {m m1 m2 : Mem} (h : GF P aa m m1) (h' : GF P aa m1 m2) : GF P aa m m2 := ⟨by rw [h'.1, h.1], by rw [h'.2.1, h.2.1], fun a => ⟨by rw [(h'.2.2.1 a).1, (h.2.2.1 a).1], by rw [(h'.2.2.1 a).2, (h.2.2.1 a).2]⟩, fun a k ha hb => by rw [h'.2.2.2 a k ha hb, h.2.2.2 a k ha hb]⟩
theorem GF.p {P aa f v : Int} {m : Mem} (hf : f = 13 ∨ f = 14) : GF P aa m (mst m P f v) := ⟨rfl, rfl, fun _ => ⟨rfl, rfl⟩, fun a k _ hb => by rw [vl_mst, if_neg (by omega)]⟩
theorem GF.a {P aa j v : Int} {m : Mem} : GF P aa m (mst m aa j v) := ⟨rfl, rfl, fun _ => ⟨rfl, rfl⟩, fun a k ha _ => by rw [vl_mst, if_neg (by omega)]⟩
theorem OK.gf {P aa : Int} {m m' : Mem} (ok : OK m) (h : GF P aa m m') : OK m' := ⟨fun a ha => by rw [(h.2.2.1 a).1]; exact ok.1 a (by rw [h.1] at ha; exact ha), by rw [(h.2.2.1 0).1]; exact ok.2.1, by rw [h.1]; exact ok.2.2⟩
theorem RW.gf {P aa r c : Int} {m m' : Mem} {xs : List Int} (h : RW m r xs c) (hP : tg m P = 7) (ha : tg m aa = 112101) (g : GF P aa m m') : RW m' r xs c := by
  obtain ⟨h1, h2, h3, h4, h5, h6, h7⟩ := h
  have a1 : r ≠ aa := by intro q; rw [q] at h1; omega
  have a2 : r ≠ P := by intro q; rw [q] at h1; omega
  have a3 : vl m r 0 ≠ aa := by intro q; rw [q] at h2; omega
  have a4 : vl m r 0 ≠ P := by intro q; rw [q] at h2; omega
  have e0 : vl m' r 0 = vl m r 0 := g.2.2.2 r 0 a1 (by omega)
  refine ⟨by rw [(g.2.2.1 r).1]; exact h1, by rw [e0, (g.2.2.1 _).1]; exact h2, by rw [e0, (g.2.2.1 _).2]; exact h3, by rw [g.2.2.2 r 1 a1 (by omega)]; exact h4, h5, h6, fun i i0 i1 => ?_⟩
  rw [e0, g.2.2.2 _ i a3 (by omega)]; exact h7 i i0 i1
theorem RI.gf {P aa : Int} {m m' : Mem} (h : RI m) (hP : tg m P = 7) (ha : tg m aa = 112101) (g : GF P aa m m') : RI m' := by
  have e0 : ∀ r, tg m r = 8 → vl m' r 0 = vl m r 0 := by
    intro r hr
    exact g.2.2.2 r 0 (by intro q; rw [q] at hr; omega) (by rintro ⟨q, -⟩; rw [q] at hr; omega)
  refine ⟨fun r hr => ?_, fun r r' hr hr' hne h0 => ?_⟩
  · rw [(g.2.2.1 r).1] at hr
    rw [e0 r hr, g.1]; exact h.1 r hr
  · rw [(g.2.2.1 r).1] at hr
    rw [(g.2.2.1 r').1] at hr'
    rw [e0 r hr] at h0 ⊢
    rw [e0 r' hr']; exact h.2 r r' hr hr' hne h0
theorem PIV.gf {P aa rt sa : Int} {m m' : Mem} {st : List Int} (h : PIV m P rt sa st) (hs : sa ≠ aa) (ha : tg m aa = 112101) (g : GF P aa m m') : PIV m' P rt sa st := by
  obtain ⟨ok, h1, h2, h3, h4, h5, h6, h7⟩ := h
  have hPa : P ≠ aa := by intro q; rw [q] at h1; omega
  have hsP : sa ≠ P := by intro q; rw [q] at h4; omega
  refine ⟨ok.gf g, by rw [(g.2.2.1 P).1]; exact h1, by rw [g.2.2.2 P 9 hPa (by omega)]; exact h2, by rw [g.2.2.2 P 10 hPa (by omega)]; exact h3, by rw [(g.2.2.1 sa).1]; exact h4, by rw [(g.2.2.1 sa).2]; exact h5, by rw [g.2.2.2 P 11 hPa (by omega)]; exact h6, fun j j0 j1 => ?_⟩
  rw [g.2.2.2 sa j hs (by omega)]; exact h7 j j0 j1
/-- a patcher that goes along tokens -/
def GS (m : Mem) (P rt sa rd aa : Int) (tks : List (List Int)) (ct : Int) (xs : List Int) (cd : Int) : Prop := PIV m P rt sa (stL 0 tks) ∧ RI m ∧ vl m P 5 = rd ∧ RW m rd xs cd ∧ RW m rt (tkB tks) ct ∧ vl m P 12 = aa ∧ tg m aa = 112101 ∧ ln m aa = 33 ∧ sa ≠ aa
theorem GS.gf {P rt sa rd aa ct cd : Int} {m m' : Mem} {tks : List (List Int)} {xs : List Int} (h : GS m P rt sa rd aa tks ct xs cd) (g : GF P aa m m') : GS m' P rt sa rd aa tks ct xs cd := by
  obtain ⟨h1, h2, h3, h4, h5, h6, h7, h8, h9⟩ := h
  have hP := h1.2.1
  have hPa : P ≠ aa := by intro q; rw [q] at hP; omega
  exact ⟨h1.gf h9 h7 g, h2.gf hP h7 g, by rw [g.2.2.2 P 5 hPa (by omega)]; exact h3, h4.gf hP h7 g, h5.gf hP h7 g, by rw [g.2.2.2 P 12 hPa (by omega)]; exact h6, by rw [(g.2.2.1 aa).1]; exact h7, by rw [(g.2.2.1 aa).2]; exact h8, h9⟩
theorem enV_tag {xs : List Int} {a : Int} {nd : ND} {l : Fo} (hA : At xs a (enV nd l)) : gi xs a = nd.1 := by
  unfold enV enD at hA
  split at hA
  · exact hA.cons.1
  · split at hA
    · rename_i h3; rw [hA.cons.1]; omega
    · split at hA
      · rename_i h4; rw [hA.cons.1]; omega
      · exact hA.cons.1
theorem cnt_en (ob : Bool) (F : Fo) : cntF F ≤ (enF ob F).length := by
  induction F with
  | leaf => simp [cntF]
  | inner i d u l r _ ih =>
    rw [enF_inner]
    have := enV_pos d l
    simp only [cntF, List.length_append]; omega
theorem tkB_ge (tks : List (List Int)) : 2 * tks.length ≤ (tkB tks).length := by
  induction tks with
  | nil => simp [tkB]
  | cons t tks ih =>
    have e : tkB (t :: tks) = nmB t ++ tkB tks := by unfold tkB; rw [List.flatMap_cons]
    rw [e, List.length_append, nmB_len]; simp only [List.length_cons]; omega
theorem at_name {xs : List Int} {a : Int} {f : Fr} {v : Vl} (h : f.2.1.1 = 5 ∨ f.2.1.1 = 6) (hA : At xs a (enV f.2.1 (amg f.2.2.1 v f.2.2.2.1 f.2.2.2.2))) : At xs (a + 3 + (enF (obF f) f.2.2.1).length) (nmF (obF f) f.2.2.2.1) := by
  rw [enV_mid h] at hA
  have h3 := hA.app.2.app.2.app.1
  rw [show a + 3 + ((enF (obF f) f.2.2.1).length : Int) = a + (((f.2.1.1 : Int) :: l2 (enF (obF f) (amg f.2.2.1 v f.2.2.2.1 f.2.2.2.2)).length).length : Int) + (enF (obF f) f.2.2.1).length by simp only [List.length_cons, l2_len]; omega]
  exact h3
/-- where one is: found, deep, around -/
def GP (m : Mem) (P aa : Int) (k : List Fr) : Prop := vl m P 14 = offK k ∧ vl m P 13 = k.length ∧ ∀ i : Int, 0 ≤ i → i < k.length → vl m aa i = gi (arK k) i
section
variable {d : Nat} {P rt sa rd aa ct cd : Int} {tks : List (List Int)} {xs : List Int} {v0 : Vl}
theorem c123_12 (hd : 6 ≤ d) (hx : xs.length < 60000) (hA : At xs 0 (enV v0.2.1 v0.2.2)) (htk : ∀ tk, tk ∈ tks → wfU tk ∧ (uts tk).length < 6000) (htl : (tkB tks).length ≤ 6000) (n : Nat) (hn : n ≤ tks.length) : ∀ (rest : List (List Int)) (j : Nat) (k : List Fr) (w : Vl) (m : Mem) (z3 z4 : PV), cat z3 = 1 → cat z4 = 1 → j + rest.length = n → (∀ (i : Nat) (h1 : i < rest.length) (h2 : j + i < tks.length), rest[i] = tks[j + i]) → plug k w = v0 → okK k → wfF (foC w.2.1 w.2.2 foN) → k.length + dpV w.2.1 w.2.2 ≤ 32 → GS m P rt sa rd aa tks ct xs cd → GP m P aa k →
    (∀ k' w', goZ rest k w = some (k', w') → plug k' w' = v0 ∧ okK k' ∧ wfF (foC w'.2.1 w'.2.2 foN) ∧ k'.length + dpV w'.2.1 w'.2.2 ≤ 32 ∧ ∃ m', rn d 123 12 [pR P, pI n, pI j, z3, z4] [] m = some (.inl none, m') ∧ GF P aa m m' ∧ GP m' P aa k') ∧
    (goZ rest k w = none → ∃ m1, rn d 123 12 [pR P, pI n, pI j, z3, z4] [] m = some (.inr 206, mal m1 206 6) ∧ GF P aa m m1) := by
  intro rest
  induction rest with
  | nil =>
    intro j k w m z3 z4 c3 c4 hj _ hp hk hw hdp hG hgp
    refine ⟨fun k' w' h => ?_, fun h => (by cases h)⟩
    cases h
    refine ⟨hp, hk, hw, hdp, m, ?_, GF.refl, hgp⟩
    refine q123_12 (by omega) hG.1.1.1 c3 c4 _ ?_
    rw [if_neg (by simp at hj; omega)]
  | cons tk rest ih =>
    intro j k w m z3 z4 c3 c4 hj hr hp hk hw hdp hG hgp
    simp only [List.length_cons] at hj
    have hjt : j < tks.length := by omega
    have htj : tks[j] = tk := by
      have := hr 0 (by simp) (by omega)
      simpa using this.symm
    obtain ⟨hPV, hI, h5, hRd, hRt, h12, haa, hal, hsa⟩ := hG
    have hG : GS m P rt sa rd aa tks ct xs cd := ⟨hPV, hI, h5, hRd, hRt, h12, haa, hal, hsa⟩
    obtain ⟨g14, g13, gar⟩ := hgp
    have ok := hPV.1
    have hP := hPV.2.1
    have hPa : P ≠ aa := by intro q; rw [q] at hP; omega
    have hAw : At xs (offK k) (enV w.2.1 w.2.2) := by
      have := at_plug k w hk (a := 0) (xs := xs) (by rw [hp]; exact hA)
      rwa [Int.zero_add] at this
    have ho1 := hAw.2.1
    have hpv := enV_pos w.2.1 w.2.2
    have htg := enV_tag hAw
    have h139 := c139 (d := d - 1) (a := offK k) ok.1 hRd (by omega) (by omega)
    rw [htg] at h139
    have hts : At (tkB tks) (gi (stL 0 tks) j) (nmB tk) := by
      have := stL_at tks [] j hjt
      rw [htj] at this
      exact this
    have hj3 : j < 3000 := by have := tkB_ge tks; omega
    have hst : vl m sa j = gi (stL 0 tks) j := hPV.2.2.2.2.2.2.2 j (by omega) (by rw [stL_len]; omega)
    obtain ⟨wtk, ltk⟩ := htk tk (by rw [← htj]; exact List.getElem_mem _)
    by_cases k5 : w.2.1.1 < 5
    · have hg1 : go1 tk w = none := by unfold go1; rw [if_neg (by omega), if_neg (by omega)]
      have hgz : goZ (tk :: rest) k w = none := by unfold goZ; rw [hg1]
      rw [hgz]
      refine ⟨fun k' w' h => (by cases h), fun _ => ⟨m, ?_, GF.refl⟩⟩
      refine q123_12 (by omega) ok.1 c3 c4 _ ?_
      rw [if_pos (by omega), gd_of hP, nm_eq, g14, nm_eq, h5, gd_of hRd.1, bI_eq h139, if_pos (by omega)]
      refine q123_39 (by omega) ok.1 c4 _ ?_
      rw [bV_xq (c115_0 ok.1)]
    · have hk56 : w.2.1.1 = 5 ∨ w.2.1.1 = 6 := by have := hw.1.1; omega
      have hdp1 : k.length + (1 + dpF w.2.2) ≤ 32 := by unfold dpV at hdp; rw [if_neg k5] at hdp; exact hdp
      have gf1 : GF P aa m (mst (mst m P 13 ((k.length : Int) + 1)) aa k.length (offK k)) := (GF.p (Or.inl rfl)).trans GF.a
      have hG1 := hG.gf gf1
      have ga1 : ∀ i : Int, 0 ≤ i → i < (k.length : Int) + 1 → vl (mst (mst m P 13 ((k.length : Int) + 1)) aa k.length (offK k)) aa i = gi (arK k ++ [(offK k : Int)]) i := by
        intro i i0 i1
        have hl := arK_len k
        rw [vl_mst]
        by_cases hi : i = k.length
        · rw [if_pos ⟨rfl, hi⟩, gi_app_r (by omega), hi, hl, Int.sub_self]; rfl
        · rw [if_neg (by omega), vl_mst, if_neg (by omega), gi_app_l i0 (by omega)]; exact gar i i0 (by omega)
      have gd1 : vl (mst (mst m P 13 ((k.length : Int) + 1)) aa k.length (offK k)) P 13 = (k.length : Int) + 1 := by rw [vl_mst, if_neg (by omega), vl_mst, if_pos ⟨rfl, rfl⟩]
      generalize hm1 : mst (mst m P 13 ((k.length : Int) + 1)) aa k.length (offK k) = m1 at *
      obtain ⟨hPV1, hI1, h51, hRd1, hRt1, h121, haa1, hal1, -⟩ := hG1
      have ok1 := hPV1.1
      have h139b := c139 (d := d - 1) (a := offK k) ok1.1 hRd1 (by omega) (by omega)
      rw [htg] at h139b
      have hst1 : vl m1 sa j = gi (stL 0 tks) j := hPV1.2.2.2.2.2.2.2 j (by omega) (by rw [stL_len]; omega)
      -- up to where the kinds part
      have s1 : ∀ X : RM, (if (w.2.1.1 : Int) = 6 then (nm (vl m1 P 5) fun v9 => nm (vl m1 P 10) fun v10 => gd (tg m1 v10 = 112101) <| gd ((0 : Int) ≤ j ∧ (j : Int) < ln m1 v10) <| gd (tg m1 v9 = 8) <| bI (cl (d - 1) 144 [pR v9, pI (offK k), pR (vl m1 P 9), pI (vl m1 v10 j)] m1) fun v5 m5 => if v5 < 0 then (rn d 123 102 [pR P, pI n, pI j, pI (offK k), pI v5] [pI 0] m5) else rn d 123 102 [pR P, pI n, pI j, pI (offK k), pI v5] [pI 1] m5) else nm (vl m1 P 10) fun v11 => gd (tg m1 v11 = 112101) <| gd ((0 : Int) ≤ j ∧ (j : Int) < ln m1 v11) <| nm (vl m1 P 5) fun v12 => gd (tg m1 v12 = 8) <| bI (cl (d - 1) 145 [pR v12, pI (offK k)] m1) fun v3 m3 => bI (cl (d - 1) 124 [pR P, pI (vl m1 v11 j), pI (w32 (v3 - 1))] m3) fun v4 m4 => if v4 < 0 then (rn d 123 153 [pR P, pI n, pI j, pI (offK k), pI v4] [pI 0] m4) else rn d 123 153 [pR P, pI n, pI j, pI (offK k), pI v4] [pI 1] m4) = X → ∀ Q, X = some Q → rn d 123 12 [pR P, pI n, pI j, z3, z4] [] m = some Q := by
        intro X hX Q hQ
        refine q123_12 (by omega) ok.1 c3 c4 _ ?_
        rw [if_pos (by omega), gd_of hP, nm_eq, g14, nm_eq, h5, gd_of hRd.1, bI_eq h139, if_neg (by omega)]
        refine q123_39 (by omega) ok.1 c4 _ ?_
        rw [bV_eq (c115_1 ok.1), gd_of hP, nm_eq, nm_eq, h12, g13, gd_of haa, gd_of ⟨by omega, by omega⟩, nm_eq, h5, gd_of hRd.1, (w32_of (by omega) (by omega) : w32 ((k.length : Int) + 1) = (k.length : Int) + 1), hm1, bI_eq h139b]
        exact (by exact hX : _ = X).trans hQ
      -- what comes behind
      have cont : ∀ f u, go1 tk w = some (f, u) → f.1 = w.1 ∧ f.2.1 = w.2.1 → (∀ z, cat z = 1 → (∀ Q, rn d 123 12 [pR P, pI n, pI ((j + 1 : Nat) : Int), pI (offK k), z] [] (mst m1 P 14 (offK (f :: k))) = some Q → rn d 123 12 [pR P, pI n, pI j, z3, z4] [] m = some Q) →
          (∀ k' w', goZ (tk :: rest) k w = some (k', w') → plug k' w' = v0 ∧ okK k' ∧ wfF (foC w'.2.1 w'.2.2 foN) ∧ k'.length + dpV w'.2.1 w'.2.2 ≤ 32 ∧ ∃ m', rn d 123 12 [pR P, pI n, pI j, z3, z4] [] m = some (.inl none, m') ∧ GF P aa m m' ∧ GP m' P aa k') ∧
          (goZ (tk :: rest) k w = none → ∃ m1, rn d 123 12 [pR P, pI n, pI j, z3, z4] [] m = some (.inr 206, mal m1 206 6) ∧ GF P aa m m1)) := by
        intro f u hg hfw z hz hstep
        have hgz : goZ (tk :: rest) k w = goZ rest (f :: k) u := by rw [goZ, hg]
        obtain ⟨he1, he2⟩ := go1_eq hg
        have hgf2 : GF P aa m1 (mst m1 P 14 (offK (f :: k))) := GF.p (Or.inr rfl)
        have hwl : w.2.2 = fapp f.2.2.1 (.inner u.1 (wiN u.2.1 f.2.2.2.1) () u.2.2 f.2.2.2.2) := by rw [he1]
        have hwf := hw.2.2.2.2.1
        rw [hwl] at hwf
        have hwm := wf_mid hwf
        have hdm := dp_mid f.2.2.1 u.1 (wiN u.2.1 f.2.2.2.1) u.2.2 f.2.2.2.2
        rw [← hwl] at hdm
        have hdm' : dpV u.2.1 u.2.2 ≤ dpF w.2.2 := hdm
        have hwu : wfF (foC u.2.1 u.2.2 foN) := by
          have h1 := hwm.1
          have e : noN (wiN u.2.1 f.2.2.2.1) = noN u.2.1 := rfl
          rw [e] at h1
          have hun : u.2.1.2.2.2 = [] := by
            unfold go1 at hg
            split at hg
            · cases hs : spN tk w.2.2 with
              | none => rw [hs] at hg; cases hg
              | some x => rw [hs] at hg; cases hg; rfl
            · split at hg
              · split at hg
                · cases hg
                · rename_i i _
                  cases hs : spI i w.2.2 with
                  | none => rw [hs] at hg; cases hg
                  | some x => rw [hs] at hg; cases hg; rfl
              · cases hg
          have e2 : noN u.2.1 = u.2.1 := by
            obtain ⟨i0, ⟨q1, q2, q3, q4⟩, l0⟩ := u
            simp only at hun ⊢
            rw [hun]
          rw [e2] at h1; exact h1
        have hpl : plug (f :: k) u = v0 := by
          show plug k (f.1, f.2.1, amg f.2.2.1 u f.2.2.2.1 f.2.2.2.2) = v0
          rw [← he1]; exact hp
        have hkk : okK (f :: k) := by
          intro g hg'
          rcases List.mem_cons.mp hg' with q | q
          · rw [q, hfw.2]; exact hk56
          · exact hk g q
        have hgp2 : GP (mst m1 P 14 (offK (f :: k))) P aa (f :: k) := by
          refine ⟨by rw [vl_mst, if_pos ⟨rfl, rfl⟩], ?_, fun i i0 i1 => ?_⟩
          · rw [vl_mst, if_neg (by omega), gd1]; simp
          · rw [vl_mst, if_neg (by omega)]
            exact ga1 i i0 (by simp at i1; omega)
        have hI2 := ih (j + 1) (f :: k) u (mst m1 P 14 (offK (f :: k))) (pI (offK k)) z rfl hz (by omega) (fun i h1 h2 => by
          have := hr (i + 1) (by simp; omega) (by omega)
          simp only [List.getElem_cons_succ] at this
          rw [this]
          congr 1
          omega) hpl hkk hwu (by simp only [List.length_cons]; omega) (hG.gf (gf1.trans hgf2)) hgp2
        rw [hgz]
        refine ⟨fun k' w' h => ?_, fun h => ?_⟩
        · obtain ⟨b1, b2, b3, b4, m', b5, b6, b7⟩ := hI2.1 k' w' h
          exact ⟨b1, b2, b3, b4, m', hstep _ b5, (gf1.trans hgf2).trans b6, b7⟩
        · obtain ⟨m', b5, b6⟩ := hI2.2 h
          exact ⟨m', hstep _ b5, (gf1.trans hgf2).trans b6⟩
      have stop : go1 tk w = none → rn d 123 12 [pR P, pI n, pI j, z3, z4] [] m = some (.inr 206, mal m1 206 6) →
          (∀ k' w', goZ (tk :: rest) k w = some (k', w') → plug k' w' = v0 ∧ okK k' ∧ wfF (foC w'.2.1 w'.2.2 foN) ∧ k'.length + dpV w'.2.1 w'.2.2 ≤ 32 ∧ ∃ m', rn d 123 12 [pR P, pI n, pI j, z3, z4] [] m = some (.inl none, m') ∧ GF P aa m m' ∧ GP m' P aa k') ∧
          (goZ (tk :: rest) k w = none → ∃ m1, rn d 123 12 [pR P, pI n, pI j, z3, z4] [] m = some (.inr 206, mal m1 206 6) ∧ GF P aa m m1) := by
        intro hg hrn
        have hgz : goZ (tk :: rest) k w = none := by rw [goZ, hg]
        rw [hgz]
        exact ⟨fun k' w' h => (by cases h), fun _ => ⟨m1, hrn, gf1⟩⟩
      have e9 : vl m1 P 9 = rt := hPV1.2.2.1
      have elen : (enV w.2.1 w.2.2).length = (enF (w.2.1.1 == 6) w.2.2).length + 3 := (enV_many hAw (by omega)).2.2.2.1
      rcases hk56 with k5' | k6
      · rw [if_neg (by omega)] at s1
        have hob : (w.2.1.1 == 6) = false := by rw [k5']; rfl
        rw [hob] at elen
        have hcn := cnt_en false w.2.2
        have h145 := c145 (d := d - 1) (by omega) ok1.1 hRd1 hAw hw (by omega) hx
        have h124 := c124 (d := d - 1) (m := m1) (P := P) (b := gi (stL 0 tks) j) (n := (cntF w.2.2 : Int) - 1) (ts := tkB tks) (tk := tk) (ct := ct) (by omega) hPV1.2.1 ok1.1 (by rw [e9]; exact hRt1) hts wtk (by omega) ⟨by omega, by omega⟩
        have s2 : ∀ X : RM, (bI (cl (d - 1) 124 [pR P, pI (gi (stL 0 tks) j), pI ((cntF w.2.2 : Int) - 1)] m1) fun v4 m4 => if v4 < 0 then (rn d 123 153 [pR P, pI n, pI j, pI (offK k), pI v4] [pI 0] m4) else rn d 123 153 [pR P, pI n, pI j, pI (offK k), pI v4] [pI 1] m4) = X → ∀ Q, X = some Q → rn d 123 12 [pR P, pI n, pI j, z3, z4] [] m = some Q := by
          intro X hX Q hQ
          refine s1 _ ?_ _ hQ
          rw [nm_eq, hPV1.2.2.2.1, gd_of hPV1.2.2.2.2.1, gd_of ⟨by omega, by rw [hPV1.2.2.2.2.2.1]; omega⟩, nm_eq, h51, gd_of hRd1.1, bI_eq h145, hst1, w32_of (by omega) (by omega)]
          exact hX
        have bad : go1 tk w = none → cl (d - 1) 124 [pR P, pI (gi (stL 0 tks) j), pI ((cntF w.2.2 : Int) - 1)] m1 = some (.inl (some (pI (-1))), m1) → _ := fun hg hc => stop hg (s2 _ (by
          rw [bI_eq hc, if_pos (by decide)]
          refine q123_153 (by omega) ok1.1 _ ?_
          rw [bV_xq (c115_0 ok1.1)]) _ rfl)
        cases hi : ixT tk with
        | none =>
          have hg : go1 tk w = none := by unfold go1; rw [if_neg (by omega), if_pos k5', hi]
          rw [hi] at h124
          exact bad hg h124
        | some i =>
          rw [hi] at h124
          dsimp only at h124
          have hse := spI_elt (F := w.2.2) i ((offK k : Int) + 3)
          cases hs : spI i w.2.2 with
          | none =>
            have hg : go1 tk w = none := by unfold go1; rw [if_neg (by omega), if_pos k5', hi]; dsimp only; rw [hs]; rfl
            have := spI_none.mp hs
            rw [if_neg (by omega)] at h124
            exact bad hg h124
          | some x =>
            have hg : go1 tk w = some (fr1 w x) := by unfold go1; rw [if_neg (by omega), if_pos k5', hi]; dsimp only; rw [hs]; rfl
            have hic : i < cntF w.2.2 := by
              rcases Nat.lt_or_ge i (cntF w.2.2) with q | q
              · exact q
              · rw [spI_none.mpr q] at hs; cases hs
            rw [if_pos (by omega)] at h124
            have h146 := c146 (d := d - 1) (i := (i : Int)) (by omega) ok1.1 hRd1 hAw hw k5' hx (by omega) (by omega)
            rw [hse.1 x hs] at h146
            have eoff : (offK k : Int) + 3 + (enF false x.1).length = (offK ((fr1 w x).1 :: k) : Nat) := by
              have : obF (fr1 w x).1 = false := hob
              simp only [offK, frOf, this, nmF]
              show _ = ((offK k + (3 + (enF false x.1).length + (if false = true then nmB x.2.2.1.2.2.2 else []).length) : Nat) : Int)
              rw [if_neg (by decide)]
              simp only [List.length_nil]; omega
            rw [eoff] at h146
            refine cont (fr1 w x).1 (fr1 w x).2 hg ⟨rfl, rfl⟩ (pI i) rfl (fun Q hQ => s2 _ ?_ _ rfl)
            rw [bI_eq h124, if_neg (by omega)]
            refine q123_153 (by omega) ok1.1 _ ?_
            rw [bV_eq (c115_1 ok1.1), gd_of hPV1.2.1, nm_eq, h51, gd_of hRd1.1, bI_eq h146, (w32_of (by omega) (by omega) : w32 ((j : Int) + 1) = (j : Int) + 1), show (j : Int) + 1 = ((j + 1 : Nat) : Int) by omega]
            exact hQ
      · have h144 := c144 (d := d - 1) (by omega) ok1.1 hRd1 hRt1 hAw hw k6 hx hts wtk (by omega)
        rw [if_pos (by omega)] at s1
        have hsn := spN_mem (k := tk) (F := w.2.2) ((offK k : Int) + 3)
        cases hs : spN tk w.2.2 with
        | none =>
          have hg : go1 tk w = none := by unfold go1; rw [if_pos k6, hs]; rfl
          rw [hsn.2 hs] at h144
          refine stop hg (s1 _ ?_ _ rfl)
          rw [nm_eq, h51, nm_eq, hPV1.2.2.2.1, gd_of hPV1.2.2.2.2.1, gd_of ⟨by omega, by rw [hPV1.2.2.2.2.2.1]; omega⟩, gd_of hRd1.1, hPV1.2.2.1, hst1, bI_eq h144, if_pos (by decide)]
          refine q123_102 (by omega) ok1.1 _ ?_
          rw [bV_xq (c115_0 ok1.1)]
        | some x =>
          have hg : go1 tk w = some (fr1 w x) := by unfold go1; rw [if_pos k6, hs]; rfl
          rw [hsn.1 x hs] at h144
          obtain ⟨q1, q2, q3⟩ := spN_eq hs
          have hob : obF (fr1 w x).1 = true := by show (w.2.1.1 == 6) = true; rw [k6]; rfl
          have hAn : At xs ((offK k : Int) + 3 + (enF true x.1).length) (nmB tk) := by
            have h1 := at_name (xs := xs) (a := offK k) (f := (fr1 w x).1) (v := (fr1 w x).2) (Or.inr k6) (by
              have e := (go1_eq hg).1
              have e2 : w.2.2 = amg (fr1 w x).1.2.2.1 (fr1 w x).2 (fr1 w x).1.2.2.2.1 (fr1 w x).1.2.2.2.2 := by
                have := congrArg (fun v : Vl => v.2.2) e
                exact this
              show At xs (offK k) (enV w.2.1 _)
              rw [← e2]; exact hAw)
            rw [hob] at h1
            unfold nmF at h1
            rw [if_pos rfl] at h1
            have e3 : (fr1 w x).1.2.2.2.1 = tk := q2
            rw [e3] at h1
            exact h1
          have hnl := nmB_len tk
          have hn1 := hAn.2.1
          have hn0 := hAn.1
          have h136 := c136 (d := d - 1) (a := (offK k : Int) + 3 + (enF true x.1).length) (by omega) ok1.1 hRd1 hn0 (by omega)
          rw [tw_nm hAn (by omega)] at h136
          have eoff : (offK k : Int) + 3 + (enF true x.1).length + 2 + (uts tk).length = (offK ((fr1 w x).1 :: k) : Nat) := by
            simp only [offK, frOf, hob, nmF]
            show _ = ((offK k + (3 + (enF true x.1).length + (if true = true then nmB x.2.2.1.2.2.2 else []).length) : Nat) : Int)
            rw [if_pos rfl, q2, hnl]; omega
          rw [eoff] at h136
          refine cont (fr1 w x).1 (fr1 w x).2 hg ⟨rfl, rfl⟩ (pI ((offK k : Int) + 3 + (enF true x.1).length)) rfl (fun Q hQ => s1 _ ?_ _ rfl)
          rw [nm_eq, h51, nm_eq, hPV1.2.2.2.1, gd_of hPV1.2.2.2.2.1, gd_of ⟨by omega, by rw [hPV1.2.2.2.2.2.1]; omega⟩, gd_of hRd1.1, hPV1.2.2.1, hst1, bI_eq h144, if_neg (by omega)]
          refine q123_102 (by omega) ok1.1 _ ?_
          rw [bV_eq (c115_1 ok1.1), gd_of hPV1.2.1, nm_eq, h51, gd_of hRd1.1, bI_eq h136, (w32_of (by omega) (by omega) : w32 ((j : Int) + 1) = (j : Int) + 1), show (j : Int) + 1 = ((j + 1 : Nat) : Int) by omega]
          exact hQ
end
