/-! the patcher: removing -/
set_option maxRecDepth 100000
set_option maxHeartbeats 4000000
theorem goZ_app : ∀ (init : List (List Int)) (tk : List Int) (k : List Fr) (v : Vl), goZ (init ++ [tk]) k v = match goZ init k v with
    | none => none
    | some (k1, u) => match go1 tk u with
      | none => none
      | some (f, w) => some (f :: k1, w) := by
  intro init
  induction init with
  | nil =>
    intro tk k v
    simp only [List.nil_append, goZ]
    cases go1 tk v <;> rfl
  | cons t init ih =>
    intro tk k v
    simp only [List.cons_append, goZ]
    cases go1 t v with
    | none => rfl
    | some p =>
      obtain ⟨f, u⟩ := p
      exact ih tk (f :: k) u
section
variable {d : Nat} {m : Mem} {P rt sa rd ro rh aa ct cd co ch : Int} {xs os hs : List Int} {v : Vl}
theorem c126_0 (hd : 2 ≤ d) (hG : GS m P rt sa rd aa [] ct xs cd) : cl d 126 [pR P] m = some (.inr 206, mal m 206 6) := by
  have hPV := hG.1
  have h11 : vl m P 11 = 0 := hPV.2.2.2.2.2.2.1
  refine q126 hPV.1.1 _ ?_
  rw [gd_of hPV.2.1, if_neg (by omega)]
  refine q126_12 (by omega) hPV.1.1 _ ?_
  rw [bV_xq (c115_0 hPV.1.1)]
theorem c126 {init : List (List Int)} {tk : List Int} (hd : 8 ≤ d) (hx : xs = enV v.2.1 v.2.2) (htk : ∀ t, t ∈ init ++ [tk] → wfU t ∧ (uts t).length < 6000) (htl : (tkB (init ++ [tk])).length ≤ 6000) (hw : wfF (foC v.2.1 v.2.2 foN)) (hdp : dpV v.2.1 v.2.2 ≤ 32) (hG : GS m P rt sa rd aa (init ++ [tk]) ct xs cd) (h6 : vl m P 6 = ro) (h7 : vl m P 7 = rh) (hRo : RW m ro os co) (hRh : RW m rh hs ch) (hne : rd ≠ ro) (hne2 : rh ≠ ro) (hne3 : rd ≠ rh) (hL : xs.length ≤ 5900) :
    (∀ v', rmZ (init ++ [tk]) v = some v' → ∃ m', cl d 126 [pR P] m = some (.inl none, m') ∧ ADR m P rd ro rh co ch (enV v'.2.1 v'.2.2) m') ∧
    (rmZ (init ++ [tk]) v = none → ∃ m1, cl d 126 [pR P] m = some (.inr 206, mal m1 206 6) ∧ GF P aa m m1) := by
  have hPV := hG.1
  have hP := hPV.2.1
  have haa := hG.2.2.2.2.2.2.1
  have hPa : P ≠ aa := by intro q; rw [q] at hP; omega
  have hI := hG.2.1
  have hRd := hG.2.2.2.1
  have h11 : vl m P 11 = (init.length : Int) + 1 := by
    have := hPV.2.2.2.2.2.2.1
    rw [stL_len] at this
    rw [this]; simp
  have hA : At xs 0 (enV v.2.1 v.2.2) := by rw [hx]; exact At.self
  have htn := tkB_ge (init ++ [tk])
  simp only [List.length_append, List.length_cons, List.length_nil] at htn
  have hgo := c123 (d := d - 1) (n := init.length + 1) (by omega) (by omega) hA htk htl (by simp) hw hdp hG
  rw [show init.length + 1 = (init ++ [tk]).length by simp, List.take_length] at hgo
  have s0 : ∀ Q, rn d 126 12 [pR P, pU, pU, pU] [pI 1] m = some Q → cl d 126 [pR P] m = some Q := by
    intro Q hQ
    refine q126 hPV.1.1 _ ?_
    rw [gd_of hP, if_pos (by omega)]; exact hQ
  have ecount : (((init ++ [tk]).length : Nat) : Int) = (init.length : Int) + 1 := by simp
  unfold rmZ
  cases hz : goZ (init ++ [tk]) [] v with
  | none =>
    refine ⟨fun v' h => (by cases h), fun _ => ?_⟩
    obtain ⟨m1, e1, g1⟩ := hgo.2 hz
    rw [ecount] at e1
    refine ⟨m1, s0 _ (q126_12 (by omega) hPV.1.1 _ ?_), g1⟩
    rw [bV_eq (c115_1 hPV.1.1), gd_of hP, h11, bV_xq e1]
  | some p =>
    obtain ⟨k', w⟩ := p
    obtain ⟨b1, b2, b3, b4, m1, e1, g1, gp1⟩ := hgo.1 k' w hz
    rw [ecount] at e1
    rw [goZ_app] at hz
    cases hz1 : goZ init [] v with
    | none => rw [hz1] at hz; cases hz
    | some p =>
      obtain ⟨k, u⟩ := p
      rw [hz1] at hz
      dsimp only at hz
      cases hz2 : go1 tk u with
      | none => rw [hz2] at hz; cases hz
      | some p =>
        obtain ⟨f, w'⟩ := p
        rw [hz2] at hz
        cases hz
        dsimp only
        refine ⟨fun v' h => ?_, fun h => (by cases h)⟩
        cases h
        obtain ⟨he1, he2⟩ := go1_eq hz2
        have hfu : f.1 = u.1 ∧ f.2.1 = u.2.1 := by rw [he1]; exact ⟨rfl, rfl⟩
        have hf56 : f.2.1.1 = 5 ∨ f.2.1.1 = 6 := b2 f (by simp)
        have hk : okK k := fun g hg => b2 g (by simp [hg])
        have hG1 := hG.gf g1
        obtain ⟨hPV1, hI1, h51, hRd1, hRt1, h121, haa1, hal1, hsa1⟩ := hG1
        have ok1 := hPV1.1
        have hP1 := hPV1.2.1
        have h61 : vl m1 P 6 = ro := by rw [g1.2.2.2 P 6 hPa (by omega)]; exact h6
        have h71 : vl m1 P 7 = rh := by rw [g1.2.2.2 P 7 hPa (by omega)]; exact h7
        have h111 : vl m1 P 11 = (init.length : Int) + 1 := by rw [g1.2.2.2 P 11 hPa (by omega)]; exact h11
        have hexu : xs = enV (plug k u).2.1 (plug k u).2.2 := by
          have := goZ_plug init [] v k u hz1
          rw [this]; exact hx
        have hAu : At xs (offK k) (enV u.2.1 u.2.2) := by
          have := at_plug k u hk (a := 0) (xs := xs) (by rw [← hexu]; exact At.self)
          rwa [Int.zero_add] at this
        have hAw : At xs (offK (f :: k)) (enV w.2.1 w.2.2) := by
          have := at_plug (f :: k) w b2 (a := 0) (xs := xs) (by rw [b1]; exact hA)
          rwa [Int.zero_add] at this
        have hw1 := hAw.2.1
        have hu1 := hAu.2.1
        have hpu := enV_pos u.2.1 u.2.2
        obtain ⟨gq1, gq2, gq3⟩ := gp1
        have hdk : k.length ≤ 31 := by simp only [List.length_cons] at b4; omega
        have h137 := c137 (d := d - 1) (by omega) ok1.1 hRd1 hAw b3.1 (by omega)
        have hpar : vl m1 aa k.length = offK k := by
          rw [gq3 k.length (by omega) (by simp; omega)]
          show gi (arK k ++ [(offK k : Int)]) k.length = _
          rw [gi_app_r (by rw [arK_len]; omega), arK_len, Int.sub_self]; rfl
        have htg := enV_tag hAu
        have h139 := c139 (d := d - 1) (a := offK k) ok1.1 hRd1 (by omega) (by omega)
        rw [htg] at h139
        have hukf : u.2.1.1 = f.2.1.1 := by rw [hfu.2]
        -- the bytes that go
        have hbd : enF (u.2.1.1 == 6) u.2.2 = enF (u.2.1.1 == 6) f.2.2.1 ++ ((nmF (u.2.1.1 == 6) f.2.2.2.1 ++ enV w.2.1 w.2.2) ++ enF (u.2.1.1 == 6) f.2.2.2.2) := by
          have : u.2.2 = amg f.2.2.1 w f.2.2.2.1 f.2.2.2.2 := by rw [he1]
          rw [this, enF_amg]; simp
        have eb0 := enc_body (k := k) (i := u.1) (nd := u.2.1) (l := u.2.2) (B1 := enF (u.2.1.1 == 6) f.2.2.1) (mid := nmF (u.2.1.1 == 6) f.2.2.2.1 ++ enV w.2.1 w.2.2) (B2 := enF (u.2.1.1 == 6) f.2.2.2.2) hk (by rw [hukf]; exact hf56) hbd
        have eb1 := enc_body (k := k) (i := f.1) (nd := f.2.1) (l := fapp f.2.2.1 f.2.2.2.2) (B1 := enF (u.2.1.1 == 6) f.2.2.1) (mid := []) (B2 := enF (u.2.1.1 == 6) f.2.2.2.2) hk hf56 (by rw [← hukf, enF_fapp]; simp)
        rw [eb1, ← hukf]
        have gc := RG.clear (hRh.gf hP haa g1) hI1 ok1
        have hs1 : SPS m1 P rd ro rh aa (((u.2.1.1 : Int), enF (u.2.1.1 == 6) f.2.2.1, enF (u.2.1.1 == 6) f.2.2.2.2) :: k.map bfr) := by
          refine ⟨ok1, hP1, h51, h61, h71, h121, by rw [gq2]; simp, haa1, hal1, fun i i0 i1 => ?_⟩
          show _ = gi (arB (k.map bfr) ++ [(offB (k.map bfr) : Int)]) i
          rw [arB_map, offB_map]
          exact gq3 i i0 (by simpa using i1)
        have hrP : rh ≠ P := by intro q; have := hRh.1; rw [q] at this; omega
        have hra : rh ≠ aa := by intro q; have := hRh.1; rw [q] at this; omega
        have hs2 : SPS (mst m1 rh 1 0) P rd ro rh aa (((u.2.1.1 : Int), enF (u.2.1.1 == 6) f.2.2.1, enF (u.2.1.1 == 6) f.2.2.2.2) :: k.map bfr) := by
          obtain ⟨t0, t1, t2, t3, t4, t5, t6, t7, t8, t9⟩ := hs1
          exact ⟨t0, t1, by rw [vl_mst, if_neg (by omega)]; exact t2, by rw [vl_mst, if_neg (by omega)]; exact t3, by rw [vl_mst, if_neg (by omega)]; exact t4, by rw [vl_mst, if_neg (by omega)]; exact t5, by rw [vl_mst, if_neg (by omega)]; exact t6, t7, t8, fun i i0 i1 => by rw [vl_mst, if_neg (by omega)]; exact t9 i i0 i1⟩
        obtain ⟨m4, co', e4, g4, s4⟩ := c122 (d := d - 1) (m := mst m1 rh 1 0) (fr := 0) (hs := []) (by omega) hs2 gc.2.1.1 (by simp; omega) (gc.2.1.2 rd hne3 xs cd hRd1) (gc.2.1.2 ro (Ne.symm hne2) os co (hRo.gf hP haa g1)) gc.1 hne hne2 (hexu.trans eb0) (by simp) (by simp; omega)
        simp only [List.drop_nil] at g4
        have hP4 := s4.2.1
        have h8 : tg m4 P ≠ 8 ∧ tg m4 P < 100 := by omega
        have mt : ∀ r ys c, RW m4 r ys c → RW (mst (mst m4 P 5 ro) P 6 rd) r ys c := fun r ys c hw => RW.mT (m := mst m4 P 5 ro) h8 (hw.mT h8)
        have hlen := congrArg List.length (hexu.trans eb0)
        rw [List.length_append, prB_len _ _ (lnB_len _ _), List.length_append] at hlen
        refine ⟨mst (mst m4 P 5 ro) P 6 rd, ?_, co', ch, [], mt _ _ _ g4.1, mt _ _ _ (g4.2.1.2 rh hne2 _ ch gc.1), RI.mT (m := mst m4 P 5 ro) (by exact h8.1) (g4.2.1.1.mT h8.1), s4.1, ?_, ?_, fun r' n1 n2 ys c hw => mt _ _ _ (g4.2.1.2 r' n1 ys c (gc.2.1.2 r' n2 ys c (hw.gf hP haa g1))), ?_, ?_, by omega⟩
        · have hofb : (offB (((u.2.1.1 : Int), enF (u.2.1.1 == 6) f.2.2.1, enF (u.2.1.1 == 6) f.2.2.2.2) :: k.map bfr) : Int) = (offK k : Int) + 3 + (enF (u.2.1.1 == 6) f.2.2.1).length := by simp only [offB, offB_map]; omega
          rw [hofb] at e4
          have hoff : (offK (f :: k) : Int) = (offK k : Int) + 3 + (enF (u.2.1.1 == 6) f.2.2.1).length + (nmF (u.2.1.1 == 6) f.2.2.2.1).length := by
            simp only [offK, frOf, obF, ← hukf]; omega
          have r86 : rn d 126 86 [pR P, pI ((offK k : Int) + 3 + (enF (u.2.1.1 == 6) f.2.2.1).length), pI ((offK (f :: k) : Int) + (enV w.2.1 w.2.2).length), pI (offK k)] [] m1 = some (.inl none, mst (mst m4 P 5 ro) P 6 rd) := by
            refine q126_86 (by omega) ok1.1 _ ?_
            have hg8 : tg m1 rh = 8 := (hRh.gf hP haa g1).1
            rw [gd_of hP1, nm_eq, h71, gd_of hg8, show (offK (f :: k) : Int) + (enV w.2.1 w.2.2).length - ((offK k : Int) + 3 + (enF (u.2.1.1 == 6) f.2.2.1).length) = ((nmF (u.2.1.1 == 6) f.2.2.2.1 ++ enV w.2.1 w.2.2).length : Int) by rw [List.length_append]; omega, w32_of (by rw [List.length_append]; omega) (by rw [List.length_append]; omega)]
            rw [show ((0 : Nat) : Int) = 0 from rfl] at e4
            rw [bV_eq e4]
          refine s0 _ (q126_12 (by omega) hPV.1.1 _ ?_)
          rw [bV_eq (c115_1 hPV.1.1), gd_of hP, h11, bV_eq e1, nm_eq, gq1, nm_eq, h51, gd_of hRd1.1, bI_eq h137, nm_eq, h121, nm_eq, gq2, show (((f :: k).length : Nat) : Int) - 1 = k.length by simp, w32_of (by omega) (by omega), gd_of haa1, gd_of ⟨by omega, by omega⟩, nm_eq, hpar, nm_eq, h51, gd_of hRd1.1, bI_eq h139]
          by_cases k6 : u.2.1.1 = 6
          · have hob : (u.2.1.1 == 6) = true := by rw [k6]; rfl
            have hjt : init.length < (init ++ [tk]).length := by simp
            have hts : At (tkB (init ++ [tk])) (gi (stL 0 (init ++ [tk])) init.length) (nmB tk) := by
              have := stL_at (init ++ [tk]) [] init.length hjt
              rw [show (init ++ [tk])[init.length] = tk by simp] at this
              exact this
            have hst1 : vl m1 sa init.length = gi (stL 0 (init ++ [tk])) init.length := hPV1.2.2.2.2.2.2.2 init.length (by omega) (by rw [stL_len]; simp; omega)
            obtain ⟨wtk, ltk⟩ := htk tk (by simp)
            have wu : wfF (foC u.2.1 u.2.2 foN) := by
              have hgo2 := (c123 (d := d - 1) (n := init.length) (by omega) (by omega) hA htk htl (by simp) hw hdp hG).1
              rw [List.take_left] at hgo2
              exact (hgo2 k u hz1).2.2.1
            have h144 := c144 (d := d - 1) (by omega) ok1.1 hRd1 hRt1 hAu wu k6 (by omega) hts wtk (by omega)
            have hsn := spN_mem (k := tk) (F := u.2.2) ((offK k : Int) + 3)
            have hspx : ∃ x, spN tk u.2.2 = some x ∧ x.1 = f.2.2.1 := by
              unfold go1 at hz2
              rw [if_pos k6] at hz2
              cases hs : spN tk u.2.2 with
              | none => rw [hs] at hz2; cases hz2
              | some x => rw [hs] at hz2; cases hz2; exact ⟨x, rfl, rfl⟩
            obtain ⟨x, hx1, hx2⟩ := hspx
            rw [hsn.1 x hx1, hx2] at h144
            rw [hob] at r86
            rw [if_pos (by omega), nm_eq, h51, nm_eq, hPV1.2.2.2.1, nm_eq, h111, show (init.length : Int) + 1 - 1 = init.length by omega, w32_of (by omega) (by omega), gd_of hPV1.2.2.2.2.1, gd_of ⟨by omega, by rw [hPV1.2.2.2.2.2.1]; omega⟩, gd_of hRd1.1, hPV1.2.2.1, hst1, bI_eq h144]
            exact r86
          · have hob : (u.2.1.1 == 6) = false := by rw [beq_eq_false_iff_ne]; exact k6
            rw [if_neg (by omega)]
            rw [hob] at r86 hoff
            rw [show (offK k : Int) + 3 + (enF false f.2.2.1).length = (offK (f :: k) : Int) by rw [hoff]; simp [nmF]] at r86
            exact r86
        · rw [vl_mst, if_neg (by omega), vl_mst, if_pos ⟨rfl, rfl⟩]
        · rw [vl_mst, if_pos ⟨rfl, rfl⟩]
        · obtain ⟨q1, q2, q3⟩ := g4.2.2.1
          have q4 := g1.1
          have q5 := g1.2.1
          have q6 : nx (mst m1 rh 1 0) = nx m1 := rfl
          have q7 : sl (mst m1 rh 1 0) = sl m1 := rfl
          exact ⟨by omega, by show nx m4 - nx m ≤ _; omega, by show sl m4 - sl m ≤ _; omega⟩
        · have := g4.2.2.2
          rw [List.length_append, prB_len _ _ (lnB_len _ _), List.length_append] at this
          simp only [List.length_nil] at this
          omega
end
