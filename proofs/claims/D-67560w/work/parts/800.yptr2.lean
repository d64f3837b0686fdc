/-! the twin's patches: pointers, all of it -/
set_option maxRecDepth 100000
set_option maxHeartbeats 4000000
section
variable {d : Nat} {M NT C T n Ct : Int} {us : List Int}
/-- what reading a pointer leaves -/
def PYO (m : Mem) (M NT C T n Ct : Int) (us : List Int) (s : Int) (path : List Int) (L0 L : List (List Int)) (m' : Mem) : Prop := STK m' M NT C L ∧ L.length ≤ 16000 ∧ (L0.flatten.length ≤ L.flatten.length ∧ L.flatten.length ≤ 5000) ∧ PYS m' M NT C T n Ct us s path ∧ YQ NT 0 C m L.flatten m'
theorem PYO.pre {m m1 m' : Mem} {s : Int} {path : List Int} {L0 L1 L : List (List Int)} (hw : TW m NT 0 L0.flatten C) (y : YQ NT 0 C m L1.flatten m1) (hl : L0.flatten.length ≤ L1.flatten.length) (h : PYO m1 M NT C T n Ct us s path L1 L m') : PYO m M NT C T n Ct us s path L0 L m' := by
  obtain ⟨a1, a2, a3, a4, a5⟩ := h
  exact ⟨a1, a2, ⟨by omega, a3.2⟩, a4, YQ.trans hw y a5 a3.1⟩
theorem c230_55 {s x : Int} {path : List Int} (hd : 2 ≤ d) (hwp : wfU path) (hpl : path.length ≤ 1300) : ∀ (N : Nat) (rest pre : List Int) (L0 : List (List Int)) (acc : List Int) (m : Mem) (z5 z6 : PV), rest.length ≤ N → cat z5 = 1 → cat z6 = 1 → path = pre ++ rest → STK m M NT C (L0 ++ [acc]) → PYS m M NT C T n Ct us s path → (L0 ++ [acc]).flatten.length + rest.length ≤ 5000 → (L0 ++ [acc]).length + rest.length ≤ 16000 →
    (∀ ts, pTk acc rest = some ts → ∃ m', rn d 230 55 [pR M, pI x, pI s, pI path.length, pI pre.length, z5, z6] [] m = some (.inl (some (pI 1)), m') ∧ PYO m M NT C T n Ct us s path (L0 ++ [acc]) (L0 ++ ts) m') ∧
    (pTk acc rest = none → ∃ m' L', rn d 230 55 [pR M, pI x, pI s, pI path.length, pI pre.length, z5, z6] [] m = some (.inl (some (pI 0)), m') ∧ PYO m M NT C T n Ct us s path (L0 ++ [acc]) L' m') := by
  intro N
  induction N with
  | zero =>
    intro rest pre L0 acc m z5 z6 hN h5 h6 hp hS hY hl hL
    match rest, hN with
    | [], _ =>
      rw [List.append_nil] at hp
      refine ⟨fun ts ht => ?_, fun ht => ?_⟩
      · unfold pTk at ht; cases ht
        refine ⟨m, q230_55 hY.1.1 h5 h6 _ ?_, hS, by omega, ⟨Nat.le_refl _, by omega⟩, hY, ?_⟩
        · rw [if_neg (by rw [hp]; omega)]
        · have y := YQ.mA (m := m) (tr := NT) (a := vl m M 22) (k := 0) (v := vl m (vl m M 22) 0) (by rw [hS.2.2.1.1]; decide) hY.2.1 hS.2.2.2.2.2.2.1 hS.2.2.2.2.2.2.2.1
          rwa [mst_self rfl] at y
      · unfold pTk at ht; cases ht
  | succ N ih =>
    intro rest pre L0 acc m z5 z6 hN h5 h6 hp hS hY hl hL
    match rest, hN, hp, hl, hL with
    | [], _, hp, hl, hL =>
      rw [List.append_nil] at hp
      refine ⟨fun ts ht => ?_, fun ht => ?_⟩
      · unfold pTk at ht; cases ht
        refine ⟨m, q230_55 hY.1.1 h5 h6 _ ?_, hS, by omega, ⟨Nat.le_refl _, by omega⟩, hY, ?_⟩
        · rw [if_neg (by rw [hp]; omega)]
        · have y := YQ.mA (m := m) (tr := NT) (a := vl m M 22) (k := 0) (v := vl m (vl m M 22) 0) (by rw [hS.2.2.1.1]; decide) hY.2.1 hS.2.2.2.2.2.2.1 hS.2.2.2.2.2.2.2.1
          rwa [mst_self rfl] at y
      · unfold pTk at ht; cases ht
    | c :: r, hN, hp, hl, hL =>
      have hS0 := hS
      obtain ⟨s1, s2, ⟨s3, s3'⟩, ⟨s4, s4'⟩, s5, s6, s7, s8, s9⟩ := hS
      have hY0 := hY
      obtain ⟨y1, y2, y3, y4, y5, y6⟩ := hY
      obtain ⟨u0, u1, u2, u3, u4⟩ := y5.uni y6
      have hlen : (path.length : Int) = pre.length + 1 + r.length := by rw [hp]; simp; omega
      have hg : ∀ (j : Nat), gi path (pre.length + j) = gi (c :: r) j := fun j => by rw [hp, gi_app_r (by omega)]; congr 1; omega
      have hc0 := u4 pre.length (by omega) (by omega)
      have hg0 := hg 0
      simp only [Int.ofNat_zero, Int.add_zero, Int.natCast_zero] at hg0
      rw [hg0, gi_zero] at hc0
      have hcr : 0 ≤ c ∧ c < 65536 := hwp c (by rw [hp]; simp)
      have t11 := y5.2.2.2.1
      have hN' : r.length ≤ N := by simpa using hN
      simp only [List.length_cons] at hl hL
      have ew : w32 (s + pre.length) = s + pre.length := w32_of (by omega) (by omega)
      -- to the branches
      have st : ∀ X : RM, (if c = 47 then (nm (vl m M 22) fun v5 => nm (vl m M 24) fun v6 => nm (vl m M 25) fun v7 => gd (tg m v7 = 13) <| gd (tg m v5 = 186101) <| gd ((0 : Int) ≤ v6 ∧ v6 < ln m v5) <| nm (vl m M 23) fun v8 => gd (tg m v8 = 186101) <| gd ((0 : Int) ≤ v6 ∧ v6 < ln m v8) <| rn d 230 55 [pR M, pI x, pI s, pI path.length, pI (w32 ((pre.length : Int) + 1)), pI c, z6] [] (mst (mst (mst m v5 v6 (vl m v7 12)) v8 v6 0) M 24 (w32 (v6 + 1)))) else if c = 126 then (nm (w32 ((pre.length : Int) + 1)) fun v9 => if v9 < (path.length : Int) then (nm (w32 (s + v9)) fun v10 => gd ((0 : Int) ≤ v10 ∧ v10 < ln m (vl m T 11)) <| rn d 230 153 [pR M, pI x, pI s, pI path.length, pI v9, pI c, z6] [pI (vl m (vl m T 11) v10)] m) else rn d 230 153 [pR M, pI x, pI s, pI path.length, pI v9, pI c, z6] [pI 0] m) else rn d 230 187 [pR M, pI x, pI s, pI path.length, pI pre.length, pI c, z6] [] m) = X → ∀ Q, X = some Q → rn d 230 55 [pR M, pI x, pI s, pI path.length, pI pre.length, z5, z6] [] m = some Q := by
        intro X hX Q hQ
        refine q230_55 y1.1 h5 h6 _ ?_
        rw [if_pos (by omega), gd_of s1, nm_eq, y3, gd_of y5.1, nm_eq, nm_eq, ew, gd_of t11, gd_of ⟨by omega, by omega⟩, nm_eq, hc0]
        exact (by exact hX : _ = X).trans hQ
      by_cases h47 : c = 47
      · subst h47
        obtain ⟨n1, n2⟩ := hS0.new y2 y1 (by omega)
        have hS1 := n1
        have ok1 : OK (mst (mst (mst m (vl m M 22) (L0 ++ [acc]).length (L0 ++ [acc]).flatten.length) (vl m M 23) (L0 ++ [acc]).length 0) M 24 ((L0 ++ [acc]).length + 1)) := y1
        have n22 : M ≠ vl m M 22 := by intro q; rw [← q] at s3; omega
        have n23 : M ≠ vl m M 23 := by intro q; rw [← q] at s4; omega
        have hY1 := hY0.yq n2 ok1 (by rw [vl_mst, if_neg (by omega), vl_mst, if_neg (by omega), vl_mst, if_neg (by omega)])
        have efl : ((L0 ++ [acc]) ++ [[]]).flatten = (L0 ++ [acc]).flatten := by simp
        have hI := ih r (pre ++ [47]) (L0 ++ [acc]) [] _ (pI 47) z6 hN' rfl h6 (by rw [hp]; simp) hS1 hY1 (by rw [efl]; omega) (by rw [List.length_append]; simp only [List.length_cons, List.length_nil]; omega)
        have elen : (((pre ++ [47] : List Int).length : Nat) : Int) = (pre.length : Int) + 1 := by simp
        rw [elen] at hI
        have v12 : vl m NT 12 = (L0 ++ [acc]).flatten.length := s7.2.2.2.2.2.1
        have st2 : ∀ Q, rn d 230 55 [pR M, pI x, pI s, pI path.length, pI ((pre.length : Int) + 1), pI 47, z6] [] (mst (mst (mst m (vl m M 22) (L0 ++ [acc]).length (L0 ++ [acc]).flatten.length) (vl m M 23) (L0 ++ [acc]).length 0) M 24 ((L0 ++ [acc]).length + 1)) = some Q → rn d 230 55 [pR M, pI x, pI s, pI path.length, pI pre.length, z5, z6] [] m = some Q := fun Q hQ => by
          refine st _ ?_ Q hQ
          rw [if_pos rfl, nm_eq, nm_eq, s6, nm_eq, s2, gd_of s7.1, gd_of s3, gd_of ⟨by omega, by omega⟩, nm_eq, gd_of s4, gd_of ⟨by omega, by omega⟩, v12, (w32_of (by omega) (by omega) : w32 ((pre.length : Int) + 1) = (pre.length : Int) + 1), (w32_of (by omega) (by omega) : w32 (((L0 ++ [acc]).length : Int) + 1) = ((L0 ++ [acc]).length : Int) + 1)]
        rw [pTk_sl]
        refine ⟨fun ts ht => ?_, fun ht => ?_⟩
        · obtain ⟨t2, h2, rfl⟩ := Option.map_eq_some_iff.mp ht
          obtain ⟨m', e1, o1⟩ := hI.1 t2 h2
          rw [show L0 ++ acc :: t2 = (L0 ++ [acc]) ++ t2 by simp]
          exact ⟨m', st2 _ e1, PYO.pre (L0 := L0 ++ [acc]) (L1 := (L0 ++ [acc]) ++ [[]]) s7 (by rw [efl]; exact n2) (by rw [efl]; exact Nat.le_refl _) o1⟩
        · have ht : pTk [] r = none := by cases hh : pTk [] r with
            | none => rfl
            | some t2 => rw [hh] at ht; cases ht
          obtain ⟨m', L', e1, o1⟩ := hI.2 ht
          exact ⟨m', L', st2 _ e1, PYO.pre (L0 := L0 ++ [acc]) (L1 := (L0 ++ [acc]) ++ [[]]) s7 (by rw [efl]; exact n2) (by rw [efl]; exact Nat.le_refl _) o1⟩
      · -- a unit put behind, and then on
        have unit : ∀ (u : Int) (k : Nat) (r2 pre2 : List Int) (z : PV), 0 ≤ u ∧ u < 65536 → cat z = 1 → r2.length ≤ N → path = pre2 ++ r2 → (k : Int) + 1 = pre2.length → r2.length ≤ r.length →
            (∀ ts, pTk (acc ++ [u]) r2 = some ts → ∃ m', rn d 230 187 [pR M, pI x, pI s, pI path.length, pI k, pI u, z] [] m = some (.inl (some (pI 1)), m') ∧ PYO m M NT C T n Ct us s path (L0 ++ [acc]) (L0 ++ ts) m') ∧
            (pTk (acc ++ [u]) r2 = none → ∃ m' L', rn d 230 187 [pR M, pI x, pI s, pI path.length, pI k, pI u, z] [] m = some (.inl (some (pI 0)), m') ∧ PYO m M NT C T n Ct us s path (L0 ++ [acc]) L' m') := by
          intro u k r2 pre2 z hu hz hr2 hp2 hk hrr
          have hlk : pre2.length ≤ path.length := by rw [hp2]; simp
          obtain ⟨m1, a1, a2, a3, a4, a5⟩ := q230_u (d := d) (x := x) (a3 := path.length) (i := k) (v := 0) hd hz hS0 hY0 hu (by omega) (by omega) ⟨by omega, by omega⟩
          have efl : (L0 ++ [acc ++ [u]]).flatten.length = (L0 ++ [acc]).flatten.length + 1 := by simp; omega
          have hI := ih r2 pre2 L0 (acc ++ [u]) m1 (pI u) z hr2 rfl hz hp2 a1 a2 (by omega) (by simp only [List.length_append, List.length_cons, List.length_nil] at hL ⊢; omega)
          rw [← hk] at hI
          refine ⟨fun ts ht => ?_, fun ht => ?_⟩
          · obtain ⟨m', e1, o1⟩ := hI.1 ts ht
            exact ⟨m', a5 _ e1, o1.pre s7 a3 (by omega)⟩
          · obtain ⟨m', L', e1, o1⟩ := hI.2 ht
            exact ⟨m', L', a5 _ e1, o1.pre s7 a3 (by omega)⟩
        have y0 : YQ NT 0 C m (L0 ++ [acc]).flatten m := by
          have y := YQ.mA (m := m) (tr := NT) (a := vl m M 22) (k := 0) (v := vl m (vl m M 22) 0) (by rw [s3]; decide) y2 s7 s8
          rwa [mst_self rfl] at y
        by_cases h126 : c = 126
        · subst h126
          match r, hN', hp, hl, hL, hlen, hg, unit with
          | [], hN', hp, hl, hL, hlen, hg, unit =>
            refine ⟨fun ts ht => ?_, fun ht => ?_⟩
            · unfold pTk at ht; simp at ht
            · refine ⟨m, _, st _ ?_ _ rfl, hS0, by omega, ⟨Nat.le_refl _, by omega⟩, hY0, y0⟩
              rw [if_neg (by decide), if_pos rfl, nm_eq, (w32_of (by omega) (by omega) : w32 ((pre.length : Int) + 1) = (pre.length : Int) + 1), if_neg (by simp at hlen; omega)]
              exact q230_153 y1.1 h6 _ (by rw [if_neg (by decide), if_neg (by decide)])
          | xx :: r2, hN', hp, hl, hL, hlen, hg, unit =>
            simp only [List.length_cons] at hlen hN' hl hL
            have hx1 := u4 ((pre.length : Int) + 1) (by omega) (by omega)
            have hg1 := hg 1
            rw [show ((1 : Nat) : Int) = 1 from rfl] at hg1
            rw [hg1, gi_succ (by decide), show (1 : Int) - 1 = 0 from rfl, gi_zero] at hx1
            have st3 : ∀ Q, rn d 230 153 [pR M, pI x, pI s, pI path.length, pI ((pre.length + 1 : Nat) : Int), pI 126, z6] [pI xx] m = some Q → rn d 230 55 [pR M, pI x, pI s, pI path.length, pI pre.length, z5, z6] [] m = some Q := fun Q hQ => by
              refine st _ ?_ Q hQ
              rw [if_neg (by decide), if_pos rfl, nm_eq, (w32_of (by omega) (by omega) : w32 ((pre.length : Int) + 1) = (pre.length : Int) + 1), if_pos (by omega), nm_eq, (w32_of (by omega) (by omega) : w32 (s + ((pre.length : Int) + 1)) = s + ((pre.length : Int) + 1)), gd_of ⟨by omega, by omega⟩, hx1, show ((pre.length + 1 : Nat) : Int) = (pre.length : Int) + 1 by omega]
            unfold pTk
            simp only [show ¬ (126 : Int) = 47 by decide, if_false, if_true]
            by_cases h48 : xx = 48
            · subst h48
              have hu := unit 126 (pre.length + 1) r2 (pre ++ [126, 48]) (pI 48) (by decide) rfl (by omega) (by rw [hp]; simp) (by simp; omega) (by simp)
              have st4 : ∀ Q, rn d 230 187 [pR M, pI x, pI s, pI path.length, pI ((pre.length + 1 : Nat) : Int), pI 126, pI 48] [] m = some Q → rn d 230 55 [pR M, pI x, pI s, pI path.length, pI pre.length, z5, z6] [] m = some Q := fun Q hQ => st3 Q (q230_153 y1.1 h6 _ (by rw [if_pos rfl, if_pos rfl]; exact hQ))
              rw [if_pos rfl]
              refine ⟨fun ts ht => ?_, fun ht => ?_⟩
              · obtain ⟨m', e1, o1⟩ := hu.1 ts ht
                exact ⟨m', st4 _ e1, o1⟩
              · obtain ⟨m', L', e1, o1⟩ := hu.2 ht
                exact ⟨m', L', st4 _ e1, o1⟩
            · rw [if_neg h48]
              by_cases h49 : xx = 49
              · subst h49
                have hu := unit 47 (pre.length + 1) r2 (pre ++ [126, 49]) (pI 49) (by decide) rfl (by omega) (by rw [hp]; simp) (by simp; omega) (by simp)
                have st4 : ∀ Q, rn d 230 187 [pR M, pI x, pI s, pI path.length, pI ((pre.length + 1 : Nat) : Int), pI 47, pI 49] [] m = some Q → rn d 230 55 [pR M, pI x, pI s, pI path.length, pI pre.length, z5, z6] [] m = some Q := fun Q hQ => st3 Q (q230_153 y1.1 h6 _ (by rw [if_neg (by decide), if_pos rfl, if_neg (by decide)]; exact hQ))
                rw [if_pos rfl]
                refine ⟨fun ts ht => ?_, fun ht => ?_⟩
                · obtain ⟨m', e1, o1⟩ := hu.1 ts ht
                  exact ⟨m', st4 _ e1, o1⟩
                · obtain ⟨m', L', e1, o1⟩ := hu.2 ht
                  exact ⟨m', L', st4 _ e1, o1⟩
              · rw [if_neg h49]
                refine ⟨fun ts ht => (by cases ht), fun _ => ⟨m, _, st3 _ (q230_153 y1.1 h6 _ (by rw [if_neg h48, if_neg h49])), hS0, by omega, ⟨Nat.le_refl _, by omega⟩, hY0, y0⟩⟩
        · have hu := unit c pre.length r (pre ++ [c]) z6 hcr h6 hN' (by rw [hp]; simp) (by simp) (Nat.le_refl _)
          have st4 : ∀ Q, rn d 230 187 [pR M, pI x, pI s, pI path.length, pI pre.length, pI c, z6] [] m = some Q → rn d 230 55 [pR M, pI x, pI s, pI path.length, pI pre.length, z5, z6] [] m = some Q := fun Q hQ => by
            refine st _ ?_ Q hQ
            rw [if_neg h47, if_neg h126]
          rw [pTk_u _ _ ⟨h47, h126⟩]
          refine ⟨fun ts ht => ?_, fun ht => ?_⟩
          · obtain ⟨m', e1, o1⟩ := hu.1 ts ht
            exact ⟨m', st4 _ e1, o1⟩
          · obtain ⟨m', L', e1, o1⟩ := hu.2 ht
            exact ⟨m', L', st4 _ e1, o1⟩
end
