/-! the twin's patches: pointers, from their beginning -/
set_option maxRecDepth 100000
set_option maxHeartbeats 4000000
/-- only the tree of names was changed -/
def PT0 (NT : Int) (m m' : Mem) : Prop := OK m' ∧ TI m' ∧ (∀ t', t' ≠ NT → ∀ n us C, TW m t' n us C → TW m' t' n us C ∧ (∀ f j, 0 ≤ f → f ≤ 9 → nv m' t' f j = nv m t' f j) ∧ uC m' t' = uC m t') ∧ GR m m' (uC m NT) (uC m' NT) ∧ uC m' NT ≤ max (uC m NT) 10000
section
variable {d : Nat} {m : Mem} {M NT C T n Ct nN : Int} {us usN : List Int}
theorem c230 {x : Nat} {dd : ND} {l : Fo} (hd : 3 ≤ d) (ok : OK m) (hI : TI m) (hM : tg m M = 11) (h19 : vl m M 19 = T) (h25 : vl m M 25 = NT) (h22 : tg m (vl m M 22) = 186101 ∧ ln m (vl m M 22) = 16385) (h23 : tg m (vl m M 23) = 186101 ∧ ln m (vl m M 23) = 16385) (hne23 : vl m M 22 ≠ vl m M 23) (hne : T ≠ NT) (hw : TW m T n us Ct) (hN : TN (nv m T) us n x dd l) (hwp : wfU dd.2.2.1) (hpl : dd.2.2.1.length ≤ 1300) (hwN : TW m NT nN usN C) :
    (∀ tks, ptr dd.2.2.1 = some tks → ∃ m', cl d 230 [pR M, pI x] m = some (.inl (some (pI 1)), m') ∧ STK m' M NT C tks ∧ tks.length ≤ 16000 ∧ PT0 NT m m') ∧
    (ptr dd.2.2.1 = none → ∃ m' L, cl d 230 [pR M, pI x] m = some (.inl (some (pI 0)), m') ∧ STK m' M NT C L ∧ PT0 NT m m') := by
  generalize hpath : dd.2.2.1 = path at *
  have hcN := hwN.2.2.2.2.2.2.1
  have hMN : M ≠ NT := by intro q; rw [q] at hM; have := hwN.1; omega
  -- the tree of names is cleared
  have hw0 : TW (mst m M 24 0) NT nN usN C := hwN.mT (by omega)
  have hI0 : TI (mst m M 24 0) := hI.mT (by omega)
  have ok0 : OK (mst m M 24 0) := ok
  have e284 := c284 (d := d - 1) (t := NT) ok0.1 hw0
  obtain ⟨f1, f2, f3⟩ := hw0.fld (f := 10) (v := 0) (n' := 0) (us' := usN) hI0 ok0 (Or.inl rfl) (by rw [if_pos rfl]) (Or.inl ⟨rfl, rfl⟩) ⟨by omega, by omega⟩
  have ok1 : OK (mst (mst m M 24 0) NT 10 0) := ok
  obtain ⟨g1, g2, g3⟩ := f1.fld (f := 12) (v := 0) (n' := 0) (us' := []) f2.1 ok1 (Or.inr rfl) (by rw [if_neg (by decide)]) (Or.inr ⟨rfl, by simp, fun i i0 i1 => absurd i1 (by simp <;> omega), by have := f1.2.2.2.2.2.2.2.1; simp; unfold uC; omega⟩) ⟨by omega, by omega⟩
  generalize hm1 : mst (mst (mst m M 24 0) NT 10 0) NT 12 0 = m1 at *
  have okm1 : OK m1 := by rw [← hm1]; exact ok
  have tg1 : ∀ a, tg m1 a = tg m a := fun a => by rw [← hm1]; rfl
  have ln1 : ∀ a, ln m1 a = ln m a := fun a => by rw [← hm1]; rfl
  have vM : ∀ f, f ≠ 24 → vl m1 M f = vl m M f := fun f hf => by rw [← hm1, vl_mst, if_neg (by omega), vl_mst, if_neg (by omega), vl_mst, if_neg (by omega)]
  have v24 : vl m1 M 24 = 0 := by rw [← hm1, vl_mst, if_neg (by omega), vl_mst, if_neg (by omega), vl_mst, if_pos ⟨rfl, rfl⟩]
  have TW1 : ∀ t', t' ≠ NT → ∀ n us C, TW m t' n us C → TW m1 t' n us C ∧ (∀ f j, 0 ≤ f → f ≤ 9 → nv m1 t' f j = nv m t' f j) ∧ uC m1 t' = uC m t' := fun t' ht n us C h => by
    have a1 : TW (mst m M 24 0) t' n us C := h.mT (by omega)
    obtain ⟨a2, a3⟩ := f2.2.1 t' ht _ _ _ a1
    obtain ⟨a4, a5⟩ := g2.2.1 t' ht _ _ _ a2
    refine ⟨a4, fun f j f0 f1' => ?_, by rw [a5, a3, uC_mT (by omega) h]⟩
    rw [g2.2.2 t' f j n us C a2 f0 f1', f2.2.2 t' f j n us C a1 f0 f1', nv_mT (by omega) h (Or.inl ⟨f0, f1'⟩)]
  have uc1 : uC m1 NT = uC m NT := by rw [g3, f3, uC_mT (by omega) hwN]
  obtain ⟨hw1, hnv1, -⟩ := TW1 T hne n us Ct hw
  have hxn := hN.1
  have n2 : nv m1 T 2 x = nv m T 2 x := hnv1 2 x (by decide) (by decide)
  have n3 : nv m1 T 3 x = path.length := by rw [hnv1 3 x (by decide) (by decide), hN.2.2.2.1.1, hpath]
  have hAp : At us (nv m T 2 x) path := by rw [← hpath]; exact hN.2.2.2.1.2
  generalize hs : nv m T 2 x = s at *
  have hcT := hw1.2.2.2.2.2.2.1
  have l2 := hw1.ld (f := 2) ⟨by decide, by decide⟩ (by decide)
  have l3 := hw1.ld (f := 3) ⟨by decide, by decide⟩ (by decide)
  obtain ⟨u0, u1, u2, u3, u4⟩ := hw1.uni hAp
  have t11 := hw1.2.2.2.1
  have hS1 : STK m1 M NT C [] := ⟨by rw [tg1]; exact hM, by rw [vM 25 (by decide)]; exact h25, by rw [vM 22 (by decide), tg1, ln1]; exact h22, by rw [vM 23 (by decide), tg1, ln1]; exact h23, by rw [vM 22 (by decide), vM 23 (by decide)]; exact hne23, by rw [v24]; rfl, g1, fun u hu => absurd hu (by simp), fun k hk => absurd hk (by simp)⟩
  have hY1 : PYS m1 M NT C T n Ct us s path := ⟨okm1, g2.1, by rw [vM 19 (by decide)]; exact h19, hne, hw1, hAp⟩
  have hM1 : tg m1 M = 11 := by rw [tg1]; exact hM
  have pt1 : ∀ {m' : Mem} {L : List (List Int)}, L.flatten.length ≤ 5000 → OK m' → YQ NT 0 C m1 L.flatten m' → PT0 NT m m' := fun {m'} {L} hl ok' y => by
    refine ⟨ok', y.2.1.1, fun t' ht n us C h => ?_, ?_, ?_⟩
    · obtain ⟨a1, a2, a3⟩ := TW1 t' ht n us C h
      obtain ⟨a4, a5⟩ := y.2.1.2.1 t' ht _ _ _ a1
      exact ⟨a4, fun f j f0 f1 => by rw [y.2.1.2.2 t' f j n us C a1 f0 f1]; exact a2 f j f0 f1, by rw [a5, a3]⟩
    · have hx : nx m1 = nx m ∧ sl m1 = sl m := by rw [← hm1]; exact ⟨rfl, rfl⟩
      obtain ⟨q1, q2, q3⟩ := y.2.2.1
      rw [uc1] at q1 q2 q3
      exact ⟨q1, by omega, by omega⟩
    · have := y.2.2.2.1; omega
  have y0 : YQ NT 0 C m1 [] m1 := by
    have y := YQ.mA (m := m1) (tr := NT) (a := vl m M 22) (k := 0) (v := vl m1 (vl m M 22) 0) (by rw [tg1, h22.1]; decide) g2.1 g1 (fun u hu => absurd hu (by simp))
    rwa [mst_self rfl] at y
  have st : ∀ Q, (if 0 < (path.length : Int) then (gd ((0 : Int) ≤ s ∧ s < ln m1 (vl m1 T 11)) <| if (vl m1 (vl m1 T 11) s) = 47 then (rn d 230 55 [pR M, pI x, pI s, pI path.length, pI 0, pU, pU] [] m1) else some (.inl (some (pI 0)), m1)) else rn d 230 55 [pR M, pI x, pI s, pI path.length, pI 0, pU, pU] [] m1) = some Q → cl d 230 [pR M, pI x] m = some Q := by
    intro Q hQ
    refine q230 (by omega) ok.1 _ ?_
    have e2 : vl m1 (vl m1 T 2) x = s := n2
    have e3 : vl m1 (vl m1 T 3) x = path.length := n3
    rw [gd_of hM, nm_eq, h25, gd_of hwN.1, bV_eq e284, nm_eq, vM 19 (by decide), h19, gd_of hw1.1, nm_eq, gd_of l2.1, gd_of ⟨by omega, by omega⟩, nm_eq, e2, nm_eq, gd_of l3.1, gd_of ⟨by omega, by omega⟩, nm_eq, e3]
    by_cases h0 : 0 < (path.length : Int)
    · rw [if_pos h0] at hQ ⊢
      rw [nm_eq, gd_of t11]; exact hQ
    · rw [if_neg h0] at hQ ⊢; exact hQ
  cases path with
  | nil =>
    refine ⟨fun tks ht => ?_, fun ht => (by unfold ptr at ht; cases ht)⟩
    unfold ptr at ht; cases ht
    refine ⟨m1, st _ ?_, hS1, by simp, pt1 (L := []) (by simp) okm1 y0⟩
    rw [if_neg (by simp)]
    exact q230_55 okm1.1 rfl rfl _ (by rw [if_neg (by simp)])
  | cons c r =>
    have hc0 := u4 0 (by omega) (by simp <;> omega)
    rw [Int.add_zero, gi_zero] at hc0
    simp only [List.length_cons] at hpl u1
    by_cases h47 : c = 47
    · subst h47
      have hpt : ptr (47 :: r) = pTk [] r := by show (if (47 : Int) = 47 then pTk [] r else none) = _; rw [if_pos rfl]
      obtain ⟨s1, s2⟩ := hS1.new g2.1 okm1 (by simp)
      rw [List.nil_append] at s1
      have n22 : M ≠ vl m1 M 22 := by intro q; have := hS1.2.2.1.1; rw [← q] at this; omega
      have n23 : M ≠ vl m1 M 23 := by intro q; have := hS1.2.2.2.1.1; rw [← q] at this; omega
      have okA : OK (mst (mst (mst m1 (vl m1 M 22) ([] : List (List Int)).length ([] : List (List Int)).flatten.length) (vl m1 M 23) ([] : List (List Int)).length 0) M 24 (([] : List (List Int)).length + 1)) := okm1
      have hYA := hY1.yq s2 okA (by rw [vl_mst, if_neg (by omega), vl_mst, if_neg (by omega), vl_mst, if_neg (by omega)])
      have hL := c230_55 (d := d) (x := x) (s := s) (M := M) (NT := NT) (C := C) (T := T) (n := n) (Ct := Ct) (us := us) (path := 47 :: r) (by omega) hwp (by simp <;> omega) r.length r [47] [] [] _ (pI 47) pU (Nat.le_refl _) rfl rfl rfl s1 hYA (by simp <;> omega) (by simp <;> omega)
      have st2 : ∀ Q, rn d 230 55 [pR M, pI x, pI s, pI (47 :: r).length, pI ([47] : List Int).length, pI 47, pU] [] (mst (mst (mst m1 (vl m1 M 22) ([] : List (List Int)).length ([] : List (List Int)).flatten.length) (vl m1 M 23) ([] : List (List Int)).length 0) M 24 (([] : List (List Int)).length + 1)) = some Q → cl d 230 [pR M, pI x] m = some Q := by
        intro Q hQ
        refine st Q ?_
        obtain ⟨b1, b2, ⟨b3, b3'⟩, ⟨b4, b4'⟩, b5, b6, b7, b8, b9⟩ := hS1
        have v12 : vl m1 NT 12 = (0 : Int) := b7.2.2.2.2.2.1
        rw [if_pos (by simp <;> omega), gd_of ⟨by omega, by omega⟩, if_pos hc0]
        refine q230_55 okm1.1 rfl rfl _ ?_
        have e0 : w32 (s + 0) = s := by rw [w32_of (by omega) (by omega)]; omega
        rw [if_pos (by simp <;> omega), gd_of hM1, nm_eq, hY1.2.2.1, gd_of hw1.1, nm_eq, nm_eq, e0, gd_of t11, gd_of ⟨by omega, by omega⟩, nm_eq, hc0, if_pos rfl, nm_eq, nm_eq, v24, nm_eq, b2, gd_of b7.1, gd_of b3, gd_of ⟨by omega, by omega⟩, nm_eq, gd_of b4, gd_of ⟨by omega, by omega⟩, v12]
        exact hQ
      rw [hpt]
      refine ⟨fun tks ht => ?_, fun ht => ?_⟩
      · obtain ⟨m', e1, o1, o2, o3, o4, o5⟩ := hL.1 tks ht
        rw [List.nil_append] at o1 o2 o5
        exact ⟨m', st2 _ e1, o1, o2, pt1 o3.2 o4.1 (YQ.trans g1 s2 o5 (by simp))⟩
      · obtain ⟨m', L', e1, o1, o2, o3, o4, o5⟩ := hL.2 ht
        exact ⟨m', L', st2 _ e1, o1, pt1 o3.2 o4.1 (YQ.trans g1 s2 o5 (by simp))⟩
    · have hpt : ptr (c :: r) = none := by show (if c = 47 then pTk [] r else none) = _; rw [if_neg h47]
      rw [hpt]
      refine ⟨fun tks ht => (by cases ht), fun _ => ⟨m1, [], st _ ?_, hS1, pt1 (L := []) (by simp) okm1 y0⟩⟩
      rw [if_pos (by simp <;> omega), gd_of ⟨by omega, by omega⟩, if_neg (by rw [hc0]; exact h47)]
end
