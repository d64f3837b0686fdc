/-! evaluation by the twin: the tree of values -/
set_option maxRecDepth 100000
set_option maxHeartbeats 4000000
theorem TF_id {g : Int → Int → Int} {us : List Int} {n : Int} : ∀ {F : Fo} {p : Int} {ob : Bool}, TF g us n p ob F → ∀ j, j ∈ idF F → (j : Int) < n := by
  intro F
  induction F with
  | leaf => intro p ob _ j hj; cases hj
  | inner i d u l r ihl ihr =>
    intro p ob h j hj
    obtain ⟨f1, f2, f3, f4, f5, f6, f7, f8, f9, f10⟩ := h
    have hj : j = i ∨ j ∈ idF l ∨ j ∈ idF r := by simpa [idF] using hj
    rcases hj with z | z | z
    · rw [z]; exact f1
    · exact ihl f9 j z
    · exact ihr f10 j z
/-- a comparable's value stands at x among the values, from n0 on -/
def VN (E : ZE) (m : Mem) (n0 n : Nat) (uv : List Int) (x : Int) (v : VR) : Prop := match v with
  | none => x = -1
  | some (d, l) => ∃ (i : Nat) (lD : Fo), x = (i : Int) ∧ n0 ≤ i ∧ TN (nv m E.V) uv n i d lD ∧ erF lD = erF l ∧ wfF (foC d lD foN) ∧ szF lD ≤ 480 ∧ hI lD ≤ 45
section
variable {E : ZE} {m m1 : Mem} {n n1 n0 : Nat} {uv uv1 stk : List Int} {C C1 b : Int} {s : Option Int} {d : Nat} {x : Int} {v : VR}
theorem VN.keep {vs : List Int} (h : VN E m n0 n uv x v) (k : ZQ E n m C m1 C1) (hn : n ≤ n1) : VN E m1 n0 n1 (uv ++ vs) x v := by
  cases v with
  | none => exact h
  | some dl =>
    obtain ⟨dd, l⟩ := dl
    obtain ⟨i, lD, h1, h2, h3, h4⟩ := h
    have hi : (i : Int) < n := h3.1
    exact ⟨i, lD, h1, h2, TN.keep (by omega) h3 (fun f j f0 f1 hj => k.1.2.2 f j f0 f1 (by omega) (TF_id h3.2.2.2.2.2 j hj)) (fun f f0 f1 => k.1.2.2 f i f0 (by omega) (by omega) hi), h4⟩
theorem VN.keep0 (h : VN E m n0 n uv x v) (k : ZQ E n m C m1 C1) : VN E m1 n0 n uv x v := by
  have := h.keep (vs := []) k (Nat.le_refl n)
  rwa [List.append_nil] at this
/-- a place of a value's array is written -/
theorem ZC.put {f i w : Int} (ho : ZO E) (h : ZC E s m stk n uv C) (hf : 0 ≤ f ∧ f ≤ 9) (hi : b ≤ i) : ZC E s (mst m (vl m E.V f) i w) stk n uv C ∧ ZQ E b m C (mst m (vl m E.V f) i w) C ∧ ∀ f' j, 0 ≤ f' → f' ≤ 9 → nv (mst m (vl m E.V f) i w) E.V f' j = if f' = f ∧ j = i then w else nv m E.V f' j := by
  obtain ⟨hB, hL, hW⟩ := h
  have hM := hB.hM
  have hl := hB.lt
  have hta : tg m (vl m E.V f) = 284101 ∨ tg m (vl m E.V f) = 287101 ∨ tg m (vl m E.V f) = 284102 ∨ tg m (vl m E.V f) = 286102 := by
    by_cases z : f = 1
    · subst z; have := hB.hV.2.2.1.1; omega
    · have := (hB.hV.2.1 f hf.1 hf.2 z).1; omega
  obtain ⟨⟨a1, a2⟩, ⟨a3, a4, a5⟩, ⟨a6, a7, a8, a9⟩, ⟨⟨b1, b2⟩, b3⟩, ⟨b4, b5⟩, b6⟩ := hB
  obtain ⟨s1, s2, s3, s4, s5, s6, s7⟩ := b4.set1 (i := i) (v := w) a2 a1 hf
  obtain ⟨c1, c2, ⟨c3, c4⟩, ⟨c5, c6⟩, c7, c8, c9⟩ := a3
  have g : ∀ f', vl (mst m (vl m E.V f) i w) E.M f' = vl m E.M f' := fun f' => by rw [vl_mst, if_neg (fun z => by rw [← z.1] at hta; omega)]
  have r1 : rv (mst m (vl m E.V f) i w) E.M = rv m E.M := by
    funext y f'
    unfold rv
    rw [g, vl_mst, if_neg (fun z => by rw [← z.1] at hta; omega)]
  have r2 : ev (mst m (vl m E.V f) i w) E.M = ev m E.M := by
    funext y f'
    unfold ev
    rw [g, vl_mst, if_neg (fun z => by rw [← z.1] at hta; omega)]
  obtain ⟨d1, d2, d3⟩ := s6 E.D ho.1 _ _ _ b2
  obtain ⟨e1, e2, e3⟩ := s6 E.S ho.2.1 _ _ _ b1
  refine ⟨⟨⟨⟨a1, s2⟩, ⟨⟨c1, by rw [g]; exact c2, ⟨by rw [g]; exact c3, by rw [g]; exact c4⟩, ⟨by rw [g]; exact c5, by rw [g]; exact c6⟩, c7, by rw [g, g]; exact c8, by rw [g]; exact c9⟩, by rw [r1]; exact a4, by rw [r2]; exact a5⟩, ⟨by rw [g]; exact a6, by rw [g]; exact a7, by rw [g]; exact a8, by rw [g]; exact a9⟩, ⟨⟨e1, d1⟩, fun f' j f0 f1 => by rw [d2 f' j f0 f1]; exact b3 f' j f0 f1⟩, ⟨s1, b5⟩, by rw [g]; exact b6⟩, ⟨by rw [g]; exact hL.1, hL.2.1, fun j j0 j1 => by rw [g, vl_mst, if_neg (fun z => by rw [← z.1] at hta; omega)]; exact hL.2.2.1 j j0 j1, hL.2.2.2⟩, ?_⟩, ⟨⟨s2, s6, fun f' j f0 f1 j0 j1 => by rw [s7 f' j f0 f1, if_neg (by omega)]⟩, ?_, by omega, by rw [s4]; omega⟩, s7⟩
  · cases s with
    | none => show vl _ _ _ = 1; rw [g]; exact hW
    | some w' => exact ⟨by rw [g]; exact hW.1, by rw [g]; exact hW.2.1, hW.2.2⟩
  · unfold GR tC
    rw [s4]
    exact ⟨Int.le_refl _, by show nx m - nx m ≤ _; omega, by show sl m - sl m ≤ _; omega⟩
/-- a node more among the values -/
theorem zAdd {k : Int} (ho : ZO E) (hd : 1 ≤ d) (h : ZC E s m stk n uv C) (hn : (n : Int) + 1 ≤ 15500) (hu : (uv.length : Int) ≤ 40000) : ∃ m' C', cl d 285 [pR E.V, pI k] m = some (.inl (some (pI n)), m') ∧ ZC E s m' stk (n + 1) uv C' ∧ ZQ E n m C m' C' ∧ (nv m' E.V 0 n = k ∧ nv m' E.V 4 n = -1 ∧ nv m' E.V 5 n = -1 ∧ nv m' E.V 8 n = -1 ∧ nv m' E.V 6 n = -1 ∧ nv m' E.V 3 n = 0 ∧ nv m' E.V 2 n = uv.length) := by
  obtain ⟨m', C', e1, y1, v1⟩ := YT.add (d := d) (k := k) (by omega) h.bB.hV h.bB.ti h.bB.ok (by omega) h.bB.2.2.2.2.1.2
  exact ⟨m', C', e1, h.call ⟨ho.1, ho.2.1⟩ e1 (by decide +kernel) y1, ZQ.yt y1 (by push_cast; omega) hu, v1⟩
/-- a leaf of the values -/
theorem VN.leaf {k : Int} {dd : ND} (h3 : dd.1 ≤ 3) (hk : kT dd.1 = k) (hw : wfF (foC dd foN foN)) (hus : dd.2.2.1 = []) (hn : n0 ≤ n) (h0 : nv m E.V 0 n = k) (h4 : nv m E.V 4 n = -1) (h33 : nv m E.V 3 n = 0) (h2 : nv m E.V 2 n = uv.length) (h1 : dd.1 = 3 → nv m E.V 1 n = dd.2.1) : VN E m n0 (n + 1) uv n (some (dd, foN)) := by
  refine ⟨n, foN, rfl, hn, ⟨by push_cast; omega, by rw [h0, hk], h1, ⟨by rw [h33, hus]; rfl, by rw [h2, hus]; exact At.nil (by omega) (by omega)⟩, h4, trivial⟩, rfl, hw, by decide, by decide⟩
/-- a number among the values -/
theorem zNum {z : Int} (ho : ZO E) (hd : 1 ≤ d) (h : ZC E s m stk n uv C) (hn : (n : Int) + 1 ≤ 15500) (hu : (uv.length : Int) ≤ 40000) (hn0 : n0 ≤ n) (hz : -9007199254740992 < z ∧ z < 9007199254740992) : ∃ m1 m2 C2, cl d 285 [pR E.V, pI 3] m = some (.inl (some (pI n)), m1) ∧ vl m1 E.M 37 = E.V ∧ tg m1 E.V = 13 ∧ (tg m1 (vl m1 E.V 1) = 284102 ∨ tg m1 (vl m1 E.V 1) = 286102) ∧ ((0 : Int) ≤ n ∧ (n : Int) < ln m1 (vl m1 E.V 1)) ∧ m2 = mst m1 (vl m1 E.V 1) n z ∧ ZC E s m1 stk (n + 1) uv C2 ∧ ZC E s m2 stk (n + 1) uv C2 ∧ ZQ E n m C m2 C2 ∧ VN E m2 n0 (n + 1) uv n (vNum z) := by
  obtain ⟨m1, C1, e1, c1, q1, v1, v2, v3, v4, v5, v6, v7⟩ := zAdd (k := 3) ho hd h hn hu
  have hV := c1.bB.hV
  obtain ⟨c2, q2, g2⟩ := c1.put (b := n) (f := 1) (i := n) (w := z) ho (by decide) (by omega)
  have hc := hV.2.2.2.2.2.2.1
  push_cast at hc
  refine ⟨m1, _, C1, e1, c1.bB.vV, hV.1, hV.2.2.1.1, ⟨by omega, by rw [hV.2.2.1.2]; omega⟩, rfl, c1, c2, q1.trans q2 (by omega), ?_⟩
  have o : ∀ f, 0 ≤ f → f ≤ 9 → f ≠ 1 → nv (mst m1 (vl m1 E.V 1) n z) E.V f n = nv m1 E.V f n := fun f f0 f1 hf => by rw [g2 f n f0 f1, if_neg (fun y => hf y.1)]
  exact VN.leaf (k := 3) (dd := (3, z, [], [])) (Nat.le_refl 3) rfl ⟨⟨by show 3 ≤ 6; omega, hz.1, hz.2, fun _ h => (by cases h), fun _ h => (by cases h)⟩, trivial, fun _ => rfl, fun q => absurd (show (3 : Nat) = 6 from q) (by decide), trivial, trivial⟩ rfl hn0 (by rw [o 0 (by decide) (by decide) (by decide)]; exact v1) (by rw [o 4 (by decide) (by decide) (by decide)]; exact v2) (by rw [o 3 (by decide) (by decide) (by decide)]; exact v6) (by rw [o 2 (by decide) (by decide) (by decide)]; exact v7) (fun _ => by rw [g2 1 n (by decide) (by decide), if_pos ⟨rfl, rfl⟩])
/-- the units of a string come to the values -/
theorem c270_88 {r a2 : Int} (ho : ZO E) (hd : 1 ≤ d) (hr : 0 ≤ r ∧ r < E.k) {ks : List Int} (hA : At E.us (E.g r 2) ks) (hl : E.g r 3 = ks.length) (hK : wfU ks) (nn : Nat) : ∀ (rest pre : List Int) (m : Mem) (uv : List Int) (C : Int), ks = pre ++ rest → ZC E s m stk nn uv C → (nn : Int) ≤ 15500 → (uv.length : Int) + rest.length ≤ 39999 → ∃ m1 C1, ZC E s m1 stk nn (uv ++ rest) C1 ∧ ZQ E nn m C m1 C1 ∧ (∀ f j, 0 ≤ f → f ≤ 9 → nv m1 E.V f j = nv m E.V f j) ∧ ∀ Z, rn d 270 88 [pR E.M, pI r, pI a2, pI b, pI ks.length, pU] [] m1 = some Z → rn d 270 88 [pR E.M, pI r, pI a2, pI b, pI pre.length, pU] [] m = some Z := by
  intro rest
  induction rest with
  | nil =>
    intro pre m uv C hks h hn hu
    rw [List.append_nil] at hks
    exact ⟨m, C, by rw [List.append_nil]; exact h, ZQ.refl h.bB.ti, fun _ _ _ _ => rfl, fun Z hZ => by rw [← hks]; exact hZ⟩
  | cons u rest ih =>
    intro pre m uv C hks h hn hu
    have hlen : (ks.length : Int) = pre.length + 1 + rest.length := by rw [hks]; simp; omega
    obtain ⟨u0, u1, u2, u3, u4⟩ := h.bB.hS.uni hA
    have hS := h.bB.hS
    have hg : gi ks pre.length = u := by rw [hks, gi_app_r (by omega), Int.sub_self]; rfl
    have e4 := u4 pre.length (by omega) (by omega)
    rw [hg] at e4
    have hu6 := hK u (by rw [hks]; simp)
    simp only [List.length_cons] at hu
    push_cast at hu
    have hV := h.bB.hV
    obtain ⟨m1, e1, y1⟩ := YQ.unit (d := d - 1) (u := u) hV h.bB.ti h.bB.ok h.bB.2.2.2.2.1.2 (by omega) hu6
    have y2 := YT.of y1 hV ⟨[u], rfl⟩
    have c1 := h.call (n' := nn) ⟨ho.1, ho.2.1⟩ e1 (by decide +kernel) y2
    have q1 : ZQ E nn m C m1 C := ZQ.yt y2 (by omega) (by simp; omega)
    have n1 : ∀ f j, 0 ≤ f → f ≤ 9 → nv m1 E.V f j = nv m E.V f j := fun f j f0 f1 => y1.2.1.2.2 E.V f j _ _ _ hV f0 f1
    obtain ⟨m2, C2, c2, q2, n2, e2⟩ := ih (pre ++ [u]) m1 (uv ++ [u]) C (by simp [hks]) c1 hn (by simp; omega)
    refine ⟨m2, C2, by rw [List.append_assoc] at c2; exact c2, q1.trans q2 (Int.le_refl _), fun f j f0 f1 => by rw [n2 f j f0 f1, n1 f j f0 f1], fun Z hZ => q270_88 (by omega) h.bB.tz _ ?_⟩
    have e3 : ((pre ++ [u]).length : Int) = pre.length + 1 := by simp
    have := e2 Z hZ
    rw [e3] at this
    rw [gd_of h.bB.hM, bI_eq (h.bB.rd hr (by decide)), hl, if_pos (by omega), nm_eq, nm_eq, h.bB.vS, gd_of hS.1, nm_eq, bI_eq (h.bB.rd hr (by decide)), nm_eq, w32_of (z := E.g r 2 + pre.length) (by omega) (by omega), gd_of hS.2.2.2.1, gd_of ⟨by omega, by omega⟩, e4, h.bB.vV, gd_of hV.1, bV_eq e1, w32_of (by omega) (by omega)]
    exact this
end
