/-! paths, printed by the twin -/
set_option maxRecDepth 100000
set_option maxHeartbeats 4000000
/-- a node of a tree whose kids' indices differ -/
def DM (g : RF) (us : List Int) (n : Int) (q : Nk) : Prop := TN g us n q.2.1 q.2.2.1 q.2.2.2.1 ∧ wfF (foC q.2.2.1 q.2.2.2.1 foN) ∧ (idF q.2.2.2.1).Nodup ∧ szF q.2.2.2.1 ≤ 100000
section
variable {g : RF} {us : List Int} {n : Int}
/-- what a kid says of its parent and its name -/
def KM (g : RF) (us : List Int) (n : Int) (c y : Nk) : Prop := DM g us n y ∧ g 8 y.2.1 = (c.2.1 : Int) ∧ (c.2.2.1.1 = 6 → g 7 y.2.1 = y.2.2.1.2.2.2.length ∧ At us (g 6 y.2.1) y.2.2.1.2.2.2)
theorem kdL_km {c : Nk} : ∀ (F : Fo) (p : Int) (k : Nat), TF g us n c.2.1 (c.2.2.1.1 == 6) F → wfF F → (idF F).Nodup → szF F ≤ 100000 → ∀ y ∈ kdL (c.2.2.1.1 == 6) F p k, KM g us n c y ∧ y.2.1 ∈ idF F := by
  intro F
  induction F with
  | leaf => intro p k _ _ _ _ y hy; cases hy
  | inner i dd u l r ihl ihr =>
    intro p k hT hw hn hs y hy
    obtain ⟨f1, f2, f3, f4, f5, f6, f7, f8, f9, f10⟩ := hT
    have e1 : szF (.inner i dd u l r) = 1 + szF l + szF r := rfl
    have hn' : (i :: (idF l ++ idF r)).Nodup := hn
    rw [List.nodup_cons, List.nodup_append] at hn'
    rw [kdL_inner] at hy
    rcases List.mem_cons.mp hy with z | z
    · rw [z]
      refine ⟨⟨⟨⟨f1, f2, f3, f4, f7, f9⟩, ⟨hw.1, hw.2.1, hw.2.2.1, hw.2.2.2.1, hw.2.2.2.2.1, trivial⟩, hn'.2.1, by show szF l ≤ 100000; omega⟩, f6, fun q => ?_⟩, by show i ∈ i :: (idF l ++ idF r); exact List.mem_cons_self⟩
      have : (c.2.2.1.1 == 6) = true := by rw [q]; rfl
      exact f5 this
    · obtain ⟨a, b⟩ := ihr _ _ f10 hw.2.2.2.2.2 hn'.2.2.1 (by omega) y z
      exact ⟨a, by show y.2.1 ∈ i :: (idF l ++ idF r); exact List.mem_cons_of_mem _ (List.mem_append_right _ b)⟩
theorem kdS_km {c : Nk} (h : DM g us n c) : ∀ y ∈ kdS c, KM g us n c y := fun y hy => (kdL_km _ _ _ h.1.2.2.2.2.2 h.2.1.2.2.2.2.1 h.2.2.1 h.2.2.2 y hy).1
theorem chN_dm {rN : Nk} (h : DM g us n rN) : ∀ (x : Nd) (y : Nk), chN rN (y :: x) → DM g us n y := by
  intro x
  induction x with
  | nil => intro y hc; rw [show y = rN from hc]; exact h
  | cons c x ih => intro y hc; exact (kdS_km (ih c hc.2) y hc.1).1
end
section
variable {d : Nat} {M D n C : Int} {us ys : List Int} {g : RF}
/-- the document's tree while paths are printed -/
def PD (m : Mem) (M D n : Int) (us : List Int) (C : Int) (g : RF) : Prop := WPS m D n us C ∧ vl m M 18 = D ∧ ∀ f j, 0 ≤ f → f ≤ 9 → nv m D f j = g f j
theorem PD.wf {m m' : Mem} (h : PD m M D n us C g) (hk : WK m M ys) (w : WF M m m') : PD m' M D n us C g := ⟨h.1.wf hk w, by rw [w.2.2.2 M 18 hk.ne.symm (by omega)]; exact h.2.1, fun f j f0 f1 => by rw [(h.1.2.1.wf hk w).2 f j f0 f1]; exact h.2.2 f j f0 f1⟩
theorem PD.ld {m : Mem} {f : Int} {i : Nat} (h : PD m M D n us C g) (hf : 0 ≤ f ∧ f ≤ 9 ∧ f ≠ 1) (hi : (i : Int) < n) : (tg m (vl m D f) = 284101 ∨ tg m (vl m D f) = 287101) ∧ ((0 : Int) ≤ (i : Int) ∧ (i : Int) < ln m (vl m D f)) ∧ vl m (vl m D f) i = g f i := by
  have l5 := h.1.2.1.ld (f := f) ⟨hf.1, hf.2.1⟩ hf.2.2
  have hc := h.1.2.1.2.2.2.2.2.2.1
  exact ⟨l5.1, ⟨by omega, by rw [l5.2]; omega⟩, h.2.2 f i hf.1 hf.2.1⟩
theorem c273_90 {c y : Nk} (hd : 5 ≤ d) (hy : (y.2.1 : Int) < n) : ∀ (F : Fo) (p : Int) (k : Nat) (m : Mem) (ys : List Int), TF g us n c.2.1 (c.2.2.1.1 == 6) F → (idF F).Nodup → (k : Int) + szF F ≤ 200000 → y ∈ kdL (c.2.2.1.1 == 6) F p k → PD m M D n us C g → WK m M ys → PWC (rn d 273 90 [pR M, pI y.2.1, pI c.2.1, pI k, pI (hdI F)] [] m) M m ys (prN (y.2.2.2.2 : Nat) ++ [w8 93]) := by
  intro F
  induction F with
  | leaf => intro p k m ys _ _ _ hy; cases hy
  | inner i dd u l r ihl ihr =>
    intro p k m ys hT hn hs hmem hP hK
    have hT2 := hT
    obtain ⟨f1, f2, f3, f4, f5, f6, f7, f8, f9, f10⟩ := hT
    have e1 : szF (.inner i dd u l r) = 1 + szF l + szF r := rfl
    have hn' : (i :: (idF l ++ idF r)).Nodup := hn
    rw [List.nodup_cons, List.nodup_append] at hn'
    have hi : hdI (.inner i dd u l r) = (i : Int) := rfl
    have ok := hP.1.1
    rw [hi]
    rw [kdL_inner] at hmem
    rw [e1] at hs
    push_cast at hs
    by_cases z : y.2.1 = i
    · have hk : y.2.2.2.2 = k := by
        rcases List.mem_cons.mp hmem with w | w
        · rw [w]
        · exfalso
          have : y.2.1 ∈ idF r := by
            have hid : ∀ (F : Fo) (p : Int) (k : Nat), ∀ y ∈ kdL (c.2.2.1.1 == 6) F p k, y.2.1 ∈ idF F := by
              intro F
              induction F with
              | leaf => intro p k y hy; cases hy
              | inner i dd u l r ihl ihr =>
                intro p k y hy
                rw [kdL_inner] at hy
                rcases List.mem_cons.mp hy with w | w
                · rw [w]; show i ∈ i :: (idF l ++ idF r); exact List.mem_cons_self
                · show y.2.1 ∈ i :: (idF l ++ idF r); exact List.mem_cons_of_mem _ (List.mem_append_right _ (ihr _ _ y w))
            exact hid _ _ _ y w
          rw [z] at this
          exact hn'.1 (List.mem_append_right _ this)
      have key : PWC (bV (cl (d - 1) 213 [pR M, pL k] m) fun m1 => bV (cl (d - 1) 212 [pR M, pI 93] m1) fun m2 => some (.inl none, m2)) M m ys (prN (k : Nat) ++ [w8 93]) := by
        refine PWC.bind hK (c213 (d := d - 1) (v := (k : Int)) (by omega) ok hK (by omega) (by omega)) fun m1 k1 w1 => ?_
        exact (c212 (d := d - 1) (b := 93) (ok.wf w1).1 k1).last
      rw [hk]
      refine key.imp fun q hq => q273_90 (by omega) ok.1 _ ?_
      rw [if_pos (by rw [z]), gd_of hK.1]
      exact hq
    · have hmem' : y ∈ kdL (c.2.2.1.1 == 6) r (p + ((if (c.2.2.1.1 == 6) = true then nmB dd.2.2.2 else []).length : Int) + (enV dd l).length) (k + 1) := by
        rcases List.mem_cons.mp hmem with w | w
        · exact absurd (by rw [w]) z
        · exact w
      obtain ⟨g1, g2, g3⟩ := hP.ld (f := 5) (by decide) f1
      have rcc := ihr _ (k + 1) m ys f10 hn'.2.2.1 (by push_cast; omega) hmem' hP hK
      refine rcc.imp fun q hq => q273_90 (by omega) ok.1 _ ?_
      rw [if_neg (by omega), gd_of hK.1, nm_eq, hP.2.1, gd_of hP.1.2.1.1, nm_eq, gd_of g1, gd_of g2, g3, f8, (w32_of (by omega) (by omega) : w32 ((k : Int) + 1) = (k : Int) + 1)]
      exact hq
/-- the path to a node -/
theorem c273 {rN : Nk} (hrD : DM g us n rN) (hr8 : g 8 rN.2.1 = -1) : ∀ (x : Nd) (d : Nat) (m : Mem) (ys : List Int), x.length + 10 ≤ d → chN rN x → PD m M D n us C g → WK m M ys → PWC (cl d 273 [pR M, pI (idN x)] m) M m ys (prP x) := by
  intro x
  induction x with
  | nil => intro d m ys _ h; exact h.elim
  | cons y x ih =>
    intro d m ys hd hc hP hK
    rw [List.length_cons] at hd
    have ok := hP.1.1
    have hyD := chN_dm hrD x y hc
    have hyn := hyD.1.1
    obtain ⟨g1, g2, g3⟩ := hP.ld (f := 8) (i := y.2.1) (by decide) hyn
    have eid : idN (y :: x) = (y.2.1 : Int) := rfl
    rw [eid]
    cases x with
    | nil =>
      have ey : y = rN := hc
      have e1 : prP [y] = [w8 36] := rfl
      rw [e1]
      refine ((c212 (d := d - 1) (b := 36) ok.1 hK).last).imp fun q hq => q273 (by omega) ok.1 _ ?_
      rw [gd_of hK.1, nm_eq, hP.2.1, gd_of hP.1.2.1.1, nm_eq, gd_of g1, gd_of g2, nm_eq, g3, ey, hr8, if_pos (by decide)]
      exact hq
    | cons c x =>
      obtain ⟨hyc, hcx⟩ := hc
      have hcD := chN_dm hrD x c hcx
      obtain ⟨-, k8, k6⟩ := kdS_km hcD y hyc
      have rcc := ih (d - 1) m ys (by omega) hcx hP hK
      have eic : idN (c :: x) = (c.2.1 : Int) := rfl
      rw [eic] at rcc
      have ep : prP (y :: c :: x) = prP (c :: x) ++ ([w8 91] ++ ((if c.2.2.1.1 = 6 then prS 39 y.2.2.1.2.2.2 else prN (y.2.2.2.2 : Nat)) ++ [w8 93])) := by
        rw [show w8 91 = 91 by decide, show w8 93 = 93 by decide]; rfl
      rw [ep]
      have key : PWC (bV (cl (d - 1) 273 [pR M, pI c.2.1] m) fun m1 => bV (cl (d - 1) 212 [pR M, pI 91] m1) fun m2 => nm (vl m2 M 18) fun v9 => gd (tg m2 v9 = 13) <| nm (vl m2 v9 0) fun v10 => gd (tg m2 v10 = 284101 ∨ tg m2 v10 = 287101) <| gd ((0 : Int) ≤ (c.2.1 : Int) ∧ (c.2.1 : Int) < ln m2 v10) <| if (vl m2 v10 c.2.1) = 6 then (nm (vl m2 v9 6) fun v11 => gd (tg m2 v11 = 284101 ∨ tg m2 v11 = 287101) <| gd ((0 : Int) ≤ (y.2.1 : Int) ∧ (y.2.1 : Int) < ln m2 v11) <| nm (vl m2 v9 7) fun v12 => gd (tg m2 v12 = 284101 ∨ tg m2 v12 = 287101) <| gd ((0 : Int) ≤ (y.2.1 : Int) ∧ (y.2.1 : Int) < ln m2 v12) <| bV (cl (d - 1) 214 [pR M, pR v9, pI (vl m2 v11 y.2.1), pI (vl m2 v12 y.2.1), pI 39] m2) fun m3 => bV (cl (d - 1) 212 [pR M, pI 93] m3) fun m4 => some (.inl none, m4)) else nm (vl m2 v9 4) fun v13 => gd (tg m2 v13 = 284101 ∨ tg m2 v13 = 287101) <| gd ((0 : Int) ≤ (c.2.1 : Int) ∧ (c.2.1 : Int) < ln m2 v13) <| rn d 273 90 [pR M, pI y.2.1, pI c.2.1, pI 0, pI (vl m2 v13 c.2.1)] [] m2) M m ys (prP (c :: x) ++ ([w8 91] ++ ((if c.2.2.1.1 = 6 then prS 39 y.2.2.1.2.2.2 else prN (y.2.2.2.2 : Nat)) ++ [w8 93]))) := by
        refine PWC.bind hK rcc fun m1 k1 w1 => ?_
        have hP1 := hP.wf hK w1
        refine PWC.bind k1 (c212 (d := d - 1) (b := 91) hP1.1.1.1 k1) fun m2 k2 w2 => ?_
        have hP2 := hP1.wf k1 w2
        obtain ⟨a1, a2, a3⟩ := hP2.ld (f := 0) (i := c.2.1) (by decide) hcD.1.1
        have h0 : g 0 c.2.1 = kT c.2.2.1.1 := hcD.1.2.1
        rw [nm_eq, hP2.2.1, gd_of hP2.1.2.1.1, nm_eq, gd_of a1, gd_of a2, a3, h0]
        by_cases z6 : c.2.2.1.1 = 6
        · obtain ⟨b1, b2, b3⟩ := hP2.ld (f := 6) (i := y.2.1) (by decide) hyn
          obtain ⟨c1, c2, c3⟩ := hP2.ld (f := 7) (i := y.2.1) (by decide) hyn
          obtain ⟨n7, n6⟩ := k6 z6
          rw [if_pos (kT_is6.mpr z6), if_pos z6, nm_eq, gd_of b1, gd_of b2, nm_eq, gd_of c1, gd_of c2, b3, c3, n7]
          refine PWC.bind k2 (c214 (d := d - 1) (by omega) (Or.inr rfl) hyD.2.1.1.2.2.2.2 hP2.1 k2 n6 rfl) fun m3 k3 w3 => ?_
          exact (c212 (d := d - 1) (b := 93) (hP2.wf k2 w3).1.1.1 k3).last
        · obtain ⟨b1, b2, b3⟩ := hP2.ld (f := 4) (i := c.2.1) (by decide) hcD.1.1
          rw [if_neg (fun q => z6 (kT_is6.mp q)), if_neg z6, nm_eq, gd_of b1, gd_of b2, b3, hcD.1.2.2.2.2.1]
          exact c273_90 (d := d) (c := c) (by omega) hyn c.2.2.2.1 (c.1 + 3) 0 m2 _ hcD.1.2.2.2.2.2 hcD.2.2.1 (by have := hcD.2.2.2; push_cast; omega) hyc hP2 k2
      refine key.imp fun q hq => q273 (by omega) ok.1 _ ?_
      rw [gd_of hK.1, nm_eq, hP.2.1, gd_of hP.1.2.1.1, nm_eq, gd_of g1, gd_of g2, nm_eq, g3, k8, if_neg (by omega)]
      exact hq
end
