/-! queries read by the component: new lists -/
set_option maxRecDepth 100000
set_option maxHeartbeats 4000000
/-- o is a new list -/
def NL (T tp e : Int) (t : Int → Int) (op : Nat) (N i c : Int) (xs : List Int) (m M : Mem) (o fa fs t1 t2 : Int) (cap : Int) : Prop := CS M T tp e i t op N xs c ∧ QKp m M ∧ RO N m M ∧ nx M = nx m + 2 ∧ (sl m ≤ sl M ∧ sl M ≤ sl m + 10) ∧ LSQ M o fa fs t1 t2 [] cap ∧ tg m o = 0 ∧ tg m (vl M o fa) = 0 ∧ (∀ a, tg m a ≠ 0 → tg M a ≠ 0)
section
variable {d op : Nat} {T tp e i N c : Int} {t : Int → Int} {m : Mem} {xs : List Int}
theorem new_L {q n f t1 t2 cap : Int} (h : CS m T tp e i t op N xs c) (hq : q = 15 ∨ q = 16 ∨ q = 28) (hn : 0 ≤ n ∧ n ≤ 5) (h1 : t1 ≠ 8 ∧ 1000 ≤ t1) (hc : 1 ≤ cap ∧ cap ≤ 2) {v fa fs : Int} {u : Int} (hfa : fa ≠ 0 ∧ fa ≠ f) (hfs : fs ≠ fa ∧ fs ≠ 0 ∧ fs ≠ f) :
    NL T tp e t op N i c xs m (mst (mst (mal (mst (mal m q n) (nx m) f u) t1 cap) (nx m) fa (nx m + 1)) (nx m) 0 v) (nx m) fa fs t1 t2 cap ∧
    tg (mst (mst (mal (mst (mal m q n) (nx m) f u) t1 cap) (nx m) fa (nx m + 1)) (nx m) 0 v) (nx m) = q ∧ vl (mst (mst (mal (mst (mal m q n) (nx m) f u) t1 cap) (nx m) fa (nx m + 1)) (nx m) 0 v) (nx m) 0 = v ∧ (f ≠ 0 → vl (mst (mst (mal (mst (mal m q n) (nx m) f u) t1 cap) (nx m) fa (nx m + 1)) (nx m) 0 v) (nx m) f = u) := by
  have ok := h.1
  have a0 := h.new (q := q) (n := n) (by omega)
  have t0 : tg (mal m q n) (nx m) = q := new_tg.1
  have a1 := a0.obj (o := nx m) (f := f) (v := u) (by omega)
  have a2 := a1.new (q := t1) (n := cap) h1.1
  have en : nx (mst (mal m q n) (nx m) f u) = nx m + 1 := rfl
  have t2' : tg (mal (mst (mal m q n) (nx m) f u) t1 cap) (nx m) = q := by
    show (if nx m = nx m + 1 then t1 else tg (mal m q n) (nx m)) = q
    rw [if_neg (by omega)]; exact t0
  have a3 := a2.obj (o := nx m) (f := fa) (v := nx m + 1) (by omega)
  have w3 : tg (mst (mal (mst (mal m q n) (nx m) f u) t1 cap) (nx m) fa (nx m + 1)) (nx m) = q := t2'
  have a4 := a3.obj (o := nx m) (f := 0) (v := v) (by omega)
  have z0 : tg m (nx m) = 0 := ok.1 _ (Int.le_refl _)
  have z1 : tg m (nx m + 1) = 0 := ok.1 _ (by omega)
  generalize hM : mst (mst (mal (mst (mal m q n) (nx m) f u) t1 cap) (nx m) fa (nx m + 1)) (nx m) 0 v = M at *
  have eT : tg M (nx m) = q := by rw [← hM]; exact t2'
  have eA : vl M (nx m) fa = nx m + 1 := by rw [← hM, vl_mst, if_neg (by omega), vl_mst, if_pos ⟨rfl, rfl⟩]
  have tA : tg M (nx m + 1) = t1 := by
    rw [← hM]; show (if nx m + 1 = nx m + 1 then t1 else tg (mst (mal m q n) (nx m) f u) (nx m + 1)) = t1
    rw [if_pos rfl]
  have lA : ln M (nx m + 1) = cap := by
    rw [← hM]; show (if nx m + 1 = nx m + 1 then cap else ln (mst (mal m q n) (nx m) f u) (nx m + 1)) = cap
    rw [if_pos rfl]
  have eS : vl M (nx m) fs = 0 := by
    rw [← hM, vl_mst, if_neg (by omega), vl_mst, if_neg (by omega), vl_mal, if_neg (by rw [en]; omega), vl_mst, if_neg (by omega), vl_mal, if_pos rfl]
  have q1 : QKp m (mst (mal m q n) (nx m) f u) := (QKp.refl.mal ok.1).set (Or.inl z0)
  have q2 : QKp m M := by
    rw [← hM]; exact (((q1.mal a1.1.1).set (Or.inl z0)).set (Or.inl z0))
  refine ⟨⟨a4, q2, ⟨a4.2.1, fun r' _ ys c' hw => ?_⟩, by rw [← hM]; show nx m + 1 + 1 = nx m + 2; omega, ?_, ⟨by rw [eA]; exact Or.inl tA, by rw [eA]; exact lA, by rw [eS]; rfl, by show (0 : Int) ≤ cap; omega, hc.1, by omega, fun j j0 j1 => absurd j1 (by show ¬ j < 0; omega)⟩, z0, by rw [eA]; exact z1, fun a ha => by rw [(q2 a ha).1]; exact ha⟩, eT, by rw [← hM, vl_mst, if_pos ⟨rfl, rfl⟩], fun hf => ?_⟩
  · rw [← hM]
    have w1 : RW (mst (mal m q n) (nx m) f u) r' ys c' := (hw.mal ok.1).mT (by omega)
    have w : tg (mst (mal (mst (mal m q n) (nx m) f u) t1 cap) (nx m) fa (nx m + 1)) (nx m) = q := t2'
    exact ((w1.mal a1.1.1).mT (by omega)).mT (by omega)
  · rw [← hM]
    have : sl (mst (mst (mal (mst (mal m q n) (nx m) f u) t1 cap) (nx m) fa (nx m + 1)) (nx m) 0 v) = sl m + n + cap := rfl
    rw [this]; omega
  · rw [← hM, vl_mst, if_neg (by omega), vl_mst, if_neg (by omega), vl_mal, if_neg (by rw [en]; omega), vl_mst, if_pos ⟨rfl, rfl⟩]
/-- a query's object -/
theorem new302 {v : Int} (h : CS m T tp e i t op N xs c) (hv : v = 0 ∨ v = 1) : ∃ M, cl d 302 [pR (nx m), pI v] (mal m 15 4) = some (.inl none, M) ∧ NL T tp e t op N i c xs m M (nx m) 2 3 303113 304113 2 ∧ tg M (nx m) = 15 ∧ vl M (nx m) 0 = v ∧ vl M (nx m) 1 = 1 := by
  obtain ⟨g1, g2, g3, g4⟩ := new_L (q := 15) (n := 4) (f := 1) (t1 := 303113) (t2 := 304113) (cap := 2) (v := v) (fa := 2) (fs := 3) (u := 1) h (by omega) (by omega) (by omega) (by omega) (by omega) (by omega)
  refine ⟨_, ?_, g1, g2, g3, g4 (by omega)⟩
  refine q302 (NG_new h.1).1 _ ?_
  have e1 : nx (mst (mal m 15 4) (nx m) 1 1) = nx m + 1 := rfl
  rw [gd_of new_tg.1, nw_eq, gd_of hv, e1]
/-- a segment's object -/
theorem new304 {v : Int} (h : CS m T tp e i t op N xs c) (hv : v = 0 ∨ v = 1) : ∃ M, cl d 304 [pR (nx m), pI v] (mal m 16 3) = some (.inl none, M) ∧ NL T tp e t op N i c xs m M (nx m) 1 2 305111 306111 1 ∧ tg M (nx m) = 16 ∧ vl M (nx m) 0 = v := by
  obtain ⟨g1, g2, g3, g4⟩ := new_L (q := 16) (n := 3) (f := 0) (t1 := 305111) (t2 := 306111) (cap := 1) (v := v) (fa := 1) (fs := 2) (u := 0) h (by omega) (by omega) (by omega) (by omega) (by omega) (by omega)
  have e0 : mst (mal m 16 3) (nx m) 0 0 = mal m 16 3 := mst_self (new_tg.2 0)
  rw [e0] at g1 g2 g3
  refine ⟨_, ?_, g1, g2, g3⟩
  refine q304 (NG_new h.1).1 _ ?_
  have e1 : nx (mal m 16 3) = nx m + 1 := rfl
  rw [gd_of new_tg.1, nw_eq, gd_of hv, e1]
/-- the object of what is or-ed or and-ed -/
theorem new337 {v : Int} (h : CS m T tp e i t op N xs c) (hv : v = 0 ∨ v = 1) : ∃ M, cl d 337 [pR (nx m), pI v] (mal m 28 3) = some (.inl none, M) ∧ NL T tp e t op N i c xs m M (nx m) 1 2 338112 339112 2 ∧ tg M (nx m) = 28 ∧ vl M (nx m) 0 = v := by
  obtain ⟨g1, g2, g3, g4⟩ := new_L (q := 28) (n := 3) (f := 0) (t1 := 338112) (t2 := 339112) (cap := 2) (v := v) (fa := 1) (fs := 2) (u := 0) h (by omega) (by omega) (by omega) (by omega) (by omega) (by omega)
  have e0 : mst (mal m 28 3) (nx m) 0 0 = mal m 28 3 := mst_self (new_tg.2 0)
  rw [e0] at g1 g2 g3
  refine ⟨_, ?_, g1, g2, g3⟩
  refine q337 (NG_new h.1).1 _ ?_
  have e1 : nx (mal m 28 3) = nx m + 1 := rfl
  rw [gd_of new_tg.1, nw_eq, gd_of hv, e1]
theorem NL.ch {M : Mem} {m0 : Mem} {i0 c0 o fa fs t1 t2 cap s : Int} {xs0 : List Int} (h : NL T tp e t op N i c xs m M o fa fs t1 t2 cap) (g : CPh T N m0 i0 c0 xs0 m i c xs s) : CPh T N m0 i0 c0 xs0 M i c xs (s - 10) := by
  obtain ⟨a1, a2, a3, a4, a5, a6, a7⟩ := h
  exact g.cost a3 (by omega) (by omega) (by omega)
theorem NL.li {M : Mem} {m0 : Mem} {o fa fs t1 t2 cap : Int} (h : NL T tp e t op N i c xs m M o fa fs t1 t2 cap) (h0 : ∀ a, tg m a = 0 → tg m0 a = 0) (ho : tg M o ≠ 0) : LI m0 M N xs o fa fs t1 t2 [] cap foN := by
  obtain ⟨a1, a2, a3, a4, a5, a6, a7, a8, a9⟩ := h
  exact ⟨a6, h0 _ a7, ho, h0 _ a8, trivial, rfl⟩
end
