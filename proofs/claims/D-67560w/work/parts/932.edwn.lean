/-! evaluation by the component: down -/
set_option maxRecDepth 100000
set_option maxHeartbeats 4000000
section
variable {P : Int → Prop} {m0 : Mem} {R rw c rt o : Int} {xs : List Int} {f : Nd → EV (List Nd)} {D : Nat}
/-- one value and what is below it -/
theorem c108_of {d : Nat} {m : Mem} {w cap : Int} {stk : List Int} {x : Nk} {y : Nd} (hd : 4 ≤ d) (hx : xs.length < 60000) (hN : NV xs x) (hdp : dpF x.2.2.2.1 ≤ 40) (hD : D + 1 ≤ d) (H : ∀ (d' : Nat) (m1 : Mem) (stk1 : List Int) (w1 cap1 : Int) (q : Nk) (z : Nd), D ≤ d' → NV xs q → dpF q.2.2.2.1 ≤ 40 → w1 ≤ 10000 → EC m1 R rw xs c rt stk1 w1 cap1 → EK P m0 m1 → EVs P m1 R rw xs c rt stk1 cap1 (cl d' 109 [pR R, pR o, pI q.1] m1) (f (q :: z) w1)) (h : EC m R rw xs c rt stk w cap) (hk : EK P m0 m) (hw : w ≤ 10000) (hl : ¬ x.2.2.1.1 < 5 → ∀ (m1 : Mem) (stk1 : List Int) (w1 cap1 : Int), w1 ≤ 10000 → EC m1 R rw xs c rt stk1 w1 cap1 → EK P m0 m1 → EVs P m1 R rw xs c rt stk1 cap1 (rn d 108 42 [pR R, pR o, pI x.1, pI (x.1 + (enV x.2.2.1 x.2.2.2.1).length), pI (nxK (x.2.2.1.1 == 6) x.2.2.2.1 (x.1 + 3))] [] m1) (dwF f (x :: y) (x.2.2.1.1 == 6) x.2.2.2.1 (x.1 + 3) 0 w1)) : EVs P m R rw xs c rt stk cap (cl d 108 [pR R, pR o, pI x.1] m) (eB eT (fun _ => eB (f (x :: y)) fun a => eB (dwF f (x :: y) (x.2.2.1.1 == 6) x.2.2.2.1 (x.1 + 3) 0) fun b => eR (a ++ b)) w) := by
  refine EVs.tick (d := d - 1) (Q2 := fun m1 => bV (cl (d - 1) 109 [pR R, pR o, pI x.1] m1) fun m2 => nm (vl m2 R 0) fun v6 => gd (tg m2 v6 = 8) <| bI (cl (d - 1) 139 [pR v6, pI x.1] m2) fun v3 m3 => if v3 < 5 then (some (.inl none, m3)) else nm (vl m3 R 0) fun v7 => gd (tg m3 v7 = 8) <| bI (cl (d - 1) 137 [pR v7, pI x.1] m3) fun v4 m4 => nm (vl m4 R 0) fun v8 => gd (tg m4 v8 = 8) <| bI (cl (d - 1) 150 [pR v8, pI x.1] m4) fun v5 m5 => rn d 108 42 [pR R, pR o, pI x.1, pI v4, pI v5] [] m5) h hw (fun e1 Z hZ => q108 (by omega) h.tz _ ?_) (fun m' e1 => q108 (by omega) h.tz _ ?_) (fun hw2 h1 k1 => ?_)
  · rw [gd_of h.hR, bV_eq e1]; exact hZ
  · rw [gd_of h.hR, bV_xq e1]
  generalize hm1 : mst m R 4 (w + 1) = m1 at *
  refine EVs.seq (Q2 := fun m2 => nm (vl m2 R 0) fun v6 => gd (tg m2 v6 = 8) <| bI (cl (d - 1) 139 [pR v6, pI x.1] m2) fun v3 m3 => if v3 < 5 then (some (.inl none, m3)) else nm (vl m3 R 0) fun v7 => gd (tg m3 v7 = 8) <| bI (cl (d - 1) 137 [pR v7, pI x.1] m3) fun v4 m4 => nm (vl m4 R 0) fun v8 => gd (tg m4 v8 = 8) <| bI (cl (d - 1) 150 [pR v8, pI x.1] m4) fun v5 m5 => rn d 108 42 [pR R, pR o, pI x.1, pI v4, pI v5] [] m5) (H (d - 1) m1 stk (w + 1) cap x y (by omega) hN hdp hw2 h1 (hk.trans k1)) (fun m' e1 Z hZ => ?_) (fun m' e1 => ?_) (fun m' ys w' cap' hw' h' k' => ?_)
  · rw [bV_eq e1]; exact hZ
  · rw [bV_xq e1]
  · have hlt := hN.lt
    have e139 := c139 (d := d - 1) h'.tz h'.row hlt.1 hlt.2
    rw [gi_kind hN.1] at e139
    by_cases h5 : x.2.2.1.1 < 5
    · have el : x.2.2.2.1 = foN := hN.2.2.2.1 h5
      rw [el]
      refine EVs.nil h' hw' ?_
      rw [nm_eq, h'.v0, gd_of h'.t0, bI_eq e139, if_pos (by omega)]
    · have e137 := c137 (d := d - 1) (by omega) h'.tz h'.row hN.1 hN.2.1 (by have := hN.1.2.1; have := hN.1.1; omega)
      have e150 := c150 (d := d - 1) (by omega) h'.tz h'.row hN.1 hN.2 h5 hx
      refine (hl h5 m' _ w' cap' hw' h' ((hk.trans k1).trans k')).of (fun Z hZ => ?_)
      rw [nm_eq, h'.v0, gd_of h'.t0, bI_eq e139, if_neg (by omega), nm_eq, h'.v0, gd_of h'.t0, bI_eq e137, nm_eq, h'.v0, gd_of h'.t0, bI_eq e150]
      exact hZ
theorem c108_42 (hx : xs.length < 60000) (hD0 : 4 ≤ D) (H : ∀ (d' : Nat) (m1 : Mem) (stk1 : List Int) (w1 cap1 : Int) (q : Nk) (z : Nd), D ≤ d' → NV xs q → dpF q.2.2.2.1 ≤ 40 → w1 ≤ 10000 → EC m1 R rw xs c rt stk1 w1 cap1 → EK P m0 m1 → EVs P m1 R rw xs c rt stk1 cap1 (cl d' 109 [pR R, pR o, pI q.1] m1) (f (q :: z) w1)) : ∀ (F : Fo) (d : Nat) (x : Nk) (y : Nd) (p : Int) (k : Nat) (m : Mem) (stk : List Int) (w cap : Int), D + 2 + dpF F ≤ d → dpF F ≤ 40 → NV xs x → ¬ x.2.2.1.1 < 5 → At xs p (enF (x.2.2.1.1 == 6) F) → p + (enF (x.2.2.1.1 == 6) F).length = x.1 + (enV x.2.2.1 x.2.2.2.1).length → wfF F → EC m R rw xs c rt stk w cap → EK P m0 m → w ≤ 10000 → EVs P m R rw xs c rt stk cap (rn d 108 42 [pR R, pR o, pI x.1, pI (x.1 + (enV x.2.2.1 x.2.2.2.1).length), pI (nxK (x.2.2.1.1 == 6) F p)] [] m) (dwF f (x :: y) (x.2.2.1.1 == 6) F p k w) := by
  intro F
  induction F with
  | leaf =>
    intro d x y p k m stk w cap hd hdp hN h5 hp he hw h hk hw1
    refine EVs.nil h hw1 (q108_42 (by omega) h.1.1 _ ?_)
    rw [enF_leaf] at he
    rw [if_neg (by show ¬ p < _; simp at he; omega)]
  | inner n dd u l r ihl ihr =>
    intro d x y p k m stk w cap hd hdp hN h5 hp he hw h hk hw1
    rw [enF_inner] at hp he
    obtain ⟨b1, b2⟩ := hp.app
    obtain ⟨b3, b4⟩ := b2.app
    simp only [List.length_append] at he
    have hpos := enV_pos dd l
    have hde : dpF (.inner n dd u l r) = max (if dd.1 < 5 then 0 else 1 + dpF l) (dpF r) := rfl
    have hdl : dpF l ≤ dpF (.inner n dd u l r) ∧ dpF r ≤ dpF (.inner n dd u l r) ∧ (¬ dd.1 < 5 → dpF l + 1 ≤ dpF (.inner n dd u l r)) := by
      by_cases z : dd.1 < 5
      · have e0 : dpF l = 0 := by rw [hw.2.2.1 z]; rfl
        exact ⟨by omega, by omega, fun q => absurd z q⟩
      · rw [if_neg z] at hde
        exact ⟨by omega, by omega, fun _ => by omega⟩
    show EVs P m R rw xs c rt stk cap (rn d 108 42 [pR R, pR o, pI x.1, pI (x.1 + (enV x.2.2.1 x.2.2.2.1).length), pI (p + ((if (x.2.2.1.1 == 6) = true then nmB dd.2.2.2 else []).length : Int))] [] m) (eB (eB eT fun _ => eB (f (_ :: x :: y)) fun a => eB (dwF f (_ :: x :: y) (dd.1 == 6) l _ 0) fun b => eR (a ++ b)) (fun a => eB (dwF f (x :: y) (x.2.2.1.1 == 6) r _ (k + 1)) fun b => eR (a ++ b)) w)
    generalize hq : p + ((if (x.2.2.1.1 == 6) = true then nmB dd.2.2.2 else []).length : Int) = q at *
    have hlt : q < x.1 + (enV x.2.2.1 x.2.2.2.1).length := by push_cast at he; omega
    have hNq : NV xs (q, n, dd, l, k) := ⟨b3, hw.1, hw.2.1, hw.2.2.1, hw.2.2.2.1, hw.2.2.2.2.1, trivial⟩
    refine EVs.seq (Q2 := fun m1 => nm (vl m1 R 0) fun v3 => gd (tg m1 v3 = 8) <| bI (cl (d - 1) 151 [pR v3, pI x.1, pI q] m1) fun v2 m2 => rn d 108 42 [pR R, pR o, pI x.1, pI (x.1 + (enV x.2.2.1 x.2.2.2.1).length), pI v2] [] m2) (c108_of (d := d - 1) (x := (q, n, dd, l, k)) (y := x :: y) (D := D) (by omega) hx hNq (by show dpF l ≤ 40; omega) (by omega) H h hk hw1 (fun h5' m1 stk1 w1 cap1 hw1' h1 k1 => ?_)) (fun m' e1 Z hZ => q108_42 (by omega) h.1.1 _ ?_) (fun m' e1 => q108_42 (by omega) h.1.1 _ ?_) (fun m' ys w' cap' hw' h' k' => ?_)
    · obtain ⟨e, hg, hb, hl, -⟩ := enV_many hNq.1 h5'
      have hl' : (enV dd l).length = (enF (dd.1 == 6) l).length + 3 := hl
      have hd5 := hdl.2.2 h5'
      exact ihl (d - 1) (q, n, dd, l, k) (x :: y) (q + 3) 0 m1 stk1 w1 cap1 (by omega) (by omega) hNq h5' hb (by show q + 3 + ((enF (dd.1 == 6) l).length : Int) = q + ((enV dd l).length : Int); omega) hw.2.2.2.2.1 h1 k1 hw1'
    · have e1' : cl (d - 1) 108 [pR R, pR o, pI q] m = some (.inl none, m') := e1
      rw [if_pos hlt, gd_of h.hR, bV_eq e1']; exact hZ
    · have e1' : cl (d - 1) 108 [pR R, pR o, pI q] m = some (.inr 201, m') := e1
      rw [if_pos hlt, gd_of h.hR, bV_xq e1']
    · have e151 := c151 (d := d - 1) (F := r) (by omega) h'.tz h'.row hN.1 hN.2 h5 hx b3 hw.1 b4 (by push_cast at he; omega)
      refine (ihr d x y (q + (enV dd l).length) (k + 1) m' _ w' cap' (by omega) (by omega) hN h5 b4 (by push_cast at he; omega) hw.2.2.2.2.2 h' (hk.trans k') hw').of (fun Z hZ => ?_)
      rw [nm_eq, h'.v0, gd_of h'.t0, bI_eq e151]
      exact hZ
/-- down from a value -/
theorem c108 {d : Nat} {m : Mem} {w cap : Int} {stk : List Int} {x : Nk} {y : Nd} (hx : xs.length < 60000) (hD0 : 4 ≤ D) (hN : NV xs x) (hdp : dpF x.2.2.2.1 ≤ 40) (hd : D + 45 ≤ d) (H : ∀ (d' : Nat) (m1 : Mem) (stk1 : List Int) (w1 cap1 : Int) (q : Nk) (z : Nd), D ≤ d' → NV xs q → dpF q.2.2.2.1 ≤ 40 → w1 ≤ 10000 → EC m1 R rw xs c rt stk1 w1 cap1 → EK P m0 m1 → EVs P m1 R rw xs c rt stk1 cap1 (cl d' 109 [pR R, pR o, pI q.1] m1) (f (q :: z) w1)) (h : EC m R rw xs c rt stk w cap) (hk : EK P m0 m) (hw : w ≤ 10000) : EVs P m R rw xs c rt stk cap (cl d 108 [pR R, pR o, pI x.1] m) (dwn f (x :: y) w) := by
  refine c108_of (D := D) (by omega) hx hN hdp (by omega) H h hk hw (fun h5' m1 stk1 w1 cap1 hw1' h1 k1 => ?_)
  obtain ⟨e, hg, hb, hl, -⟩ := enV_many hN.1 h5'
  exact c108_42 hx hD0 H x.2.2.2.1 d x y (x.1 + 3) 0 m1 stk1 w1 cap1 (by omega) hdp hN h5' hb (by omega) hN.2.2.2.2.2.1 h1 k1 hw1'
end
