/-! queries read by the component: words -/
set_option maxRecDepth 100000
set_option maxHeartbeats 4000000
def CSC (m : Mem) : Prop := SC m 34 cTru ∧ SC m 36 cFls ∧ SC m 38 cNul ∧ SC m 40 cLen ∧ SC m 42 cCnt ∧ SC m 44 cVal
theorem CSC.fr {k : Nat} {m m' : Mem} (h : CSC m) (hf : FRM (eM k) m m') (hz : TZ m) (hn : scN (eM k) = true) : CSC m' := ⟨h.1.fr hf hz hn, h.2.1.fr hf hz hn, h.2.2.1.fr hf hz hn, h.2.2.2.1.fr hf hz hn, h.2.2.2.2.1.fr hf hz hn, h.2.2.2.2.2.fr hf hz hn⟩
theorem CSC.mT {m : Mem} {T f v : Int} (h : CSC m) (hT : tg m T ≠ 31 ∧ tg m T ≠ 103) : CSC (mst m T f v) := ⟨h.1.mT hT, h.2.1.mT hT, h.2.2.1.mT hT, h.2.2.2.1.mT hT, h.2.2.2.2.1.mT hT, h.2.2.2.2.2.mT hT⟩
/-- the compiler at T reads t up to e, is at i, op brackets are open, the names' row N has xs -/
def CS (m : Mem) (T tp e i : Int) (t : Int → Int) (op : Nat) (N : Int) (xs : List Int) (c : Int) : Prop := OK m ∧ RI m ∧ tg m T = 5 ∧ TX m T tp e i t ∧ vl m T 4 = N ∧ vl m T 5 = op ∧ RW m N xs c ∧ CSC m
/-- what was read, what it costs -/
def CPh (T N : Int) (m : Mem) (i c : Int) (xs : List Int) (m' : Mem) (j c' : Int) (xs' : List Int) (s : Int) : Prop := RO N m m' ∧ (nx m ≤ nx m' ∧ nx m' - nx m ≤ 40 * (j - i) - s + (c' - c) / 16 ∧ sl m' - sl m ≤ 40 * (j - i) - s + 2 * (c' - c)) ∧ (c ≤ c' ∧ c' ≤ max c 12000) ∧ (∃ ys, xs' = xs ++ ys ∧ (ys.length : Int) ≤ 3 * (j - i)) ∧ i ≤ j
def CPg (T N : Int) (m : Mem) (i c : Int) (xs : List Int) (m' : Mem) (j c' : Int) (xs' : List Int) (s : Int) : Prop := QKp m m' ∧ CPh T N m i c xs m' j c' xs' s
/-- broken at p -/
def CEr (T N : Int) (m : Mem) (i c e : Int) (m' : Mem) (p u : Int) : Prop := vl m' T 3 = p ∧ QKp m m' ∧ RO N m m' ∧ OK m' ∧ tg m' T = 5 ∧ ∃ zs c', RW m' N zs c' ∧ (nx m' - nx m ≤ 40 * (e - i) + u + (c' - c) / 16 ∧ sl m' - sl m ≤ 40 * (e - i) + u + 2 * (c' - c)) ∧ (c ≤ c' ∧ c' ≤ max c 12000)
section
variable {T N i c s e : Int} {m m1 m' : Mem} {xs : List Int}
theorem CPg.trans {m2 : Mem} {j k c1 c2 s' : Int} {xs1 xs2 : List Int} (h : CPg T N m i c xs m1 j c1 xs1 s) (h' : CPg T N m1 j c1 xs1 m2 k c2 xs2 s') : CPg T N m i c xs m2 k c2 xs2 (s + s') := by
  obtain ⟨a1, a2, a3, a4, ⟨ys, a5, a6⟩, a7⟩ := h
  obtain ⟨b1, b2, b3, b4, ⟨zs, b5, b6⟩, b7⟩ := h'
  exact ⟨a1.trans b1, a2.trans b2, by omega, by omega, ⟨ys ++ zs, by rw [b5, a5, List.append_assoc], by rw [List.length_append]; push_cast; omega⟩, by omega⟩
theorem CPg.weak {j c1 s' : Int} {xs1 : List Int} (h : CPg T N m i c xs m1 j c1 xs1 s) (hs : s' ≤ s) : CPg T N m i c xs m1 j c1 xs1 s' := by
  obtain ⟨a1, a2, a3, a4, a5, a7⟩ := h
  exact ⟨a1, a2, by omega, a4, a5, a7⟩
theorem CEr.pre {j c1 p u u' : Int} {xs1 : List Int} (h : CEr T N m1 j c1 e m' p u) (g : CPg T N m i c xs m1 j c1 xs1 s) (hu : u - s ≤ u') : CEr T N m i c e m' p u' := by
  obtain ⟨b1, b2, b3, b4, b5, zs, c', b6, b7, b8⟩ := h
  obtain ⟨a1, a2, a3, a4, -, a7⟩ := g
  exact ⟨b1, a1.trans b2, a2.trans b3, b4, b5, zs, c', b6, by omega, by omega⟩
theorem CEr.weak {p u u' : Int} (h : CEr T N m i c e m' p u) (hu : u ≤ u') : CEr T N m i c e m' p u' := by
  obtain ⟨b1, b2, b3, b4, b5, zs, c', b6, b7, b8⟩ := h
  exact ⟨b1, b2, b3, b4, b5, zs, c', b6, by omega, b8⟩
end
section
variable {d op : Nat} {T tp e i N c : Int} {t : Int → Int} {m : Mem} {xs : List Int}
theorem CS.at {j : Int} (h : CS m T tp e i t op N xs c) (h0 : 0 ≤ j) (h1 : j ≤ e) : CS (mst m T 2 j) T tp e j t op N xs c := by
  obtain ⟨a1, a2, a3, a4, a5, a6, a7, a8⟩ := h
  exact ⟨a1, a2.mT (by omega), a3, a4.at h0 h1, by rw [vl_mst, if_neg (by omega)]; exact a5, by rw [vl_mst, if_neg (by omega)]; exact a6, a7.mT (by omega), a8.mT (by omega)⟩
theorem CS.rng (h : CS m T tp e i t op N xs c) : 0 ≤ i ∧ i ≤ e ∧ e ≤ 16384 := by
  obtain ⟨a1, a2, a3, a4, a5, a6, a7, a8⟩ := h
  have := a4.2.2.2.2.2.1; omega
/-- nothing but the place was changed -/
theorem CPg.at0 {j s : Int} (h : CS m T tp e i t op N xs c) (hj : i ≤ j) (hs : s ≤ 40 * (j - i)) : CPg T N m i c xs (mst m T 2 j) j c xs s := by
  obtain ⟨a1, a2, a3, a4, a5, a6, a7, a8⟩ := h
  refine ⟨QKp.refl.set (Or.inr (by rw [a3]; omega)), RO.mT (by omega) a2, ⟨by show nx m ≤ nx m; omega, by show nx m - nx m ≤ _; omega, by show sl m - sl m ≤ _; omega⟩, by omega, ⟨[], by rw [List.append_nil], by simp <;> omega⟩, hj⟩
theorem CPg.refl (h : CS m T tp e i t op N xs c) : CPg T N m i c xs m i c xs 0 := by
  have := CPg.at0 (s := 0) h (Int.le_refl i) (by omega)
  rwa [mst_self h.2.2.2.1.2.2.2.1] at this
theorem CPg.at {m1 : Mem} {op' : Nat} {j k c1 s s' : Int} {xs1 : List Int} (g : CPg T N m i c xs m1 j c1 xs1 s) (h : CS m1 T tp e j t op' N xs1 c1) (hk : j ≤ k) (hs : s' ≤ s + 40 * (k - j)) : CPg T N m i c xs (mst m1 T 2 k) k c1 xs1 s' := (g.trans (CPg.at0 (s := 40 * (k - j)) h hk (by omega))).weak hs
/-- broken here -/
theorem CS.bad {p j u : Int} (h : CS m T tp e i t op N xs c) (hu : 6 ≤ u) : CEr T N m i c e (mal (mst (mst m T 2 j) T 3 p) 204 6) p u := by
  have hr := h.rng
  obtain ⟨a1, a2, a3, a4, a5, a6, a7, a8⟩ := h
  have hTn : T ≠ nx m := by have := tz_lt a1.1 (x := T) (by omega); omega
  have hz1 : TZ (mst (mst m T 2 j) T 3 p) := a1.1
  have hR1 : RW (mst (mst m T 2 j) T 3 p) N xs c := RW.mT (m := mst m T 2 j) (by show tg m T ≠ 8 ∧ tg m T < 100; omega) (a7.mT (by omega))
  have hI1 : RI (mst (mst m T 2 j) T 3 p) := RI.mT (m := mst m T 2 j) (by show tg m T ≠ 8; omega) (a2.mT (by omega))
  refine ⟨?_, ?_, ⟨RI_mal (by decide) hI1, fun r' _ ys c' hw => RW.mal hz1 (RW.mT (m := mst m T 2 j) (by show tg m T ≠ 8 ∧ tg m T < 100; omega) (hw.mT (by omega)))⟩, OK.fr (m := mst (mst m T 2 j) T 3 p) a1 (fr_mal (e := eM 67) (by rfl)), ?_, xs, c, RW.mal hz1 hR1, ⟨?_, ?_⟩, by omega⟩
  · rw [vl_mal, if_neg (show ¬ T = nx (mst (mst m T 2 j) T 3 p) from hTn), vl_mst, if_pos ⟨rfl, rfl⟩]
  · exact ((QKp.refl.set (Or.inr (by rw [a3]; omega))).set (Or.inr (by rw [a3]; omega))).mal hz1
  · show (if T = nx m then 204 else tg m T) = 5
    rw [if_neg hTn]; exact a3
  · show nx m + 1 - nx m ≤ _; omega
  · show sl m + 6 - sl m ≤ _; omega
theorem CS.bad0 {p u : Int} (h : CS m T tp e i t op N xs c) (hu : 6 ≤ u) : CEr T N m i c e (mal (mst m T 3 p) 204 6) p u := by
  have := CS.bad (j := i) (p := p) h hu
  rwa [mst_self h.2.2.2.1.2.2.2.1] at this
/-- the row has come to more, the rest is as it was -/
theorem CS.rg {q : Nat} {m' : Mem} {j c' s : Int} {ys : List Int} (h : CS m T tp e i t op N xs c) (hf : FRM (eM q) m m') (h1 : qkN (eM q) = true) (h2 : scN (eM q) = true) (h3 : Nat.testBit (eM q) (bix 5 4) = false ∧ Nat.testBit (eM q) (bix 5 5) = false) (hX : TX m' T tp e j t) (hg : RG N m c (xs ++ ys) m' c') (hl : (ys.length : Int) ≤ 3 * (j - i)) (hL : xs.length + ys.length ≤ 6000) (hij : i ≤ j) (hs : s ≤ 40 * (j - i)) : CS m' T tp e j t op N (xs ++ ys) c' ∧ CPg T N m i c xs m' j c' (xs ++ ys) s := by
  obtain ⟨a1, a2, a3, a4, a5, a6, a7, a8⟩ := h
  obtain ⟨g1, g2, g3, g4⟩ := hg
  obtain ⟨q1, q2, q3⟩ := g3
  refine ⟨⟨a1.fr hf, g2.1, by rw [tg_of hf a1.1 (by omega)]; exact a3, hX, by rw [vl_of hf a1.1 a3 (by decide) h3.1]; exact a5, by rw [vl_of hf a1.1 a3 (by decide) h3.2]; exact a6, g1, a8.fr hf a1.1 h2⟩, QKp.fr hf a1.1 h1, g2, ⟨hf.1.2.1, by omega, by omega⟩, ⟨q1, ?_⟩, ⟨ys, rfl, hl⟩, hij⟩
  rw [List.length_append] at g4; omega
theorem CS.opn {op' : Nat} {v : Int} (h : CS m T tp e i t op N xs c) (hv : v = op') : CS (mst m T 5 v) T tp e i t op' N xs c := by
  obtain ⟨a1, a2, a3, a4, a5, a6, a7, a8⟩ := h
  have hx := a4.2.2.2.2.1
  have htp : tp ≠ T := by intro q; rw [q] at hx; omega
  refine ⟨a1, a2.mT (by omega), a3, ?_, by rw [vl_mst, if_neg (by omega)]; exact a5, by rw [vl_mst, if_pos ⟨rfl, rfl⟩]; exact hv, a7.mT (by omega), a8.mT (by omega)⟩
  obtain ⟨b1, b2, b3, b4, b5, b6, b7⟩ := a4
  exact ⟨b1, by rw [vl_mst, if_neg (by omega)]; exact b2, by rw [vl_mst, if_neg (by omega)]; exact b3, by rw [vl_mst, if_neg (by omega)]; exact b4, b5, b6, fun j j0 j1 => by rw [vl_mst, if_neg (by omega)]; exact b7 j j0 j1⟩
theorem CPg.opn {m1 : Mem} {op' : Nat} {j c1 s v : Int} {xs1 : List Int} (g : CPg T N m i c xs m1 j c1 xs1 s) (h : CS m1 T tp e j t op' N xs1 c1) : CPg T N m i c xs (mst m1 T 5 v) j c1 xs1 s := by
  have hT := h.2.2.1
  have : CPg T N m1 j c1 xs1 (mst m1 T 5 v) j c1 xs1 0 := ⟨QKp.refl.set (Or.inr (by rw [hT]; omega)), RO.mT (by omega) h.2.1, ⟨by show nx m1 ≤ nx m1; omega, by show nx m1 - nx m1 ≤ _; omega, by show sl m1 - sl m1 ≤ _; omega⟩, by omega, ⟨[], by rw [List.append_nil], by simp⟩, Int.le_refl _⟩
  have := g.trans this
  rwa [Int.add_zero] at this
/-- a new object -/
theorem CS.new {q n : Int} (h : CS m T tp e i t op N xs c) (hq : q ≠ 8) : CS (mal m q n) T tp e i t op N xs c := by
  obtain ⟨a1, a2, a3, a4, a5, a6, a7, a8⟩ := h
  have ok' : OK (mal m q n) := a1.fr (fr_mal (e := eM 67) (by rfl))
  have lt : ∀ a, tg m a ≠ 0 → a ≠ nx m := fun a ha => by have := tz_lt a1.1 ha; omega
  have et : ∀ a, tg m a ≠ 0 → tg (mal m q n) a = tg m a ∧ ln (mal m q n) a = ln m a ∧ ∀ k, vl (mal m q n) a k = vl m a k := fun a ha =>
    ⟨by show (if a = nx m then q else tg m a) = _; rw [if_neg (lt a ha)], by show (if a = nx m then n else ln m a) = _; rw [if_neg (lt a ha)], fun k => by show (if a = nx m then 0 else vl m a k) = _; rw [if_neg (lt a ha)]⟩
  obtain ⟨b1, b2, b3, b4, b5, b6, b7⟩ := a4
  have eT := et T (by omega)
  have etp := et tp (by omega)
  have sc : ∀ {a : Int} {cs : List Int}, SC m a cs → SC (mal m q n) a cs := fun {a} {cs} hs => hs.fr (k := 67) (fr_mal (by rfl)) a1.1 (by rfl)
  exact ⟨ok', RI_mal (by omega) a2, by rw [eT.1]; exact a3, ⟨by rw [eT.1]; exact b1, by rw [eT.2.2]; exact b2, by rw [eT.2.2]; exact b3, by rw [eT.2.2]; exact b4, by rw [etp.1]; exact b5, by rw [etp.2.1]; exact b6, fun j j0 j1 => by rw [etp.2.2]; exact b7 j j0 j1⟩, by rw [eT.2.2]; exact a5, by rw [eT.2.2]; exact a6, a7.mal a1.1, sc a8.1, sc a8.2.1, sc a8.2.2.1, sc a8.2.2.2.1, sc a8.2.2.2.2.1, sc a8.2.2.2.2.2⟩
theorem CPg.new {m1 : Mem} {op' : Nat} {j c1 s q n : Int} {xs1 : List Int} (g : CPg T N m i c xs m1 j c1 xs1 s) (h : CS m1 T tp e j t op' N xs1 c1) (hq : q ≠ 8) (hn : 0 ≤ n ∧ n ≤ 5) : CPg T N m i c xs (mal m1 q n) j c1 xs1 (s - 5) := by
  obtain ⟨a1, a2, a3, a4, a5, a7⟩ := g
  have hz := h.1.1
  exact ⟨a1.mal hz, ⟨RI_mal (by omega) h.2.1, fun r' hr ys c' hw => (a2.2 r' hr ys c' hw).mal hz⟩, ⟨by show nx m ≤ nx m1 + 1; omega, by show nx m1 + 1 - nx m ≤ _; omega, by show sl m1 + n - sl m ≤ _; omega⟩, a4, a5, a7⟩
/-- a field of a new object -/
theorem CS.obj {o f v : Int} (h : CS m T tp e i t op N xs c) (ho : 15 ≤ tg m o ∧ tg m o ≤ 29) : CS (mst m o f v) T tp e i t op N xs c := by
  obtain ⟨a1, a2, a3, a4, a5, a6, a7, a8⟩ := h
  have h1 : o ≠ T := by intro q; rw [q] at ho; omega
  have hx := a4.2.2.2.2.1
  have h2 : o ≠ tp := by intro q; rw [q] at ho; omega
  obtain ⟨b1, b2, b3, b4, b5, b6, b7⟩ := a4
  exact ⟨a1, a2.mT (by omega), a3, ⟨b1, by rw [vl_mst, if_neg (by omega)]; exact b2, by rw [vl_mst, if_neg (by omega)]; exact b3, by rw [vl_mst, if_neg (by omega)]; exact b4, b5, b6, fun j j0 j1 => by rw [vl_mst, if_neg (by omega)]; exact b7 j j0 j1⟩, by rw [vl_mst, if_neg (by omega)]; exact a5, by rw [vl_mst, if_neg (by omega)]; exact a6, a7.mT (by omega), a8.mT (by omega)⟩
theorem CPg.obj {m1 : Mem} {op' : Nat} {j c1 s o f v : Int} {xs1 : List Int} (g : CPg T N m i c xs m1 j c1 xs1 s) (h : CS m1 T tp e j t op' N xs1 c1) (ho : 15 ≤ tg m1 o ∧ tg m1 o ≤ 29) (hn : tg m o = 0) : CPg T N m i c xs (mst m1 o f v) j c1 xs1 s := by
  obtain ⟨a1, a2, a3, a4, a5, a7⟩ := g
  exact ⟨a1.set (Or.inl hn), ⟨h.2.1.mT (by omega), fun r' hr ys c' hw => (a2.2 r' hr ys c' hw).mT (by omega)⟩, a3, a4, a5, a7⟩
/-- tag and blankness of a new object -/
theorem new_tg {q n : Int} : tg (mal m q n) (nx m) = q ∧ ∀ k, vl (mal m q n) (nx m) k = 0 := ⟨by show (if nx m = nx m then q else tg m (nx m)) = q; rw [if_pos rfl], fun k => by show (if nx m = nx m then 0 else vl m (nx m) k) = 0; rw [if_pos rfl]⟩
end
