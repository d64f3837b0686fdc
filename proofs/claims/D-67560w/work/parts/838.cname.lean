/-! queries read by the component: names -/
set_option maxRecDepth 100000
set_option maxHeartbeats 4000000
/-- the compiler's own fields but for its place -/
def NG (T : Int) (m m' : Mem) : Prop := OK m' ∧ QKp m m' ∧ CSC m' ∧ tg m' T = 5 ∧ vl m' T 4 = vl m T 4 ∧ vl m' T 5 = vl m T 5
/-- objects that are new -/
abbrev nwP (m m' : Mem) (a : Int) : Prop := tg m a = 0 ∧ tg m' a ≠ 0
/-- read up to j: the object o -/
def CO (T tp e : Int) (t : Int → Int) (op : Nat) (N : Int) (m : Mem) (i c : Int) (xs : List Int) (m' : Mem) (j s o : Int) (F : Fo) : Prop := ∃ c' xs', CS m' T tp e j t op N xs' c' ∧ CPg T N m i c xs m' j c' xs' s ∧ CF m' N xs' (nwP m m') (fun _ => o) F ∧ nwP m m' o
section
variable {d op : Nat} {T tp e i N c : Int} {t : Int → Int} {m m1 m2 : Mem} {xs : List Int}
theorem NG_new {q n : Int} (h : OK m) : OK (mal m q n) := h.fr (fr_mal (e := eM 67) (by rfl))
theorem NG.refl (h : CS m T tp e i t op N xs c) : NG T m m := ⟨h.1, QKp.refl, h.2.2.2.2.2.2.2, h.2.2.1, rfl, rfl⟩
theorem NG.fr {q : Nat} (h : NG T m m1) (hf : FRM (eM q) m1 m2) (h1 : qkN (eM q) = true) (h2 : scN (eM q) = true) (h3 : Nat.testBit (eM q) (bix 5 4) = false ∧ Nat.testBit (eM q) (bix 5 5) = false) : NG T m m2 := by
  obtain ⟨a1, a2, a3, a4, a5, a6⟩ := h
  exact ⟨a1.fr hf, a2.trans (QKp.fr hf a1.1 h1), a3.fr hf a1.1 h2, by rw [tg_of hf a1.1 (by omega)]; exact a4, by rw [vl_of hf a1.1 a4 (by decide) h3.1]; exact a5, by rw [vl_of hf a1.1 a4 (by decide) h3.2]; exact a6⟩
theorem NG.at {j : Int} (h : NG T m m1) : NG T m (mst m1 T 2 j) := by
  obtain ⟨a1, a2, a3, a4, a5, a6⟩ := h
  have hs : tg m T = 0 ∨ ¬ qOk (tg m T) 2 := by
    rcases Classical.em (tg m T = 0) with z | z
    · exact Or.inl z
    · exact Or.inr (by rw [← (a2 T z).1, a4]; omega)
  exact ⟨a1, a2.set hs, a3.mT (by omega), a4, by rw [vl_mst, if_neg (by omega)]; exact a5, by rw [vl_mst, if_neg (by omega)]; exact a6⟩
theorem NG.cs {j c' s : Int} {ys : List Int} (h : CS m T tp e i t op N xs c) (g : NG T m m1) (hX : TX m1 T tp e j t) (hg : RG N m c (xs ++ ys) m1 c') (hl : (ys.length : Int) ≤ 3 * (j - i)) (hL : (xs.length : Int) + 3 * (e - i) ≤ 5900) (hij : i ≤ j) (hs : s ≤ 40 * (j - i)) (hn : nx m ≤ nx m1) : CS m1 T tp e j t op N (xs ++ ys) c' ∧ CPg T N m i c xs m1 j c' (xs ++ ys) s := by
  obtain ⟨a1, a2, a3, a4, a5, a6, a7, a8⟩ := h
  obtain ⟨g1, g2, g3, g4⟩ := hg
  obtain ⟨q1, q2, q3⟩ := g3
  obtain ⟨n1, n2, n3, n4, n5, n6⟩ := g
  have hj : j ≤ e := hX.2.2.2.2.2.1.2.1
  rw [List.length_append] at g4
  refine ⟨⟨n1, g2.1, n4, hX, by rw [n5]; exact a5, by rw [n6]; exact a6, g1, n3⟩, n2, g2, ⟨hn, by omega, by omega⟩, ⟨q1, by omega⟩, ⟨ys, rfl, hl⟩, hij⟩
/-- letters and digits are put into the row -/
theorem c84_l (hd : 3 ≤ d) (h : CS m T tp e i t op N xs c) (hL : (xs.length : Int) + 3 * (e - i) ≤ 5900) : ∀ (n : Nat) (k : Int) (m1 : Mem) (c1 : Int) (us0 : List Int), (e - k).toNat = n → NG T m m1 → TX m1 T tp e k t → RG N m c (xs ++ 0 :: 0 :: uts us0) m1 c1 → i ≤ k → wfU us0 → ((uts us0).length : Int) = k - i → nx m ≤ nx m1 →
    ∃ m2 c2, NG T m m2 ∧ TX m2 T tp e (sNa t e k).2 t ∧ RG N m c (xs ++ nmB (us0 ++ (sNa t e k).1)) m2 c2 ∧ wfU (us0 ++ (sNa t e k).1) ∧ ((uts (us0 ++ (sNa t e k).1)).length : Int) = (sNa t e k).2 - i ∧ i ≤ (sNa t e k).2 ∧ nx m ≤ nx m2 ∧ rn d 84 35 [pR T, pI xs.length] [] m1 = some (.inl (some (pR (nx m2))), mst (mst (mal m2 17 2) (nx m2) 0 N) (nx m2) 1 xs.length) := by
  have fin : ∀ (k : Int) (m1 : Mem) (c1 : Int) (us0 : List Int), ¬ (ltr (pk t e k) ∨ dg (pk t e k)) → NG T m m1 → TX m1 T tp e k t → RG N m c (xs ++ 0 :: 0 :: uts us0) m1 c1 → i ≤ k → wfU us0 → ((uts us0).length : Int) = k - i → nx m ≤ nx m1 →
      ∃ m2 c2, NG T m m2 ∧ TX m2 T tp e k t ∧ RG N m c (xs ++ nmB us0) m2 c2 ∧ nx m ≤ nx m2 ∧ rn d 84 35 [pR T, pI xs.length] [] m1 = some (.inl (some (pR (nx m2))), mst (mst (mal m2 17 2) (nx m2) 0 N) (nx m2) 1 xs.length) := by
    intro k m1 c1 us0 hq g hX hg hik hw hlen hnx
    obtain ⟨n1, n2, n3, n4, n5, n6⟩ := g
    have hr := hX.2.2.2.2.2.1
    have v4 : vl m1 T 4 = N := by rw [n5]; exact h.2.2.2.2.1
    have e63 := c63 (d := d - 1) n1.1 hX
    have e85 := c85 (d := d - 1) (x := pk t e k) n1.1
    have e73 := c73 (d := d - 1) (x := pk t e k) n1.1
    obtain ⟨m2, e3, g2⟩ := c133 (d := d - 1) (m := m1) (r := N) (a := xs.length) (b := (uts us0).length) n1 hg.2.1.1 hg.1 rfl ⟨by omega, by omega⟩
    have hN8 := hg.1.1
    have v1 := hg.1.2.2.2.1
    simp only [List.length_append, List.length_cons] at v1
    have f3 := cl_FRM e3
    have g2n : NG T m m2 := NG.fr ⟨n1, n2, n3, n4, n5, n6⟩ f3 (by rfl) (by rfl) ⟨by rfl, by rfl⟩
    have g2' : RG N m1 c1 (xs ++ nmB us0) m2 c1 := by
      have : xs ++ w8 (((uts us0).length : Int) / 256) :: w8 ((uts us0).length : Int) :: uts us0 = xs ++ nmB us0 := rfl
      rw [← this]; exact g2
    refine ⟨m2, c1, g2n, hX.fr f3 n1.1 (by rfl), hg.trans g2' (by simp [nmB, l2_len]; omega), by have := f3.1.2.1; omega, ?_⟩
    have hT2 := g2n.2.2.2.1
    have v42 : vl m2 T 4 = N := by rw [g2n.2.2.2.2.1]; exact h.2.2.2.2.1
    have ok2 := g2n.1
    have hTn : T ≠ nx m2 := by have := tz_lt ok2.1 (x := T) (by omega); omega
    refine q84_35 (by omega) n1.1 _ ?_
    have e306 : cl (d - 1) 306 [pR (nx m2), pR N, pI xs.length] (mal m2 17 2) = some (.inl none, mst (mst (mal m2 17 2) (nx m2) 0 N) (nx m2) 1 xs.length) := by
      refine q306 ((NG_new ok2).1) _ ?_
      rw [gd_of new_tg.1]
    have ev : w32 (w32 (vl m1 N 1 - xs.length) - 2) = (uts us0).length := by
      rw [v1, (w32_of (by omega) (by omega) : w32 (((xs.length + ((uts us0).length + 1 + 1) : Nat) : Int) - xs.length) = ((xs.length + ((uts us0).length + 1 + 1) : Nat) : Int) - xs.length), w32_of (by omega) (by omega)]; omega
    rw [gd_of n4, bI_eq e63, bI_eq e85, if_neg (show ¬ ltr (pk t e k) from fun q => hq (Or.inl q)), if_pos rfl, bI_eq e63, bI_eq e73, if_neg (fun q => hq (Or.inr q)), if_pos rfl, nm_eq, v4, gd_of hN8, ev, bV_eq e3, nw_eq]
    have v43 : vl (mal m2 17 2) T 4 = N := by rw [vl_mal, if_neg hTn]; exact v42
    rw [v43, bV_eq e306]
  intro n
  induction n with
  | zero =>
    intro k m1 c1 us0 hn g hX hg hik hw hlen hnx
    have hq : ¬ (ltr (pk t e k) ∨ dg (pk t e k)) := fun q => by
      have : k < e := pkf_lt (t := t) (by omega)
      omega
    obtain ⟨m2, c2, a1, a2, a3, a4, a5⟩ := fin k m1 c1 us0 hq g hX hg hik hw hlen hnx
    rw [sNa_eq, if_neg hq]
    simp only [List.append_nil]
    exact ⟨m2, c2, a1, a2, a3, hw, hlen, hik, a4, a5⟩
  | succ n ih =>
    intro k m1 c1 us0 hn g hX hg hik hw hlen hnx
    by_cases hq : ltr (pk t e k) ∨ dg (pk t e k)
    · obtain ⟨n1, n2, n3, n4, n5, n6⟩ := g
      have hr := hX.2.2.2.2.2.1
      have hke : k < e := by omega
      have v4 : vl m1 T 4 = N := by rw [n5]; exact h.2.2.2.2.1
      have htp := hX.2.2.2.2.1
      have v0 := hX.2.1
      have v2 := hX.2.2.2.1
      have vk : vl m1 tp k = t k := hX.2.2.2.2.2.2 k (by omega) hke
      have e63 := c63 (d := d - 1) n1.1 hX
      have e85 := c85 (d := d - 1) (x := pk t e k) n1.1
      have e73 := c73 (d := d - 1) (x := pk t e k) n1.1
      have hx1 := hX.at (j := k + 1) (by omega) (by omega)
      have g1 : RG N m c (xs ++ 0 :: 0 :: uts us0) (mst m1 T 2 (k + 1)) c1 := hg.trans (RG.atR hg.1 (Or.inr n4) hg.2.1.1) (by omega)
      have hlx : (xs ++ 0 :: 0 :: uts us0).length = xs.length + (uts us0).length + 2 := by simp <;> omega
      obtain ⟨m2, c2, e3, g3⟩ := c130 (d := d - 1) (m := mst m1 T 2 (k + 1)) (r := N) (b := t k) (by omega) n1 g1.2.1.1 g1.1 (by rw [hlx]; push_cast; omega)
      have f3 := cl_FRM e3
      have pke : pk t e k = t k % 256 := if_pos hke
      have hpr : 48 ≤ pk t e k ∧ pk t e k ≤ 122 := by omega
      have hw8 : w8 (t k) = pk t e k := by rw [pke]; rw [pke] at hpr; unfold w8; omega
      have hu : utf (pk t e k) = [pk t e k] := if_pos (by omega)
      have hap : xs ++ 0 :: 0 :: uts us0 ++ [w8 (t k)] = xs ++ 0 :: 0 :: uts (us0 ++ [pk t e k]) := by rw [hw8, uts_app, uts_one, hu]; simp
      rw [hap] at g3
      have gN : NG T m (mst m1 T 2 (k + 1)) := NG.at ⟨n1, n2, n3, n4, n5, n6⟩
      have gN2 : NG T m m2 := gN.fr f3 (by rfl) (by rfl) ⟨by rfl, by rfl⟩
      have hN8 := hg.1.1
      have hnx2 := f3.1.2.1
      obtain ⟨m3, c3, a1, a2, a3, a4, a5, a6, a7, a8⟩ := ih (k + 1) m2 c2 (us0 ++ [pk t e k]) (by omega) gN2 (hx1.fr f3 n1.1 (by rfl)) (g1.trans g3 (by rw [uts_app]; simp)) (by omega) (wfU_app hw (fun u hu => by
        rw [List.mem_singleton] at hu; omega)) (by rw [uts_app, uts_one, hu, List.length_append, List.length_singleton]; push_cast; omega) (by have : nx (mst m1 T 2 (k + 1)) = nx m1 := rfl; omega)
      rw [sNa_eq, if_pos hq]
      rw [List.append_assoc, List.singleton_append] at a3 a4 a5
      refine ⟨m3, c3, a1, a2, a3, a4, a5, a6, a7, ?_⟩
      have st : rn d 84 55 [pR T, pI xs.length] [] m1 = rn d 84 35 [pR T, pI xs.length] [] m2 := by
        rw [a8]
        refine q84_55 (by omega) n1.1 _ ?_
        rw [gd_of n4, nm_eq, nm_eq, nm_eq, v0, v2, v4, gd_of htp, gd_of ⟨by omega, by omega⟩, gd_of hN8, vk, (w32_of (by omega) (by omega) : w32 (k + 1) = k + 1), bV_eq e3]
        exact a8
      refine q84_35 (by omega) n1.1 _ ?_
      rw [gd_of n4, bI_eq e63, bI_eq e85]
      by_cases hl : ltr (pk t e k)
      · rw [if_pos hl, if_neg (by decide), st]; exact a8
      · rw [if_neg hl, if_pos rfl, bI_eq e63, bI_eq e73, if_pos (Or.resolve_left hq hl), if_neg (by decide), st]; exact a8
    · obtain ⟨m2, c2, a1, a2, a3, a4, a5⟩ := fin k m1 c1 us0 hq g hX hg hik hw hlen hnx
      rw [sNa_eq, if_neg hq]
      simp only [List.append_nil]
      exact ⟨m2, c2, a1, a2, a3, hw, hlen, hik, a4, a5⟩
/-- an object for a name that lies in the row -/
theorem CO.name {c2 j : Int} {us : List Int} (h : CS m T tp e i t op N xs c) (hL : (xs.length : Int) + 3 * (e - i) ≤ 5900) (g : NG T m m2) (hX : TX m2 T tp e j t) (hg : RG N m c (xs ++ nmB us) m2 c2) (hw : wfU us) (hl : ((uts us).length : Int) + 2 ≤ 3 * (j - i)) (hij : i < j) (hn : nx m ≤ nx m2) : CO T tp e t op N m i c xs (mst (mst (mal m2 17 2) (nx m2) 0 N) (nx m2) 1 xs.length) j 30 (nx m2) (foC (1, 0, us, []) foN foN) := by
  obtain ⟨h1, p1⟩ := NG.cs (s := 40) h g hX hg (by simp [nmB, l2_len]; omega) hL (by omega) (by omega) hn
  have h2 := h1.new (q := 17) (n := 2) (by omega)
  have p2 := p1.new (q := 17) (n := 2) h1 (by omega) (by omega)
  have hm0 : tg m (nx m2) = 0 := h.1.1 _ hn
  have t0 : tg (mal m2 17 2) (nx m2) = 17 := new_tg.1
  have h3 := h2.obj (o := nx m2) (f := 0) (v := N) (by omega)
  have p3 := p2.obj (o := nx m2) (f := 0) (v := N) h2 (by omega) hm0
  have t1 : tg (mst (mal m2 17 2) (nx m2) 0 N) (nx m2) = 17 := t0
  have h4 := h3.obj (o := nx m2) (f := 1) (v := xs.length) (by omega)
  have p4 := p3.obj (o := nx m2) (f := 1) (v := xs.length) h3 (by omega) hm0
  have t2 : tg (mst (mst (mal m2 17 2) (nx m2) 0 N) (nx m2) 1 xs.length) (nx m2) = 17 := t0
  have np : nwP m (mst (mst (mal m2 17 2) (nx m2) 0 N) (nx m2) 1 xs.length) (nx m2) := ⟨hm0, by rw [t2]; decide⟩
  refine ⟨c2, xs ++ nmB us, h4, p4.weak (by omega), ⟨⟨?_, ⟨np, fun q => (by cases q), fun q => (by cases q), fun q => (by rcases q with q | q <;> cases q), fun q => (by cases q)⟩, trivial⟩, trivial⟩, np⟩
  unfold CB
  rw [if_pos rfl]
  refine ⟨t2, ?_, ?_, hw⟩
  · rw [vl_mst, if_neg (by omega), vl_mst, if_pos ⟨rfl, rfl⟩]
  · rw [vl_mst, if_pos ⟨rfl, rfl⟩]; exact At.end
/-- a name without quotes -/
theorem c84 (hd : 4 ≤ d) (h : CS m T tp e i t op N xs c) (hL : (xs.length : Int) + 3 * (e - i) ≤ 5900) :
    (ltr (pk t e i) → ∃ m' o, cl d 84 [pR T] m = some (.inl (some (pR o)), m') ∧ tg m' o = 17 ∧ CO T tp e t op N m i c xs m' (sNa t e i).2 30 o (foC (1, 0, (sNa t e i).1, []) foN foN)) ∧
    (¬ ltr (pk t e i) → cl d 84 [pR T] m = some (.inr 204, mal (mst m T 3 i) 204 6)) := by
  have hr := h.rng
  have ok := h.1
  have hT := h.2.2.1
  have hX := h.2.2.2.1
  have v4 := h.2.2.2.2.1
  have hR := h.2.2.2.2.2.2.1
  have e63 := c63 (d := d - 1) ok.1 hX
  have e85 := c85 (d := d - 1) (x := pk t e i) ok.1
  refine ⟨fun hl => ?_, fun hl => ?_⟩
  · have hie : i < e := pkf_lt (t := t) (by omega)
    obtain ⟨m1, c1, e1, g1⟩ := c130 (d := d - 1) (b := 0) (by omega) ok h.2.1 hR (by omega)
    have f1 := cl_FRM e1
    have n1 := (NG.refl h).fr f1 (by rfl) (by rfl) ⟨by rfl, by rfl⟩
    obtain ⟨m2, c2, e2, g2⟩ := c130 (d := d - 1) (b := 0) (by omega) n1.1 g1.2.1.1 g1.1 (by simp <;> omega)
    have f2 := cl_FRM e2
    have n2 := n1.fr f2 (by rfl) (by rfl) ⟨by rfl, by rfl⟩
    have gg := g1.trans g2 (by simp)
    have e0 : xs ++ [w8 0] ++ [w8 0] = xs ++ 0 :: 0 :: uts [] := by rw [uts_nil]; simp [show w8 0 = 0 from rfl]
    rw [e0] at gg
    have hx2 := (hX.fr f1 ok.1 (by rfl)).fr f2 n1.1.1 (by rfl)
    have hn1 := f1.1.2.1
    have hn2 := f2.1.2.1
    obtain ⟨m3, c3, a1, a2, a3, a4, a5, a6, a7, a8⟩ := c84_l (d := d) (by omega) h hL (e - i).toNat i m2 c2 [] rfl n2 hx2 gg (by omega) (fun u hu => by cases hu) (by rw [uts_nil]; simp) (by omega)
    rw [List.nil_append] at a3 a4 a5
    have hq : i < (sNa t e i).2 := (sNa_rng (e - i).toNat i rfl hr.2.1).2.2.2.1 (Or.inl hl)
    have co := CO.name h hL a1 a2 a3 a4 (by omega) hq a7
    refine ⟨_, _, ?_, ?_, co⟩
    · refine q84 (by omega) ok.1 _ ?_
      have v41 : vl m1 T 4 = N := by rw [n1.2.2.2.2.1]; exact v4
      rw [gd_of hT, bI_eq e63, bI_eq e85, if_pos hl, bV_eq (c66_1 (by omega) ok.1), nm_eq, v4, gd_of hR.1, bV_eq e1, nm_eq, v41, gd_of g1.1.1, bV_eq e2, hR.2.2.2.1]
      exact a8
    · exact (new_tg (m := m3) (q := 17) (n := 2)).1
  · refine q84 (by omega) ok.1 _ ?_
    rw [gd_of hT, bI_eq e63, bI_eq e85, if_neg hl, bV_xq (c66_0 (by omega) ok.1 hX)]
/-- a name in quotes -/
theorem c87 (hd : 8 ≤ d) (h : CS m T tp e i t op N xs c) (hL : (xs.length : Int) + 3 * (e - i) ≤ 5900) (hq : pk t e i = 39 ∨ pk t e i = 34) :
    (∀ us j, sS t e (pk t e i) (i + 1) = .inr (us, j) → ∃ m' o, cl d 87 [pR T] m = some (.inl (some (pR o)), m') ∧ tg m' o = 17 ∧ CO T tp e t op N m i c xs m' j 30 o (foC (1, 0, us, []) foN foN)) ∧
    (∀ p, sS t e (pk t e i) (i + 1) = .inl p → ∃ m', cl d 87 [pR T] m = some (.inr 204, m') ∧ CEr T N m i c e m' p 30) := by
  have hr := h.rng
  have ok := h.1
  have hT := h.2.2.1
  have hX := h.2.2.2.1
  have v4 := h.2.2.2.2.1
  have hR := h.2.2.2.2.2.2.1
  have e63 := c63 (d := d - 1) ok.1 hX
  obtain ⟨s1, s2⟩ := c68 (d := d - 1) (q := pk t e i) (by omega) (by omega) ok h.2.1 hX rfl hR (by omega)
  refine ⟨fun us j hE => ?_, fun p hE => ?_⟩
  · obtain ⟨b1, b2, b3, b4, m2, c2, e2, b5, b6⟩ := s1 us j hE
    have f2 := cl_FRM e2
    have n2 := (NG.refl h).fr f2 (by rfl) (by rfl) ⟨by rfl, by rfl⟩
    have co := CO.name h hL n2 b5 b6 b1 (by omega) (by omega) f2.1.2.1
    refine ⟨_, _, ?_, ?_, co⟩
    · refine q87 (by omega) ok.1 _ ?_
      have hTn : T ≠ nx m2 := by have := tz_lt n2.1.1 (x := T) (by rw [n2.2.2.2.1]; decide); omega
      have v43 : vl (mal m2 17 2) T 4 = N := by rw [vl_mal, if_neg hTn, n2.2.2.2.2.1]; exact v4
      have e306 : cl (d - 1) 306 [pR (nx m2), pR N, pI xs.length] (mal m2 17 2) = some (.inl none, mst (mst (mal m2 17 2) (nx m2) 0 N) (nx m2) 1 xs.length) := by
        refine q306 ((NG_new n2.1).1) _ ?_
        rw [gd_of new_tg.1]
      rw [gd_of hT, nm_eq, v4, gd_of hR.1, bI_eq e63, bV_eq e2, nw_eq, v43, hR.2.2.2.1, bV_eq e306]
    · exact (new_tg (m := m2) (q := 17) (n := 2)).1
  · obtain ⟨m2, e2, hb⟩ := s2 p hE
    have f2 := cl_FRM e2
    refine ⟨m2, ?_, ?_⟩
    · refine q87 (by omega) ok.1 _ ?_
      rw [gd_of hT, nm_eq, v4, gd_of hR.1, bI_eq e63, bV_xq e2]
    · obtain ⟨zs, c', g1, g2, g3, g4, g5⟩ := hb
      exact ⟨g5, QKp.fr f2 ok.1 (by rfl), g2, ok.fr f2, by rw [tg_of f2 ok.1 (by omega)]; exact hT, zs, c', g1, ⟨by omega, by omega⟩, ⟨g3.1, g4⟩⟩
end
