/-! the disk: bytes, sums, what blocks say -/
set_option maxRecDepth 100000
set_option maxHeartbeats 4000000
/-- the disk's arrays -/
def DA (m : Mem) (K : Int) : Prop := tg m K = 9 ∧ (tg m (vl m K 0) = 153103 ∧ ln m (vl m K 0) = 1177600) ∧ (tg m (vl m K 1) = 153103 ∧ ln m (vl m K 1) = 736) ∧ (tg m (vl m K 2) = 153103 ∧ ln m (vl m K 2) = 47104) ∧ (tg m (vl m K 3) = 153101 ∧ ln m (vl m K 3) = 64) ∧ (tg m (vl m K 5) = 153105 ∧ ln m (vl m K 5) = 1600) ∧ (tg m (vl m K 7) = 153114 ∧ ln m (vl m K 7) = 64) ∧ (vl m K 0 ≠ vl m K 1 ∧ vl m K 0 ≠ vl m K 2 ∧ vl m K 1 ≠ vl m K 2)
/-- what the blocks hold -/
def BC (m : Mem) (K : Int) (c : RF) : Prop := ∀ b j : Int, 0 ≤ b → b < 1600 → 0 ≤ j → j < 736 → vl m (vl m K 0) (736 * b + j) = c b j
/-- nothing but the array a has changed -/
def AO (a : Int) (m m' : Mem) : Prop := nx m' = nx m ∧ sl m' = sl m ∧ (∀ b, tg m' b = tg m b ∧ ln m' b = ln m b) ∧ ∀ b j, b ≠ a → vl m' b j = vl m b j
theorem AO.refl {a : Int} {m : Mem} : AO a m m := ⟨rfl, rfl, fun _ => ⟨rfl, rfl⟩, fun _ _ _ => rfl⟩
theorem AO.trans {a : Int} {m m1 m2 : Mem} (h : AO a m m1) (h' : AO a m1 m2) : AO a m m2 := ⟨by rw [h'.1, h.1], by rw [h'.2.1, h.2.1], fun b => ⟨by rw [(h'.2.2.1 b).1, (h.2.2.1 b).1], by rw [(h'.2.2.1 b).2, (h.2.2.1 b).2]⟩, fun b j hb => by rw [h'.2.2.2 b j hb, h.2.2.2 b j hb]⟩
theorem AO.set {a j v : Int} {m : Mem} : AO a m (mst m a j v) := ⟨rfl, rfl, fun _ => ⟨rfl, rfl⟩, fun b i hb => by rw [vl_mst, if_neg (fun z => hb z.1)]⟩
theorem AO.cp {s sp a dp n : Int} {m : Mem} : AO a m (mcp m s sp a dp n) := ⟨rfl, rfl, fun _ => ⟨rfl, rfl⟩, fun b i hb => by rw [vl_mcp, if_neg (fun z => hb z.1)]⟩
theorem AO.tz {a : Int} {m m' : Mem} (h : AO a m m') (hz : TZ m) : TZ m' := fun x hx => by rw [(h.2.2.1 x).1]; exact hz x (by rw [h.1] at hx; exact hx)
theorem AO.ok {a : Int} {m m' : Mem} (h : AO a m m') (ok : OK m) : OK m' := ⟨h.tz ok.1, by rw [(h.2.2.1 0).1]; exact ok.2.1, by rw [h.1]; exact ok.2.2⟩
theorem DA.ao {a K : Int} {m m' : Mem} (h : DA m K) (k : AO a m m') (ha : 1000 ≤ tg m a) : DA m' K := by
  obtain ⟨h1, h2, h3, h4, h5, h6, h7, h8⟩ := h
  have g : ∀ f, vl m' K f = vl m K f := fun f => k.2.2.2 K f (by intro z; rw [← z, h1] at ha; omega)
  have t : ∀ b, tg m' b = tg m b := fun b => (k.2.2.1 b).1
  have l : ∀ b, ln m' b = ln m b := fun b => (k.2.2.1 b).2
  refine ⟨by rw [t]; exact h1, by rw [g, t, l]; exact h2, by rw [g, t, l]; exact h3, by rw [g, t, l]; exact h4, by rw [g, t, l]; exact h5, by rw [g, t, l]; exact h6, by rw [g, t, l]; exact h7, by rw [g, g, g]; exact h8⟩
theorem BC.ao {a K : Int} {m m' : Mem} {c : RF} (h : BC m K c) (k : AO a m m') (hK : K ≠ a) (ha : vl m K 0 ≠ a) : BC m' K c := fun b j b0 b1 j0 j1 => by rw [k.2.2.2 K 0 hK, k.2.2.2 _ _ ha]; exact h b j b0 b1 j0 j1
section
variable {d : Nat} {m : Mem} {K b a k v : Int} {c : RF}
theorem c162 (hz : TZ m) (hD : DA m K) (hc : BC m K c) (hb : 0 ≤ b ∧ b < 1600) (ha : 0 ≤ a ∧ a < 735) : cl d 162 [pR K, pI b, pI a] m = some (.inl (some (pI (ftw (c b) a))), m) := by
  obtain ⟨h1, h2, -⟩ := hD
  have e1 := hc b a hb.1 hb.2 ha.1 (by omega)
  have e2 := hc b (a + 1) hb.1 hb.2 (by omega) (by omega)
  refine q162 hz _ ?_
  have w1 : w32 (b * 736) = 736 * b := by rw [Int.mul_comm]; exact w32_of (by omega) (by omega)
  have w2 : w32 (736 * b + a) = 736 * b + a := w32_of (by omega) (by omega)
  have w3 : w32 (736 * b + a + 1) = 736 * b + (a + 1) := by rw [Int.add_assoc]; exact w32_of (by omega) (by omega)
  rw [gd_of h1, nm_eq, nm_eq, w1, w2, gd_of h2.1, gd_of (by rw [h2.2]; omega), nm_eq, w3, gd_of (by rw [h2.2]; omega), e1, e2, two_eq]
  rfl
theorem c166 (hd : 1 ≤ d) (hz : TZ m) (hD : DA m K) (hc : BC m K c) (hb : 0 ≤ b ∧ b < 1600) (hk : 0 ≤ k ∧ k < 182) : cl d 166 [pR K, pI b, pI k] m = some (.inl (some (pI (ftw (c b) (3 + 4 * k)))), m) := by
  have e1 := c162 (d := d - 1) (a := 3 + 4 * k) hz hD hc hb (by omega)
  refine q166 (by omega) hz _ ?_
  rw [gd_of hD.1, (w32_of (by omega) (by omega) : w32 (4 * k) = 4 * k), (w32_of (by omega) (by omega) : w32 (3 + 4 * k) = 3 + 4 * k), bI_eq e1]
theorem c167 (hd : 1 ≤ d) (hz : TZ m) (hD : DA m K) (hc : BC m K c) (hb : 0 ≤ b ∧ b < 1600) (hk : 0 ≤ k ∧ k < 182) : cl d 167 [pR K, pI b, pI k] m = some (.inl (some (pI (ftw (c b) (5 + 4 * k)))), m) := by
  have e1 := c162 (d := d - 1) (a := 5 + 4 * k) hz hD hc hb (by omega)
  refine q167 (by omega) hz _ ?_
  rw [gd_of hD.1, (w32_of (by omega) (by omega) : w32 (4 * k) = 4 * k), (w32_of (by omega) (by omega) : w32 (5 + 4 * k) = 5 + 4 * k), bI_eq e1]
theorem c181 (hd : 1 ≤ d) (hz : TZ m) (hD : DA m K) (hc : BC m K c) (hb : 0 ≤ b ∧ b < 1600) : cl d 181 [pR K, pI b] m = some (.inl (some (pI (ftw (c b) 1))), m) := by
  have e1 := c162 (d := d - 1) (a := 1) hz hD hc hb (by omega)
  refine q181 (by omega) hz _ ?_
  rw [gd_of hD.1, bI_eq e1]
theorem c163 (hd : 1 ≤ d) (hz : TZ m) (hD : DA m K) (hc : BC m K c) (hb : 0 ≤ b ∧ b < 1600) : cl d 163 [pR K, pI b] m = some (.inl (some (pI (ftw (c b) 5))), m) := by
  have e1 := c162 (d := d - 1) (a := 5) hz hD hc hb (by omega)
  refine q163 (by omega) hz _ ?_
  rw [gd_of hD.1, bI_eq e1]
theorem c164 (hd : 1 ≤ d) (hz : TZ m) (hD : DA m K) (hc : BC m K c) (hb : 0 ≤ b ∧ b < 1600) : cl d 164 [pR K, pI b] m = some (.inl (some (pI (ftw (c b) 7))), m) := by
  have e1 := c162 (d := d - 1) (a := 7) hz hD hc hb (by omega)
  refine q164 (by omega) hz _ ?_
  rw [gd_of hD.1, bI_eq e1]
/-- a block's first byte -/
theorem DA.b0 (hD : DA m K) (hc : BC m K c) (hb : 0 ≤ b ∧ b < 1600) : w32 (b * 736) = 736 * b ∧ (0 ≤ 736 * b ∧ 736 * b < ln m (vl m K 0)) ∧ vl m (vl m K 0) (736 * b) = c b 0 := by
  have := hc b 0 hb.1 hb.2 (by omega) (by omega)
  rw [Int.add_zero] at this
  refine ⟨by rw [Int.mul_comm]; exact w32_of (by omega) (by omega), ⟨by omega, by rw [hD.2.1.2]; omega⟩, this⟩
theorem c182 (hz : TZ m) (hD : DA m K) (hc : BC m K c) (hb : 0 ≤ b ∧ b < 1600) : cl d 182 [pR K, pI b] m = some (.inl (some (pI (if c b 0 = 2 then 1 else 0))), m) := by
  obtain ⟨e1, e2, e3⟩ := hD.b0 hc hb
  refine q182 hz _ ?_
  rw [gd_of hD.1, nm_eq, nm_eq, e1, gd_of hD.2.1.1, gd_of e2, e3]
  split <;> rfl
/-- a block of zeros, but for its kind -/
theorem c155_2 {kd : Int} (hz : TZ m) (hD : DA m K) : ∀ (N : Nat) (m : Mem) (i : Int), TZ m → DA m K → (736 - i).toNat = N → 0 ≤ i → i ≤ 736 → (∀ j, 0 ≤ j → j < i → vl m (vl m K 1) j = 0) → ∃ m', rn d 155 2 [pR K, pI kd, pI i] [] m = some (.inl none, m') ∧ AO (vl m K 1) m m' ∧ ∀ j : Int, 0 ≤ j → j < 736 → vl m' (vl m K 1) j = if j = 0 then w8 kd else 0 := by
  intro N
  induction N with
  | zero =>
    intro m i hz hD hN h0 h1 hv
    obtain ⟨t1, l1⟩ := hD.2.2.1
    refine ⟨mst m (vl m K 1) 0 (w8 (w8 kd)), q155_2 hz _ ?_, AO.set, fun j j0 j1 => ?_⟩
    · rw [if_neg (by omega), gd_of hD.1, nm_eq, gd_of t1, gd_of (by rw [l1]; omega)]
    · rw [vl_mst]
      by_cases z : j = 0
      · rw [if_pos ⟨rfl, z⟩, if_pos z, w8_w8]
      · rw [if_neg (fun y => z y.2), if_neg z]; exact hv j j0 (by omega)
  | succ N ih =>
    intro m i hz hD hN h0 h1 hv
    obtain ⟨t1, l1⟩ := hD.2.2.1
    have hK : K ≠ vl m K 1 := by intro z; rw [← z, hD.1] at t1; omega
    have k1 : AO (vl m K 1) m (mst m (vl m K 1) i (w8 0)) := AO.set
    have e1 : vl (mst m (vl m K 1) i (w8 0)) K 1 = vl m K 1 := by rw [vl_mst, if_neg (fun z => hK z.1)]
    obtain ⟨m', g1, g2, g3⟩ := ih (mst m (vl m K 1) i (w8 0)) (i + 1) (k1.tz hz) (hD.ao k1 (by omega)) (by omega) (by omega) (by omega) (fun j j0 j1 => by
      rw [e1, vl_mst]
      by_cases z : j = i
      · rw [if_pos ⟨rfl, z⟩]; decide
      · rw [if_neg (fun y => z y.2)]; exact hv j j0 (by omega))
    rw [e1] at g2 g3
    refine ⟨m', q155_2 hz _ ?_, k1.trans g2, g3⟩
    rw [if_pos (by omega), gd_of hD.1, nm_eq, gd_of t1, gd_of (by rw [l1]; omega), (w32_of (by omega) (by omega) : w32 (i + 1) = i + 1)]
    exact g1
theorem c155 {kd : Int} (hz : TZ m) (hD : DA m K) : ∃ m', cl d 155 [pR K, pI kd] m = some (.inl none, m') ∧ AO (vl m K 1) m m' ∧ ∀ j : Int, 0 ≤ j → j < 736 → vl m' (vl m K 1) j = if j = 0 then w8 kd else 0 := by
  obtain ⟨m', g1, g2⟩ := c155_2 (d := d) (kd := kd) hz hD _ m 0 hz hD rfl (by omega) (by omega) (fun j j0 j1 => absurd j1 (by omega))
  exact ⟨m', q155 hz _ g1, g2⟩
/-- two bytes of the block at hand -/
theorem c156 (hz : TZ m) (hD : DA m K) (ha : 0 ≤ a ∧ a < 735) (hv : 0 ≤ v ∧ v < 2147483648) : ∃ m', cl d 156 [pR K, pI a, pI v] m = some (.inl none, m') ∧ AO (vl m K 1) m m' ∧ ∀ j : Int, vl m' (vl m K 1) j = if j = a then w8 (v / 256) else if j = a + 1 then w8 v else vl m (vl m K 1) j := by
  obtain ⟨t1, l1⟩ := hD.2.2.1
  have e8 : pShr v 8 = v / 256 := pShr_div 8 (by decide) ⟨by omega, by omega⟩
  refine ⟨mst (mst m (vl m K 1) a (w8 (v / 256))) (vl m K 1) (a + 1) (w8 v), q156 hz _ ?_, AO.set.trans AO.set, fun j => ?_⟩
  · rw [gd_of hD.1, nm_eq, gd_of t1, gd_of (by rw [l1]; omega), nm_eq, (w32_of (by omega) (by omega) : w32 (a + 1) = a + 1), gd_of (by rw [l1]; omega), e8, w8_w8, w8_w8]
  · rw [vl_mst]
    by_cases z : j = a + 1
    · rw [if_pos ⟨rfl, z⟩, if_neg (by omega), if_pos z]
    · rw [if_neg (fun y => z y.2), vl_mst]
      by_cases y : j = a
      · rw [if_pos ⟨rfl, y⟩, if_pos y]
      · rw [if_neg (fun w => y w.2), if_neg y, if_neg z]
theorem ftw_of {f : Int → Int} {a v : Int} (h1 : f a = w8 (v / 256)) (h2 : f (a + 1) = w8 v) (hv : 0 ≤ v ∧ v < 65536) : ftw f a = v := by
  unfold ftw
  rw [h1, h2]
  unfold w8
  omega
theorem sumN_rng (f : Int → Int) (n : Nat) : -2147483648 ≤ sumN f n ∧ sumN f n < 2147483648 := by
  cases n with
  | zero => exact ⟨by show -2147483648 ≤ (17 : Int); decide, by show (17 : Int) < 2147483648; decide⟩
  | succ n => show -2147483648 ≤ w32 _ ∧ w32 _ < 2147483648; unfold w32; omega
theorem sumN_cg {f f' : Int → Int} : ∀ n : Nat, (∀ j : Int, 0 ≤ j → j < n → f' j = f j) → sumN f' n = sumN f n := by
  intro n
  induction n with
  | zero => intro _; rfl
  | succ n ih =>
    intro h
    show w32 (w32 (31 * sumN f' n) + f' n) = w32 (w32 (31 * sumN f n) + f n)
    rw [ih (fun j j0 j1 => h j j0 (by push_cast; omega)), h n (by omega) (by push_cast; omega)]
theorem c158_5 {A off : Int} (hz : TZ m) (hA : tg m A = 153103) (ho : 0 ≤ off ∧ off + 732 ≤ ln m A ∧ ln m A ≤ 2000000) : ∀ (N i : Nat), 732 - i = N → i ≤ 732 → rn d 158 5 [pR A, pI off, pI (sumN (fun j => vl m A (off + j)) i), pI i] [] m = some (.inl (some (pI (sumN (fun j => vl m A (off + j)) 732))), m) := by
  intro N
  induction N with
  | zero =>
    intro i hN hi
    have : i = 732 := by omega
    subst this
    refine q158_5 hz _ ?_
    rw [if_neg (by decide)]
  | succ N ih =>
    intro i hN hi
    refine q158_5 hz _ ?_
    rw [if_pos (by omega), nm_eq, (w32_of (by omega) (by omega) : w32 (off + (i : Int)) = off + i), gd_of hA, gd_of ⟨by omega, by omega⟩, (w32_of (by omega) (by omega) : w32 ((i : Int) + 1) = ((i + 1 : Nat) : Int))]
    exact ih (i + 1) (by omega) (by omega)
theorem c158 {A off : Int} (hz : TZ m) (hA : tg m A = 153103) (ho : 0 ≤ off ∧ off + 732 ≤ ln m A ∧ ln m A ≤ 2000000) : cl d 158 [pR A, pI off] m = some (.inl (some (pI (sumN (fun j => vl m A (off + j)) 732))), m) := q158 hz _ (c158_5 hz hA ho _ 0 rfl (by omega))
/-- the sum is written behind a block -/
theorem c157_8 {A s0 : Int} (hz : TZ m) (hA : tg m A = 153103) (hl : 736 ≤ ln m A) : ∀ (N : Nat) (m : Mem) (i : Int), TZ m → tg m A = 153103 → 736 ≤ ln m A → (4 - i).toNat = N → 0 ≤ i → i ≤ 4 → ∃ m', rn d 157 8 [pR A, pI s0, pI i] [] m = some (.inl none, m') ∧ AO A m m' ∧ (∀ j : Int, j < 732 + i → vl m' A j = vl m A j) ∧ ∀ k : Int, i ≤ k → k < 4 → vl m' A (732 + k) = w8 (pShr s0 (24 - 8 * k)) := by
  intro N
  induction N with
  | zero =>
    intro m i hz hA hl hN h0 h1
    refine ⟨m, q157_8 hz _ ?_, AO.refl, fun _ _ => rfl, fun k k0 k1 => absurd k1 (by omega)⟩
    rw [if_neg (by omega)]
  | succ N ih =>
    intro m i hz hA hl hN h0 h1
    have k1 : AO A m (mst m A (732 + i) (w8 (pShr s0 (24 - 8 * i)))) := AO.set
    obtain ⟨m', g1, g2, g3, g4⟩ := ih _ (i + 1) (k1.tz hz) hA hl (by omega) (by omega) (by omega)
    refine ⟨m', q157_8 hz _ ?_, k1.trans g2, fun j hj => by rw [g3 j (by omega), vl_mst, if_neg (by omega)], fun k k0 k1' => ?_⟩
    · rw [if_pos (by omega), nm_eq, (w32_of (by omega) (by omega) : w32 (732 + i) = 732 + i), gd_of hA, gd_of ⟨by omega, by omega⟩, (w32_of (by omega) (by omega) : w32 (i + 1) = i + 1), (w32_of (by omega) (by omega) : w32 (8 * i) = 8 * i), (w32_of (by omega) (by omega) : w32 (24 - 8 * i) = 24 - 8 * i), w8_w8]
      exact g1
    · by_cases z : k = i
      · rw [z, g3 _ (by omega), vl_mst, if_pos ⟨rfl, rfl⟩]
      · exact g4 k (by omega) k1'
theorem c157 {A : Int} (hd : 1 ≤ d) (hz : TZ m) (hA : tg m A = 153103) (hl : 736 ≤ ln m A ∧ ln m A ≤ 2000000) : ∃ m', cl d 157 [pR A] m = some (.inl none, m') ∧ AO A m m' ∧ (∀ j : Int, j < 732 → vl m' A j = vl m A j) ∧ SLD (fun j => vl m' A j) := by
  have e158 := c158 (d := d - 1) (off := 0) hz hA (by omega)
  obtain ⟨m', g1, g2, g3, g4⟩ := c157_8 (d := d) (s0 := sumN (fun j => vl m A (0 + j)) 732) hz hA hl.1 _ m 0 hz hA hl.1 rfl (by omega) (by omega)
  refine ⟨m', q157 (by omega) hz _ (by rw [bI_eq e158]; exact g1), g2, fun j hj => g3 j (by omega), fun k k0 k1 => ?_⟩
  have es : sumN (fun j => vl m' A j) 732 = sumN (fun j => vl m A (0 + j)) 732 := sumN_cg 732 fun j j0 j1 => by rw [g3 j (by omega), Int.zero_add]
  show vl m' A (732 + k) = w8 (pShr (sumN (fun j => vl m' A j) 732) (24 - 8 * k))
  rw [g4 k k0 k1, es]
/-- whether a block's sum is right -/
theorem c160_15 {s0 : Int} (hz : TZ m) (hD : DA m K) (hc : BC m K c) (hb : 0 ≤ b ∧ b < 1600) : ∀ (N : Nat) (i : Int), (4 - i).toNat = N → 0 ≤ i → i ≤ 4 → ((∀ k : Int, i ≤ k → k < 4 → c b (732 + k) = w8 (pShr s0 (24 - 8 * k))) → rn d 160 15 [pR K, pI b, pI s0, pI i] [] m = some (.inl (some (pI 1)), m)) ∧ (¬ (∀ k : Int, i ≤ k → k < 4 → c b (732 + k) = w8 (pShr s0 (24 - 8 * k))) → rn d 160 15 [pR K, pI b, pI s0, pI i] [] m = some (.inl (some (pI 0)), m)) := by
  intro N
  induction N with
  | zero =>
    intro i hN h0 h1
    refine ⟨fun _ => q160_15 hz _ ?_, fun h => absurd (fun k k0 k1 => absurd k1 (by omega)) h⟩
    rw [if_neg (by omega)]
  | succ N ih =>
    intro i hN h0 h1
    obtain ⟨i1, i2⟩ := ih (i + 1) (by omega) (by omega) (by omega)
    have e1 := hc b (732 + i) hb.1 hb.2 (by omega) (by omega)
    have w1 : w32 (b * 736) = 736 * b := by rw [Int.mul_comm]; exact w32_of (by omega) (by omega)
    have w2 : w32 (w32 (w32 (w32 (b * 736) + 736) - 4) + i) = 736 * b + (732 + i) := by
      rw [w1, (w32_of (by omega) (by omega) : w32 (736 * b + 736) = 736 * b + 736), (w32_of (by omega) (by omega) : w32 (736 * b + 736 - 4) = 736 * b + 736 - 4), w32_of (by omega) (by omega)]
      omega
    have hl := hD.2.1.2
    have st : ∀ Z, (if c b (732 + i) = w8 (pShr s0 (24 - 8 * i)) then (rn d 160 15 [pR K, pI b, pI s0, pI (i + 1)] [] m) else some (.inl (some (pI 0)), m)) = some Z → rn d 160 15 [pR K, pI b, pI s0, pI i] [] m = some Z := fun Z hZ => by
      refine q160_15 hz _ ?_
      rw [if_pos (by omega), gd_of hD.1, nm_eq, nm_eq, w2, gd_of hD.2.1.1, gd_of ⟨by omega, by omega⟩, e1, (w32_of (by omega) (by omega) : w32 (i + 1) = i + 1), (w32_of (by omega) (by omega) : w32 (8 * i) = 8 * i), (w32_of (by omega) (by omega) : w32 (24 - 8 * i) = 24 - 8 * i)]
      exact hZ
    by_cases q : c b (732 + i) = w8 (pShr s0 (24 - 8 * i))
    · refine ⟨fun h => st _ ?_, fun h => st _ ?_⟩
      · rw [if_pos q]; exact i1 fun k k0 k1 => h k (by omega) k1
      · rw [if_pos q]
        refine i2 fun h' => h fun k k0 k1 => ?_
        by_cases z : k = i
        · rw [z]; exact q
        · exact h' k (by omega) k1
    · refine ⟨fun h => absurd (h i (by omega) (by omega)) q, fun h => st _ ?_⟩
      rw [if_neg q]
theorem c160 (hd : 1 ≤ d) (hz : TZ m) (hD : DA m K) (hc : BC m K c) (hb : 0 ≤ b ∧ b < 1600) : (SLD (c b) → cl d 160 [pR K, pI b] m = some (.inl (some (pI 1)), m)) ∧ (¬ SLD (c b) → cl d 160 [pR K, pI b] m = some (.inl (some (pI 0)), m)) := by
  have w1 : w32 (b * 736) = 736 * b := by rw [Int.mul_comm]; exact w32_of (by omega) (by omega)
  have e158 := c158 (d := d - 1) (off := 736 * b) hz hD.2.1.1 (by rw [hD.2.1.2]; omega)
  have es : sumN (fun j => vl m (vl m K 0) (736 * b + j)) 732 = sumN (c b) 732 := sumN_cg 732 fun j j0 j1 => hc b j hb.1 hb.2 j0 (by omega)
  rw [es] at e158
  obtain ⟨k1, k2⟩ := c160_15 (d := d) (s0 := sumN (c b) 732) hz hD hc hb _ 0 rfl (by omega) (by omega)
  have st : ∀ Z, rn d 160 15 [pR K, pI b, pI (sumN (c b) 732), pI 0] [] m = some Z → cl d 160 [pR K, pI b] m = some Z := fun Z hZ => by
    refine q160 (by omega) hz _ ?_
    rw [gd_of hD.1, w1, bI_eq e158]
    exact hZ
  exact ⟨fun h => st _ (k1 h), fun h => st _ (k2 h)⟩
/-- whether a block is a header -/
theorem c159 (hd : 2 ≤ d) (hz : TZ m) (hD : DA m K) (hc : BC m K c) (hb : 0 ≤ b ∧ b < 1600) : (c b 0 = 4 ∧ SLD (c b) → cl d 159 [pR K, pI b] m = some (.inl (some (pI 1)), m)) ∧ (¬ (c b 0 = 4 ∧ SLD (c b)) → cl d 159 [pR K, pI b] m = some (.inl (some (pI 0)), m)) := by
  obtain ⟨e1, e2, e3⟩ := hD.b0 hc hb
  obtain ⟨k1, k2⟩ := c160 (d := d - 1) (by omega) hz hD hc hb
  refine ⟨fun h => q159 (by omega) hz _ ?_, fun h => q159 (by omega) hz _ ?_⟩
  · rw [gd_of hD.1, nm_eq, nm_eq, e1, gd_of hD.2.1.1, gd_of e2, e3, if_pos h.1, bI_eq (k1 h.2), if_neg (by decide)]
  · rw [gd_of hD.1, nm_eq, nm_eq, e1, gd_of hD.2.1.1, gd_of e2, e3]
    by_cases q : c b 0 = 4
    · rw [if_pos q, bI_eq (k2 fun z => h ⟨q, z⟩), if_pos rfl]
    · rw [if_neg q]
/-- a header's number -/
theorem c161 (hd : 1 ≤ d) (hz : TZ m) (hD : DA m K) (hc : BC m K c) (hb : 0 ≤ b ∧ b < 1600) (h0 : ftw (c b) 1 = 0) : cl d 161 [pR K, pI b] m = some (.inl (some (pI (ftw (c b) 3))), m) := by
  have e1 := c162 (d := d - 1) (a := 1) hz hD hc hb (by omega)
  have e2 := c162 (d := d - 1) (a := 3) hz hD hc hb (by omega)
  have hr : 0 ≤ ftw (c b) 3 ∧ ftw (c b) 3 < 65536 := by unfold ftw; omega
  have e3 : pOr (pShl 0 16) (ftw (c b) 3) = ftw (c b) 3 := by
    rw [show pShl 0 16 = 0 by decide]
    have := pOr_add (a := 0) (b := ftw (c b) 3) 16 (by decide) hr.1 (by simpa using hr.2) (by simp; omega)
    simpa using this
  refine q161 (by omega) hz _ ?_
  rw [gd_of hD.1, bI_eq e1, bI_eq e2, h0, e3]
end
