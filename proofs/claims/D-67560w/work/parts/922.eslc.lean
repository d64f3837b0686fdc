/-! evaluation by the component: a slice -/
set_option maxRecDepth 100000
set_option maxHeartbeats 4000000
theorem kdL_len {ob : Bool} : ∀ (F : Fo) (p : Int) (k : Nat), (kdL ob F p k).length = cntF F := by
  intro F
  induction F with
  | leaf => intro p k; rfl
  | inner n dd u l r ihl ihr => intro p k; rw [kdL_inner, List.length_cons, ihr]; rfl
section
variable {P : Int → Prop} {d : Nat} {m : Mem} {R rw c rt w cap a0 : Int} {xs stk : List Int} {x : Nk} {y : Nd}
/-- an element by its number -/
theorem evI_at (hN : NV xs x) (h5 : x.2.2.1.1 = 5) {i : Int} (i0 : 0 ≤ i) (i1 : i < cntF x.2.2.2.1) : ∃ z : Nk, evI x y i = eA (z :: x :: y) ∧ eltP x.2.2.2.1 i (x.1 + 3) = z.1 := by
  have k6 : (x.2.2.1.1 == 6) = false := by rw [h5]; rfl
  have ekd : kdS x = kdL false x.2.2.2.1 (x.1 + 3) 0 := by unfold kdS; rw [k6]
  have h0 := hN.lt
  have hl := kdL_len (ob := false) x.2.2.2.1 (x.1 + 3) 0
  have el := (eltP_kd x.2.2.2.1 (x.1 + 3) i 0 (by omega)).2 i0
  have hlt : i.toNat < (kdL false x.2.2.2.1 (x.1 + 3) 0).length := by omega
  have hE := List.getElem?_eq_getElem hlt
  rw [hE] at el
  refine ⟨_, ?_, el⟩
  unfold evI
  rw [if_neg (by omega), ekd, hE]
theorem c341_87 {a3 st z : Int} (hd : 4 ≤ d) (hx : xs.length < 60000) (hN : NV xs x) (h5 : x.2.2.1.1 = 5) (hst : 0 < st ∧ st < 9007199254740992) (hz0 : z ≤ cntF x.2.2.2.1) (hcn : (cntF x.2.2.2.1 : Int) < 60000) : ∀ (F : Nat) (k : Int) (m : Mem) (stk : List Int) (w cap : Int), (z - k).toNat ≤ F → 0 ≤ k → k < 10007199254740992 → tg m a0 = 29 → vl m a0 4 = st → EC m R rw xs c rt stk w cap → w ≤ 10000 → EVs P m R rw xs c rt stk cap (rn d 341 87 [pR a0, pR R, pI x.1, pL a3, pU, pL z, pU, pL k, pU] [] m) (eL (evI x y) (slU F k st z) w) := by
  intro F
  induction F with
  | zero =>
    intro k m stk w cap hF k0 k1 t0 v4 h hw
    refine EVs.nil h hw (q341_87 (by omega) h.tz _ ?_)
    rw [if_neg (by omega)]
  | succ F ih =>
    intro k m stk w cap hF k0 k1 t0 v4 h hw
    unfold slU
    by_cases hk : k < z
    · rw [if_pos (Or.inl ⟨hst.1, hk⟩)]
      obtain ⟨q, e1, e2⟩ := evI_at (y := y) hN h5 k0 (by omega)
      have e146 := c146 (d := d - 1) (i := k) (by omega) h.tz h.row hN.1 hN.2 h5 hx (by omega) (by omega)
      rw [e2] at e146
      show EVs P m R rw xs c rt stk cap _ (eB (evI x y k) (fun a => eB (eL (evI x y) (slU F (k + st) st z)) fun b => eR (a ++ b)) w)
      rw [e1]
      refine EVs.seq (Q2 := fun m2 => gd (tg m2 a0 = 29) <| rn d 341 87 [pR a0, pR R, pI x.1, pL a3, pU, pL z, pU, pL (w64 (k + (vl m2 a0 4))), pU] [] m2) (c106 (d := d - 1) (a := q.1) (by omega) h hw rfl) (fun m' b1 Z hZ => q341_87 (by omega) h.tz _ ?_) (fun m' b1 => q341_87 (by omega) h.tz _ ?_) (fun m' ys w' cap' hw' h' k' => ?_)
      · rw [if_pos hk, gd_of h.hR, nm_eq, h.v0, gd_of h.t0, bI_eq e146, bV_eq b1]; exact hZ
      · rw [if_pos hk, gd_of h.hR, nm_eq, h.v0, gd_of h.t0, bI_eq e146, bV_xq b1]
      · have t0' : tg m' a0 = 29 := by rw [(k'.1 a0 (by omega)).1]; exact t0
        have v4' : vl m' a0 4 = st := by rw [k'.2 a0 4 (by omega) (by omega) (by omega) (by omega) (fun z => by omega)]; exact v4
        refine (ih (k + st) m' _ w' cap' (by omega) (by omega) (by omega) t0' v4' h' hw').of (fun Z hZ => ?_)
        show (gd (tg m' a0 = 29) <| rn d 341 87 [pR a0, pR R, pI x.1, pL a3, pU, pL z, pU, pL (w64 (k + (vl m' a0 4))), pU] [] m') = some Z
        rw [gd_of t0', v4', (w64_of (by omega) (by omega) : w64 (k + st) = k + st)]
        exact hZ
    · rw [if_neg (by omega)]
      refine EVs.nil h hw (q341_87 (by omega) h.tz _ ?_)
      rw [if_neg hk]
theorem c341_182 {a3 st z : Int} (hd : 4 ≤ d) (hx : xs.length < 60000) (hN : NV xs x) (h5 : x.2.2.1.1 = 5) (hst : st < 0 ∧ -9007199254740992 < st) (hz0 : -1 ≤ z) (hcn : (cntF x.2.2.2.1 : Int) < 60000) : ∀ (F : Nat) (k : Int) (m : Mem) (stk : List Int) (w cap : Int), (k - z).toNat ≤ F → k < cntF x.2.2.2.1 → -10007199254740992 < k → tg m a0 = 29 → vl m a0 4 = st → EC m R rw xs c rt stk w cap → w ≤ 10000 → EVs P m R rw xs c rt stk cap (rn d 341 182 [pR a0, pR R, pI x.1, pL a3, pU, pL z, pU, pL k, pU] [] m) (eL (evI x y) (slU F k st z) w) := by
  intro F
  induction F with
  | zero =>
    intro k m stk w cap hF k0 k1 t0 v4 h hw
    refine EVs.nil h hw (q341_182 (by omega) h.tz _ ?_)
    rw [if_neg (by omega)]
  | succ F ih =>
    intro k m stk w cap hF k0 k1 t0 v4 h hw
    unfold slU
    by_cases hk : z < k
    · rw [if_pos (Or.inr ⟨hst.1, hk⟩)]
      obtain ⟨q, e1, e2⟩ := evI_at (y := y) hN h5 (i := k) (by omega) (by omega)
      have e146 := c146 (d := d - 1) (i := k) (by omega) h.tz h.row hN.1 hN.2 h5 hx (by omega) (by omega)
      rw [e2] at e146
      show EVs P m R rw xs c rt stk cap _ (eB (evI x y k) (fun a => eB (eL (evI x y) (slU F (k + st) st z)) fun b => eR (a ++ b)) w)
      rw [e1]
      refine EVs.seq (Q2 := fun m2 => gd (tg m2 a0 = 29) <| rn d 341 182 [pR a0, pR R, pI x.1, pL a3, pU, pL z, pU, pL (w64 (k + (vl m2 a0 4))), pU] [] m2) (c106 (d := d - 1) (a := q.1) (by omega) h hw rfl) (fun m' b1 Z hZ => q341_182 (by omega) h.tz _ ?_) (fun m' b1 => q341_182 (by omega) h.tz _ ?_) (fun m' ys w' cap' hw' h' k' => ?_)
      · rw [if_pos hk, gd_of h.hR, nm_eq, h.v0, gd_of h.t0, bI_eq e146, bV_eq b1]; exact hZ
      · rw [if_pos hk, gd_of h.hR, nm_eq, h.v0, gd_of h.t0, bI_eq e146, bV_xq b1]
      · have t0' : tg m' a0 = 29 := by rw [(k'.1 a0 (by omega)).1]; exact t0
        have v4' : vl m' a0 4 = st := by rw [k'.2 a0 4 (by omega) (by omega) (by omega) (by omega) (fun z => by omega)]; exact v4
        refine (ih (k + st) m' _ w' cap' (by omega) (by omega) (by omega) t0' v4' h' hw').of (fun Z hZ => ?_)
        show (gd (tg m' a0 = 29) <| rn d 341 182 [pR a0, pR R, pI x.1, pL a3, pU, pL z, pU, pL (w64 (k + (vl m' a0 4))), pU] [] m') = some Z
        rw [gd_of t0', v4', (w64_of (by omega) (by omega) : w64 (k + st) = k + st)]
        exact hZ
    · rw [if_neg (by omega)]
      refine EVs.nil h hw (q341_182 (by omega) h.tz _ ?_)
      rw [if_neg hk]
theorem c342 {v n lo hi : Int} (hz : TZ m) (hv : -9007199254740992 < v ∧ v < 9007199254740992) (hn : 0 ≤ n ∧ n < 60000) : cl d 342 [pL v, pL n, pL lo, pL hi] m = some (.inl (some (pL (slB v n lo hi))), m) := by
  refine q342 hz _ ?_
  unfold slB
  by_cases z : v < 0
  · rw [if_pos z, if_pos z, (w64_of (by omega) (by omega) : w64 (v + n) = v + n)]
  · rw [if_neg z, if_neg z]
/-- the selector of a slice -/
theorem c341 {dd : ND} (hd : 5 ≤ d) (hx : xs.length < 60000) (hN : NV xs x) (h4 : dd.1 = 4) (hb0 : tg m a0 = 29 ∧ dd.2.2.1 = [vl m a0 0, vl m a0 1, vl m a0 2, vl m a0 3, vl m a0 4]) (hv : ∀ u ∈ dd.2.2.1, -9007199254740992 < u ∧ u < 9007199254740992) (h : EC m R rw xs c rt stk w cap) (hw : w ≤ 10000) : EVs P m R rw xs c rt stk cap (cl d 341 [pR a0, pR R, pI x.1] m) (sel1 dd (x :: y) w) := by
  have hlt := hN.lt
  have e139 := c139 (d := d - 1) h.tz h.row hlt.1 hlt.2
  rw [gi_kind hN.1] at e139
  rw [sel1_4 h4]
  obtain ⟨t0, hus⟩ := hb0
  have g0 : gi dd.2.2.1 0 = vl m a0 0 := by rw [hus]; rfl
  have g1 : gi dd.2.2.1 1 = vl m a0 1 := by rw [hus]; rfl
  have g2 : gi dd.2.2.1 2 = vl m a0 2 := by rw [hus]; rfl
  have g3 : gi dd.2.2.1 3 = vl m a0 3 := by rw [hus]; rfl
  have g4 : gi dd.2.2.1 4 = vl m a0 4 := by rw [hus]; rfl
  have r1 := hv (vl m a0 1) (by rw [hus]; simp)
  have r3 := hv (vl m a0 3) (by rw [hus]; simp)
  have r4 := hv (vl m a0 4) (by rw [hus]; simp)
  by_cases h5 : x.2.2.1.1 = 5
  · rw [if_pos h5]
    obtain ⟨e, hg, hb, hl, -⟩ := enV_many hN.1 (by omega)
    have hcn : (cntF x.2.2.2.1 : Int) < 60000 := by
      have e145 := cnt_en (x.2.2.1.1 == 6) x.2.2.2.1
      have := hb.2.1; have := hb.1; omega
    have hcn0 : (0 : Int) ≤ cntF x.2.2.2.1 := Int.natCast_nonneg _
    have e145 := c145 (d := d - 1) (by omega) h.tz h.row hN.1 hN.2 (by omega) hx
    have e342 : ∀ (d' : Nat) (v lo hi : Int), (-9007199254740992 < v ∧ v < 9007199254740992) → cl d' 342 [pL v, pL (cntF x.2.2.2.1), pL lo, pL hi] m = some (.inl (some (pL (slB v (cntF x.2.2.2.1) lo hi))), m) := fun d' v lo hi hv' => c342 h.tz hv' ⟨hcn0, hcn⟩
    have hB : ∀ v lo hi : Int, lo ≤ slB v (cntF x.2.2.2.1) lo hi ∧ (lo ≤ hi → slB v (cntF x.2.2.2.1) lo hi ≤ hi) := fun v lo hi => by unfold slB; omega
    have es : slI dd.2.2.1 (cntF x.2.2.2.1) = if vl m a0 4 = 0 then [] else if 0 < vl m a0 4 then slU (cntF x.2.2.2.1 + 1) (if vl m a0 0 ≠ 0 then slB (vl m a0 1) (cntF x.2.2.2.1) 0 (cntF x.2.2.2.1) else 0) (vl m a0 4) (if vl m a0 2 ≠ 0 then slB (vl m a0 3) (cntF x.2.2.2.1) 0 (cntF x.2.2.2.1) else cntF x.2.2.2.1) else slU (cntF x.2.2.2.1 + 1) (if vl m a0 0 ≠ 0 then slB (vl m a0 1) (cntF x.2.2.2.1) (-1) (cntF x.2.2.2.1 - 1) else cntF x.2.2.2.1 - 1) (vl m a0 4) (if vl m a0 2 ≠ 0 then slB (vl m a0 3) (cntF x.2.2.2.1) (-1) (cntF x.2.2.2.1 - 1) else -1) := by
      unfold slI
      simp only [g0, g1, g2, g3, g4, Int.toNat_natCast]
    rw [es]
    by_cases z4 : vl m a0 4 = 0
    · rw [if_pos z4]
      refine EVs.nil h hw (q341 (by omega) h.tz _ ?_)
      rw [gd_of h.hR, nm_eq, h.v0, gd_of h.t0, bI_eq e139, if_pos (by omega), gd_of t0, if_pos z4]
    · rw [if_neg z4]
      by_cases p4 : 0 < vl m a0 4
      · rw [if_pos p4]
        have key : ∀ zz kk : Int, zz ≤ cntF x.2.2.2.1 → 0 ≤ kk → kk ≤ cntF x.2.2.2.1 → EVs P m R rw xs c rt stk cap (rn d 341 87 [pR a0, pR R, pI x.1, pL (cntF x.2.2.2.1), pU, pL zz, pU, pL kk, pU] [] m) (eL (evI x y) (slU (cntF x.2.2.2.1 + 1) kk (vl m a0 4) zz) w) := fun zz kk b1 b2 b3 => c341_87 (by omega) hx hN h5 ⟨p4, r4.2⟩ b1 hcn _ kk m stk w cap (by omega) b2 (by omega) t0 rfl h hw
        have hs := hB (vl m a0 1) 0 (cntF x.2.2.2.1)
        have he := hB (vl m a0 3) 0 (cntF x.2.2.2.1)
        refine (key _ _ ?_ ?_ ?_).of (fun Z hZ => q341 (by omega) h.tz _ ?_)
        · split <;> omega
        · split <;> omega
        · split <;> omega
        · have k62 : ∀ zz : Int, rn d 341 87 [pR a0, pR R, pI x.1, pL (cntF x.2.2.2.1), pU, pL zz, pU, pL (if vl m a0 0 ≠ 0 then slB (vl m a0 1) (cntF x.2.2.2.1) 0 (cntF x.2.2.2.1) else 0), pU] [] m = some Z → rn d 341 62 [pR a0, pR R, pI x.1, pL (cntF x.2.2.2.1), pU, pU, pU, pU, pU] [pL zz] m = some Z := by
            intro zz hq
            refine q341_62 (by omega) h.tz _ ?_
            rw [gd_of t0]
            by_cases z0 : vl m a0 0 = 0
            · rw [if_pos z0]; rw [if_neg (fun q => q z0)] at hq; exact hq
            · rw [if_neg z0, bL_eq (e342 _ _ _ _ r1)]; rw [if_pos z0] at hq; exact hq
          rw [gd_of h.hR, nm_eq, h.v0, gd_of h.t0, bI_eq e139, if_pos (by omega), gd_of t0, if_neg z4, nm_eq, h.v0, gd_of h.t0, bI_eq e145, if_pos p4]
          by_cases z2 : vl m a0 2 = 0
          · rw [if_pos z2]; rw [if_neg (fun q => q z2)] at hZ; exact k62 _ hZ
          · rw [if_neg z2, bL_eq (e342 _ _ _ _ r3)]; rw [if_pos z2] at hZ; exact k62 _ hZ
      · rw [if_neg p4]
        have key : ∀ zz kk : Int, -1 ≤ zz → kk < cntF x.2.2.2.1 → -1 ≤ kk → EVs P m R rw xs c rt stk cap (rn d 341 182 [pR a0, pR R, pI x.1, pL (cntF x.2.2.2.1), pU, pL zz, pU, pL kk, pU] [] m) (eL (evI x y) (slU (cntF x.2.2.2.1 + 1) kk (vl m a0 4) zz) w) := fun zz kk b1 b2 b3 => c341_182 (by omega) hx hN h5 ⟨by omega, r4.1⟩ b1 hcn _ kk m stk w cap (by omega) b2 (by omega) t0 rfl h hw
        have hs := hB (vl m a0 1) (-1) (cntF x.2.2.2.1 - 1)
        have he := hB (vl m a0 3) (-1) (cntF x.2.2.2.1 - 1)
        refine (key _ _ ?_ ?_ ?_).of (fun Z hZ => q341 (by omega) h.tz _ ?_)
        · split <;> omega
        · split <;> omega
        · split <;> omega
        · have k62 : ∀ zz : Int, rn d 341 182 [pR a0, pR R, pI x.1, pL (cntF x.2.2.2.1), pU, pL zz, pU, pL (if vl m a0 0 ≠ 0 then slB (vl m a0 1) (cntF x.2.2.2.1) (-1) (cntF x.2.2.2.1 - 1) else cntF x.2.2.2.1 - 1), pU] [] m = some Z → rn d 341 151 [pR a0, pR R, pI x.1, pL (cntF x.2.2.2.1), pU, pU, pU, pU, pU] [pL zz] m = some Z := by
            intro zz hq
            refine q341_151 (by omega) h.tz _ ?_
            rw [gd_of t0, (w64_of (by omega) (by omega) : w64 ((cntF x.2.2.2.1 : Int) - 1) = cntF x.2.2.2.1 - 1)]
            by_cases z0 : vl m a0 0 = 0
            · rw [if_pos z0]; rw [if_neg (fun q => q z0)] at hq; exact hq
            · rw [if_neg z0, bL_eq (e342 _ _ _ _ r1)]; rw [if_pos z0] at hq; exact hq
          rw [gd_of h.hR, nm_eq, h.v0, gd_of h.t0, bI_eq e139, if_pos (by omega), gd_of t0, if_neg z4, nm_eq, h.v0, gd_of h.t0, bI_eq e145, if_neg p4, (w64_of (by omega) (by omega) : w64 ((cntF x.2.2.2.1 : Int) - 1) = cntF x.2.2.2.1 - 1)]
          by_cases z2 : vl m a0 2 = 0
          · rw [if_pos z2]; rw [if_neg (fun q => q z2)] at hZ; exact k62 _ hZ
          · rw [if_neg z2, bL_eq (e342 _ _ _ _ r3)]; rw [if_pos z2] at hZ; exact k62 _ hZ
  · rw [if_neg h5]
    refine EVs.nil h hw (q341 (by omega) h.tz _ ?_)
    rw [gd_of h.hR, nm_eq, h.v0, gd_of h.t0, bI_eq e139, if_neg (by omega)]
end
