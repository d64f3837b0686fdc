/-! queries read by the twin: calls on rows -/
set_option maxRecDepth 100000
set_option maxHeartbeats 4000000
section
variable {d op : Nat} {m : Mem} {M tp e i S k C K : Int} {t : Int → Int} {us : List Int}
theorem QT.tz (h : QT m M tp e i t op S k us C K) : TZ m := h.1.1.1
theorem QT.tM (h : QT m M tp e i t op S k us C K) : tg m M = 11 := h.2.1.1
theorem QT.v12 (h : QT m M tp e i t op S k us C K) : vl m M 12 = i := h.2.1.2.2.2.1
theorem QT.v14 (h : QT m M tp e i t op S k us C K) : vl m M 14 = -1 := h.2.1.2.2.2.2.1
theorem QT.kK (h : QT m M tp e i t op S k us C K) : 0 ≤ k ∧ k ≤ K ∧ 64 ≤ K ∧ K ≤ 40000 := h.1.2.2.1.2.2.2.2.1
theorem QT.tw (h : QT m M tp e i t op S k us C K) : TW m S 0 us C := h.1.2.2.2.2.1
/-- a call that leaves rows, text and strings alone, but makes more rows -/
theorem QT.call {q : Nat} {as : List PV} {r : Rs} {m' : Mem} {k' K' : Int} (h : QT m M tp e i t op S k us C K) (e1 : cl d q as m = some (r, m')) (hA : QA m' M k' K') (h1 : trN (eM q) = true) (h2 : tiN (eM q) = true) (h3 : yxN (eM q) = true) (h4 : scN (eM q) = true) (h5 : Nat.testBit (eM q) (bix 11 31) = false) (h6 : Nat.testBit (eM q) (bix 11 30) = false) : QT m' M tp e i t op S k' us C K' ∧ TU S m m' ∧ uC m' S = uC m S := by
  have f := cl_FRM e1
  obtain ⟨⟨a1, a2, a3, a4, a5, a6⟩, a7, a8, a9⟩ := h
  have tu := TU.frc (t := S) a2 a1 e1 h1 h2
  have fw := a5.frt f a1.1 h1
  exact ⟨⟨⟨a1.fr f, tu.1, hA, by rw [vl_of f a1.1 a3.1 (by decide) h6]; exact a4, fw.1, a6⟩, a7.fr f a1.1 h3, a8.fr f a1.1 h4, by rw [vl_of f a1.1 a3.1 (by decide) h5]; exact a9⟩, tu, fw.2.2⟩
/-- a new row -/
theorem c245 {kd : Int} (h : QT m M tp e i t op S k us C K) (hk : k ≤ 20000) : ∃ m' K', cl d 245 [pR M, pI kd] m = some (.inl (some (pI k)), m') ∧ QT m' M tp e i t op S (k + 1) us C K' ∧ QP k m M S k us K m' (k + 1) us K' ∧ rv m' M k 0 = kd ∧ (∀ f, 1 ≤ f → f < 8 → rv m' M k f = -1) := by
  have hz := h.tz
  have hA := h.1.2.2.1
  obtain ⟨a1, a2, ⟨a3, a4⟩, ⟨a5, a6⟩, a7, a8, a9⟩ := hA
  by_cases hkK : k < K
  · obtain ⟨m', e1, b1, b2, b3, b4, b5, b6, b7, b8, b9⟩ := c245_103 (d := d) (kd := kd) (z3 := pU) (z4 := pU) (by rfl) (by rfl) hz h.1.2.2.1 hkK
    have e0 : cl d 245 [pR M, pI kd] m = some (.inl (some (pI k)), m') := by
      refine q245 hz _ ?_
      rw [gd_of a1, nm_eq, gd_of a3, a4, a2, (w32_of (by omega) (by omega) : w32 (8 * k) = 8 * k), if_neg (by omega)]
      exact e1
    obtain ⟨q1, q2, q3⟩ := h.call e0 b1 (by rfl) (by rfl) (by rfl) (by rfl) (by rfl) (by rfl)
    refine ⟨m', K, e0, q1, ⟨q2, fun x hx => ⟨fun f f0 f1 => by rw [b8 x f f0 f1, if_neg (by omega)], fun f f0 f1 => by rw [b9]⟩, ⟨[], by rw [List.append_nil]⟩, by omega, ⟨by omega, by omega, by omega⟩, by omega, by omega⟩, by rw [b8 k 0 (by omega) (by omega), if_pos rfl, if_pos rfl], fun f f0 f1 => by rw [b8 k f (by omega) f1, if_pos rfl, if_neg (by omega)]⟩
  · have hkK' : K = k := by omega
    subst hkK'
    obtain ⟨m1, st, z1, A1, n1, s1, r1, l1⟩ := c245_g (d := d) (kd := kd) hz h.1.2.2.1 hk
    obtain ⟨m', e1, b1, b2, b3, b4, b5, b6, b7, b8, b9⟩ := c245_103 (d := d) (kd := kd) (z3 := pR (nx m + 1)) (z4 := pI (3 * K)) (by rfl) (by rfl) z1 A1 (by omega)
    have e0 := st _ e1
    obtain ⟨q1, q2, q3⟩ := h.call e0 b1 (by rfl) (by rfl) (by rfl) (by rfl) (by rfl) (by rfl)
    refine ⟨m', 2 * K, e0, q1, ⟨q2, fun x hx => ⟨fun f f0 f1 => by rw [b8 x f f0 f1, if_neg (by omega), r1 x f hx.1 hx.2 f0 f1], fun f f0 f1 => by rw [b9, l1 x f hx.1 hx.2 f0 f1]⟩, ⟨[], by rw [List.append_nil]⟩, by omega, ⟨by omega, by omega, by omega⟩, by omega, by omega⟩, by rw [b8 K 0 (by omega) (by omega), if_pos rfl, if_pos rfl], fun f f0 f1 => by rw [b8 K f (by omega) f1, if_pos rfl, if_neg (by omega)]⟩
/-- a field of a row is set -/
theorem QT.set {r f v : Int} (h : QT m M tp e i t op S k us C K) (hr : 0 ≤ r ∧ r < k) (hf : 0 ≤ f ∧ f < 8) : QT (mst m (vl m M 27) (8 * r + f) v) M tp e i t op S k us C K ∧ (∀ b, b ≤ r → QP b m M S k us K (mst m (vl m M 27) (8 * r + f) v) k us K) ∧ (∀ x g, 0 ≤ g → g < 8 → rv (mst m (vl m M 27) (8 * r + f) v) M x g = if x = r ∧ g = f then v else rv m M x g) ∧ ev (mst m (vl m M 27) (8 * r + f) v) M = ev m M := by
  obtain ⟨⟨b1, b2, b3, b4, b5, b6⟩, b7, b8, b9⟩ := h
  obtain ⟨a1, a2, ⟨a3, a4⟩, ⟨a5, a6⟩, a7, a8, a9⟩ := b3
  have hx := b7.2.2.2.2.2.1
  have nM : vl m M 27 ≠ M := by intro z; rw [z] at a3; omega
  have ntp : vl m M 27 ≠ tp := by intro z; rw [z] at a3; omega
  have n28 : vl m M 28 ≠ vl m M 27 := by intro z; rw [z] at a5; omega
  have ntr : nTr (tg m (vl m M 27)) := by unfold nTr; omega
  have tu : TU S m (mst m (vl m M 27) (8 * r + f) v) := TU.mA ntr b2
  have hu : uC (mst m (vl m M 27) (8 * r + f) v) S = uC m S := uC_mA b5 ntr
  have o : ∀ g, vl (mst m (vl m M 27) (8 * r + f) v) M g = vl m M g := fun g => by rw [vl_mst, if_neg (fun z => nM z.1.symm)]
  have er : ∀ x g, 0 ≤ g → g < 8 → rv (mst m (vl m M 27) (8 * r + f) v) M x g = if x = r ∧ g = f then v else rv m M x g := fun x g g0 g1 => by
    unfold rv
    rw [o, vl_mst]
    by_cases q : x = r ∧ g = f
    · rw [if_pos q, if_pos ⟨rfl, by omega⟩]
    · rw [if_neg q, if_neg (by omega)]
  have ee : ev (mst m (vl m M 27) (8 * r + f) v) M = ev m M := by
    funext x g
    unfold ev
    rw [o, vl_mst, if_neg (fun z => n28 z.1)]
  refine ⟨⟨⟨b1, b2.mT (by omega), ⟨a1, by rw [o]; exact a2, ⟨by rw [o]; exact a3, by rw [o]; exact a4⟩, ⟨by rw [o]; exact a5, by rw [o]; exact a6⟩, a7, by rw [o, o]; exact a8, by rw [o]; exact a9⟩, by rw [o]; exact b4, b5.mA ntr, b6⟩, b7.st ⟨nM, ntp⟩, b8.mT (by omega), by rw [o]; exact b9⟩, fun b hb => ⟨tu, fun x hx => ⟨fun g g0 g1 => by rw [er x g g0 g1, if_neg (by omega)], fun g _ _ => by rw [ee]⟩, ⟨[], by rw [List.append_nil]⟩, Int.le_refl _, ⟨Int.le_refl _, by rw [hu]; show nx m - nx m ≤ _; omega, by rw [hu]; show sl m - sl m ≤ _; omega⟩, by rw [hu]; omega, by omega⟩, er, ee⟩
theorem c246 {r f v : Int} (h : QT m M tp e i t op S k us C K) (hr : 0 ≤ r ∧ r < k) (hf : 0 ≤ f ∧ f < 8) : cl d 246 [pR M, pI r, pI f, pI v] m = some (.inl none, mst m (vl m M 27) (8 * r + f) v) := by
  have hk := h.kK
  obtain ⟨a1, a2, ⟨a3, a4⟩, ⟨a5, a6⟩, a7, a8, a9⟩ := h.1.2.2.1
  refine q246 h.tz _ ?_
  rw [gd_of a1, nm_eq, nm_eq, (w32_of (by omega) (by omega) : w32 (8 * r) = 8 * r), (w32_of (by omega) (by omega) : w32 (8 * r + f) = 8 * r + f), gd_of a3, gd_of (by rw [a4]; omega)]
theorem c251 {r f : Int} (h : QT m M tp e i t op S k us C K) (hr : 0 ≤ r ∧ r < k) (hf : 0 ≤ f ∧ f < 8) : cl d 251 [pR M, pI r, pI f] m = some (.inl (some (pI (rv m M r f))), m) := by
  have hk := h.kK
  obtain ⟨a1, a2, ⟨a3, a4⟩, ⟨a5, a6⟩, a7, a8, a9⟩ := h.1.2.2.1
  refine q251 h.tz _ ?_
  rw [gd_of a1, nm_eq, nm_eq, (w32_of (by omega) (by omega) : w32 (8 * r) = 8 * r), (w32_of (by omega) (by omega) : w32 (8 * r + f) = 8 * r + f), gd_of a3, gd_of (by rw [a4]; omega)]
  rfl
theorem c261 {x : Int} (hz : TZ m) : cl d 261 [pI x] m = some (.inl (some (pI (if ltr x then 1 else 0))), m) := by
  refine q261 hz _ ?_
  by_cases h1 : x < 97
  · rw [if_pos h1]
    refine q261_12 hz _ ?_
    by_cases h2 : x < 65
    · rw [if_pos h2]
      by_cases h4 : x = 95
      · omega
      · rw [if_neg h4, if_neg (by omega)]
    · rw [if_neg h2]
      by_cases h3 : 90 < x
      · rw [if_pos h3]
        by_cases h4 : x = 95
        · rw [if_pos h4, if_pos (by omega)]
        · rw [if_neg h4, if_neg (by omega)]
      · rw [if_neg h3, if_pos (by omega)]
  · rw [if_neg h1]
    by_cases h2 : 122 < x
    · rw [if_pos h2, if_neg (show ¬ ltr x by omega)]
      refine q261_12 hz _ ?_
      rw [if_neg (by omega), if_pos (by omega), if_neg (by omega)]
    · rw [if_neg h2, if_pos (by omega)]
theorem c256 (hd : 1 ≤ d) (h : QT m M tp e i t op S k us C K) : cl d 256 [pR M] m = some (.inl (some (pI (if cmp (pk t e i) then 1 else 0))), m) := by
  have e199 := c199 (d := d - 1) h.tz h.2.1
  refine q256 (by omega) h.tz _ ?_
  rw [gd_of h.tM, bI_eq e199]
  by_cases h1 : pk t e i = 61
  · rw [if_pos h1, if_pos (by omega)]
  rw [if_neg h1, bI_eq e199]
  by_cases h2 : pk t e i = 33
  · rw [if_pos h2, if_pos (by omega)]
  rw [if_neg h2, bI_eq e199]
  by_cases h3 : pk t e i = 60
  · rw [if_pos h3, if_pos (by omega)]
  rw [if_neg h3, bI_eq e199]
  by_cases h4 : pk t e i = 62
  · rw [if_pos h4, if_pos (by omega)]
  · rw [if_neg h4, if_neg (by omega)]
/-- another depth of brackets -/
theorem QT.opn {op' : Nat} {v : Int} (h : QT m M tp e i t op S k us C K) (hv : v = op') : QT (mst m M 31 v) M tp e i t op' S k us C K := by
  obtain ⟨a1, a2, a3, a4⟩ := h
  obtain ⟨b1, b2, b3, b4, b8, b5, b6, b7⟩ := a2
  have hne : tp ≠ M := by intro q; rw [q] at b5; omega
  exact ⟨(a1.mM (by omega)).1, ⟨b1, by rw [vl_mst, if_neg (by omega)]; exact b2, by rw [vl_mst, if_neg (by omega)]; exact b3, by rw [vl_mst, if_neg (by omega)]; exact b4, by rw [vl_mst, if_neg (by omega)]; exact b8, b5, b6, fun j j0 j1 => by rw [vl_mst, if_neg (by omega)]; exact b7 j j0 j1⟩, a3.mT (by omega), by rw [vl_mst, if_pos ⟨rfl, rfl⟩]; exact hv⟩
/-- broken at p -/
def QE (m0 : Mem) (M S k0 : Int) (us0 : List Int) (C K0 : Int) (m' : Mem) (p : Int) : Prop := vl m' M 14 = p ∧ ∃ k' us' K', Qr m' M S k' us' C K' ∧ QP 0 m0 M S k0 us0 K0 m' k' us' K' ∧ k' ≤ 19500 ∧ (us'.length : Int) ≤ 39950
theorem QT.bad {p j : Int} (h : QT m M tp e i t op S k us C K) (hk : k ≤ 19500) (hu : (us.length : Int) ≤ 39950) : QE m M S k us C K (mst (mst m M 12 j) M 14 p) p := by
  obtain ⟨a1, a2, a3, a4⟩ := h.1.mM (f := 12) (v := j) (by omega)
  obtain ⟨b1, b2, b3, b4⟩ := a1.mM (f := 14) (v := p) (by omega)
  exact ⟨by rw [vl_mst, if_pos ⟨rfl, rfl⟩], k, us, K, b1, (a2 0).trans (b2 0) (Int.le_refl _) h.tw a1.2.2.2.2.1, hk, hu⟩
theorem QT.bad0 {p : Int} (h : QT m M tp e i t op S k us C K) (hk : k ≤ 19500) (hu : (us.length : Int) ≤ 39950) : QE m M S k us C K (mst m M 14 p) p := by
  have := QT.bad (p := p) (j := i) h hk hu
  rwa [mst_self h.v12] at this
theorem QE.pre {m1 m' : Mem} {b k1 K1 p : Int} {us1 : List Int} (h : QE m1 M S k1 us1 C K1 m' p) (g : QP b m M S k us K m1 k1 us1 K1) (hb : 0 ≤ b) (hw : TW m S 0 us C) (hw1 : TW m1 S 0 us1 C) : QE m M S k us C K m' p := by
  obtain ⟨h1, k', us', K', h2, h3, h4, h5⟩ := h
  exact ⟨h1, k', us', K', h2, (g.mono hb).trans h3 (Int.le_refl _) hw hw1, h4, h5⟩
theorem QE.tz {m' : Mem} {p : Int} (h : QE m M S k us C K m' p) : TZ m' := by
  obtain ⟨h1, k', us', K', h2, h3, h4, h5⟩ := h
  exact h2.1.1
theorem c249_1 {ch : Int} (hd : 2 ≤ d) (h : QT m M tp e i t op S k us C K) (hp : pk t e i = ch) (ho : op < 16) (hie : i < e) : cl d 249 [pR M, pI ch] m = some (.inl (some (pI 1)), mst (mst m M 31 (op + 1)) M 12 (i + 1)) := by
  have hr := h.rng
  have e199 := c199 (d := d - 1) h.tz h.2.1
  refine q249 (by omega) h.tz _ ?_
  rw [gd_of h.tM, bI_eq e199, if_pos hp, nm_eq, h.2.2.2, if_neg (by omega), h.v12, (w32_of (by omega) (by omega) : w32 ((op : Int) + 1) = (op : Int) + 1), (w32_of (by omega) (by omega) : w32 (i + 1) = i + 1)]
theorem c249_0 {ch : Int} (hd : 2 ≤ d) (h : QT m M tp e i t op S k us C K) (hp : ¬ (pk t e i = ch ∧ op < 16)) (ho : op ≤ 16) : cl d 249 [pR M, pI ch] m = some (.inl (some (pI 0)), mst m M 14 i) := by
  have e199 := c199 (d := d - 1) h.tz h.2.1
  have e202 := c202 (d := d - 1) (p := i) h.tz h.tM h.v14
  refine q249 (by omega) h.tz _ ?_
  rw [gd_of h.tM, bI_eq e199]
  by_cases q : pk t e i = ch
  · have ho' : ¬ op < 16 := fun z => hp ⟨q, z⟩
    rw [if_pos q, nm_eq, h.2.2.2, if_pos (by omega), h.v12, bI_eq e202, gd_of (Or.inl rfl)]
  · rw [if_neg q, h.v12, bI_eq e202, gd_of (Or.inl rfl)]
theorem c255_1 {ch : Int} (hd : 2 ≤ d) (h : QT m M tp e i t (op + 1) S k us C K) (hp : pk t e i = ch) (h0 : 0 ≤ ch) (ho : op ≤ 16) : cl d 255 [pR M, pI ch] m = some (.inl (some (pI 1)), mst (mst m M 12 (i + 1)) M 31 op) := by
  have hr := h.rng
  have e201 := c201_1 (d := d - 1) (by omega) h.tz h.2.1 hp h0
  have v31 : vl (mst m M 12 (i + 1)) M 31 = (op : Int) + 1 := by rw [vl_mst, if_neg (by omega), h.2.2.2]; push_cast; rfl
  refine q255 (by omega) h.tz _ ?_
  rw [gd_of h.tM, bI_eq e201, if_neg (by decide), v31, (w32_of (by omega) (by omega) : w32 ((op : Int) + 1 - 1) = (op : Int) + 1 - 1), show (op : Int) + 1 - 1 = op by omega]
theorem c255_0 {ch : Int} (hd : 2 ≤ d) (h : QT m M tp e i t op S k us C K) (hp : pk t e i ≠ ch) : cl d 255 [pR M, pI ch] m = some (.inl (some (pI 0)), mst m M 14 i) := by
  have e201 := c201_0 (d := d - 1) (by omega) h.tz h.2.1 hp
  refine q255 (by omega) h.tz _ ?_
  rw [gd_of h.tM, bI_eq e201, if_pos rfl]
end
