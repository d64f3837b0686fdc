/-! the patcher as a whole: what stays, what changes -/
set_option maxRecDepth 100000
set_option maxHeartbeats 4000000
def wWds : List Int := nmB wOp ++ (nmB wPath ++ (nmB wVal ++ nmB wFrom))
/-- the rows that a patcher writes -/
def pRw (m : Mem) (P r : Int) : Prop := r = vl m P 5 ∨ r = vl m P 6 ∨ r = vl m P 7 ∨ r = vl m P 8 ∨ r = vl m P 9
/-- rows that differ: kept as a name, for many unlike things are slow to reason with -/
def D8 (rd ro rh rm rt : Int) : Prop := rd ≠ ro ∧ rd ≠ rh ∧ rd ≠ rm ∧ rd ≠ rt ∧ ro ≠ rh ∧ ro ≠ rm ∧ ro ≠ rt ∧ rh ≠ rm ∧ rh ≠ rt ∧ rm ≠ rt
def D9 (rw rd ro rh rm rt : Int) : Prop := rw ≠ rd ∧ rw ≠ ro ∧ rw ≠ rh ∧ rw ≠ rm ∧ rw ≠ rt
theorem D8.e1 {rd ro rh rm rt : Int} (h : D8 rd ro rh rm rt) : rd ≠ ro := h.1
theorem D8.e2 {rd ro rh rm rt : Int} (h : D8 rd ro rh rm rt) : rd ≠ rh := h.2.1
theorem D8.e3 {rd ro rh rm rt : Int} (h : D8 rd ro rh rm rt) : rd ≠ rm := h.2.2.1
theorem D8.e4 {rd ro rh rm rt : Int} (h : D8 rd ro rh rm rt) : rd ≠ rt := h.2.2.2.1
theorem D8.e5 {rd ro rh rm rt : Int} (h : D8 rd ro rh rm rt) : ro ≠ rh := h.2.2.2.2.1
theorem D8.e6 {rd ro rh rm rt : Int} (h : D8 rd ro rh rm rt) : ro ≠ rm := h.2.2.2.2.2.1
theorem D8.e7 {rd ro rh rm rt : Int} (h : D8 rd ro rh rm rt) : ro ≠ rt := h.2.2.2.2.2.2.1
theorem D8.e8 {rd ro rh rm rt : Int} (h : D8 rd ro rh rm rt) : rh ≠ rm := h.2.2.2.2.2.2.2.1
theorem D8.e9 {rd ro rh rm rt : Int} (h : D8 rd ro rh rm rt) : rh ≠ rt := h.2.2.2.2.2.2.2.2.1
theorem D8.e10 {rd ro rh rm rt : Int} (h : D8 rd ro rh rm rt) : rm ≠ rt := h.2.2.2.2.2.2.2.2.2
theorem D9.d1 {rw rd ro rh rm rt : Int} (h : D9 rw rd ro rh rm rt) : rw ≠ rd := h.1
theorem D9.d2 {rw rd ro rh rm rt : Int} (h : D9 rw rd ro rh rm rt) : rw ≠ ro := h.2.1
theorem D9.d3 {rw rd ro rh rm rt : Int} (h : D9 rw rd ro rh rm rt) : rw ≠ rh := h.2.2.1
theorem D9.d4 {rw rd ro rh rm rt : Int} (h : D9 rw rd ro rh rm rt) : rw ≠ rm := h.2.2.2.1
theorem D9.d5 {rw rd ro rh rm rt : Int} (h : D9 rw rd ro rh rm rt) : rw ≠ rt := h.2.2.2.2
theorem D8.sw {rd ro rh rm rt : Int} (h : D8 rd ro rh rm rt) : D8 ro rd rh rm rt := ⟨h.e1.symm, h.e5, h.e6, h.e7, h.e2, h.e3, h.e4, h.e8, h.e9, h.e10⟩
theorem D9.sw {rw rd ro rh rm rt : Int} (h : D9 rw rd ro rh rm rt) : D9 rw ro rd rh rm rt := ⟨h.d2, h.d1, h.d3, h.d4, h.d5⟩
theorem pRw_5 {m : Mem} {P x : Int} (h : vl m P 5 = x) : pRw m P x := Or.inl h.symm
theorem pRw_6 {m : Mem} {P x : Int} (h : vl m P 6 = x) : pRw m P x := Or.inr (Or.inl h.symm)
theorem pRw_7 {m : Mem} {P x : Int} (h : vl m P 7 = x) : pRw m P x := Or.inr (Or.inr (Or.inl h.symm))
theorem pRw_8 {m : Mem} {P x : Int} (h : vl m P 8 = x) : pRw m P x := Or.inr (Or.inr (Or.inr (Or.inl h.symm)))
theorem pRw_9 {m : Mem} {P x : Int} (h : vl m P 9 = x) : pRw m P x := Or.inr (Or.inr (Or.inr (Or.inr h.symm)))
/-- a patcher at P: the document's bytes L; what is held, the tokens, if they are known; all room k -/
def PB (m : Mem) (P : Int) (L : List Int) (Ho : Option (List Int)) (To : Option (List (List Int))) (k : Int) : Prop :=
  ∃ rd ro rh rm rt sa aa rw cd co ch cm ct cw : Int, ∃ os hs ms ts : List Int,
    OK m ∧ RI m ∧ tg m P = 7 ∧
    (vl m P 5 = rd ∧ vl m P 6 = ro ∧ vl m P 7 = rh ∧ vl m P 8 = rm ∧ vl m P 9 = rt ∧ vl m P 10 = sa ∧ vl m P 12 = aa ∧ vl m P 0 = rw) ∧
    (vl m P 1 = 0 ∧ vl m P 2 = 4 ∧ vl m P 3 = 10 ∧ vl m P 4 = 17) ∧
    (tg m sa = 112101 ∧ ln m sa = 16384 ∧ tg m aa = 112101 ∧ ln m aa = 33 ∧ sa ≠ aa) ∧
    (RW m rd L cd ∧ RW m ro os co ∧ RW m rh hs ch ∧ RW m rm ms cm ∧ RW m rt ts ct ∧ RW m rw wWds cw) ∧
    D8 rd ro rh rm rt ∧
    D9 rw rd ro rh rm rt ∧
    (k = cd + co + ch + cm + ct ∧ cd ≤ 12000 ∧ co ≤ 12000 ∧ ch ≤ 12000 ∧ cm ≤ 12000 ∧ ct ≤ 12000) ∧
    (∀ H, Ho = some H → hs = H) ∧ (∀ tks, To = some tks → PIV m P rt sa (stL 0 tks) ∧ ts = tkB tks)
/-- from m to m': rows that aren't the patcher's are as they were; x throws -/
def PX (m : Mem) (P k : Int) (m' : Mem) (k' x : Int) : Prop := (∀ r, ¬ pRw m P r → ∀ ys c, RW m r ys c → RW m' r ys c) ∧ (∀ r, pRw m' P r ↔ pRw m P r) ∧ k ≤ k' ∧ nx m' - nx m ≤ (k' - k) / 16 + x ∧ sl m' - sl m ≤ 2 * (k' - k) + 6 * x
theorem PX.trans {m m1 m2 : Mem} {P k k1 k2 x y : Int} (h : PX m P k m1 k1 x) (h' : PX m1 P k1 m2 k2 y) : PX m P k m2 k2 (x + y) := by
  obtain ⟨a1, a2, a3, a4, a5⟩ := h
  obtain ⟨b1, b2, b3, b4, b5⟩ := h'
  exact ⟨fun r hr ys c hw => b1 r (fun q => hr ((a2 r).mp q)) ys c (a1 r hr ys c hw), fun r => (b2 r).trans (a2 r), by omega, by omega, by omega⟩
theorem PX.refl {m : Mem} {P k : Int} : PX m P k m k 0 := ⟨fun _ _ _ _ h => h, fun _ => Iff.rfl, by omega, by omega, by omega⟩
theorem PX.tr0 {m m1 m2 : Mem} {P k k1 k2 y : Int} (h : PX m P k m1 k1 0) (h' : PX m1 P k1 m2 k2 y) : PX m P k m2 k2 y := by
  have := h.trans h'; rwa [Int.zero_add] at this
theorem PB.forget {m : Mem} {P k : Int} {L : List Int} {Ho : Option (List Int)} {To : Option (List (List Int))} (h : PB m P L Ho To k) : PB m P L none none k := by
  obtain ⟨rd, ro, rh, rm, rt, sa, aa, rw, cd, co, ch, cm, ct, cw, os, hs, ms, ts, h1, h2, h3, h4, h5, h6, h7, h8, h9, h10, -, -⟩ := h
  exact ⟨rd, ro, rh, rm, rt, sa, aa, rw, cd, co, ch, cm, ct, cw, os, hs, ms, ts, h1, h2, h3, h4, h5, h6, h7, h8, h9, h10, fun H h => (by cases h), fun H h => (by cases h)⟩
theorem PB.forT {m : Mem} {P k : Int} {L : List Int} {Ho : Option (List Int)} {To : Option (List (List Int))} (h : PB m P L Ho To k) : PB m P L Ho none k := by
  obtain ⟨rd, ro, rh, rm, rt, sa, aa, rw, cd, co, ch, cm, ct, cw, os, hs, ms, ts, h1, h2, h3, h4, h5, h6, h7, h8, h9, h10, h11, -⟩ := h
  exact ⟨rd, ro, rh, rm, rt, sa, aa, rw, cd, co, ch, cm, ct, cw, os, hs, ms, ts, h1, h2, h3, h4, h5, h6, h7, h8, h9, h10, h11, fun H h => (by cases h)⟩
theorem PB.ok {m : Mem} {P k : Int} {L : List Int} {Ho : Option (List Int)} {To : Option (List (List Int))} (h : PB m P L Ho To k) : OK m ∧ RI m ∧ tg m P = 7 ∧ ∃ cd, RW m (vl m P 5) L cd ∧ cd ≤ 12000 := by
  obtain ⟨rd, ro, rh, rm, rt, sa, aa, rw, cd, co, ch, cm, ct, cw, os, hs, ms, ts, h1, h2, h3, ⟨h4, -⟩, h5, h6, ⟨h7, -⟩, h8, h9, h10, -, -⟩ := h
  exact ⟨h1, h2, h3, cd, by rw [h4]; exact h7, h10.2.1⟩
section
variable {d : Nat} {m : Mem} {P k r c a : Int} {L xs : List Int} {Ho : Option (List Int)} {To : Option (List (List Int))}
/-- a throw -/
theorem PB.thrT {t : Int} (ht : 100 < t) (h : PB m P L Ho To k) : PB (mal m t 6) P L none none k ∧ PX m P k (mal m t 6) k 1 := by
  obtain ⟨rd, ro, rh, rm, rt, sa, aa, rw, cd, co, ch, cm, ct, cw, os, hs, ms, ts, h1, h2, h3, h4, h5, h6, h7, h8, h9, h10, -, -⟩ := h
  have hz := h1.1
  have lt : ∀ b, tg m b ≠ 0 → b ≠ nx m := fun b hb q => hb (hz b (by omega))
  have tgm : ∀ b, tg m b ≠ 0 → tg (mal m t 6) b = tg m b ∧ ln (mal m t 6) b = ln m b ∧ ∀ f, vl (mal m t 6) b f = vl m b f := fun b hb => by
    have := lt b hb
    exact ⟨by show (if b = nx m then t else tg m b) = _; rw [if_neg this], by show (if b = nx m then 6 else ln m b) = _; rw [if_neg this], fun f => by show (if b = nx m then 0 else vl m b f) = _; rw [if_neg this]⟩
  have hp := tgm P (by omega)
  have hsa := tgm sa (by omega)
  have haa := tgm aa (by omega)
  refine ⟨⟨rd, ro, rh, rm, rt, sa, aa, rw, cd, co, ch, cm, ct, cw, os, hs, ms, ts, ?_, RI_mal (by omega) h2, by rw [hp.1]; exact h3, ?_, ?_, ?_, ⟨h7.1.mal hz, h7.2.1.mal hz, h7.2.2.1.mal hz, h7.2.2.2.1.mal hz, h7.2.2.2.2.1.mal hz, h7.2.2.2.2.2.mal hz⟩, h8, h9, h10, fun H h => (by cases h), fun H h => (by cases h)⟩, fun r _ ys c hw => hw.mal hz, fun r => ?_, Int.le_refl _, ?_, ?_⟩
  · refine ⟨fun b hb => ?_, ?_, ?_⟩
    · have hb : nx m + 1 ≤ b := hb
      show (if b = nx m then t else tg m b) = 0
      rw [if_neg (by omega)]; exact hz b (by omega)
    · have := h1.2.2
      show (if 0 = nx m then t else tg m 0) = 0
      rw [if_neg (by omega)]; exact h1.2.1
    · have := h1.2.2
      show 92 ≤ nx m + 1
      omega
  · rw [hp.2.2, hp.2.2, hp.2.2, hp.2.2, hp.2.2, hp.2.2, hp.2.2, hp.2.2]; exact h4
  · rw [hp.2.2, hp.2.2, hp.2.2, hp.2.2]; exact h5
  · rw [hsa.1, hsa.2.1, haa.1, haa.2.1]; exact h6
  · unfold pRw; rw [hp.2.2, hp.2.2, hp.2.2, hp.2.2, hp.2.2]
  · show nx m + 1 - nx m ≤ _; omega
  · show sl m + 6 - sl m ≤ _; omega
theorem PB.thr (h : PB m P L Ho To k) : PB (mal m 206 6) P L none none k ∧ PX m P k (mal m 206 6) k 1 := PB.thrT (by decide) h
end
