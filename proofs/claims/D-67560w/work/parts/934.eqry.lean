/-! evaluation by the component: a query's segments over nodes -/
set_option maxRecDepth 100000
set_option maxHeartbeats 4000000
/-- a query's segment s -/
def LG (m : Mem) (q s t : Int) : Prop := tg m q = 15 ∧ (tg m (vl m q 2) = 303113 ∨ tg m (vl m q 2) = 304113) ∧ (0 ≤ s ∧ s < vl m q 3 ∧ vl m q 3 ≤ ln m (vl m q 2) ∧ vl m q 3 ≤ 2000000) ∧ vl m (vl m q 2) s = t ∧ tg m t = 16
theorem LG.keep {P : Int → Prop} {m m1 : Mem} {q s t : Int} (h : LG m q s t) (k : EK P m m1) : LG m1 q s t ∧ vl m1 t 0 = vl m t 0 := by
  obtain ⟨a1, a2, a3, a4, a5⟩ := h
  have g : ∀ a j, tg m a = 15 ∨ tg m a = 16 ∨ tg m a = 303113 ∨ tg m a = 304113 → vl m1 a j = vl m a j := fun a j ha => k.2 a j (by omega) (by omega) (by omega) (by omega) (fun z => by omega)
  refine ⟨⟨by rw [(k.1 q (by omega)).1]; exact a1, by rw [g q 2 (Or.inl a1), (k.1 _ (by omega)).1]; exact a2, by rw [g q 2 (Or.inl a1), g q 3 (Or.inl a1), (k.1 _ (by omega)).2]; exact a3, ?_, by rw [(k.1 t (by omega)).1]; exact a5⟩, g t 0 (by omega)⟩
  rw [g q 2 (Or.inl a1), g _ s (by omega)]; exact a4
section
variable {P : Int → Prop} {m0 : Mem} {R rw c rt q s t at' fr : Int} {xs : List Int} {g : Nd → EV (List Nd)} {d : Nat}
theorem c105_45 (hd : 2 ≤ d) (hL : LG m0 q s t) (H : ∀ (m1 : Mem) (stk1 : List Int) (w1 cap1 : Int) (z : Nk) (y : Nd), NV xs z → dpF z.2.2.2.1 ≤ 40 → w1 ≤ 10000 → EC m1 R rw xs c rt stk1 w1 cap1 → EK P m0 m1 → EVs P m1 R rw xs c rt stk1 cap1 (if vl m0 t 0 = 0 then cl (d - 1) 109 [pR R, pR t, pI z.1] m1 else cl (d - 1) 108 [pR R, pR t, pI z.1] m1) (g (z :: y) w1)) : ∀ (zs : List Nd) (k to : Int) (m : Mem) (stk : List Int) (w cap : Int), (∀ n ∈ zs, ∃ z y, n = z :: y ∧ NV xs z ∧ dpF z.2.2.2.1 ≤ 40) → At stk k (zs.map ofN) → k + zs.length = to → EC m R rw xs c rt stk w cap → EK P m0 m → w ≤ 10000 →
    (∀ ys w', eL g zs w = some (ys, w') → w' ≤ 10000 ∧ ∃ m' cap', EC m' R rw xs c rt (stk ++ ys.map ofN) w' cap' ∧ EK P m m' ∧ GR m m' cap cap' ∧ ∀ Z, rn d 105 27 [pR R, pR q, pI at', pI to, pI (s + 1), pI to, pI to] [] m' = some Z → rn d 105 45 [pR R, pR q, pI at', pI fr, pI s, pI to, pI k] [] m = some Z) ∧
    (eL g zs w = none → ∃ m', rn d 105 45 [pR R, pR q, pI at', pI fr, pI s, pI to, pI k] [] m = some (.inr 201, m') ∧ EZ P m R rw xs c rt cap m') := by
  intro zs
  induction zs with
  | nil =>
    intro k to m stk w cap hv hA hk h hek hw
    refine ⟨fun ys w' z => ?_, fun z => (by cases z)⟩
    cases z
    have hs := hL.2.2.1
    refine ⟨hw, m, cap, by rw [List.map_nil, List.append_nil]; exact h, EK.refl, GR.refl, fun Z hZ => q105_45 (by omega) h.tz _ ?_⟩
    simp at hk
    rw [if_neg (by omega), (w32_of (by omega) (by omega) : w32 (s + 1) = s + 1), hk]
    exact hZ
  | cons n zs ih =>
    intro k to m stk w cap hv hA hk h hek hw
    obtain ⟨z, y, rfl, hN, hdp⟩ := hv n (List.mem_cons_self)
    obtain ⟨hLm, v0⟩ := hL.keep hek
    obtain ⟨l1, l2, l3, l4, l5⟩ := hLm
    rw [List.map_cons] at hA
    have hA2 := hA
    obtain ⟨ge, hA'⟩ := hA.cons
    have hA0 := hA.1
    have hA1 := hA.2.1
    rw [List.length_cons] at hk
    simp only [List.length_cons, List.length_map] at hA1
    have hcap := h.2.2.2.2.2.2.2.1
    have har := h.2.2.2.2.2.1
    have hel := h.2.2.2.2.2.2.2.2.2 k hA0 (by omega)
    rw [ge] at hel
    have hel' : vl m (vl m R 2) k = z.1 := hel
    have key := H m stk w cap z y hN hdp hw h hek
    have st : ∀ r m', (if vl m0 t 0 = 0 then cl (d - 1) 109 [pR R, pR t, pI z.1] m else cl (d - 1) 108 [pR R, pR t, pI z.1] m) = some (r, m') → (r = .inl none → ∀ Z, rn d 105 45 [pR R, pR q, pI at', pI fr, pI s, pI to, pI (k + 1)] [] m' = some Z → rn d 105 45 [pR R, pR q, pI at', pI fr, pI s, pI to, pI k] [] m = some Z) ∧ (r = .inr 201 → rn d 105 45 [pR R, pR q, pI at', pI fr, pI s, pI to, pI k] [] m = some (.inr 201, m')) := by
      intro r m' e1
      refine ⟨fun hr Z hZ => q105_45 (by omega) h.tz _ ?_, fun hr => q105_45 (by omega) h.tz _ ?_⟩
      · subst hr
        rw [if_pos (by push_cast at hk; omega), gd_of l1, nm_eq, gd_of l2, gd_of ⟨by omega, by omega⟩, nm_eq, l4, gd_of l5, v0]
        by_cases z0 : vl m0 t 0 = 0
        · rw [if_pos z0] at e1 ⊢
          rw [gd_of h.hR, nm_eq, gd_of har.1, gd_of ⟨hA0, by rw [har.2]; omega⟩, hel', bV_eq e1, (w32_of (by omega) (by omega) : w32 (k + 1) = k + 1)]
          exact hZ
        · rw [if_neg z0] at e1 ⊢
          rw [gd_of h.hR, nm_eq, gd_of har.1, gd_of ⟨hA0, by rw [har.2]; omega⟩, hel', bV_eq e1, (w32_of (by omega) (by omega) : w32 (k + 1) = k + 1)]
          exact hZ
      · subst hr
        rw [if_pos (by push_cast at hk; omega), gd_of l1, nm_eq, gd_of l2, gd_of ⟨by omega, by omega⟩, nm_eq, l4, gd_of l5, v0]
        by_cases z0 : vl m0 t 0 = 0
        · rw [if_pos z0] at e1 ⊢
          rw [gd_of h.hR, nm_eq, gd_of har.1, gd_of ⟨hA0, by rw [har.2]; omega⟩, hel', bV_xq e1]
        · rw [if_neg z0] at e1 ⊢
          rw [gd_of h.hR, nm_eq, gd_of har.1, gd_of ⟨hA0, by rw [har.2]; omega⟩, hel', bV_xq e1]
    show (∀ ys w', eB (g (z :: y)) (fun a => eB (eL g zs) fun b => eR (a ++ b)) w = some (ys, w') → _) ∧ (eB (g (z :: y)) (fun a => eB (eL g zs) fun b => eR (a ++ b)) w = none → _)
    cases hE : g (z :: y) w with
    | none =>
      rw [eB_none hE]
      obtain ⟨m', e1, hz⟩ := key.2 hE
      exact ⟨fun ys w' z => (by cases z), fun _ => ⟨m', (st _ _ e1).2 rfl, hz⟩⟩
    | some bb =>
      obtain ⟨as, w2⟩ := bb
      rw [eB_some hE]
      obtain ⟨g0, m2, cap2, e1, g2, g3, g4⟩ := key.1 as w2 hE
      have hA3 : At (stk ++ as.map ofN) (k + 1) (zs.map ofN) := by
        obtain ⟨x1, x2, x3⟩ := hA'
        refine ⟨x1, by rw [List.length_append]; push_cast; omega, fun j j0 j1 => ?_⟩
        rw [gi_app_l (by omega) (by omega)]; exact x3 j j0 j1
      have nx := ih (k + 1) to m2 (stk ++ as.map ofN) w2 cap2 (fun n hn => hv n (List.mem_cons_of_mem _ hn)) hA3 (by push_cast at hk; omega) g2 (hek.trans g3) g0
      cases hE2 : eL g zs w2 with
      | none =>
        rw [eB_none hE2]
        obtain ⟨m3, f1, f2⟩ := nx.2 hE2
        exact ⟨fun ys w' z => (by cases z), fun _ => ⟨m3, (st _ _ e1).1 rfl _ f1, f2.pre g3 g4⟩⟩
      | some cc =>
        obtain ⟨bs, w3⟩ := cc
        rw [eB_some hE2]
        obtain ⟨f0, m3, cap3, f1, f2, f3, f4⟩ := nx.1 bs w3 hE2
        refine ⟨fun ys w' z => ?_, fun z => (by cases z)⟩
        cases z
        exact ⟨f0, m3, cap3, by rw [List.map_append, ← List.append_assoc]; exact f1, g3.trans f2, g4.trans f3, fun Z hZ => (st _ _ e1).1 rfl _ (f4 Z hZ)⟩
end
