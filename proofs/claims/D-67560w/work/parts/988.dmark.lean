/-! the disk: marks, what is wrong -/
set_option maxRecDepth 100000
set_option maxHeartbeats 4000000
/-- the blocks below a block -/
def VB (c : RF) : Nat → Int → List Int → Prop
  | 0, b, bs => bs = [b] ∧ c b 0 = 1
  | h + 1, b, bs => c b 0 ≠ 1 ∧ ∃ ch : List (Int × List Int), ftw (c b) 1 = ch.length ∧ ch.length ≤ 8 ∧ (∀ (j : Nat) (e : Int × List Int), ch[j]? = some e → ftw (c b) (5 + 4 * j) = e.1) ∧ bs = b :: ch.flatMap (·.2) ∧ ∀ x ∈ ch, VB c h x.1 x.2
theorem VB.hd {c : RF} {h : Nat} {b : Int} {bs : List Int} (hv : VB c h b bs) : ∃ t, bs = b :: t := by
  cases h with
  | zero => exact ⟨[], hv.1⟩
  | succ h => obtain ⟨-, ch, -, -, -, e, -⟩ := hv; exact ⟨_, e⟩
theorem VB.det {c : RF} : ∀ {h h' : Nat} {b : Int} {bs bs' : List Int}, VB c h b bs → VB c h' b bs' → bs = bs' := by
  intro h
  induction h with
  | zero =>
    intro h' b bs bs' h1 h2
    cases h' with
    | zero => rw [h1.1, h2.1]
    | succ h' => exact absurd h1.2 h2.1
  | succ h ih =>
    intro h' b bs bs' h1 h2
    cases h' with
    | zero => exact absurd h2.2 h1.1
    | succ h' =>
      obtain ⟨-, ch, a1, a2, a3, a4, a5⟩ := h1
      obtain ⟨-, ch', b1, b2, b3, b4, b5⟩ := h2
      have hl : ch.length = ch'.length := by omega
      have : ch = ch' := by
        apply List.ext_getElem hl
        intro i i1 i2
        have e1 := a3 i _ (List.getElem?_eq_getElem i1)
        have e2 := b3 i _ (List.getElem?_eq_getElem i2)
        have e3 : ch[i].1 = ch'[i].1 := by rw [← e1, ← e2]
        have h3 := a5 _ (List.getElem_mem i1)
        have h4 := b5 _ (List.getElem_mem i2)
        rw [← e3] at h4
        exact Prod.ext e3 (ih h3 h4)
      rw [a4, b4, this]
theorem VTr.vb {c : RF} : ∀ {h : Nat} {b : Int} {L : DL} {bs : List Int}, VTr c h b L bs → VB c h b bs := by
  intro h
  induction h with
  | zero => rintro b L bs ⟨rfl, id, xs, rfl, d1, -⟩; exact ⟨rfl, d1⟩
  | succ h ih =>
    rintro b L bs ⟨ch, ⟨n1, n2, n3, n4⟩, rfl, rfl, hl, hv⟩
    rw [ents_len] at n2
    refine ⟨by rw [n1]; split <;> decide, ch.map fun x => (x.1, x.2.2), by rw [List.length_map]; exact n2, by rw [List.length_map]; exact hl.2, fun j e he => ?_, ?_, fun x hx => ?_⟩
    · rw [List.getElem?_map] at he
      cases hq : ch[j]? with
      | none => rw [hq] at he; cases he
      | some y =>
        rw [hq] at he
        cases he
        refine (n3 j (hdId y.2.1, y.1) ?_).2
        unfold ents; rw [List.getElem?_map, hq]; rfl
    · unfold flB; rw [List.flatMap_map]
    · obtain ⟨y, hy, rfl⟩ := List.mem_map.mp hx
      exact ih (hv y hy)
theorem VV.vb {c : RF} {root : Int} {L : DL} {bs : List Int} (h : VV c root L bs) : (root = 0 ∧ bs = []) ∨ ∃ (h : Nat) (ch : CH), VB c (h + 1) root bs ∧ chV c h ch ∧ L = flL ch ∧ 1 ≤ ch.length ∧ (0 < h → 2 ≤ ch.length) := by
  rcases h with ⟨a1, -, a3⟩ | ⟨h, ch, ⟨n1, n2, n3, n4⟩, rfl, rfl, hl, hv⟩
  · exact Or.inl ⟨a1, a3⟩
  · rw [ents_len] at n2
    refine Or.inr ⟨h, ch, ⟨by rw [n1]; split <;> decide, ch.map fun x => (x.1, x.2.2), by rw [List.length_map]; exact n2, by rw [List.length_map]; exact hl.2.1, fun j e he => ?_, ?_, fun x hx => ?_⟩, hv, rfl, hl.1, hl.2.2⟩
    · rw [List.getElem?_map] at he
      cases hq : ch[j]? with
      | none => rw [hq] at he; cases he
      | some y =>
        rw [hq] at he
        cases he
        refine (n3 j (hdId y.2.1, y.1) ?_).2
        unfold ents; rw [List.getElem?_map, hq]; rfl
    · unfold flB; rw [List.flatMap_map]
    · obtain ⟨y, hy, rfl⟩ := List.mem_map.mp hx
      exact (hv y hy).vb
/-- which blocks are marked -/
def UM (m : Mem) (K : Int) (u : List Int) : Prop := ∀ b : Int, 0 ≤ b → b < 1600 → vl m (vl m K 5) b = if b ∈ u then 1 else 0
/-- with a block that is marked all below it are, but for those in P -/
def SAT (c : RF) (u P : List Int) : Prop := ∀ b, b ∈ u → b ∉ P → ∀ h bs, VB c h b bs → ∀ x ∈ bs, x ∈ u
theorem AO.da5 {m m' : Mem} {K : Int} (hD : DA m K) (k : AO (vl m K 5) m m') : DA m' K ∧ (∀ f, vl m' K f = vl m K f) ∧ ∀ c, BC m K c → BC m' K c := by
  have t5 := hD.2.2.2.2.2.1.1
  have hK : K ≠ vl m K 5 := by intro z; have := hD.1; rw [z, t5] at this; omega
  have h0 : vl m K 0 ≠ vl m K 5 := by intro z; have := hD.2.1.1; rw [z, t5] at this; omega
  exact ⟨hD.ao k (by omega), fun f => k.2.2.2 K f hK, fun c hc => hc.ao k hK h0⟩
section
variable {K : Int} {c : RF}
theorem UM.set {m : Mem} {u : List Int} {b : Int} (hD : DA m K) (h : UM m K u) : UM (mst m (vl m K 5) b 1) K (b :: u) := by
  have t5 := hD.2.2.2.2.2.1.1
  have hK : K ≠ vl m K 5 := by intro z; have := hD.1; rw [z, t5] at this; omega
  intro x x0 x1
  rw [vl_mst (b := K), if_neg (fun z => hK z.1), vl_mst]
  by_cases z : x = b
  · rw [if_pos ⟨rfl, z⟩, if_pos (by rw [z]; exact List.mem_cons_self)]
  · rw [if_neg (fun y => z y.2), h x x0 x1]
    by_cases y : x ∈ u
    · rw [if_pos y, if_pos (List.mem_cons_of_mem _ y)]
    · rw [if_neg y, if_neg (fun w => by rcases List.mem_cons.mp w with q | q; exact z q; exact y q)]
/-- all below a block is marked -/
theorem c168 : ∀ (h d : Nat) (m : Mem) (b : Int) (bs u P : List Int), h + 4 ≤ d → TZ m → DA m K → BC m K c → VB c h b bs → bs.Nodup → (∀ x ∈ bs, 2 ≤ x ∧ x < 1600) → UM m K u → SAT c u P → (∀ x ∈ bs, x ∉ P) → ∃ m' u', cl d 168 [pR K, pI b] m = some (.inl none, m') ∧ AO (vl m K 5) m m' ∧ UM m' K u' ∧ SAT c u' P ∧ ∀ x, x ∈ u' ↔ x ∈ u ∨ x ∈ bs := by
  intro h
  induction h with
  | zero =>
    rintro d m b bs u P hd hz hD hc ⟨rfl, hk⟩ hnd hr hU hS hP
    have hb := hr b List.mem_cons_self
    obtain ⟨t5, l5⟩ := hD.2.2.2.2.2.1
    obtain ⟨f1, f2, f3⟩ := hD.b0 hc (b := b) ⟨by omega, hb.2⟩
    have hu := hU b (by omega) hb.2
    by_cases z : b ∈ u
    · rw [if_pos z] at hu
      refine ⟨m, u, q168 hz _ ?_, AO.refl, hU, hS, fun x => ⟨Or.inl, fun h => h.elim id fun y => by rw [List.mem_singleton.mp y]; exact z⟩⟩
      rw [if_neg (by omega), gd_of hD.1, nm_eq, gd_of t5, gd_of (by rw [l5]; omega), hu, if_neg (by decide)]
    · rw [if_neg z] at hu
      refine ⟨mst m (vl m K 5) b 1, b :: u, q168 hz _ ?_, AO.set, hU.set hD, fun y hy hyP h bs hv x hx => ?_, fun x => ⟨fun h => ?_, fun h => ?_⟩⟩
      · rw [if_neg (by omega), gd_of hD.1, nm_eq, gd_of t5, gd_of (by rw [l5]; omega), hu, if_pos rfl, nm_eq, nm_eq, f1, gd_of hD.2.1.1, gd_of f2, f3, if_pos hk]
      · rcases List.mem_cons.mp hy with q | q
        · have hv0 : VB c 0 b [b] := ⟨rfl, hk⟩
          rw [q] at hv
          rw [hv.det hv0] at hx
          rw [List.mem_singleton.mp hx]; exact List.mem_cons_self
        · exact List.mem_cons_of_mem _ (hS y q hyP h bs hv x hx)
      · rcases List.mem_cons.mp h with q | q
        · exact Or.inr (by rw [q]; exact List.mem_singleton_self _)
        · exact Or.inl q
      · rcases h with q | q
        · exact List.mem_cons_of_mem _ q
        · rw [List.mem_singleton.mp q]; exact List.mem_cons_self
  | succ h ih =>
    rintro d m b bs u P hd hz hD hc hV hnd hr hU hS hP
    have hV0 := hV
    obtain ⟨hk, ch, e1, e2, e3, rfl, hv⟩ := hV
    have hb := hr b List.mem_cons_self
    obtain ⟨t5, l5⟩ := hD.2.2.2.2.2.1
    obtain ⟨f1, f2, f3⟩ := hD.b0 hc (b := b) ⟨by omega, hb.2⟩
    have hu := hU b (by omega) hb.2
    by_cases z : b ∈ u
    · rw [if_pos z] at hu
      have hbP := hP b List.mem_cons_self
      refine ⟨m, u, q168 hz _ ?_, AO.refl, hU, hS, fun x => ⟨Or.inl, fun h' => h'.elim id fun y => hS b z hbP _ _ hV0 x y⟩⟩
      rw [if_neg (by omega), gd_of hD.1, nm_eq, gd_of t5, gd_of (by rw [l5]; omega), hu, if_neg (by decide)]
    · rw [if_neg z] at hu
      rw [List.nodup_cons] at hnd
      -- over the children
      have loop : ∀ (rest pre : List (Int × List Int)) (m1 : Mem) (u1 : List Int), ch = pre ++ rest → TZ m1 → DA m1 K → BC m1 K c → vl m1 K 5 = vl m K 5 → UM m1 K u1 → SAT c u1 (b :: P) → (∀ x, x ∈ u1 ↔ (x = b ∨ x ∈ u) ∨ x ∈ pre.flatMap (·.2)) → ∃ m' u', rn d 168 38 [pR K, pI b, pI pre.length] [] m1 = some (.inl none, m') ∧ AO (vl m K 5) m1 m' ∧ UM m' K u' ∧ SAT c u' (b :: P) ∧ ∀ x, x ∈ u' ↔ (x = b ∨ x ∈ u) ∨ x ∈ ch.flatMap (·.2) := by
        intro rest
        induction rest with
        | nil =>
          intro pre m1 u1 hp hz1 hD1 hc1 h5 hU1 hS1 hm1
          rw [List.append_nil] at hp
          have e162 := c162 (d := d - 1) (a := 1) hz1 hD1 hc1 ⟨by omega, hb.2⟩ (by omega)
          rw [e1] at e162
          refine ⟨m1, u1, q168_38 (by omega) hz1 _ ?_, AO.refl, hU1, hS1, by rw [hp]; exact hm1⟩
          rw [gd_of hD1.1, bI_eq e162, if_neg (by rw [hp]; omega)]
        | cons y rest ih2 =>
          intro pre m1 u1 hp hz1 hD1 hc1 h5 hU1 hS1 hm1
          have hyc : ch[pre.length]? = some y := by rw [hp, List.getElem?_append_right (Nat.le_refl _), Nat.sub_self]; rfl
          have hym : y ∈ ch := List.mem_of_getElem? hyc
          have hl : ch.length = pre.length + rest.length + 1 := by rw [hp]; simp; omega
          have e162 := c162 (d := d - 1) (a := 1) hz1 hD1 hc1 ⟨by omega, hb.2⟩ (by omega)
          rw [e1] at e162
          have e162' := c162 (d := d - 1) (a := 5 + 4 * pre.length) hz1 hD1 hc1 (b := b) ⟨by omega, hb.2⟩ (by omega)
          rw [e3 _ y hyc] at e162'
          have hsub : ∀ x ∈ y.2, x ∈ ch.flatMap (·.2) := fun x hx => List.mem_flatMap.mpr ⟨y, hym, hx⟩
          have hnd2 : y.2.Nodup := by
            have := hnd.2
            rw [hp, List.flatMap_append, List.flatMap_cons, List.nodup_append, List.nodup_append] at this
            exact this.2.1.1
          obtain ⟨m2, u2, g1, g2, g3, g4, g5⟩ := ih (d - 1) m1 y.1 y.2 u1 (b :: P) (by omega) hz1 hD1 hc1 (hv y hym) hnd2 (fun x hx => hr x (List.mem_cons_of_mem _ (hsub x hx))) hU1 hS1 (fun x hx hq => by
            rcases List.mem_cons.mp hq with q | q
            · exact hnd.1 (by rw [← q]; exact hsub x hx)
            · exact hP x (List.mem_cons_of_mem _ (hsub x hx)) q)
          obtain ⟨j1, j2, j3⟩ := AO.da5 hD1 g2
          rw [h5] at g2
          obtain ⟨m3, u3, k1, k2, k3, k4, k5⟩ := ih2 (pre ++ [y]) m2 u2 (by rw [hp]; simp) (g2.tz hz1) j1 (j3 c hc1) (by rw [j2, h5]) g3 g4 (fun x => by
            rw [g5, hm1, List.flatMap_append, List.mem_append, List.flatMap_cons, List.flatMap_nil, List.append_nil]
            constructor
            · rintro (q | q)
              · rcases q with q | q
                · exact Or.inl q
                · exact Or.inr (Or.inl q)
              · exact Or.inr (Or.inr q)
            · rintro (q | q | q)
              · exact Or.inl (Or.inl q)
              · exact Or.inl (Or.inr q)
              · exact Or.inr q)
          refine ⟨m3, u3, q168_38 (by omega) hz1 _ ?_, g2.trans k2, k3, k4, k5⟩
          have e9 : ((pre ++ [y]).length : Int) = pre.length + 1 := by simp
          rw [e9] at k1
          rw [gd_of hD1.1, bI_eq e162, if_pos (by omega), (w32_of (by omega) (by omega) : w32 (4 * (pre.length : Int)) = 4 * pre.length), (w32_of (by omega) (by omega) : w32 (5 + 4 * (pre.length : Int)) = 5 + 4 * pre.length), bI_eq e162', bV_eq g1, (w32_of (by omega) (by omega) : w32 ((pre.length : Int) + 1) = pre.length + 1)]
          exact k1
      have ka : AO (vl m K 5) m (mst m (vl m K 5) b 1) := AO.set
      obtain ⟨j1, j2, j3⟩ := AO.da5 hD ka
      obtain ⟨m', u', g1, g2, g3, g4, g5⟩ := loop ch [] (mst m (vl m K 5) b 1) (b :: u) rfl hz j1 (j3 c hc) (j2 5) (hU.set hD) (fun y hy hyP h2 bs hvy x hx => by
        rcases List.mem_cons.mp hy with q | q
        · exact absurd (by rw [q]; exact List.mem_cons_self) hyP
        · exact List.mem_cons_of_mem _ (hS y q (fun w => hyP (List.mem_cons_of_mem _ w)) h2 bs hvy x hx)) (fun x => by
        rw [List.mem_cons, List.flatMap_nil]
        exact ⟨Or.inl, fun h => h.elim id fun w => (by cases w)⟩)
      refine ⟨m', u', q168 hz _ ?_, ka.trans g2, g3, fun y hy hyP h2 bs hvy x hx => ?_, fun x => ?_⟩
      · rw [if_neg (by omega), gd_of hD.1, nm_eq, gd_of t5, gd_of (by rw [l5]; omega), hu, if_pos rfl, nm_eq, nm_eq, f1, gd_of hD.2.1.1, gd_of f2, f3, if_neg hk]
        exact g1
      · by_cases q : y = b
        · rw [q] at hvy
          rw [hvy.det hV0] at hx
          rw [g5]
          rcases List.mem_cons.mp hx with w | w
          · exact Or.inl (Or.inl w)
          · exact Or.inr w
        · exact g4 y hy (fun w => by rcases List.mem_cons.mp w with v | v; exact q v; exact hyP v) h2 bs hvy x hx
      · rw [g5, List.mem_cons]
        constructor
        · rintro ((q | q) | q)
          · exact Or.inr (Or.inl q)
          · exact Or.inl q
          · exact Or.inr (Or.inr q)
        · rintro (q | q | q)
          · exact Or.inl (Or.inr q)
          · exact Or.inl (Or.inl q)
          · exact Or.inr q
/-- the marks of a whole version -/
theorem c168_v {d : Nat} {m : Mem} {root : Int} {L : DL} {bs u : List Int} (hd : 300 ≤ d) (hz : TZ m) (hD : DA m K) (hc : BC m K c) (hV : VsO c root L bs) (hh : ∀ (h : Nat) (ch : CH), chV c h ch → L = flL ch → 1 ≤ ch.length ∧ (0 < h → 2 ≤ ch.length) → h ≤ 200) (hU : UM m K u) (hS : SAT c u [0, 1]) : ∃ m' u', cl d 168 [pR K, pI root] m = some (.inl none, m') ∧ AO (vl m K 5) m m' ∧ UM m' K u' ∧ SAT c u' [0, 1] ∧ ∀ x, x ∈ u' ↔ x ∈ u ∨ x ∈ bs := by
  obtain ⟨hV, hs, hid, hnd, hr⟩ := hV
  rcases hV.vb with ⟨rfl, rfl⟩ | ⟨h, ch, hb, hv, hL, hl⟩
  · refine ⟨m, u, q168 hz _ ?_, AO.refl, hU, hS, fun x => ⟨Or.inl, fun h => h.elim id fun w => (by cases w)⟩⟩
    rw [if_pos rfl]
  · exact c168 (h + 1) d m root bs u [0, 1] (by have := hh h ch hv hL hl; omega) hz hD hc hb hnd hr hU hS (fun x hx w => by have := hr x hx; simp at w; omega)
end
