/-! queries read by the component: a segment -/
set_option maxRecDepth 100000
set_option maxHeartbeats 4000000
theorem QKp.z {m m1 : Mem} (h : QKp m m1) : ∀ a, tg m1 a = 0 → tg m a = 0 := fun a ha => Classical.byContradiction fun z => z (by rw [← (h a z).1]; exact ha)
theorem LI.fin {m0 m : Mem} {N : Int} {xs : List Int} {q fa fs t1 t2 cap : Int} {os : List Int} {A : Fo} (h : LI m0 m N xs q fa fs t1 t2 os cap A) : CF m N xs (nwP m0 m) (fun j : Nat => vl m (vl m q fa) j) A := by
  obtain ⟨⟨a1, a2, a3, a4, a5, a6, a7⟩, b1, b2, b3, b4, b5⟩ := h
  exact CF.cg (fun j hj => (a7 j (by omega) (by omega)).1) (CF.imp (fun a ha => ha.1) b4)
/-- selectors' kinds -/
def selF : Fo → Prop
  | .leaf => True
  | .inner _ d _ _ r => (1 ≤ d.1 ∧ d.1 ≤ 5) ∧ selF r
theorem selF_app : ∀ {A B : Fo}, selF A → selF B → selF (fapp A B) := by
  intro A
  induction A with
  | leaf => intro B _ h; exact h
  | inner n d u l r ihl ihr => intro B h h'; exact ⟨h.1, ihr h.2 h'⟩
section
variable {d op : Nat} {T tp e i N c : Int} {t : Int → Int} {ms m : Mem} {xs : List Int}
theorem qN_k {k : Nat} {v : Int} {us : List Int} {l F : Fo} {j j' : Int} (hk : 1 ≤ k ∧ k ≤ 5) (h : qN k v us l j = some (.inr (F, j'))) : selF F ∧ cntF F = 1 := by
  obtain ⟨-, rfl⟩ := qN_inr h
  exact ⟨⟨hk, trivial⟩, rfl⟩
theorem sSl_k {hs s i j : Int} {F : Fo} (hi : i < e) (h : sSl t e hs s i = some (.inr (F, j))) : selF F ∧ cntF F = 1 := by
  obtain ⟨-, -, us, rfl⟩ := sSl_rng hi h
  exact ⟨⟨by show 1 ≤ 4 ∧ 4 ≤ 5; omega, trivial⟩, rfl⟩
theorem sQ_k4 {n : Nat} {sg : Bool} {F : Fo} {j : Int} (hi : i ≤ e) (h : sQ t e n 4 op sg i = some (.inr (F, j))) : selF F ∧ cntF F = 1 := by
  cases n with
  | zero => cases h
  | succ n =>
    unfold sQ at h
    rw [if_neg (by decide : ¬ (4 : Nat) = 0), if_neg (by decide : ¬ (4 : Nat) = 1), if_neg (by decide : ¬ (4 : Nat) = 2), if_neg (by decide : ¬ (4 : Nat) = 3), if_pos (rfl : (4 : Nat) = 4)] at h
    by_cases q1 : pk t e i = 39 ∨ pk t e i = 34
    · rw [if_pos q1] at h
      cases hs : sS t e (pk t e i) (i + 1) with
      | inl p => rw [hs] at h; cases h
      | inr x => rw [hs] at h; exact qN_k (by omega) h
    rw [if_neg q1] at h
    by_cases q2 : sg = false ∧ pk t e i = 42
    · rw [if_pos q2] at h; exact qN_k (by omega) h
    rw [if_neg q2] at h
    by_cases q3 : sg = false ∧ pk t e i = 63
    · rw [if_pos q3] at h
      obtain ⟨G, k, -, h2⟩ := bnd_inr h
      exact qN_k (by omega) h2
    rw [if_neg q3] at h
    by_cases q4 : nb (pk t e i)
    · rw [if_pos q4] at h
      cases hs : sIn t e i with
      | inl p => rw [hs] at h; cases h
      | inr x =>
        obtain ⟨v, k⟩ := x
        rw [hs] at h
        dsimp only at h
        by_cases q5 : sg = false ∧ pk t e (sB t e k) = 58
        · rw [if_pos q5] at h
          exact sSl_k (pkf_lt (t := t) (by omega)) h
        · rw [if_neg q5] at h; exact qN_k (by omega) h
    rw [if_neg q4] at h
    by_cases q5 : sg = false ∧ pk t e i = 58
    · rw [if_pos q5] at h
      exact sSl_k (pkf_lt (t := t) (by omega)) h
    · rw [if_neg q5] at h; cases h
theorem sQ_k3 : ∀ (n op : Nat) (sg : Bool) (i : Int) (F : Fo) (j : Int), i ≤ e → sQ t e n 3 op sg i = some (.inr (F, j)) → selF F ∧ 1 ≤ cntF F := by
  intro n
  induction n with
  | zero => intro op sg i F j _ h; cases h
  | succ n ih =>
    intro op sg i F j hi h
    unfold sQ at h
    rw [if_neg (by decide : ¬ (3 : Nat) = 0), if_neg (by decide : ¬ (3 : Nat) = 1), if_neg (by decide : ¬ (3 : Nat) = 2), if_pos (rfl : (3 : Nat) = 3)] at h
    have rb := sB_rng t hi
    obtain ⟨S, k, h1, h2⟩ := bnd_inr h
    have hS := sQ_k4 rb.2 h1
    have rk := sQ_rng (t := t) n 4 op sg (sB t e i) S k rb.2 (fun z => by omega) h1
    have rb2 := sB_rng t rk.2.1
    by_cases q1 : pk t e (sB t e k) = 93
    · rw [if_pos q1] at h2; cases h2; exact ⟨hS.1, by omega⟩
    rw [if_neg q1] at h2
    by_cases q2 : sg = false ∧ pk t e (sB t e k) = 44
    · rw [if_pos q2] at h2
      obtain ⟨R, k2, h3, h4⟩ := bnd_inr h2
      cases h4
      have hlt : sB t e k < e := pkf_lt (t := t) (by omega)
      have hR := ih op sg _ R j (by omega) h3
      exact ⟨selF_app hS.1 hR.1, by rw [cntF_app]; omega⟩
    · rw [if_neg q2] at h2; cases h2
theorem sQ_k2 {n : Nat} {sg : Bool} {F : Fo} {j : Int} (hi : i < e) (h : sQ t e n 2 op sg i = some (.inr (F, j))) : selF F ∧ 1 ≤ cntF F := by
  cases n with
  | zero => cases h
  | succ n =>
    unfold sQ at h
    rw [if_neg (by decide : ¬ (2 : Nat) = 0), if_neg (by decide : ¬ (2 : Nat) = 1), if_pos (rfl : (2 : Nat) = 2)] at h
    by_cases q : ¬ op < 16
    · rw [if_pos q] at h; cases h
    · rw [if_neg q] at h; exact sQ_k3 _ _ _ _ _ _ (by omega) h
theorem LR.to {i0 c0 s0 q fa fs t1 t2 cap0 u u' : Int} {xs0 : List Int} {A : Fo} {M : Mem} {rs : Rs} {Q Q' : RM} {x : QR} (h : LR T tp e t op N ms i0 c0 xs0 M s0 q fa fs t1 t2 cap0 A rs Q x u) (ht : ∀ a, tg M a = tg m a) (hv : ∀ k, vl M q k = vl m q k) (hQ : ∀ z, Q = some z → Q' = some z) (hu : u ≤ u') : LR T tp e t op N ms i0 c0 xs0 m s0 q fa fs t1 t2 cap0 A rs Q' x u' := by
  refine ⟨fun F j z => ?_, fun p z => ?_⟩
  · obtain ⟨m', c', xs', os', cap', e1, b1, b2, b3, b4, b5, b6, b7⟩ := h.1 F j z
    exact ⟨m', c', xs', os', cap', hQ _ e1, b1, b2, b3, b4, b5, fun a ha => (b6 a (by rw [ht]; exact ha)).trans (ht a), fun k hk k1 k2 => (b7 k (by rw [ht]; exact hk) k1 k2).trans (hv k)⟩
  · obtain ⟨m', e1, b1⟩ := h.2 p z
    exact ⟨m', hQ _ e1, b1.weak hu⟩
end
/-- brackets from the first one on -/
def QL2 (T tp e : Int) (t : Int → Int) (N : Int) (n : Nat) : Prop := ∀ (d op : Nat) (ms m : Mem) (i c i0 c0 s0 cap q : Int) (xs xs0 os : List Int) (A : Fo), TZ ms → CS m T tp e i t op N xs c → (xs.length : Int) + 3 * (e - i) ≤ 5900 → i < e → op ≤ 16 → dpn op 5 ≤ d → QKp ms m → tg m q = 16 → LI ms m N xs q 1 2 305111 306111 os cap A → CPh T N ms i0 c0 xs0 m i c xs (s0 + 16 * os.length - 2 * (cap - 1)) → cap ≤ max 1 (2 * os.length) → (os.length : Int) ≤ i →
  LR T tp e t op N ms i0 c0 xs0 m (s0 + 30) q 1 2 305111 306111 1 A (.inl none) (cl d 91 [pR T, pR q] m) (sQ t e n 2 op false i) (10 - s0)
section
variable {T tp e N : Int} {t : Int → Int}
theorem c91 {n : Nat} (H3 : QL3 T tp e t N n) : QL2 T tp e t N (n + 1) := by
  intro d op ms m i c i0 c0 s0 cap q xs xs0 os A hms h hL hi ho hd hq0 hq hl hC hcap hlen
  unfold dpn at hd
  have hr := h.rng
  have hT := h.2.2.1
  have hqT : q ≠ T := by intro z; rw [z, hT] at hq; omega
  unfold sQ
  rw [if_neg (by decide : ¬ (2 : Nat) = 0), if_neg (by decide : ¬ (2 : Nat) = 1), if_pos (rfl : (2 : Nat) = 2)]
  by_cases h16 : op < 16
  · rw [if_neg (fun z => z h16)]
    have e86 := c86_1 (d := d - 1) (by omega) h hi h16
    have h1 := h.opn (op' := op + 1) (v := (op : Int) + 1) (by push_cast; rfl)
    have g1 := ((CPg.refl h).opn h (v := (op : Int) + 1)).at (k := i + 1) (s' := 30) h1 (by omega) (by omega)
    have h2 := h1.at (j := i + 1) (by omega) (by omega)
    have l2 := hl.keep (ys := []) g1.1 (by rw [hq]; omega) (by rw [hq]; omega) (by intro k; omega) (fun a ha => ha)
    rw [List.append_nil] at l2
    have key := H3 d op ms _ (i + 1) c i0 c0 (s0 + 30) cap q xs xs0 os A hms h2 (by omega) h16 (by unfold dpn; omega) (hq0.trans g1.1) hq l2 ((hC.trans g1.2).weak (by omega)) hcap (by omega)
    refine key.to (fun a => rfl) (fun k => by rw [vl_mst, if_neg (fun z => hqT z.1), vl_mst, if_neg (fun z => hqT z.1)]) (fun z hz => ?_) (by omega)
    refine q91 (by omega) h.1.1 _ ?_
    rw [gd_of hT, bV_eq e86]
    exact hz
  · rw [if_pos h16]
    have e86 := c86_0 (d := d - 1) (by omega) h h16
    refine ⟨fun F j z => (by cases z), fun p z => ?_⟩
    cases z
    refine ⟨_, q91 (by omega) h.1.1 _ ?_, CEr.preH (u := 6) (h.bad0 (p := i) (by omega)) hq0 hC (by omega)⟩
    rw [gd_of hT, bV_xq e86]
end
section
variable {d op : Nat} {T tp e i N c : Int} {t : Int → Int} {ms m : Mem} {xs : List Int}
/-- a segment that has its list -/
theorem seg_CO {m' : Mem} {j c' s v : Int} {q cap : Int} {os xs' : List Int} {A : Fo} (h : CS m' T tp e j t op N xs' c') (hq : QKp m m') (hC : CPh T N m i c xs m' j c' xs' s) (hl : LI m m' N xs' q 1 2 305111 306111 os cap A) (ht : tg m' q = 16) (hv : vl m' q 0 = v) (hs : 20 ≤ s) : CO T tp e t op N m i c xs m' j 20 q (foC (21, v, [], []) A foN) := by
  have hf := hl.fin
  obtain ⟨⟨a1, a2, a3, a4, a5, a6, a7⟩, b1, b2, b3, b4, b5⟩ := hl
  have np : nwP m m' q := ⟨b1, b2⟩
  have na : nwP m m' (vl m' q 1) := ⟨b3, by rcases a1 with z | z <;> rw [z] <;> decide⟩
  refine ⟨c', xs', h, ⟨hq, hC.weak hs⟩, ⟨⟨?_, ⟨np, fun z => (by cases z), fun _ => na, fun z => (by rcases z with z | z <;> cases z), fun z => (by cases z)⟩, ?_⟩, trivial⟩, np⟩
  · rw [CB_21 rfl]
    exact ⟨ht, hv, a1, by rw [a3, b5], by rw [a2, b5]; exact a4⟩
  · rw [CK_21 rfl]
    exact hf.imp (fun a z => ⟨z, fun w => (by cases w)⟩)
/-- whether the query has one node at most is kept -/
theorem c90_136 {m' : Mem} {j s o q v : Int} {z3 : PV} {L : Fo} (hz3 : cat z3 = 1) (hq : tg m' q = 15) (hv : v = 0 ∨ v = 1) (hs : selF L) (hL : 1 ≤ cntF L) (co : CO T tp e t op N m i c xs m' j s o (foC (21, v, [], []) L foN)) (ho : tg m' o = 16) : rn d 90 136 [pR T, pR q, pR o, z3] [] m' = some (.inl (some (pR o)), if sgF (foC (21, v, [], []) L foN) = true then m' else mst m' q 1 0) := by
  obtain ⟨c', xs', a1, a2, a3, a4⟩ := co
  obtain ⟨⟨b1, b2, b3⟩, -⟩ := a3
  rw [CB_21 rfl] at b1
  obtain ⟨d1, d2, d3, d4, d5⟩ := b1
  have d2 : vl m' o 0 = v := d2
  have d3 : tg m' (vl m' o 1) = 305111 ∨ tg m' (vl m' o 1) = 306111 := d3
  have d4 : vl m' o 2 = cntF L := d4
  have d5 : (cntF L : Int) ≤ ln m' (vl m' o 1) := d5
  refine q90_136 a1.1.1 hz3 _ ?_
  rw [gd_of ho, d2, d4]
  have es : sgF (foC (21, v, [], []) L foN) = (sg1 (21, v, [], []) L && true) := rfl
  rw [es, Bool.and_true]
  by_cases hv0 : v = 0
  · rw [if_pos hv0]
    by_cases hc1 : cntF L = 1
    · have hc1' : (cntF L : Int) = 1 := by omega
      cases L with
      | leaf => cases hc1
      | inner n dd u l r =>
        have hr : r = foN := by
          cases r with
          | leaf => rfl
          | inner a b c d e => have : cntF (.inner a b c d e : Fo) + 1 = 1 := hc1
                               have h2 : cntF (.inner a b c d e : Fo) = cntF e + 1 := rfl
                               omega
        subst hr
        rw [CK_21 rfl] at b3
        obtain ⟨⟨x1, -, -⟩, -⟩ := b3
        obtain ⟨k1, k2⟩ := hs.1
        have sg : sg1 (21, v, [], []) (.inner n dd u l .leaf) = (v == 0 && (dd.1 == 1 || dd.1 == 3)) := rfl
        have l0 : (0 : Int) ≤ 0 ∧ 0 < ln m' (vl m' o 1) := by omega
        rw [if_pos hc1', nm_eq, gd_of d3, gd_of l0, nm_eq, sg, hv0]
        have x1 : CB m' N xs' (vl m' (vl m' o 1) 0) dd l := x1
        have key : ∃ T1, tg m' (vl m' (vl m' o 1) 0) = T1 ∧ (dd.1 = 1 → T1 = 17) ∧ (dd.1 = 3 → T1 = 18) ∧ (dd.1 ≠ 1 → dd.1 ≠ 3 → (T1 = 19 ∨ T1 = 20 ∨ T1 = 29)) := by
          have hk : dd.1 = 1 ∨ dd.1 = 2 ∨ dd.1 = 3 ∨ dd.1 = 4 ∨ dd.1 = 5 := by omega
          rcases hk with z | z | z | z | z
          · rw [CB_1 z] at x1; exact ⟨17, x1.1, fun _ => rfl, fun w => by omega, fun w => absurd z w⟩
          · rw [CB_2 z] at x1; exact ⟨19, x1, fun w => by omega, fun w => by omega, fun _ _ => Or.inl rfl⟩
          · rw [CB_3 z] at x1; exact ⟨18, x1.1, fun w => by omega, fun _ => rfl, fun _ w => absurd z w⟩
          · rw [CB_4 z] at x1; exact ⟨29, x1.1, fun w => by omega, fun w => by omega, fun _ _ => Or.inr (Or.inr rfl)⟩
          · rw [CB_5 z] at x1; exact ⟨20, x1, fun w => by omega, fun w => by omega, fun _ _ => Or.inr (Or.inl rfl)⟩
        obtain ⟨T1, t1, t2, t3, t4⟩ := key
        rw [t1]
        by_cases y1 : dd.1 = 1
        · rw [t2 y1, gd_of (by rfl), if_pos rfl, if_neg (by decide), if_pos (by rw [y1]; rfl)]
        · by_cases y3 : dd.1 = 3
          · rw [t3 y3, gd_of (by rfl), if_neg (show ¬ (18 : Int) = 17 by decide), if_pos rfl, gd_of (by rfl), if_pos rfl, if_neg (by decide), if_pos (by rw [y3]; rfl)]
          · have e9 : ((0 : Int) == 0 && (dd.1 == 1 || dd.1 == 3)) = false := by simp [y1, y3]
            rw [e9, if_neg (by decide : ¬ false = true)]
            rcases t4 y1 y3 with z | z | z
            · rw [z, gd_of (by rfl), if_neg (show ¬ (19 : Int) = 17 by decide), if_pos rfl, gd_of (by rfl), if_neg (show ¬ (19 : Int) = 18 by decide), if_pos rfl, gd_of hq]
            · rw [z, gd_of (by rfl), if_neg (show ¬ (20 : Int) = 17 by decide), if_pos rfl, gd_of (by rfl), if_neg (show ¬ (20 : Int) = 18 by decide), if_pos rfl, gd_of hq]
            · rw [z, gd_of (by rfl), if_neg (show ¬ (29 : Int) = 17 by decide), if_pos rfl, gd_of (by rfl), if_neg (show ¬ (29 : Int) = 18 by decide), if_pos rfl, gd_of hq]
    · have e9 : sg1 (21, v, [], []) L = false := by
        cases L with
        | leaf => cases hL
        | inner n dd u l r =>
          cases r with
          | leaf => exact absurd rfl hc1
          | inner a b c d e => show (v == 0 && false) = false; rw [Bool.and_false]
      rw [if_neg (by omega), gd_of hq, e9, if_neg (by decide : ¬ false = true)]
  · have e9 : sg1 (21, v, [], []) L = false := by
      have : (v == 0) = false := by simp [hv0]
      show (v == 0 && _) = false
      rw [this, Bool.false_and]
    rw [if_neg hv0, gd_of hq, e9, if_neg (by decide : ¬ false = true)]
/-- the selector behind a point -/
def sTl (t : Int → Int) (e v k : Int) : QR := if pk t e k = 42 then qN 21 v [] (foC (2, 0, [], []) foN foN) (k + 1) else if ¬ ltr (pk t e k) then qE k else qN 21 v [] (foC (1, 0, (sNa t e k).1, []) foN foN) (sNa t e k).2
/-- a method that reads a segment; q is its query -/
def SR (sg : Bool) (T tp e : Int) (t : Int → Int) (op : Nat) (N : Int) (m : Mem) (i c : Int) (xs : List Int) (q : Int) (Q : RM) (x : QR) (u : Int) : Prop :=
  (∀ F j, x = some (.inr (F, j)) → ∃ m' m'' o, Q = some (.inl (some (pR o)), m') ∧ tg m'' o = 16 ∧ CO T tp e t op N m i c xs m'' j 20 o F ∧ cntF F = 1 ∧ (sg = true → sgF F = true) ∧ m' = (if sgF F = true then m'' else mst m'' q 1 0)) ∧
  (∀ p, x = some (.inl p) → ∃ m', Q = some (.inr 204, m') ∧ CEr T N m i c e m' p u)
theorem SR.no {sg : Bool} {q u : Int} {Q : RM} : SR sg T tp e t op N m i c xs q Q none u := ⟨fun F j z => (by cases z), fun p z => (by cases z)⟩
theorem SR.inl {sg : Bool} {q u p : Int} {Q : RM} {m' : Mem} (h1 : Q = some (.inr 204, m')) (h2 : CEr T N m i c e m' p u) : SR sg T tp e t op N m i c xs q Q (qE p) u := ⟨fun F j z => (by cases z), fun p' z => by cases z; exact ⟨m', h1, h2⟩⟩
theorem SR.inr {q u v j o : Int} {Q : RM} {m'' : Mem} {L : Fo} (h1 : Q = some (.inl (some (pR o)), if sgF (foC (21, v, [], []) L foN) = true then m'' else mst m'' q 1 0)) (h2 : tg m'' o = 16) (h3 : CO T tp e t op N m i c xs m'' j 20 o (foC (21, v, [], []) L foN)) : SR false T tp e t op N m i c xs q Q (qN 21 v [] L j) u :=
  ⟨fun F k z => by cases z; exact ⟨_, m'', o, h1, h2, h3, rfl, fun z => (by cases z), rfl⟩, fun p z => (by cases z)⟩
theorem SR.to {sg : Bool} {q u u' : Int} {Q Q' : RM} {x : QR} (h : SR sg T tp e t op N m i c xs q Q x u) (hQ : ∀ z, Q = some z → Q' = some z) (hu : u ≤ u') : SR sg T tp e t op N m i c xs q Q' x u' := by
  refine ⟨fun F j z => ?_, fun p z => ?_⟩
  · obtain ⟨m', m'', o, e1, b⟩ := h.1 F j z
    exact ⟨m', m'', o, hQ _ e1, b⟩
  · obtain ⟨m', e1, b1⟩ := h.2 p z
    exact ⟨m', hQ _ e1, b1.weak hu⟩
/-- one selector is put into a new segment -/
theorem seg_one {M : Mem} {k c0 s s1 j v x o : Int} {xs0 : List Int} {X : Fo} {m1 : Mem} (hz : TZ m) (hM : CS M T tp e k t op N xs0 c0) (qM : QKp m M) (C : CPh T N m i c xs M k c0 xs0 s) (li : LI m M N xs0 o 1 2 305111 306111 [] 1 foN) (hs : 20 ≤ s + s1) (tM : tg M o = 16) (vM : vl M o 0 = v) (co : CO T tp e t op N M k c0 xs0 m1 j s1 x X) (hX : cntF X = 1) (hx : aOk 111 (tg m1 x) = true) : ∃ m2, cl d 305 [pR o, pR x] m1 = some (.inl none, m2) ∧ tg m2 o = 16 ∧ CO T tp e t op N m i c xs m2 j 20 o (foC (21, v, [], []) X foN) ∧ (∀ a, tg M a ≠ 0 → tg m2 a = tg M a) := by
  have ok1 : OK m1 := by obtain ⟨cc, xx, a1, -⟩ := co; exact a1.1
  have tq1 : tg m1 o = 16 := by
    obtain ⟨cc, xx, a1, a2, -⟩ := co
    rw [(a2.1 o (by rw [tM]; decide)).1]; exact tM
  have tx : tg m1 x ≠ 0 := by obtain ⟨cc, xx, a1, a2, a3, a4⟩ := co; exact a4.2
  have hA : tg M (vl M o 1) ≠ 0 := by
    rcases li.1.1 with z | z <;> rw [z] <;> decide
  obtain ⟨m2, c', xs', cap', e2, h2, q2, C2, l2, hcap2, ht2, hv2, hxl⟩ := LI.put (k := 305) (as := [pR o, pR x]) (d := d) (s0 := s) (cap0 := 1) hM hz qM (C.weak (by simp)) li (by rw [tM]; omega) (by rw [tM]; omega) (by intro k; omega) hA co hX (fun hLS => c305 (d := d) ok1 tq1 hLS (by simp) hx tx) (by rfl)
  rw [List.nil_append] at l2 C2
  have hap : fapp foN X = X := rfl
  rw [hap] at l2
  have t2 : tg m2 o = 16 := by rw [ht2 _ (by rw [tM]; decide)]; exact tM
  have v2 : vl m2 o 0 = v := by rw [hv2 0 (by rw [tM]; omega) (by omega) (by omega)]; exact vM
  have hcap3 : cap' ≤ 1 := by simp at hcap2; omega
  exact ⟨m2, e2, t2, seg_CO h2 q2 C2 l2 t2 v2 (by simp <;> omega), ht2⟩
theorem c90_78 {M0 M : Mem} {k c0 s v q : Int} {xs0 : List Int} (hd : 10 ≤ d) (hz : TZ m) (h0 : CS M0 T tp e k t op N xs0 c0) (hL : (xs0.length : Int) + 3 * (e - k) ≤ 5900) (g0 : CPg T N m i c xs M0 k c0 xs0 s) (hs : 30 ≤ s) (nl : NL T tp e t op N k c0 xs0 M0 M (nx M0) 1 2 305111 306111 1) (tM : tg M (nx M0) = 16) (vM : vl M (nx M0) 0 = v) (hv : v = 0 ∨ v = 1) (hq : tg M q = 15) : SR false T tp e t op N m i c xs q (rn d 90 78 [pR T, pR q, pR (nx M0), pI v] [] M) (sTl t e v k) 30 := by
  have h := nl.1
  have hr := h.rng
  have e63 := c63 (d := d - 1) h.1.1 h.2.2.2.1
  have v2 := h.2.2.2.1.2.2.2.1
  have gM : CPg T N m i c xs M k c0 xs0 (s - 10) := ⟨g0.1.trans nl.2.1, nl.ch g0.2⟩
  have li := nl.li (m0 := m) g0.1.z (by rw [tM]; decide)
  unfold sTl
  by_cases q1 : pk t e k = 42
  · rw [if_pos q1]
    have hlt : k < e := pkf_lt (t := t) (by omega)
    have h1 := h.at (j := k + 1) (by omega) (by omega)
    have g1 := CPg.at0 (s := 40) (j := k + 1) h (by omega) (by omega)
    have h2 := h1.new (q := 19) (n := 0) (by omega)
    have g2 := g1.new (q := 19) (n := 0) h1 (by omega) (by omega)
    have t0 : tg (mal (mst M T 2 (k + 1)) 19 0) (nx (mst M T 2 (k + 1))) = 19 := new_tg.1
    have z0 : tg M (nx (mst M T 2 (k + 1))) = 0 := h.1.1 _ (Int.le_refl _)
    have e310 : cl (d - 1) 310 [pR (nx (mst M T 2 (k + 1)))] (mal (mst M T 2 (k + 1)) 19 0) = some (.inl none, mal (mst M T 2 (k + 1)) 19 0) := by
      refine q310 h2.1.1 _ ?_
      rw [gd_of t0]
    have co : CO T tp e t op N M k c0 xs0 (mal (mst M T 2 (k + 1)) 19 0) (k + 1) 20 (nx (mst M T 2 (k + 1))) (foC (2, 0, [], []) foN foN) := (CO.leaf h2 g2 ⟨z0, by rw [t0]; decide⟩ (Or.inl (by decide)) (by rw [CB_2 rfl]; exact t0)).weak (by omega)
    obtain ⟨m2, e2, t2, co2, tt⟩ := seg_one (d := d - 1) hz h gM.1 gM.2 li (by omega) tM vM co rfl (by rw [t0]; rfl)
    have tq : tg (mal (mst M T 2 (k + 1)) 19 0) (nx M0) = 16 := by
      show (if nx M0 = nx M then 19 else tg M (nx M0)) = 16
      rw [if_neg (by have := nl.2.2.2.1; omega)]; exact tM
    refine SR.inr ?_ t2 co2
    refine q90_78 (by omega) h.1.1 _ ?_
    rw [gd_of h.2.2.1, bI_eq e63, if_pos q1, v2, (w32_of (by omega) (by omega) : w32 (k + 1) = k + 1), nw_eq, bV_eq e310, gd_of tq, bV_eq e2]
    exact c90_136 (by rfl) (by rw [tt q (by rw [hq]; decide)]; exact hq) hv ⟨by show 1 ≤ 2 ∧ 2 ≤ 5; omega, trivial⟩ (by decide) co2 t2
  · rw [if_neg q1]
    obtain ⟨s1, s2⟩ := c84 (d := d - 1) (by omega) h hL
    by_cases q2 : ltr (pk t e k)
    · rw [if_neg (fun z => z q2)]
      obtain ⟨m1, x, e1, t1, co⟩ := s1 q2
      obtain ⟨m2, e2, t2, co2, tt⟩ := seg_one (d := d - 1) hz h gM.1 gM.2 li (by omega) tM vM co rfl (by rw [t1]; rfl)
      have tq : tg m1 (nx M0) = 16 := by
        obtain ⟨cc, xx, a1, a2, -⟩ := co
        rw [(a2.1 (nx M0) (by rw [tM]; decide)).1]; exact tM
      refine SR.inr ?_ t2 co2
      refine q90_78 (by omega) h.1.1 _ ?_
      rw [gd_of h.2.2.1, bI_eq e63, if_neg q1, bR_eq e1, gd_of tq, bV_eq e2]
      exact c90_136 (by rfl) (by rw [tt q (by rw [hq]; decide)]; exact hq) hv ⟨by show 1 ≤ 1 ∧ 1 ≤ 5; omega, trivial⟩ (Nat.le_refl 1) co2 t2
    · rw [if_pos q2]
      refine SR.inl (q90_78 (by omega) h.1.1 _ ?_) ((h.bad0 (p := k) (u := 6) (by omega)).pre gM (by omega))
      rw [gd_of h.2.2.1, bI_eq e63, if_neg q1, bR_xq (s2 q2)]
end
/-- a method that reads a segment, fuel n -/
def QS (sg : Bool) (T tp e : Int) (t : Int → Int) (N : Int) (n : Nat) : Prop := ∀ (d op : Nat) (m : Mem) (i c q : Int) (xs : List Int), CS m T tp e i t op N xs c → (xs.length : Int) + 3 * (e - i) ≤ 5900 → op ≤ 16 → dpn op 6 ≤ d → pk t e i = 46 ∨ pk t e i = 91 → tg m q = 15 → SR sg T tp e t op N m i c xs q (if sg = true then cl d 83 [pR T] m else cl d 90 [pR T, pR q] m) (sQ t e n 1 op sg i) 30
section
variable {T tp e N : Int} {t : Int → Int}
/-- from brackets to a segment -/
theorem seg_br {n d op : Nat} {m M0 M : Mem} {i c k c0 s v q : Int} {xs xs0 : List Int} {z3 : PV} (H2 : QL2 T tp e t N n) (hd : dpn op 5 ≤ d) (hop : op ≤ 16) (hz3 : cat z3 = 1) (hz : TZ m) (h0 : CS M0 T tp e k t op N xs0 c0) (hL : (xs0.length : Int) + 3 * (e - k) ≤ 5900) (hk : k < e) (g0 : CPg T N m i c xs M0 k c0 xs0 s) (hs : 0 ≤ s) (nl : NL T tp e t op N k c0 xs0 M0 M (nx M0) 1 2 305111 306111 1) (tM : tg M (nx M0) = 16) (vM : vl M (nx M0) 0 = v) (hv : v = 0 ∨ v = 1) (hq : tg M q = 15) : SR false T tp e t op N m i c xs q (bV (cl d 91 [pR T, pR (nx M0)] M) fun m4 => rn (d + 1) 90 136 [pR T, pR q, pR (nx M0), z3] [] m4) (bnd (sQ t e n 2 op false k) fun L j => qN 21 v [] L j) 20 := by
  have h := nl.1
  have hr := h.rng
  have li := nl.li (m0 := m) g0.1.z (by rw [tM]; decide)
  have ch := nl.ch g0.2
  have key := H2 d op m M k c0 i c (s - 10) 1 (nx M0) xs0 xs [] foN hz h hL hk hop hd (g0.1.trans nl.2.1) tM li (ch.weak (by simp)) (by simp) (by simp; omega)
  cases hE : sQ t e n 2 op false k with
  | none => exact SR.no
  | some y =>
    rw [hE] at key
    rcases y with p | ⟨L, j⟩
    · obtain ⟨m', e1, ce⟩ := key.2 p rfl
      exact SR.inl (by rw [bV_xq e1]) (ce.weak (by omega))
    · obtain ⟨m', c', xs', os', cap', e1, b1, b2, b3, b4, b5, b6, b7⟩ := key.1 L j rfl
      have hk2 := sQ_k2 hk hE
      have hap : fapp foN L = L := rfl
      rw [hap] at b4
      have t2 : tg m' (nx M0) = 16 := by rw [b6 _ (by rw [tM]; decide)]; exact tM
      have v2 : vl m' (nx M0) 0 = v := by rw [b7 0 (by rw [tM]; omega) (by omega) (by omega)]; exact vM
      have hc := b4.2.2.2.2.2
      have co := seg_CO b1 b2 b3 b4 t2 v2 (by omega)
      refine SR.inr ?_ t2 co
      rw [bV_eq e1]
      exact c90_136 hz3 (by rw [b6 q (by rw [hq]; decide)]; exact hq) hv hk2.1 hk2.2 co t2
theorem c90 {n : Nat} (H2 : QL2 T tp e t N n) : QS false T tp e t N (n + 1) := by
  intro d op m i c q xs h hL ho hd hp hq
  rw [if_neg (by decide : ¬ false = true)]
  unfold dpn at hd
  have hr := h.rng
  have hz := h.1.1
  have hT := h.2.2.1
  have v2 := h.2.2.2.1.2.2.2.1
  have e63 := c63 (d := d - 1) hz h.2.2.2.1
  have hlt : i < e := pkf_lt (t := t) (by omega)
  unfold sQ
  rw [if_neg (by decide : ¬ (1 : Nat) = 0), if_pos (rfl : (1 : Nat) = 1)]
  by_cases q46 : pk t e i = 46
  · rw [if_pos q46]
    have h1 := h.at (j := i + 1) (by omega) (by omega)
    have g1 := CPg.at0 (s := 40) (j := i + 1) h (by omega) (by omega)
    have e631 := c63 (d := d - 1) h1.1.1 h1.2.2.2.1
    have v21 : vl (mst m T 2 (i + 1)) T 2 = i + 1 := h1.2.2.2.1.2.2.2.1
    by_cases r46 : pk t e (i + 1) = 46
    · rw [if_pos ⟨rfl, r46⟩]
      have hlt2 : i + 1 < e := pkf_lt (t := t) (by omega)
      have h2 := h1.at (j := i + 2) (by omega) (by omega)
      rw [mst_mst] at h2
      have g2 := CPg.at0 (s := 40) (j := i + 2) h (by omega) (by omega)
      obtain ⟨M, e304, nl, tM, vM⟩ := new304 (d := d - 1) (v := 1) h2 (Or.inr rfl)
      have hqM : tg M q = 15 := by rw [((g2.1.trans nl.2.1) q (by rw [hq]; decide)).1]; exact hq
      have e632 := c63 (d := d - 1) nl.1.1.1 nl.1.2.2.2.1
      have st : ∀ Q, rn d 90 48 [pR T, pR q, pU, pI 1] [] (mst m T 2 (i + 2)) = some Q → cl d 90 [pR T, pR q] m = some Q := by
        intro Q hQ
        refine q90 (by omega) hz _ ?_
        rw [gd_of hT, bI_eq e63, if_pos q46, v2, (w32_of (by omega) (by omega) : w32 (i + 1) = i + 1), bI_eq e631, if_pos r46, if_neg (by decide), v21, (w32_of (by omega) (by omega) : w32 (i + 1 + 1) = i + 1 + 1), mst_mst, show i + 1 + 1 = i + 2 by omega]
        exact hQ
      by_cases q91 : pk t e (i + 2) = 91
      · rw [if_pos q91]
        have hlt3 : i + 2 < e := pkf_lt (t := t) (by omega)
        have key := seg_br (d := d - 1) (op := op) (z3 := pI 1) (q := q) H2 (by unfold dpn; omega) ho (by rfl) hz h2 (by omega) hlt3 (g2.weak (s' := 40) (by omega)) (by omega) nl tM vM (Or.inr rfl) hqM
        refine ⟨fun F j z => ?_, fun p z => ?_⟩
        · obtain ⟨m', m'', o, e1, b⟩ := key.1 F j z
          refine ⟨m', m'', o, st _ (q90_48 (by omega) h2.1.1 _ ?_), b⟩
          rw [nw_eq, bV_eq e304, if_neg (by decide), gd_of nl.1.2.2.1, bI_eq e632, if_pos q91]
          rw [show d - 1 + 1 = d by omega] at e1; exact e1
        · obtain ⟨m', e1, ce⟩ := key.2 p z
          refine ⟨m', st _ (q90_48 (by omega) h2.1.1 _ ?_), ?_⟩
          · rw [nw_eq, bV_eq e304, if_neg (by decide), gd_of nl.1.2.2.1, bI_eq e632, if_pos q91]
            rw [show d - 1 + 1 = d by omega] at e1; exact e1
          · exact ce.weak (by omega)
      · rw [if_neg q91]
        have key := c90_78 (d := d) (q := q) (by omega) hz h2 (by omega) g2 (by omega) nl tM vM (Or.inr rfl) hqM
        have e9 : (if pk t e (i + 2) = 42 then qN 21 1 [] (foC (2, 0, [], []) foN foN) (i + 3) else if ¬ ltr (pk t e (i + 2)) then qE (i + 2) else qN 21 1 [] (foC (1, 0, (sNa t e (i + 2)).1, []) foN foN) (sNa t e (i + 2)).2) = sTl t e 1 (i + 2) := by
          unfold sTl
          rw [show i + 2 + 1 = i + 3 by omega]
        rw [e9]
        refine SR.to key (fun z hz' => st _ (q90_48 (by omega) h2.1.1 _ ?_)) (by omega)
        rw [nw_eq, bV_eq e304, if_neg (by decide), gd_of nl.1.2.2.1, bI_eq e632, if_neg q91]
        exact hz'
    · rw [if_neg (fun z => r46 z.2)]
      obtain ⟨M, e304, nl, tM, vM⟩ := new304 (d := d - 1) (v := 0) h1 (Or.inl rfl)
      have hqM : tg M q = 15 := by rw [((g1.1.trans nl.2.1) q (by rw [hq]; decide)).1]; exact hq
      have key := c90_78 (d := d) (q := q) (by omega) hz h1 (by omega) g1 (by omega) nl tM vM (Or.inl rfl) hqM
      have e9 : (if false = false ∧ pk t e (i + 1) = 42 then qN 21 0 [] (foC (2, 0, [], []) foN foN) (i + 2) else if ¬ ltr (pk t e (i + 1)) then qE (i + 1) else qN 21 0 [] (foC (1, 0, (sNa t e (i + 1)).1, []) foN foN) (sNa t e (i + 1)).2) = sTl t e 0 (i + 1) := by
        unfold sTl
        by_cases z : pk t e (i + 1) = 42
        · rw [if_pos ⟨rfl, z⟩, if_pos z, show i + 1 + 1 = i + 2 by omega]
        · rw [if_neg (fun y => z y.2), if_neg z]
      rw [e9]
      refine SR.to key (fun z hz' => ?_) (by omega)
      refine q90 (by omega) hz _ ?_
      rw [gd_of hT, bI_eq e63, if_pos q46, v2, (w32_of (by omega) (by omega) : w32 (i + 1) = i + 1), bI_eq e631, if_neg r46, if_pos rfl]
      refine q90_48 (by omega) h1.1.1 _ ?_
      rw [nw_eq, bV_eq e304, if_pos rfl]
      exact hz'
  · rw [if_neg q46]
    obtain ⟨M, e304, nl, tM, vM⟩ := new304 (d := d - 1) (v := 0) h (Or.inl rfl)
    have hqM : tg M q = 15 := by rw [(nl.2.1 q (by rw [hq]; decide)).1]; exact hq
    have key := seg_br (d := d - 1) (op := op) (z3 := pU) (q := q) H2 (by unfold dpn; omega) ho (by rfl) hz h hL hlt (CPg.refl h) (by omega) nl tM vM (Or.inl rfl) hqM
    refine SR.to key (fun z hz' => ?_) (by omega)
    refine q90 (by omega) hz _ ?_
    rw [gd_of hT, bI_eq e63, if_neg q46, nw_eq, bV_eq e304]
    rw [show d - 1 + 1 = d by omega] at hz'; exact hz'
end
