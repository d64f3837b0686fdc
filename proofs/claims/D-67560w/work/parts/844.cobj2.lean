/-! queries read by the component: objects with one below, and what is shown of each method -/
set_option maxRecDepth 100000
set_option maxHeartbeats 4000000
section
variable {d op : Nat} {T tp e i N c : Int} {t : Int → Int} {m : Mem} {xs : List Int}
theorem CO.leaf {M : Mem} {c' j s o v : Int} {k : Nat} {us xs' : List Int} (h : CS M T tp e j t op N xs' c') (g : CPg T N m i c xs M j c' xs' s) (np : nwP m M o) (hk : k ≤ 19 ∨ 40 ≤ k) (hb : CB M N xs' o (k, v, us, []) foN) : CO T tp e t op N m i c xs M j s o (foC (k, v, us, []) foN foN) :=
  ⟨c', xs', h, g, ⟨⟨hb, ⟨np, fun q => absurd (show k = 20 from q) (by omega), fun q => absurd (show k = 21 from q) (by omega), fun q => absurd (show k = 30 ∨ k = 31 from q) (by omega), fun q => absurd (show k = 33 from q) (by omega)⟩, trivial⟩, trivial⟩, np⟩
/-- an object with one below -/
theorem CO.kid {m0 m2 : Mem} {k c0 s0 q n j s1 x v : Int} {kd : Nat} {xs0 : List Int} {F : Fo} (hz : TZ m) (h : CS m0 T tp e k t op N xs0 c0) (g : CPg T N m i c xs m0 k c0 xs0 s0) (hq : 15 ≤ q ∧ q ≤ 29) (hn : 0 ≤ n ∧ n ≤ 5) (hk : CO T tp e t op N (mal m0 q n) k c0 xs0 m2 j s1 x F) (hkd : oneK kd) (hCB : ∀ (M : Mem) (N : Int) (xs : List Int), tg M (nx m0) = q → vl M (nx m0) 1 = v → CB M N xs (nx m0) (kd, 0, [], []) F) :
    CO T tp e t op N m i c xs (mst (mst m2 (nx m0) 0 x) (nx m0) 1 v) j (s0 - 5 + s1) (nx m0) (foC (kd, 0, [], []) F foN) ∧ tg (mst (mst m2 (nx m0) 0 x) (nx m0) 1 v) (nx m0) = q ∧ tg m2 (nx m0) = q ∧ ∀ k, qOk q k → vl m2 (nx m0) k = 0 := by
  obtain ⟨c', xs', a1, a2, a3, a4⟩ := hk
  have g1 := g.new (q := q) (n := n) h (by omega) hn
  have t1 : tg (mal m0 q n) (nx m0) = q := new_tg.1
  have hk1 := a2.1 (nx m0) (by omega)
  have t2 : tg m2 (nx m0) = q := by rw [hk1.1, t1]
  have z0 : tg m (nx m0) = 0 := hz _ g.2.2.1.1
  have b1 := a1.obj (o := nx m0) (f := 0) (v := x) (by omega)
  have g2 := (g1.trans a2).obj (o := nx m0) (f := 0) (v := x) a1 (by omega) z0
  have b2 := b1.obj (o := nx m0) (f := 1) (v := v) (show 15 ≤ tg m2 (nx m0) ∧ tg m2 (nx m0) ≤ 29 by omega)
  have g3 := g2.obj (o := nx m0) (f := 1) (v := v) b1 (show 15 ≤ tg m2 (nx m0) ∧ tg m2 (nx m0) ≤ 29 by omega) z0
  generalize hM : mst (mst m2 (nx m0) 0 x) (nx m0) 1 v = M at *
  have tM : ∀ a, tg M a = tg m2 a := fun a => by rw [← hM]; rfl
  have v0 : vl M (nx m0) 0 = x := by rw [← hM, vl_mst, if_neg (by omega), vl_mst, if_pos ⟨rfl, rfl⟩]
  have v1 : vl M (nx m0) 1 = v := by rw [← hM, vl_mst, if_pos ⟨rfl, rfl⟩]
  have np : nwP m M (nx m0) := ⟨z0, by rw [tM, t2]; omega⟩
  have hq2 : QKq (fun a => a ≠ nx m0) m2 M := ⟨fun a _ => ⟨tM a, by rw [← hM]; rfl⟩, fun a ha k _ => by rw [← hM, vl_mst, if_neg (fun z => ha z.1), vl_mst, if_neg (fun z => ha z.1)]⟩
  have hne : ∀ a, nwP (mal m0 q n) m2 a → a ≠ nx m0 := fun a ha z => by
    have := ha.1; rw [z, t1] at this; omega
  have hold : ∀ a, nwP (mal m0 q n) m2 a → nwP m M a := fun a ha => by
    refine ⟨?_, by rw [tM]; exact ha.2⟩
    rcases Classical.em (tg m a = 0) with z | z
    · exact z
    · exact absurd ha.1 (by rw [(g1.1 a z).1]; exact z)
  have a3' := CF.keep (ys := []) (p' := CK M (nx m0) (kd, 0, [], []) F) (hq2.imp hne) (fun j => by rw [CK_w hkd, v0]) a3
  rw [List.append_nil] at a3'
  refine ⟨⟨c', xs', b2, g3, ⟨⟨hCB M N xs' (by rw [tM]; exact t2) v1, ⟨np, fun w => absurd (show kd = 20 from w) (by omega), fun w => absurd (show kd = 21 from w) (by omega), fun w => absurd (show kd = 30 ∨ kd = 31 from w) (by omega), fun w => absurd (show kd = 33 from w) (by omega)⟩, a3'.imp (fun a z => ⟨hold a z, fun w => absurd (show kd = 33 from w) (by omega)⟩)⟩, trivial⟩, np⟩, by rw [tM]; exact t2, t2, fun k hk => by rw [hk1.2.2 k (by rw [t1]; exact hk)]; exact new_tg.2 k⟩
/-- one more step of what was shown -/
theorem CO.pre {m1 m2 : Mem} {k c0 s0 j s1 o : Int} {xs0 : List Int} {F : Fo} (g : CPg T N m i c xs m1 k c0 xs0 s0) (hk : CO T tp e t op N m1 k c0 xs0 m2 j s1 o F) : CO T tp e t op N m i c xs m2 j (s0 + s1) o F := by
  obtain ⟨c', xs', a1, a2, a3, a4⟩ := hk
  have hold : ∀ a, nwP m1 m2 a → nwP m m2 a := fun a ha => by
    refine ⟨?_, ha.2⟩
    rcases Classical.em (tg m a = 0) with z | z
    · exact z
    · exact absurd ha.1 (by rw [(g.1 a z).1]; exact z)
  exact ⟨c', xs', a1, g.trans a2, a3.imp hold, hold _ a4⟩
theorem CO.weak {m1 : Mem} {j s s' o : Int} {F : Fo} (h : CO T tp e t op N m i c xs m1 j s o F) (hs : s' ≤ s) : CO T tp e t op N m i c xs m1 j s' o F := by
  obtain ⟨c', xs', a1, a2, a3, a4⟩ := h
  exact ⟨c', xs', a1, a2.weak hs, a3, a4⟩
/-- the place is passed on -/
theorem CO.at {m1 : Mem} {j k s o : Int} {F : Fo} (h : CO T tp e t op N m i c xs m1 j s o F) (hk : j ≤ k) (hke : k ≤ e) : CO T tp e t op N m i c xs (mst m1 T 2 k) k s o F := by
  obtain ⟨c', xs', a1, a2, a3, a4⟩ := h
  have hr := a1.rng
  have hT := a1.2.2.1
  have a3' := CF.keep (ys := []) (p' := fun _ => o) (m' := mst m1 T 2 k) ((QKp.refl.set (Or.inr (by rw [hT]; omega))).q) (fun _ => rfl) a3
  rw [List.append_nil] at a3'
  exact ⟨c', xs', a1.at (by omega) hke, a2.at a1 hk (by omega), a3', a4⟩
end
/-- where the place may stand -/
def plc (mo : Nat) (t : Int → Int) (e j j' : Int) : Prop := if mo = 4 ∨ mo = 5 ∨ mo = 6 then (j ≤ j' ∧ j' ≤ e ∧ sB t e j' = sB t e j) else j' = j
/-- whose class -/
def cls (mo : Nat) (k : Int) : Prop := if mo = 0 then k = 15 else if mo = 1 then k = 16 else if mo = 4 then k = 17 ∨ k = 18 ∨ k = 19 ∨ k = 20 ∨ k = 29 else if mo = 10 then k = 23 ∨ k = 24 ∨ k = 25 else k = 21 ∨ k = 22 ∨ k = 26 ∨ k = 28
/-- what is read stands alone, or for several -/
def wrQ (mo : Nat) (F : Fo) : Fo := if mo = 5 then foC (30, 0, [], []) F foN else if mo = 6 then foC (31, 0, [], []) F foN else F
/-- a method that reads as x does -/
def CR (mo : Nat) (T tp e : Int) (t : Int → Int) (op : Nat) (N : Int) (m : Mem) (i c : Int) (xs : List Int) (Q : RM) (x : QR) (u : Int) : Prop :=
  (∀ F j, x = some (.inr (F, j)) → ∃ m' o j', Q = some (.inl (some (pR o)), m') ∧ cls mo (tg m' o) ∧ plc mo t e j j' ∧ CO T tp e t op N m i c xs m' j' 20 o (wrQ mo F) ∧ cntF (wrQ mo F) = 1) ∧
  (∀ p, x = some (.inl p) → ∃ m', Q = some (.inr 204, m') ∧ CEr T N m i c e m' p u)
