/-! queries read by the component: lists of what was read -/
set_option maxRecDepth 100000
set_option maxHeartbeats 4000000
theorem CF.cg {m : Mem} {N : Int} {xs : List Int} {P : Int → Prop} : ∀ {F : Fo} {p p' : Nat → Int}, (∀ j, j < cntF F → p' j = p j) → CF m N xs P p F → CF m N xs P p' F := by
  intro F
  induction F with
  | leaf => intro p p' _ _; trivial
  | inner n d u l r ihl ihr =>
    intro p p' hp hc
    obtain ⟨⟨h1, h2, h3⟩, h4⟩ := hc
    have e0 : p' 0 = p 0 := hp 0 (Nat.succ_pos _)
    exact ⟨⟨by rw [e0]; exact h1, by rw [e0]; exact h2, by rw [e0]; exact h3⟩, ihr (fun j hj => hp (j + 1) (Nat.succ_lt_succ hj)) h4⟩
theorem cntF_app : ∀ (A B : Fo), cntF (fapp A B) = cntF A + cntF B := by
  intro A
  induction A with
  | leaf => intro B; show cntF B = 0 + cntF B; omega
  | inner n d u l r ihl ihr => intro B; show cntF (fapp r B) + 1 = cntF r + 1 + cntF B; rw [ihr]; omega
/-- a call that leaves what the compiler has -/
def lvN (e : Nat) : Bool := rwN e && scN e && txN e && !(Nat.testBit e (bix 5 4)) && !(Nat.testBit e (bix 5 5))
/-- a list in the making: q has os, which stand for A -/
def LI (m0 m : Mem) (N : Int) (xs : List Int) (q fa fs t1 t2 : Int) (os : List Int) (cap : Int) (A : Fo) : Prop := LSQ m q fa fs t1 t2 os cap ∧ tg m0 q = 0 ∧ tg m q ≠ 0 ∧ tg m0 (vl m q fa) = 0 ∧ CF m N xs (fun a => nwP m0 m a ∧ a ≠ q ∧ a ≠ vl m q fa) (fun j : Nat => gi os j) A ∧ cntF A = os.length
section
variable {d op : Nat} {T tp e i N c : Int} {t : Int → Int} {m0 m m1 m2 : Mem} {xs : List Int}
theorem CS.frl {q : Nat} {as : List PV} {r : Rs} (h : CS m T tp e i t op N xs c) (e1 : cl d q as m = some (r, m1)) (hb : lvN (eM q) = true) : CS m1 T tp e i t op N xs c ∧ RO N m m1 ∧ nx m ≤ nx m1 := by
  unfold lvN at hb
  simp only [Bool.and_eq_true, Bool.not_eq_true'] at hb
  obtain ⟨⟨⟨⟨b1, b2⟩, b3⟩, b4⟩, b5⟩ := hb
  have f := cl_FRM e1
  obtain ⟨a1, a2, a3, a4, a5, a6, a7, a8⟩ := h
  have ok1 := a1.fr f
  have b8 : Nat.testBit (eM q) (bix 8 0) = false := by
    unfold rwN at b1
    simp only [Bool.and_eq_true, Bool.not_eq_true'] at b1
    exact b1.1.1.1
  have hI : RI m1 := RI.fr2 a2 f (cl_NZ e1) a1.1 (by have := a1.2.2; omega) b8 (by have := ok1.2.2; omega)
  exact ⟨⟨ok1, hI, by rw [tg_of f a1.1 (by omega)]; exact a3, a4.fr f a1.1 b3, by rw [vl_of f a1.1 a3 (by decide) b4]; exact a5, by rw [vl_of f a1.1 a3 (by decide) b5]; exact a6, a7.fr f a1.1 b1, a8.fr f a1.1 b2⟩, ⟨hI, fun r' _ ys c' hw => hw.fr f a1.1 b1⟩, f.1.2.1⟩
theorem CPh.cost {j c1 s g : Int} {xs1 : List Int} (h : CPh T N m i c xs m1 j c1 xs1 s) (hr : RO N m1 m2) (hn : nx m1 ≤ nx m2) (h1 : nx m2 - nx m1 ≤ g) (h2 : sl m2 - sl m1 ≤ g) : CPh T N m i c xs m2 j c1 xs1 (s - g) := by
  obtain ⟨a2, a3, a4, a5, a7⟩ := h
  exact ⟨a2.trans hr, by omega, a4, a5, a7⟩
theorem CPh.trans {j k c1 c2 s s' : Int} {xs1 xs2 : List Int} (h : CPh T N m i c xs m1 j c1 xs1 s) (h' : CPh T N m1 j c1 xs1 m2 k c2 xs2 s') : CPh T N m i c xs m2 k c2 xs2 (s + s') := by
  obtain ⟨a2, a3, a4, ⟨ys, a5, a6⟩, a7⟩ := h
  obtain ⟨b2, b3, b4, ⟨zs, b5, b6⟩, b7⟩ := h'
  exact ⟨a2.trans b2, by omega, by omega, ⟨ys ++ zs, by rw [b5, a5, List.append_assoc], by rw [List.length_append]; push_cast; omega⟩, by omega⟩
theorem CPh.weak {j c1 s s' : Int} {xs1 : List Int} (h : CPh T N m i c xs m1 j c1 xs1 s) (hs : s' ≤ s) : CPh T N m i c xs m1 j c1 xs1 s' := by
  obtain ⟨a2, a3, a4, a5, a7⟩ := h
  exact ⟨a2, by omega, a4, a5, a7⟩
theorem CEr.preH {j c1 p u u' s : Int} {m' : Mem} {xs1 : List Int} (h : CEr T N m1 j c1 e m' p u) (hq : QKp m0 m1) (g : CPh T N m i c xs m1 j c1 xs1 s) (hu : u - s ≤ u') : vl m' T 3 = p ∧ QKp m0 m' ∧ RO N m m' ∧ OK m' ∧ tg m' T = 5 ∧ ∃ zs c', RW m' N zs c' ∧ (nx m' - nx m ≤ 40 * (e - i) + u' + (c' - c) / 16 ∧ sl m' - sl m ≤ 40 * (e - i) + u' + 2 * (c' - c)) ∧ (c ≤ c' ∧ c' ≤ max c 12000) := by
  obtain ⟨b1, b2, b3, b4, b5, zs, c', b6, b7, b8⟩ := h
  obtain ⟨a2, a3, a4, -, a7⟩ := g
  exact ⟨b1, hq.trans b2, a2.trans b3, b4, b5, zs, c', b6, by omega, by omega⟩
/-- the list stays while more is read -/
theorem LI.keep {q fa fs t1 t2 cap : Int} {os ys : List Int} {A : Fo} (h : LI m0 m N xs q fa fs t1 t2 os cap A) (hk : QKp m m1) (h1 : qOk (tg m q) fa) (h2 : qOk (tg m q) fs) (h3 : ∀ k, qOk t1 k ∧ qOk t2 k) (h0 : ∀ a, tg m a ≠ 0 → tg m1 a ≠ 0) : LI m0 m1 N (xs ++ ys) q fa fs t1 t2 os cap A := by
  obtain ⟨⟨a1, a2, a3, a4, a5, a6, a7⟩, b1, b2, b3, b4, b5⟩ := h
  obtain ⟨k1, k2, k3⟩ := hk q b2
  have e1 := k3 fa h1
  have e2 := k3 fs h2
  have hA : tg m (vl m q fa) ≠ 0 := by
    rcases a1 with q1 | q1 <;> rw [q1] <;> intro h <;> rw [h] at q1
    · have := (h3 0).1; rw [h] at this; omega
    · have := (h3 0).2; rw [h] at this; omega
  obtain ⟨l1, l2, l3⟩ := hk (vl m q fa) hA
  refine ⟨⟨by rw [e1, l1]; exact a1, by rw [e1, l2]; exact a2, by rw [e2]; exact a3, a4, a5, a6, fun j j0 j1 => ?_⟩, b1, h0 q b2, by rw [e1]; exact b3, ?_, b5⟩
  · obtain ⟨c1, c2, c3⟩ := a7 j j0 j1
    refine ⟨?_, ?_, h0 _ c3⟩
    · rw [e1, l3 j (by rcases a1 with q1 | q1 <;> rw [q1]
                       · exact (h3 j).1
                       · exact (h3 j).2)]; exact c1
    · rw [(hk (gi os j) c3).1]; exact c2
  · rw [e1]
    exact CF.imp (fun a ha => ⟨⟨ha.1.1, h0 a ha.1.2⟩, ha.2⟩) (CF.keep hk.q (fun _ => rfl) b4)
/-- one more in the list -/
theorem LI.addP {P : Int → Prop} {q fa fs t1 t2 cap cap' x : Int} {os : List Int} {A X : Fo} (h : LI m0 m N xs q fa fs t1 t2 os cap A) (hL : LSQ m1 q fa fs t1 t2 (os ++ [x]) cap') (hF : LSF m m1 q fa fs) (hz : TZ m) (hz0 : ∀ a, nx m ≤ a → tg m0 a = 0) (hX : CF m N xs P (fun _ => x) X) (hP : ∀ a, P a → nwP m0 m a ∧ a ≠ q ∧ a ≠ vl m q fa) (hc : cntF X = 1) : LI m0 m1 N xs q fa fs t1 t2 (os ++ [x]) cap' (fapp A X) := by
  obtain ⟨a1, b1, b2, b3, b4, b5⟩ := h
  obtain ⟨f1, f2, f3, f4, f5⟩ := hF
  have hA' : tg m0 (vl m1 q fa) = 0 := by
    rcases f5 with e | e
    · rw [e]; exact b3
    · exact hz0 _ e
  have hkq : QKq (fun a => a ≠ q ∧ a ≠ vl m q fa) m m1 := ⟨f2, fun a ha k hk => f3 a k (by intro z; rw [z] at hk; omega) ha.1 ha.2⟩
  have up : ∀ a, (nwP m0 m a ∧ a ≠ q ∧ a ≠ vl m q fa) → nwP m0 m1 a ∧ a ≠ q ∧ a ≠ vl m1 q fa := fun a ha => by
    refine ⟨⟨ha.1.1, by rw [(f2 a ha.1.2).1]; exact ha.1.2⟩, ha.2.1, ?_⟩
    rcases f5 with e | e
    · rw [e]; exact ha.2.2
    · intro z; rw [z] at ha; exact ha.1.2 (hz _ e)
  have nil : ∀ ys : List Int, ys ++ [] = ys := fun ys => List.append_nil ys
  refine ⟨hL, b1, by rw [(f2 q b2).1]; exact b2, hA', CF.app ?_ ?_, by rw [cntF_app, List.length_append, b5, hc]; rfl⟩
  · have := CF.keep (ys := []) (hkq.imp (fun a ha => ha.2)) (fun _ => rfl) b4
    rw [nil] at this
    refine CF.cg (fun j hj => ?_) (CF.imp (fun a ha => up a ha) this)
    rw [gi_app_l (by omega) (by omega)]
  · have := CF.keep (ys := []) (hkq.imp (fun a ha => (hP a ha).2)) (fun _ => rfl) hX
    rw [nil] at this
    refine CF.cg (fun j hj => ?_) (CF.imp (fun a ha => up a (hP a ha)) this)
    have : j = 0 := by omega
    rw [this, b5]
    show gi (os ++ [x]) ((0 + os.length : Nat) : Int) = x
    rw [gi_app_r (by omega), show ((0 + os.length : Nat) : Int) - (os.length : Int) = 0 by omega, gi_zero]
theorem nwP_ne {mb : Mem} {q r : Int} (hb : QKp m0 mb) (hq : tg mb q ≠ 0) (hA : tg mb r ≠ 0) : ∀ a, nwP mb m a → nwP m0 m a ∧ a ≠ q ∧ a ≠ r := fun a ha => by
  refine ⟨⟨?_, ha.2⟩, fun z => hq (by rw [← z]; exact ha.1), fun z => hA (by rw [← z]; exact ha.1)⟩
  rcases Classical.em (tg m0 a = 0) with z | z
  · exact z
  · exact absurd ha.1 (by rw [(hb a z).1]; exact z)
theorem LI.add {mb : Mem} {q fa fs t1 t2 cap cap' x : Int} {os : List Int} {A X : Fo} (h : LI m0 m N xs q fa fs t1 t2 os cap A) (hL : LSQ m1 q fa fs t1 t2 (os ++ [x]) cap') (hF : LSF m m1 q fa fs) (hz : TZ m) (hz0 : ∀ a, nx m ≤ a → tg m0 a = 0) (hX : CF m N xs (nwP mb m) (fun _ => x) X) (hb : QKp m0 mb) (hq : tg mb q ≠ 0) (hA : tg mb (vl m q fa) ≠ 0) (hc : cntF X = 1) : LI m0 m1 N xs q fa fs t1 t2 (os ++ [x]) cap' (fapp A X) :=
  h.addP hL hF hz hz0 hX (nwP_ne hb hq hA) hc
/-- what was there when the list was made is as it was -/
theorem LI.kp {q fa fs t1 t2 cap : Int} {os : List Int} {A : Fo} (h : LI m0 m N xs q fa fs t1 t2 os cap A) (hk : QKp m0 m) (hF : LSF m m1 q fa fs) : QKp m0 m1 := fun a ha => by
  obtain ⟨k1, k2, k3⟩ := hk a ha
  obtain ⟨a1, b1, b2, b3, b4, b5⟩ := h
  obtain ⟨f1, f2, f3, f4, f5⟩ := hF
  have ha' : tg m a ≠ 0 := by rw [k1]; exact ha
  refine ⟨by rw [(f2 a ha').1, k1], by rw [(f2 a ha').2, k2], fun k hq => ?_⟩
  rw [f3 a k ha' (by intro z; rw [z] at ha; exact ha b1) (by intro z; rw [z] at ha; exact ha b3), k3 k hq]
end
