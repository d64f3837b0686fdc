/-! queries read by the component: all, and a whole query -/
set_option maxRecDepth 100000
set_option maxHeartbeats 4000000
section
variable {T tp e N : Int} {t : Int → Int}
theorem itC_1 : (fun (d : Nat) (m : Mem) => itC 1 T d m) = fun d m => cl d 94 [pR T, pI 0, pI 38] m := by
  funext d m; unfold itC; rw [if_neg (by decide)]
theorem itC_0 : (fun (d : Nat) (m : Mem) => itC 0 T d m) = fun d m => cl d 95 [pR T] m := by
  funext d m; unfold itC; rw [if_pos rfl]
def AllQ (T tp e : Int) (t : Int → Int) (N : Int) (n : Nat) : Prop :=
  QH T tp e t N n 4 16 (fun d m => cl d 92 [pR T] m) ∧ QH T tp e t N n 5 14 (fun d m => cl d 94 [pR T, pI 1, pI 124] m) ∧ QH T tp e t N n 6 12 (fun d m => cl d 94 [pR T, pI 0, pI 38] m) ∧ QH T tp e t N n 7 11 (fun d m => cl d 95 [pR T] m) ∧ QH T tp e t N n 8 10 (fun d m => cl d 96 [pR T] m) ∧ QH T tp e t N n 10 9 (fun d m => cl d 98 [pR T] m) ∧ QL3 T tp e t N n ∧ QL2 T tp e t N n ∧ QS false T tp e t N n ∧ QL0 false T tp e t N n ∧ QL0 true T tp e t N n
theorem AllQ_0 : AllQ T tp e t N 0 := by
  have qh : ∀ (mo off : Nat) (call : Nat → Mem → RM), QH T tp e t N 0 mo off call := fun mo off call d op m i c xs _ _ _ _ _ _ => CR.no
  refine ⟨qh _ _ _, qh _ _ _, qh _ _ _, qh _ _ _, qh _ _ _, qh _ _ _, ?_, ?_, ?_, ?_, ?_⟩
  · intro d op ms m i c i0 c0 s0 cap q xs xs0 os A _ _ _ _ _ _ _ _ _ _ _
    exact ⟨fun F j z => (by cases z), fun p z => (by cases z)⟩
  · intro d op ms m i c i0 c0 s0 cap q xs xs0 os A _ _ _ _ _ _ _ _ _ _ _ _
    exact ⟨fun F j z => (by cases z), fun p z => (by cases z)⟩
  · intro d op m i c q xs _ _ _ _ _ _
    exact SR.no
  · intro d op ms m i c i0 c0 s0 cap q xs xs0 os A z3 _ _ _ _ _ _ _ _ _ _ _ _ _
    exact ⟨fun F j z => (by cases z), fun p z => (by cases z)⟩
  · intro d op ms m i c i0 c0 s0 cap q xs xs0 os A z3 _ _ _ _ _ _ _ _ _ _ _ _ _
    exact ⟨fun F j z => (by cases z), fun p z => (by cases z)⟩
theorem AllQ_all : ∀ (n k : Nat), k ≤ n → AllQ T tp e t N k := by
  intro n
  induction n with
  | zero =>
    intro k hk
    have : k = 0 := by omega
    subst this
    exact AllQ_0
  | succ n ih =>
    intro k hk
    by_cases hkn : k ≤ n
    · exact ih k hkn
    have : k = n + 1 := by omega
    subst this
    obtain ⟨h4, h5, h6, h7, h8, h10, l3, l2, s1, q0, q1⟩ := ih n (Nat.le_refl n)
    have f0 : QQ false T tp e t N n := c82 q0
    have f1 : QQ true T tp e t N n := c82 q1
    refine ⟨c92 h5, ?_, ?_, c95 f0 h8 h10, c96 h5, c98 f0 f1 h10, c91_l h4 l3, c91 l3, c90 l2, c82_l s1 q0, c82_l c83 q1⟩
    · refine c94 (mo := 5) (im := 6) (an := 1) (sgn := 124) (Or.inl ⟨rfl, rfl, rfl, rfl⟩) rfl rfl (fun k hk => ?_)
      rw [itC_1]; exact (ih k hk).2.2.1
    · refine c94 (mo := 6) (im := 7) (an := 0) (sgn := 38) (Or.inr ⟨rfl, rfl, rfl, rfl⟩) rfl rfl (fun k hk => ?_)
      rw [itC_0]; exact (ih k hk).2.2.2.1
theorem QQ_all (n : Nat) : QQ false T tp e t N n := c82 (AllQ_all n n (Nat.le_refl n)).2.2.2.2.2.2.2.2.2.1
end
section
variable {d : Nat} {m : Mem} {T tp e : Int} {t : Int → Int}
/-- a new row -/
abbrev newR (m : Mem) (n : Int) : Mem := mst (mal (mal m 8 2) 130103 n) (nx m) 0 (nx m + 1)
theorem newR_c {n : Int} (hz : TZ m) (hn : 0 ≤ n ∧ n ≤ 2000000) : cl d 129 [pR (nx m), pI n] (mal m 8 2) = some (.inl none, newR m n) := by
  have hz' : TZ (mal m 8 2) := (fr_mal (e := eM 67) (by rfl)).1.1 hz
  refine q129 hz' _ ?_
  rw [gd_of new_tg.1, gd_of hn, nw_eq]
  rfl
theorem newR_k {n : Int} (ok : OK m) (hI : RI m) (hn : 16 ≤ n ∧ n ≤ 200000) : OK (newR m n) ∧ RI (newR m n) ∧ RW (newR m n) (nx m) [] n ∧ (∀ r ys c, RW m r ys c → RW (newR m n) r ys c) ∧ QKp m (newR m n) ∧ (∀ a, tg m a ≠ 0 → tg (newR m n) a = tg m a ∧ ln (newR m n) a = ln m a ∧ ∀ k, vl (newR m n) a k = vl m a k) ∧ nx (newR m n) = nx m + 2 ∧ sl (newR m n) = sl m + 2 + n := by
  have hz := ok.1
  have f1 : FRM (eM 129) m (mal m 8 2) := fr_mal (by rfl)
  have f2 : FRM (eM 129) (mal m 8 2) (mal (mal m 8 2) 130103 n) := fr_mal (by rfl)
  have ok2 : OK (mal (mal m 8 2) 130103 n) := (ok.fr f1).fr f2
  have n1 : nx (mal m 8 2) = nx m + 1 := rfl
  have tA : ∀ a, tg (newR m n) a = (if a = nx m + 1 then 130103 else if a = nx m then 8 else tg m a) := fun a => rfl
  have lA : ∀ a, ln (newR m n) a = (if a = nx m + 1 then n else if a = nx m then 2 else ln m a) := fun a => rfl
  have vA : ∀ a k, vl (newR m n) a k = (if a = nx m ∧ k = 0 then nx m + 1 else if a = nx m + 1 then 0 else if a = nx m then 0 else vl m a k) := fun a k => rfl
  have old : ∀ a, tg m a ≠ 0 → tg (newR m n) a = tg m a ∧ ln (newR m n) a = ln m a ∧ ∀ k, vl (newR m n) a k = vl m a k := fun a ha => by
    have h1 : a ≠ nx m := fun z => ha (by rw [z]; exact hz _ (Int.le_refl _))
    have h2 : a ≠ nx m + 1 := fun z => ha (by rw [z]; exact hz _ (by omega))
    exact ⟨by rw [tA, if_neg h2, if_neg h1], by rw [lA, if_neg h2, if_neg h1], fun k => by rw [vA, if_neg (fun z => h1 z.1), if_neg h2, if_neg h1]⟩
  have tN : tg (newR m n) (nx m) = 8 := by rw [tA, if_neg (by omega), if_pos rfl]
  have tB : tg (newR m n) (nx m + 1) = 130103 := by rw [tA, if_pos rfl]
  have vN : vl (newR m n) (nx m) 0 = nx m + 1 := by rw [vA, if_pos ⟨rfl, rfl⟩]
  have nn : nx (newR m n) = nx m + 2 := by show nx m + 1 + 1 = nx m + 2; omega
  refine ⟨ok2, ⟨fun r hr => ?_, fun r r' hr hr' hne h0 => ?_⟩, ⟨tN, by rw [vN]; exact Or.inl tB, by rw [vN, lA, if_pos rfl], by rw [vA, if_neg (by omega), if_neg (by omega), if_pos rfl]; rfl, by simp; omega, hn, fun i i0 i1 => absurd i1 (by simp; omega)⟩, fun r ys c hw => ?_, fun a ha => ⟨(old a ha).1, (old a ha).2.1, fun k _ => (old a ha).2.2 k⟩, old, nn, rfl⟩
  · rw [nn]
    by_cases z : r = nx m
    · rw [z, vN]; omega
    · have z2 : r ≠ nx m + 1 := fun w => by rw [w, tB] at hr; cases hr
      have hr0 : tg m r = 8 := by rw [tA, if_neg z2, if_neg z] at hr; exact hr
      rw [(old r (by rw [hr0]; decide)).2.2]
      have := hI.1 r hr0
      omega
  · have key : ∀ r, tg (newR m n) r = 8 → r ≠ nx m → tg m r = 8 ∧ vl (newR m n) r 0 = vl m r 0 ∧ vl m r 0 < nx m := fun r hr z => by
      have z2 : r ≠ nx m + 1 := fun w => by rw [w, tB] at hr; cases hr
      have hr0 : tg m r = 8 := by rw [tA, if_neg z2, if_neg z] at hr; exact hr
      exact ⟨hr0, (old r (by rw [hr0]; decide)).2.2 0, hI.1 r hr0⟩
    by_cases z : r = nx m
    · have k2 := key r' hr' (fun w => hne (by rw [z, w]))
      rw [z, vN, k2.2.1]; omega
    · have k1 := key r hr z
      by_cases z' : r' = nx m
      · rw [z', vN, k1.2.1]; omega
      · have k2 := key r' hr' z'
        rw [k1.2.1, k2.2.1]
        rw [k1.2.1] at h0
        exact hI.2 r r' k1.1 k2.1 hne h0
  · obtain ⟨a1, a2, a3, a4, a5, a6, a7⟩ := hw
    have o1 := old r (by rw [a1]; decide)
    have o2 := old (vl m r 0) (by rcases a2 with z | z <;> rw [z] <;> decide)
    exact ⟨by rw [o1.1]; exact a1, by rw [o1.2.2, o2.1]; exact a2, by rw [o1.2.2, o2.2.1]; exact a3, by rw [o1.2.2]; exact a4, a5, a6, fun i i0 i1 => by rw [o1.2.2, o2.2.2]; exact a7 i i0 i1⟩
/-- a whole query -/
theorem c81 {n : Nat} (hd : 500 ≤ d) (ok : OK m) (hI : RI m) (h5 : tg m T = 5) (hS : CSC m) (hp : TP m tp e t) (hL : 3 * e ≤ 5900) :
    (∀ S, sQu t e n = some (.inr S) → ∃ m' o N xs c, cl d 81 [pR T, pR tp, pI e] m = some (.inl (some (pR o)), m') ∧ OK m' ∧ RI m' ∧ tg m' o = 15 ∧ QKp m m' ∧ RW m' N xs c ∧ (xs.length : Int) ≤ 3 * e ∧ tg m N = 0 ∧ CF m' N xs (nwP m m') (fun _ => o) (foC (20, 1, [], []) S foN) ∧ (∀ r ys c, RW m r ys c → RW m' r ys c) ∧ (nx m' ≤ nx m + 40 * e + 1000 ∧ sl m' ≤ sl m + 40 * e + 24200)) ∧
    (∀ p, sQu t e n = some (.inl p) → ∃ m', cl d 81 [pR T, pR tp, pI e] m = some (.inr 204, m') ∧ vl m' T 3 = p ∧ OK m' ∧ RI m' ∧ QKp m m' ∧ (∀ r ys c, RW m r ys c → RW m' r ys c) ∧ (nx m' ≤ nx m + 40 * e + 1000 ∧ sl m' ≤ sl m + 40 * e + 24200)) := by
  have hT : tg m T = 4 ∨ tg m T = 5 := Or.inr h5
  have h8 : tg m T ≠ 8 ∧ tg m T < 100 := by omega
  have e61 := c61 (d := d - 1) (tp := tp) (e := e) ok.1 hT
  have hx0 := TX.over hT hp
  have he := hp.2.1
  have ok1 : OK (mst (mst (mst m T 0 tp) T 1 e) T 2 0) := ok
  have hI1 : RI (mst (mst (mst m T 0 tp) T 1 e) T 2 0) := ((hI.mT (by omega)).mT (T := T) (by show tg m T ≠ 8; omega)).mT (T := T) (by show tg m T ≠ 8; omega)
  have hW1 : ∀ r ys c, RW m r ys c → RW (mst (mst (mst m T 0 tp) T 1 e) T 2 0) r ys c := fun r ys c hw => RW.mT (m := mst (mst m T 0 tp) T 1 e) h8 (RW.mT (m := mst m T 0 tp) h8 (hw.mT h8))
  have hq1 : QKp m (mst (mst (mst m T 0 tp) T 1 e) T 2 0) := (((QKp.refl.set (Or.inr (by rw [h5]; omega))).set (Or.inr (by rw [h5]; omega))).set (Or.inr (by rw [h5]; omega)))
  have hS1 : CSC (mst (mst (mst m T 0 tp) T 1 e) T 2 0) := ((hS.mT (by omega)).mT (T := T) (by show tg m T ≠ 31 ∧ tg m T ≠ 103; omega)).mT (T := T) (by show tg m T ≠ 31 ∧ tg m T ≠ 103; omega)
  have n1 : nx (mst (mst (mst m T 0 tp) T 1 e) T 2 0) = nx m := rfl
  have s1 : sl (mst (mst (mst m T 0 tp) T 1 e) T 2 0) = sl m := rfl
  have t1 : ∀ a, tg (mst (mst (mst m T 0 tp) T 1 e) T 2 0) a = tg m a := fun a => rfl
  generalize hm1 : mst (mst (mst m T 0 tp) T 1 e) T 2 0 = m1 at *
  have e129 := newR_c (d := d - 1) (m := m1) (n := 64) ok1.1 (by omega)
  obtain ⟨k1, k2, k3, k4, k5, k6, k7, k8⟩ := newR_k (n := 64) ok1 hI1 (by omega)
  have tT1 : tg m1 T = 5 := by rw [t1]; exact h5
  have hTN : T ≠ nx m1 := by have := tz_lt ok1.1 (x := T) (by omega); omega
  generalize hm2 : newR m1 64 = m2 at *
  have oT := k6 T (by omega)
  have otp := k6 tp (by rw [hx0.2.2.2.2.1]; decide)
  have hx2 : TX m2 T tp e 0 t := by
    obtain ⟨b1, b2, b3, b4, b5, b6, b7⟩ := hx0
    exact ⟨by rw [oT.1]; exact b1, by rw [oT.2.2]; exact b2, by rw [oT.2.2]; exact b3, by rw [oT.2.2]; exact b4, by rw [otp.1]; exact b5, by rw [otp.2.1]; exact b6, fun j j0 j1 => by rw [otp.2.2]; exact b7 j j0 j1⟩
  have tT2 : tg m2 T = 5 := by rw [oT.1]; exact tT1
  have htpT : tp ≠ T := by intro z; have := hx2.2.2.2.2.1; rw [z] at this; omega
  -- the compiler's state
  have hCS : CS (mst (mst m2 T 4 (nx m1)) T 5 0) T tp e 0 t 0 (nx m1) [] 64 := by
    refine ⟨k1, ((k2.mT (by omega)).mT (T := T) (by show tg m2 T ≠ 8; omega)), tT2, ?_, by rw [vl_mst, if_neg (by omega), vl_mst, if_pos ⟨rfl, rfl⟩], by rw [vl_mst, if_pos ⟨rfl, rfl⟩]; rfl, ((k3.mT (by omega)).mT (T := T) (by show tg m2 T ≠ 8 ∧ tg m2 T < 100; omega)), ?_⟩
    · obtain ⟨b1, b2, b3, b4, b5, b6, b7⟩ := hx2
      exact ⟨b1, by rw [vl_mst, if_neg (by omega), vl_mst, if_neg (by omega)]; exact b2, by rw [vl_mst, if_neg (by omega), vl_mst, if_neg (by omega)]; exact b3, by rw [vl_mst, if_neg (by omega), vl_mst, if_neg (by omega)]; exact b4, b5, b6, fun j j0 j1 => by rw [vl_mst, if_neg (fun z => htpT z.1), vl_mst, if_neg (fun z => htpT z.1)]; exact b7 j j0 j1⟩
    · have sc : ∀ {a : Int} {cs : List Int}, SC m1 a cs → SC m2 a cs := fun {a} {cs} hs => by
        obtain ⟨b1, b2, b3, b4, b5, b6, b7⟩ := hs
        have u1 := k6 a (by rw [b1]; decide)
        have u2 := k6 (a + 1) (by rw [b2]; decide)
        exact ⟨by rw [u1.1]; exact b1, by rw [u2.1]; exact b2, by rw [u1.2.2]; exact b3, by rw [u1.2.2]; exact b4, by rw [u2.2.1]; exact b5, b6, fun j j0 j1 => by rw [u2.2.2]; exact b7 j j0 j1⟩
      have h2 : CSC m2 := ⟨sc hS1.1, sc hS1.2.1, sc hS1.2.2.1, sc hS1.2.2.2.1, sc hS1.2.2.2.2.1, sc hS1.2.2.2.2.2⟩
      exact (h2.mT (by omega)).mT (T := T) (by show tg m2 T ≠ 31 ∧ tg m2 T ≠ 103; omega)
  have kq : QKp m (mst (mst m2 T 4 (nx m1)) T 5 0) := ((hq1.trans k5).set (Or.inr (by rw [h5]; omega))).set (Or.inr (by rw [h5]; omega))
  have kw : ∀ r ys c, RW m r ys c → RW (mst (mst m2 T 4 (nx m1)) T 5 0) r ys c := fun r ys c hw => (((k4 r ys c (hW1 r ys c hw)).mT (by omega)).mT (T := T) (by show tg m2 T ≠ 8 ∧ tg m2 T < 100; omega))
  have hN0 : tg m (nx m1) = 0 := by rw [n1]; exact ok.1 _ (Int.le_refl _)
  have cN : nx (mst (mst m2 T 4 (nx m1)) T 5 0) = nx m + 2 ∧ sl (mst (mst m2 T 4 (nx m1)) T 5 0) = sl m + 66 := ⟨by show nx m2 = _; rw [k7, n1], by show sl m2 = _; rw [k8, s1]; omega⟩
  have kwN : ∀ r ys c, RW m r ys c → r ≠ nx m1 := fun r ys c hw z => by have := hw.1; rw [z, hN0] at this; cases this
  generalize hM : mst (mst m2 T 4 (nx m1)) T 5 0 = M at *
  have e63 := c63 (d := d - 1) hCS.1.1 hCS.2.2.2.1
  have st : ∀ (b : Int) Q, (b = if pk t e 0 = 36 then 1 else 0) → rn d 81 39 [pR T, pR tp, pI e, pU] [pI b, pR T] M = some Q → cl d 81 [pR T, pR tp, pI e] m = some Q := by
    intro b Q hb hQ
    refine q81 (by omega) ok.1 _ ?_
    rw [gd_of h5, bV_eq e61, nw_eq, bV_eq e129, hM, bI_eq e63]
    by_cases y : pk t e 0 = 36
    · rw [if_pos y] at hb ⊢; rw [hb] at hQ; exact hQ
    · rw [if_neg y] at hb ⊢; rw [hb] at hQ; exact hQ
  have ers : ∀ (m' : Mem) (p u : Int), CEr T (nx m1) M 0 64 e m' p u → u ≤ 100 → vl m' T 3 = p ∧ OK m' ∧ RI m' ∧ QKp m m' ∧ (∀ r ys c, RW m r ys c → RW m' r ys c) ∧ (nx m' ≤ nx m + 40 * e + 1000 ∧ sl m' ≤ sl m + 40 * e + 24200) := by
    intro m' p u hce hu
    obtain ⟨b1, b2, b3, b4, b5, zs, c', b6, b7, b8⟩ := hce
    exact ⟨b1, b4, b3.1, kq.trans b2, fun r ys c hw => b3.2 r (kwN r ys c hw) ys c (kw r ys c hw), by omega⟩
  unfold sQu
  by_cases h36 : pk t e 0 = 36
  · rw [if_neg (fun z => z h36)]
    have hlt : 0 < e := pkf_lt (t := t) (by omega)
    have e66 := c66_1 (d := d - 1) (m := M) (T := T) (by omega) hCS.1.1
    have key := QQ_all (tp := tp) (e := e) (T := T) (t := t) (N := nx m1) n (d - 1) 0 M 0 64 [] hCS (by simp; omega) (by omega) (by unfold dpn; omega) (Or.inl h36)
    rw [show (0 : Int) + 1 = 1 from rfl] at key
    have hrot : rot (pk t e 0) = 1 := if_pos h36
    rw [hrot] at key
    cases hE : sQ t e n 0 0 false 1 with
    | none => exact ⟨fun S z => (by cases z), fun p z => (by cases z)⟩
    | some y =>
      rcases y with p | ⟨S, j⟩
      · obtain ⟨m', e1, ce⟩ := key.2 p hE
        refine ⟨fun S z => (by cases z), fun p' z => ?_⟩
        cases z
        refine ⟨m', st 1 _ (by rw [if_pos h36]) (q81_39 (by omega) hCS.1.1 _ ?_), ers m' p 10 ce (by omega)⟩
        rw [gd_of hCS.2.2.1, bV_eq e66, gd_of hCS.2.2.1, bR_xq (show cl (d - 1) 82 [pR T, pI 0] M = some (Sum.inr 204, m') from e1)]
      · obtain ⟨m', o, e1, to, co⟩ := key.1 S j hE
        have e1' : cl (d - 1) 82 [pR T, pI 0] M = some (Sum.inl (some (pR o)), m') := e1
        obtain ⟨c', xs', a1, a2, a3, a4⟩ := co
        have v2 : vl m' T 2 = j := a1.2.2.2.1.2.2.2.1
        have v1 : vl m' T 1 = e := a1.2.2.2.1.2.2.1
        have ra := a1.rng
        dsimp only
        by_cases hj : j < e
        · rw [if_pos hj]
          refine ⟨fun S z => (by cases z), fun p' z => ?_⟩
          cases z
          have rj := sB_rng t (e := e) (i := j) ra.2.1
          have e62 := c62 (d := d - 1) (by omega) a1.1.1 a1.2.2.2.1
          have h2 := a1.sb
          have e67 := c67 (d := d - 1) (p := sB t e j) h2.1.1 (Or.inr h2.2.2.1)
          have g2 := a2.at (k := sB t e j) (s' := 30) a1 rj.1 (by omega)
          have ce := (h2.bad0 (p := sB t e j) (u := 6) (by omega)).pre g2 (u' := 6) (by omega)
          refine ⟨_, st 1 _ (by rw [if_pos h36]) (q81_39 (by omega) hCS.1.1 _ ?_), ers _ _ 6 ce (by omega)⟩
          have v22 : vl (mst m' T 2 (sB t e j)) T 2 = sB t e j := h2.2.2.2.1.2.2.2.1
          rw [gd_of hCS.2.2.1, bV_eq e66, gd_of hCS.2.2.1, bR_eq e1', v2, v1, if_pos hj, bV_eq e62, v22, bV_xq e67]
        · rw [if_neg hj]
          refine ⟨fun S' z => ?_, fun p' z => (by cases z)⟩
          cases z
          obtain ⟨p1, p2, p3, p4, ⟨ys, p5, p7⟩, p6⟩ := a2
          have hnw : ∀ a, nwP M m' a → nwP m m' a := fun a ha => ⟨kq.z a ha.1, ha.2⟩
          refine ⟨m', o, nx m1, xs', c', st 1 _ (by rw [if_pos h36]) (q81_39 (by omega) hCS.1.1 _ ?_), a1.1, p2.1, to, kq.trans p1, a1.2.2.2.2.2.2.1, (by rw [p5, List.nil_append]; omega), hN0, a3.imp hnw, fun r ys c hw => p2.2 r (kwN r ys c hw) ys c (kw r ys c hw), by omega⟩
          rw [gd_of hCS.2.2.1, bV_eq e66, gd_of hCS.2.2.1, bR_eq e1', v2, v1, if_neg hj]
  · rw [if_pos h36]
    have e66 := c66_0 (d := d - 1) (by omega) hCS.1.1 hCS.2.2.2.1
    refine ⟨fun S z => (by cases z), fun p' z => ?_⟩
    cases z
    refine ⟨_, st 0 _ (by rw [if_neg h36]) (q81_39 (by omega) hCS.1.1 _ ?_), ers _ _ 6 (hCS.bad0 (p := 0) (by omega)) (by omega)⟩
    rw [gd_of hCS.2.2.1, bV_xq e66]
end
