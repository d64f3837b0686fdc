/-! queries read by the twin: a segment -/
set_option maxRecDepth 100000
set_option maxHeartbeats 4000000
/-- a segment was read: its row is k -/
def SGr (M tp e S C : Int) (t : Int → Int) (op : Nat) (m : Mem) (i k q : Int) (us : List Int) (K : Int) (Q : RM) (x : QR) : Prop :=
  (∀ F j, x = some (.inr (F, j)) → ∃ m' k' us' K' l v, F = foC (21, v, [], []) l foN ∧ Q = some (.inl (some (pI k)), m') ∧ QT m' M tp e j t op S k' us' C K' ∧ QP 0 m M S k us K m' k' us' K' ∧ k' ≤ k + 8 * (j - i) - 6 ∧ (us'.length : Int) ≤ us.length + (j - i) ∧ k < k' ∧ gI (rv m' M) (ev m' M) us' false (fun a => k ≤ a ∧ a < k' ∧ a ≠ k) k (21, v, [], []) l ∧ rv m' M k 3 = -1 ∧ GQ q k m m' M ∧ rv m' M q 3 = (if sgF F = true then rv m M q 3 else 0)) ∧
  (∀ p, x = some (.inl p) → ∃ m', Q = some (.inl (some (pI (-1))), m') ∧ QE m M S k us C K m' p)
def TS (sg : Bool) (M tp e S C : Int) (t : Int → Int) (n : Nat) : Prop := ∀ (d op : Nat) (m : Mem) (i k q : Int) (us : List Int) (K : Int), QT m M tp e i t op S k us C K → k + 8 * (e - i) + 10 ≤ 19001 → (us.length : Int) + (e - i) ≤ 39000 → op ≤ 16 → dpn op 8 ≤ d → (0 ≤ q ∧ q < k) → (pk t e i = 46 ∨ pk t e i = 91) → SGr M tp e S C t op m i k q us K (cl d 247 [pR M, pI q, pI (b2i sg)] m) (sQ t e n 1 op sg i)
section
variable {M tp e S C : Int} {t : Int → Int}
theorem SGr.no {op : Nat} {m : Mem} {i k q K : Int} {us : List Int} {Q : RM} : SGr M tp e S C t op m i k q us K Q none := ⟨fun F j z => (by cases z), fun p z => (by cases z)⟩
theorem SGr.inl {op : Nat} {m m' : Mem} {i k q K p : Int} {us : List Int} {Q : RM} (h1 : Q = some (.inl (some (pI (-1))), m')) (h2 : QE m M S k us C K m' p) : SGr M tp e S C t op m i k q us K Q (qE p) := ⟨fun F j z => (by cases z), fun p' z => by cases z; exact ⟨m', h1, h2⟩⟩
/-- a segment's row with its list -/
theorem gI.seg {g en : RF} {us os : List Int} {k hi v : Int} {L : Fo} (h : gLI g en us false 1 k (k + 1) hi os L) (h0 : g k 0 = 21) (h1 : g k 1 = v) : gI g en us false (fun a => k ≤ a ∧ a < hi ∧ a ≠ k) k (21, v, [], []) L := by
  have hu : unw g false 21 k = k := by unfold unw; rw [if_neg (fun z => by cases z.1)]
  refine ⟨fun z => (by cases z.1), ?_, ?_⟩
  · show gB g en us (unw g false 21 k) (21, v, [], []) L
    rw [hu]
    exact ⟨h0, fun z => absurd (show (21 : Nat) = 1 ∨ (21 : Nat) = 41 from z) (by omega), fun z => absurd (show (21 : Nat) = 3 ∨ (21 : Nat) = 40 from z) (by omega), fun z => absurd (show (21 : Nat) = 4 from z) (by omega), fun z => absurd (show (21 : Nat) = 20 from z) (by omega), fun _ => ⟨h1, h.row.2⟩, fun z => absurd (show (21 : Nat) = 30 ∨ (21 : Nat) = 31 from z) (by omega), fun z => absurd (show (21 : Nat) = 33 from z) (by omega)⟩
  · show gF g en us ((21 : Nat) == 31) _ (gK g (unw g false 21 k) 21) L
    rw [hu, gK_c (Or.inl rfl)]
    exact h.fin (fun a h1 h2 => ⟨by omega, h2, by omega⟩)
/-- letters and digits of a name -/
theorem c247_180 {d op : Nat} {q s c sgi : Int} (hd : 6 ≤ d) : ∀ (N : Nat) (i k K : Int) (m : Mem) (us : List Int), (e - i).toNat = N → QT m M tp e i t op S k us C K → (us.length : Int) + (e - i) ≤ 39000 → ∃ m', QT m' M tp e (sNa t e i).2 t op S k (us ++ (sNa t e i).1) C K ∧ (∀ b, QP b m M S k us K m' k (us ++ (sNa t e i).1) K) ∧ rv m' M = rv m M ∧ ev m' M = ev m M ∧ ¬ ltr (pk t e (sNa t e i).2) ∧ ¬ dg (pk t e (sNa t e i).2) ∧ ∀ Z, rn d 247 180 [pR M, pI q, pI sgi, pI s, pI c] [] m' = some Z → rn d 247 180 [pR M, pI q, pI sgi, pI s, pI c] [] m = some Z := by
  intro N
  induction N with
  | zero =>
    intro i k K m us hN h hu
    have hr := h.rng
    have hq : ¬ (ltr (pk t e i) ∨ dg (pk t e i)) := fun q => by
      have : i < e := pkf_lt (t := t) (by omega)
      omega
    rw [sNa_eq, if_neg hq]
    exact ⟨m, by rw [List.append_nil]; exact h, fun b => by rw [List.append_nil]; exact QP.refl h.1.2.1, rfl, rfl, fun z => hq (Or.inl z), fun z => hq (Or.inr z), fun Z hZ => hZ⟩
  | succ N ih =>
    intro i k K m us hN h hu
    have hr := h.rng
    by_cases hq : ltr (pk t e i) ∨ dg (pk t e i)
    · have hlt : i < e := by omega
      obtain ⟨s1, s2, s3⟩ := h.said
      have e199 := c199 (d := d - 1) h.tz h.2.1
      have e261 := c261 (d := d - 1) (m := m) (x := pk t e i) h.tz
      have e206 := c206 (d := d - 1) (m := m) (x := pk t e i) h.tz
      have hpk : 0 ≤ pk t e i ∧ pk t e i < 65536 := by have := pkf_rng t e i; omega
      obtain ⟨m1, e287, y1⟩ := YQ.unit (d := d - 1) (u := pk t e i) h.tw h.1.2.1 h.1.1 h.1.2.2.2.2.2 (by omega) hpk
      obtain ⟨b1, b2, b3, b4, b5, b6⟩ := h.un e287 y1 (by rfl) (by rfl) (by rfl)
      have hx1 := h.2.1.fr (cl_FRM e287) h.tz (by rfl)
      have h1 : QT m1 M tp e i t op S k (us ++ [pk t e i]) C K := ⟨b1, hx1, b2, b3⟩
      have h2 := h1.at (j := i + 1) (by omega) (by omega)
      obtain ⟨rva, eva, pa⟩ := h1.rvat (j := i + 1)
      obtain ⟨m', c1, c2, c3, c4, c5, c6, c7⟩ := ih (i + 1) k K _ _ (by omega) h2 (by rw [List.length_append, List.length_singleton]; push_cast; omega)
      rw [sNa_eq, if_pos hq]
      rw [List.append_assoc, List.singleton_append] at c1 c2
      refine ⟨m', c1, fun b => ((b4 b).trans (pa b) (Int.le_refl _) h.tw h1.tw).trans (c2 b) (Int.le_refl _) h.tw h2.tw, by rw [c3, rva, b5], by rw [c4, eva, b6], c5, c6, fun Z hZ => ?_⟩
      have key : rn d 247 200 [pR M, pI q, pI sgi, pI s, pI c] [] m = some Z := by
        refine q247_200 (by omega) h.tz _ ?_
        rw [gd_of h.tM, nm_eq, s1, bI_eq e199, gd_of s2, bV_eq e287, h1.v12, (w32_of (by omega) (by omega) : w32 (i + 1) = i + 1)]
        exact c7 Z hZ
      refine q247_180 (by omega) h.tz _ ?_
      rw [gd_of h.tM, bI_eq e199, bI_eq e261]
      by_cases z : ltr (pk t e i)
      · rw [if_pos z, if_neg (by decide)]; exact key
      · rw [if_neg z, if_pos rfl, bI_eq e199, bI_eq e206, if_pos (Or.resolve_left hq z), if_neg (by decide)]; exact key
    · rw [sNa_eq, if_neg hq]
      exact ⟨m, by rw [List.append_nil]; exact h, fun b => by rw [List.append_nil]; exact QP.refl h.1.2.1, rfl, rfl, fun z => hq (Or.inl z), fun z => hq (Or.inr z), fun Z hZ => hZ⟩
theorem sur_nm {us : List Int} (h : ∀ u ∈ us, 48 ≤ u ∧ u ≤ 122) : sur us := by
  induction us with
  | nil => trivial
  | cons u r ih =>
    have hu := h u (List.mem_cons_self)
    have hr := ih (fun v hv => h v (List.mem_cons_of_mem _ hv))
    cases r with
    | nil => show ¬ (55296 ≤ u ∧ u ≤ 57343); omega
    | cons v r => exact Or.inr ⟨by omega, hr⟩
/-- all or a name behind a point -/
theorem c247_95 {sg : Bool} {d op : Nat} {m m3 : Mem} {i i3 k q K K3 v : Int} {us : List Int} (hd : 8 ≤ d) (hk : k + 8 * (e - i) + 10 ≤ 19001) (hu : (us.length : Int) + (e - i) ≤ 39000) (hq : 0 ≤ q ∧ q < k) (hw0 : TW m S 0 us C) (h3 : QT m3 M tp e i3 t op S (k + 1) us C K3) (hi3 : i < i3) (g3 : QP 0 m M S k us K m3 (k + 1) us K3) (gq3 : GQ q k m m3 M) (hv : v = 0 ∨ v = 1) (t0 : rv m3 M k 0 = 21) (t1 : rv m3 M k 1 = v) (t2 : rv m3 M k 2 = -1) (t3 : rv m3 M k 3 = -1) (hq0 : v = 0 → rv m3 M q 3 = rv m M q 3) (hq1 : v = 1 → rv m3 M q 3 = 0) {Q : RM} (hQ : ∀ Z, rn d 247 95 [pR M, pI q, pI (b2i sg), pI k, pU] [] m3 = some Z → Q = some Z) :
    SGr M tp e S C t op m i k q us K Q (if sg = false ∧ pk t e i3 = 42 then qN 21 v [] (foC (2, 0, [], []) foN foN) (i3 + 1) else if ¬ ltr (pk t e i3) then qE i3 else qN 21 v [] (foC (1, 0, (sNa t e i3).1, []) foN foN) (sNa t e i3).2) := by
  have hr := h3.rng
  have hkK := h3.kK
  have hz := h3.tz
  have hM := h3.tM
  have bs : (b2i sg = 0 ↔ sg = false) := by cases sg <;> decide
  have e199 := c199 (d := d - 1) hz h3.2.1
  have li : gLI (rv m3 M) (ev m3 M) us false 1 k (k + 1) (k + 1) [] foN := ⟨Or.inl rfl, by omega, rfl, fun j j0 j1 => absurd j1 (by simp; omega), fun i j i0 ij j1 => absurd j1 (by simp; omega), fun j j0 j1 => absurd j1 (by simp; omega), fun hl => absurd hl (by simp), fun _ => t2, trivial⟩
  by_cases q42 : sg = false ∧ pk t e i3 = 42
  · rw [if_pos q42]
    have hlt : i3 < e := pkf_lt (t := t) (by omega)
    have h4 := h3.at (j := i3 + 1) (by omega) (by omega)
    obtain ⟨rva, eva, pa⟩ := h3.rvat (j := i3 + 1)
    obtain ⟨m5, K5, e5, h5, p5, r50, r51⟩ := c245 (d := d - 1) (kd := 2) h4 (by omega)
    obtain ⟨h6, p6, r6, l6⟩ := h5.set (r := k) (f := 2) (v := k + 1) (by omega) (by omega)
    have e6 := c246 (d := d - 1) (r := k) (f := 2) (v := k + 1) h5 (by omega) (by omega)
    obtain ⟨h7, p7, r7, l7⟩ := h6.set (r := q) (f := 3) (v := 0) (by omega) (by omega)
    have e7 := c246 (d := d - 1) (r := q) (f := 3) (v := 0) h6 (by omega) (by omega)
    have ag5 := p5.2.1
    rw [rva, eva] at ag5
    have l5 : gLI (rv m5 M) (ev m5 M) us false 1 k (k + 1) (k + 1) [] foN := by
      have := li.keep (vs := []) (ag5.imp (fun a ha => ⟨by have := ha.1; omega, ha.2⟩)) ((ag5 k ⟨by omega, by omega⟩).1 2 (by omega) (by omega)) (Int.le_refl _)
      rwa [List.append_nil] at this
    have l6' := l5.add (c := k + 1) (hi' := k + 1 + 1) ⟨Int.le_refl _, by omega⟩ (gI.leaf (d := (2, 0, [], [])) (by show (2 : Nat) ≤ 4 ∨ (40 ≤ 2 ∧ 2 ≤ 44); omega) (gB.pl (Or.inl rfl) r50)) ⟨by decide, by rw [if_neg (by decide)]⟩ (r51 1 (by omega) (by omega)) (Or.inl ⟨rfl, rfl, rfl⟩) r6 l6
    rw [List.nil_append] at l6'
    have hap : fapp foN (foC (2, 0, [], []) foN foN) = foC (2, 0, [], []) foN foN := rfl
    rw [hap] at l6'
    generalize hm6 : mst m5 (vl m5 M 27) (8 * k + 2) (k + 1) = m6 at *
    generalize hm7 : mst m6 (vl m6 M 27) (8 * q + 3) 0 = m7 at *
    have l7' := l6'.keep (vs := []) (g' := rv m7 M) (en' := ev m7 M) (hi' := k + 1 + 1) (fun a ha => ⟨fun f f0 f1 => by rw [r7 a f f0 f1, if_neg (by omega)], fun f _ _ => by rw [l7]⟩) (by rw [r7 k 2 (by omega) (by omega), if_neg (by omega)]) (Int.le_refl _)
    rw [List.append_nil] at l7'
    have kk : ∀ f, 0 ≤ f → f < 8 → f ≠ 2 → rv m7 M k f = rv m3 M k f := fun f f0 f1 f2 => by
      rw [r7 k f f0 f1, if_neg (by omega), r6 k f f0 f1, if_neg (by omega)]
      exact (ag5 k ⟨by omega, by omega⟩).1 f f0 f1
    have gq7 : GQ q k m m7 M := by
      have a1 : GQ q k m3 m5 M := GQ.of ag5 (by omega) ⟨by omega, by omega⟩
      exact ((gq3.trans a1).trans (GQ.set r6 l6 (Or.inl (Int.le_refl _)) hq.2)).trans (GQ.set r7 l7 (Or.inr ⟨rfl, rfl⟩) hq.2)
    refine ⟨fun F j z => ?_, fun p z => (by cases z)⟩
    cases z
    refine ⟨m7, k + 1 + 1, us, K5, _, v, rfl, hQ _ (q247_95 (by omega) hz _ ?_), h7, (((g3.trans (pa 0) (Int.le_refl _) hw0 h3.tw).trans (p5.mono (b' := 0) (by omega)) (Int.le_refl _) hw0 h4.tw).trans (p6 0 (by omega)) (Int.le_refl _) hw0 h5.tw).trans (p7 0 (by omega)) (Int.le_refl _) hw0 h6.tw, by omega, by omega, by omega, gI.seg l7' (by rw [kk 0 (by omega) (by omega) (by omega)]; exact t0) (by rw [kk 1 (by omega) (by omega) (by omega)]; exact t1), by rw [kk 3 (by omega) (by omega) (by omega)]; exact t3, gq7, ?_⟩
    · rw [gd_of hM, bI_eq e199, if_pos q42.2, if_pos (bs.mpr q42.1), h3.v12, (w32_of (by omega) (by omega) : w32 (i3 + 1) = i3 + 1), bI_eq e5, bV_eq e6, bV_eq e7]
    · have es : sgF (foC (21, v, [], []) (foC (2, 0, [], []) foN foN) foN) = false := by
        show (sg1 (21, v, [], []) (foC (2, 0, [], []) foN foN) && true) = false
        rw [sg1_on]
        show ((v == 0 && false) && true) = false
        rw [Bool.and_false]; rfl
      rw [es, if_neg (by decide), r7 q 3 (by omega) (by omega), if_pos ⟨rfl, rfl⟩]
  rw [if_neg q42]
  have st138 : ∀ Z, rn d 247 138 [pR M, pI q, pI (b2i sg), pI k, pU] [] m3 = some Z → Q = some Z := by
    intro Z hZ
    refine hQ Z (q247_95 (by omega) hz _ ?_)
    rw [gd_of hM, bI_eq e199]
    by_cases z : pk t e i3 = 42
    · rw [if_pos z, if_neg (fun y => q42 ⟨bs.mp y, z⟩)]; exact hZ
    · rw [if_neg z]; exact hZ
  have e261 := c261 (d := d - 1) (m := m3) (x := pk t e i3) hz
  by_cases hl : ltr (pk t e i3)
  · rw [if_neg (fun z => z hl)]
    have hlt : i3 < e := pkf_lt (t := t) (by omega)
    obtain ⟨m4, m5, K5, K4, e4, h4, e5, h5, p5, r5⟩ := h3.row2 (kd := 1) (f := 2) (v := us.length) (by omega) (by omega)
    obtain ⟨s1, s2, s3⟩ := h4.said
    obtain ⟨m6, h6, p6, rv6, ev6, n1, n2, st6⟩ := c247_180 (d := d) (q := q) (s := k) (c := k + 1) (sgi := b2i sg) (by omega) _ i3 (k + 1 + 1) K5 m5 us rfl h5 (by omega)
    have hsn := sNa_rng (t := t) (e := e) (e - i3).toNat i3 rfl hr.2.1
    have hsn2 := hsn.2.2.2.1 (Or.inl hl)
    generalize hus : (sNa t e i3).1 = un at *
    generalize hjj : (sNa t e i3).2 = jj at *
    obtain ⟨s4, s5, s6⟩ := h6.said
    have e1996 := c199 (d := d - 1) h6.tz h6.2.1
    have e2616 := c261 (d := d - 1) (m := m6) (x := pk t e jj) h6.tz
    have e2066 := c206 (d := d - 1) (m := m6) (x := pk t e jj) h6.tz
    have e251 := c251 (d := d - 1) (r := k + 1) (f := 2) h6 (by omega) (by omega)
    have v62 : rv m6 M (k + 1) 2 = us.length := by rw [rv6, r5 2 (by omega) (by omega), if_pos rfl]
    obtain ⟨h7, p7, r7, l7⟩ := h6.set (r := k + 1) (f := 3) (v := un.length) (by omega) (by omega)
    have e7 := c246 (d := d - 1) (r := k + 1) (f := 3) (v := un.length) h6 (by omega) (by omega)
    obtain ⟨h8, p8, r8, l8⟩ := h7.set (r := k) (f := 2) (v := k + 1) (by omega) (by omega)
    have e8 := c246 (d := d - 1) (r := k) (f := 2) (v := k + 1) h7 (by omega) (by omega)
    have ew : w32 (vl m6 S 12 - rv m6 M (k + 1) 2) = un.length := by
      rw [s6, v62, List.length_append, w32_of (by push_cast; omega) (by push_cast; omega)]; push_cast; omega
    have rr : ∀ g, 0 ≤ g → g < 8 → rv (mst m6 (vl m6 M 27) (8 * (k + 1) + 3) un.length) M (k + 1) g = if g = 3 then (un.length : Int) else if g = 2 then (us.length : Int) else if g = 0 then 1 else -1 := fun g g0 g1 => by
      rw [r7 (k + 1) g g0 g1, rv6, r5 g g0 g1]
      by_cases z : g = 3
      · rw [if_pos ⟨rfl, z⟩, if_pos z]
      · rw [if_neg (fun y => z y.2), if_neg z]
    have ag5 := p5.2.1
    have o7 : ∀ a, 0 ≤ a → a < k + 1 → ∀ f, 0 ≤ f → f < 8 → rv (mst m6 (vl m6 M 27) (8 * (k + 1) + 3) un.length) M a f = rv m3 M a f := fun a a0 a1 f f0 f1 => by
      rw [r7 a f f0 f1, if_neg (by omega), rv6]; exact (ag5 a ⟨a0, a1⟩).1 f f0 f1
    have o7e : ∀ a, 0 ≤ a → a < k + 1 → ∀ f, 0 ≤ f → f < 3 → ev (mst m6 (vl m6 M 27) (8 * (k + 1) + 3) un.length) M a f = ev m3 M a f := fun a a0 a1 f f0 f1 => by
      rw [l7, ev6]; exact (ag5 a ⟨a0, a1⟩).2 f f0 f1
    generalize hm7 : mst m6 (vl m6 M 27) (8 * (k + 1) + 3) un.length = m7 at *
    have l7' : gLI (rv m7 M) (ev m7 M) (us ++ un) false 1 k (k + 1) (k + 1) [] foN := li.keep (vs := un) (fun a ha => ⟨fun f f0 f1 => o7 a (by omega) (by omega) f f0 f1, fun f f0 f1 => o7e a (by omega) (by omega) f f0 f1⟩) (o7 k (by omega) (by omega) 2 (by omega) (by omega)) (Int.le_refl _)
    have hun : ∀ u ∈ un, 48 ≤ u ∧ u ≤ 122 := hsn.2.2.2.2
    have hwu : wfU un := fun u hu => by have := hun u hu; omega
    have l8' := l7'.add (c := k + 1) (hi' := k + 1 + 1) ⟨Int.le_refl _, by omega⟩ (gI.leaf (d := (1, 0, un, [])) (by show (1 : Nat) ≤ 4 ∨ (40 ≤ 1 ∧ 1 ≤ 44); omega) (gB.nm (Or.inl rfl) (by rw [rr 0 (by omega) (by omega)]; rfl) (by rw [rr 2 (by omega) (by omega)]; exact At.end) (by rw [rr 3 (by omega) (by omega)]; rfl) hwu (sur_nm hun))) ⟨by show (1 : Nat) ≠ 20; decide, by show (1 : Int) = if (1 : Nat) = 21 then 3 else 1; rw [if_neg (by decide)]⟩ (by rw [rr 1 (by omega) (by omega)]; rfl) (Or.inl ⟨rfl, rfl, rfl⟩) r8 l8
    rw [List.nil_append] at l8'
    have hap : fapp foN (foC (1, 0, un, []) foN foN) = foC (1, 0, un, []) foN foN := rfl
    rw [hap] at l8'
    have kk : ∀ f, 0 ≤ f → f < 8 → f ≠ 2 → rv (mst m7 (vl m7 M 27) (8 * k + 2) (k + 1)) M k f = rv m3 M k f := fun f f0 f1 f2 => by
      rw [r8 k f f0 f1, if_neg (by omega)]; exact o7 k (by omega) (by omega) f f0 f1
    have gq8 : GQ q k m (mst m7 (vl m7 M 27) (8 * k + 2) (k + 1)) M := by
      have a1 : GQ q k m3 m7 M := ⟨fun a ha => ⟨fun f f0 f1 => o7 a ha.1 (by omega) f f0 f1, fun f f0 f1 => o7e a ha.1 (by omega) f f0 f1⟩, fun f f0 f1 _ => o7 q hq.1 (by omega) f f0 f1, fun f f0 f1 => o7e q hq.1 (by omega) f f0 f1⟩
      exact (gq3.trans a1).trans (GQ.set r8 l8 (Or.inl (Int.le_refl _)) hq.2)
    have qv : rv (mst m7 (vl m7 M 27) (8 * k + 2) (k + 1)) M q 3 = rv m3 M q 3 := by
      rw [r8 q 3 (by omega) (by omega), if_neg (by omega)]; exact o7 q hq.1 (by omega) 3 (by omega) (by omega)
    refine ⟨fun F j z => ?_, fun p z => (by cases z)⟩
    cases z
    refine ⟨_, k + 1 + 1, us ++ un, K5, _, v, rfl, st138 _ (q247_138 (by omega) hz _ ?_), h8, ((((g3.trans (p5.mono (b' := 0) (by omega)) (Int.le_refl _) hw0 h3.tw).trans (p6 0) (Int.le_refl _) hw0 h5.tw).trans (p7 0 (by omega)) (Int.le_refl _) hw0 h6.tw).trans (p8 0 (by omega)) (Int.le_refl _) hw0 h7.tw), by omega, by rw [List.length_append]; push_cast; omega, by omega, gI.seg l8' (by rw [kk 0 (by omega) (by omega) (by omega)]; exact t0) (by rw [kk 1 (by omega) (by omega) (by omega)]; exact t1), by rw [kk 3 (by omega) (by omega) (by omega)]; exact t3, gq8, ?_⟩
    · rw [gd_of hM, bI_eq e199, bI_eq e261, if_pos hl, if_neg (by decide), bI_eq (e4 (d - 1)), nm_eq, s1, gd_of s2, s3, bV_eq (e5 (d - 1))]
      refine st6 _ (q247_180 (by omega) h6.tz _ ?_)
      rw [gd_of h6.tM, bI_eq e1996, bI_eq e2616, if_neg n1, if_pos rfl, bI_eq e1996, bI_eq e2066, if_neg n2, if_pos rfl, nm_eq, s4, gd_of s5, bI_eq e251, ew, bV_eq e7, bV_eq e8]
    · have es : sgF (foC (21, v, [], []) (foC (1, 0, un, []) foN foN) foN) = (v == 0) := by
        show (sg1 (21, v, [], []) (foC (1, 0, un, []) foN foN) && true) = (v == 0)
        rw [sg1_on]
        show ((v == 0 && true) && true) = (v == 0)
        rw [Bool.and_true, Bool.and_true]
      rw [es, qv]
      rcases hv with z | z
      · rw [z, if_pos (by rfl)]; exact hq0 z
      · rw [z, if_neg (by decide)]; exact hq1 z
  · rw [if_pos hl]
    have e202 := c202 (d := d - 1) (p := i3) hz hM h3.v14
    refine SGr.inl (st138 _ (q247_138 (by omega) hz _ ?_)) ((h3.bad0 (p := i3) (by omega) (by omega)).pre g3 (Int.le_refl _) hw0 h3.tw)
    rw [gd_of hM, bI_eq e199, bI_eq e261, if_neg hl, if_pos rfl, h3.v12, bI_eq e202]
/-- brackets of a segment -/
theorem c247_br {sg : Bool} {n d op : Nat} {m m3 : Mem} {i i3 k q K K3 v : Int} {us : List Int} (H4 : ∀ q, q < n → T4 sg M tp e S C t q) (hd : dpn op 6 ≤ d) (ho : op ≤ 16) (hk : k + 8 * (e - i) + 10 ≤ 19001) (hu : (us.length : Int) + (e - i) ≤ 39000) (hq : 0 ≤ q ∧ q < k) (hw0 : TW m S 0 us C) (h3 : QT m3 M tp e i3 t op S (k + 1) us C K3) (hi3 : i ≤ i3) (g3 : QP 0 m M S k us K m3 (k + 1) us K3) (gq3 : GQ q k m m3 M) (hp : pk t e i3 = 91) (hv : v = 0 ∨ v = 1) (t0 : rv m3 M k 0 = 21) (t1 : rv m3 M k 1 = v) (t2 : rv m3 M k 2 = -1) (t3 : rv m3 M k 3 = -1) (hq0 : v = 0 → rv m3 M q 3 = rv m M q 3) (hq1 : v = 1 → rv m3 M q 3 = 0) {Q : RM} (hQ : ∀ Z, (bI (cl d 248 [pR M, pI q, pI k, pI (b2i sg)] m3) fun v9 m9 => if v9 = 0 then (some (.inl (some (pI (-1))), m9)) else some (.inl (some (pI k)), m9)) = some Z → Q = some Z) :
    SGr M tp e S C t op m i k q us K Q (bnd (sQ t e (n + 1) 2 op sg i3) fun L j => qN 21 v [] L j) := by
  unfold dpn at hd
  have hr := h3.rng
  have hkK := h3.kK
  have hlt : i3 < e := pkf_lt (t := t) (by omega)
  have li : gLI (rv m3 M) (ev m3 M) us false 1 k (k + 1) (k + 1) [] foN := ⟨Or.inl rfl, by omega, rfl, fun j j0 j1 => absurd j1 (by simp; omega), fun i j i0 ij j1 => absurd j1 (by simp; omega), fun j j0 j1 => absurd j1 (by simp; omega), fun hl => absurd hl (by simp), fun _ => t2, trivial⟩
  unfold sQ
  rw [if_neg (by decide : ¬ (2 : Nat) = 0), if_neg (by decide : ¬ (2 : Nat) = 1), if_pos (rfl : (2 : Nat) = 2)]
  by_cases h16 : op < 16
  · rw [if_neg (fun z => z h16)]
    have e249 := c249_1 (d := d - 1) (by omega) h3 hp h16 hlt
    have h4 := h3.opn (op' := op + 1) (v := (op : Int) + 1) (by push_cast; rfl)
    have h5 := h4.at (j := i3 + 1) (by omega) (by omega)
    obtain ⟨rva, eva, pa⟩ := h3.rv31 (j := (op : Int) + 1)
    obtain ⟨rvb, evb, pb⟩ := h4.rvat (j := i3 + 1)
    have key := c248_l (sg := sg) n H4 d op _ _ i (k + 1) k k q K3 (-1) us [] foN pU (by rfl) h5 (by omega) (by omega) h16 (by unfold dpn; omega) hq (by omega) (Or.inl ⟨rfl, rfl⟩) (by rw [rvb, evb, rva, eva]; exact li)
    have st : ∀ r m', rn d 248 14 [pR M, pI q, pI k, pI (b2i sg), pI (-1), pU] [] (mst (mst m3 M 31 ((op : Int) + 1)) M 12 (i3 + 1)) = some (r, m') → cl d 248 [pR M, pI q, pI k, pI (b2i sg)] m3 = some (r, m') := by
      intro r m' hZ
      refine q248 (by omega) h3.tz _ ?_
      rw [gd_of h3.tM, bI_eq e249, if_neg (by decide)]; exact hZ
    have g5 : QP 0 m M S k us K (mst (mst m3 M 31 ((op : Int) + 1)) M 12 (i3 + 1)) (k + 1) us K3 := (g3.trans (pa 0) (Int.le_refl _) hw0 h3.tw).trans (pb 0) (Int.le_refl _) hw0 h4.tw
    have gq5 : GQ q k m (mst (mst m3 M 31 ((op : Int) + 1)) M 12 (i3 + 1)) M := by unfold GQ; rw [rvb, evb, rva, eva]; exact gq3
    cases hE : sQ t e n 3 (op + 1) sg (i3 + 1) with
    | none => exact SGr.no
    | some yy =>
      rw [hE] at key
      rcases yy with p | ⟨L, j⟩
      · obtain ⟨m9, e9, ce⟩ := key.2 p rfl
        exact SGr.inl (hQ _ (by rw [bI_eq (st _ _ e9), if_pos rfl])) (ce.pre g5 (Int.le_refl _) hw0 h5.tw)
      · obtain ⟨m9, k9, us9, K9, os9, e9, f1, f2, f3, f4, f5, f6, f7, f8⟩ := key.1 L j rfl
        have hap : fapp foN L = L := rfl
        rw [hap] at f5
        have hkk : k + 1 ≤ k9 := f5.2.1.2.2
        refine ⟨fun F j' z => ?_, fun p z => (by cases z)⟩
        cases z
        refine ⟨m9, k9, us9, K9, L, v, rfl, hQ _ (by rw [bI_eq (st _ _ e9), if_neg (by decide)]), f1, g5.trans f2 (Int.le_refl _) hw0 h5.tw, by omega, by omega, by omega, gI.seg f5 (by rw [f7 0 (by omega) (by omega) (by omega), rvb, rva]; exact t0) (by rw [f7 1 (by omega) (by omega) (by omega), rvb, rva]; exact t1), by rw [f7 3 (by omega) (by omega) (by omega), rvb, rva]; exact t3, gq5.trans f6, ?_⟩
        have es : sgF (foC (21, v, [], []) L foN) = (v == 0 && on1 L) := by
          show (sg1 (21, v, [], []) L && true) = _
          rw [sg1_on, Bool.and_true]
        rw [f8, es, rvb, rva]
        rcases hv with z | z
        · rw [z]
          have e1 : ((0 : Int) == 0 && on1 L) = on1 L := by cases on1 L <;> rfl
          rw [e1]
          by_cases y : on1 L = true
          · rw [if_pos ⟨rfl, y⟩, if_pos y]; exact hq0 z
          · rw [if_neg (fun x => y x.2), if_neg y]
        · rw [z, hq1 z]
          have e1 : ((1 : Int) == 0 && on1 L) = false := rfl
          rw [e1]
          split <;> rfl
  · rw [if_pos h16]
    have e249 := c249_0 (d := d - 1) (ch := 91) (by omega) h3 (fun z => h16 z.2) ho
    refine SGr.inl (hQ _ ?_) ((h3.bad0 (p := i3) (by omega) (by omega)).pre g3 (Int.le_refl _) hw0 h3.tw)
    have : cl d 248 [pR M, pI q, pI k, pI (b2i sg)] m3 = some (.inl (some (pI 0)), mst m3 M 14 i3) := by
      refine q248 (by omega) h3.tz _ ?_
      rw [gd_of h3.tM, bI_eq e249, if_pos rfl]
    rw [bI_eq this, if_pos rfl]
end
