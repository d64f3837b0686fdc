/-! queries read by the twin: what is shown of each method -/
set_option maxRecDepth 100000
set_option maxHeartbeats 4000000
/-- a method that reads one thing and answers its row -/
def RD (w : Bool) (M tp e : Int) (t : Int → Int) (op : Nat) (S C : Int) (m : Mem) (i k : Int) (us : List Int) (K : Int) (Q : RM) (x : QR) (s : Int) : Prop :=
  (∀ F j, x = some (.inr (F, j)) → ∃ m' k' us' K' c d l, F = foC d l foN ∧ Q = some (.inl (some (pI c)), m') ∧ QT m' M tp e j t op S k' us' C K' ∧ QP k m M S k us K m' k' us' K' ∧ k' ≤ k + 8 * (j - i) - s ∧ (us'.length : Int) ≤ us.length + (j - i) ∧ (k ≤ c ∧ c < k') ∧ gI (rv m' M) (ev m' M) us' w (fun a => k ≤ a ∧ a < k' ∧ a ≠ c) c d l ∧ (d.1 ≠ 20 → d.1 ≠ 21 ∧ rv m' M c 1 = -1)) ∧
  (∀ p, x = some (.inl p) → ∃ m', Q = some (.inl (some (pI (-1))), m') ∧ QE m M S k us C K m' p)
/-- each method that reads one thing -/
def TH (w : Bool) (M tp e S C : Int) (t : Int → Int) (B s : Int) (off : Nat) (call : Nat → Mem → RM) (x : Nat → Int → QR) : Prop := ∀ (d op : Nat) (m : Mem) (i k : Int) (us : List Int) (K : Int), QT m M tp e i t op S k us C K → k + 8 * (e - i) + B ≤ 19000 → (us.length : Int) + (e - i) ≤ 39000 → op ≤ 16 → dpn op off ≤ d → RD w M tp e t op S C m i k us K (call d m) (x op i) s
section
variable {g g' en en' : RF} {us vs : List Int}
/-- a row with one below -/
theorem gI.wrap1 {w : Bool} {lo hi c c2 : Int} {kd : Nat} {d : ND} {l : Fo} {P : Int → Prop} (hk : oneK kd) (hw : w = false ∨ kd ≠ 34) (h : gF g en us false (fun a => lo ≤ a ∧ a < hi) (fun _ => c2) (foC d l foN)) (hag : AG (fun a => lo ≤ a ∧ a < hi) g en g' en') (h0 : g' c 0 = kd) (h2 : g' c 2 = c2) (hP : ∀ a, lo ≤ a → a < hi → P a) : gI g' en' (us ++ vs) w P c (kd, 0, [], []) (foC d l foN) := by
  have hu : unw g' w kd c = c := by
    unfold unw
    rw [if_neg (fun z => by rcases hw with q | q
                            · rw [q] at z; cases z.1
                            · omega)]
  have h3 := gF.keep (vs := vs) (p' := gK g' c kd) hag (fun j hj => ?_) h
  · refine ⟨fun z => ?_, ?_, ?_⟩
    · exfalso
      have z2 : kd = 30 ∨ kd = 34 := z.2
      rcases hw with q | q
      · rw [q] at z; cases z.1
      · omega
    · show gB g' en' (us ++ vs) (unw g' w kd c) (kd, 0, [], []) (foC d l foN)
      rw [hu]
      exact ⟨h0, fun z => absurd (show kd = 1 ∨ kd = 41 from z) (by omega), fun z => absurd (show kd = 3 ∨ kd = 40 from z) (by omega), fun z => absurd (show kd = 4 from z) (by omega), fun z => absurd (show kd = 20 from z) (by omega), fun z => absurd (show kd = 21 from z) (by omega), fun z => absurd (show kd = 30 ∨ kd = 31 from z) (by omega), fun z => absurd (show kd = 33 from z) (by omega)⟩
    · show gF g' en' (us ++ vs) (kd == 31) P (gK g' (unw g' w kd c) kd) (foC d l foN)
      rw [hu]
      have e31 : (kd == 31) = false := by simp; omega
      rw [e31]
      exact h3.imp (fun a ha => hP a ha.1 ha.2)
  · have : j = 0 := by have : j < 1 := hj; omega
    subst this
    rw [gK_o (by omega)]
    exact h2
/-- a row that stands for another in a list -/
theorem gI.wrap35 {lo hi c c2 : Int} {d : ND} {l : Fo} {P : Int → Prop} (hd : d.1 = 30 ∨ d.1 = 34) (h : gF g en us false (fun a => lo ≤ a ∧ a < hi) (fun _ => c2) (foC d l foN)) (hag : AG (fun a => lo ≤ a ∧ a < hi) g en g' en') (h0 : g' c 0 = 35) (h2 : g' c 2 = c2) (hP : ∀ a, lo ≤ a → a < hi → P a) : gI g' en' (us ++ vs) true P c d l := by
  have h3 := gF.keep (vs := vs) (p' := fun _ => c2) hag (fun j hj => rfl) h
  have hu : unw g' true d.1 c = c2 := by unfold unw; rw [if_pos ⟨rfl, hd⟩]; exact h2
  have hu0 : unw g' false d.1 c2 = c2 := by unfold unw; rw [if_neg (fun z => by cases z.1)]
  obtain ⟨⟨a1, a2, a3, a4⟩, -⟩ := h3
  refine ⟨fun _ => ⟨h0, by rw [h2]; exact hP _ a1.1 a1.2⟩, ?_, ?_⟩
  · rw [hu]; rw [hu0] at a3; exact a3
  · rw [hu]; rw [hu0] at a4; exact a4.imp (fun a ha => hP a ha.1 ha.2)
/-- a comparison's row -/
theorem gI.cmp {w : Bool} {lo hi c cl cr o : Int} {dl dr : ND} {ll lr : Fo} {P : Int → Prop} (hl : gF g en us false (fun a => lo ≤ a ∧ a < hi) (fun _ => cl) (foC dl ll foN)) (hr : gF g en us false (fun a => lo ≤ a ∧ a < hi) (fun _ => cr) (foC dr lr foN)) (hag : AG (fun a => lo ≤ a ∧ a < hi) g en g' en') (h0 : g' c 0 = 33) (h2 : g' c 2 = cl) (h3 : g' c 3 = cr) (h4 : g' c 4 = o) (hP : ∀ a, lo ≤ a → a < hi → P a) : gI g' en' (us ++ vs) w P c (33, o, [], []) (fapp (foC dl ll foN) (foC dr lr foN)) := by
  have hu : unw g' w 33 c = c := by unfold unw; rw [if_neg (fun z => by omega)]
  have l3 := gF.keep (vs := vs) (p' := gK g' c 33) hag (fun j hj => ?_) hl
  · have r3 := gF.keep (vs := vs) (p' := fun j => gK g' c 33 (j + cntF (foC dl ll foN))) hag (fun j hj => ?_) hr
    · refine ⟨fun z => absurd (show (33 : Nat) = 30 ∨ (33 : Nat) = 34 from z.2) (by omega), ?_, ?_⟩
      · show gB g' en' (us ++ vs) (unw g' w 33 c) (33, o, [], []) _
        rw [hu]
        exact ⟨h0, fun z => absurd (show (33 : Nat) = 1 ∨ (33 : Nat) = 41 from z) (by omega), fun z => absurd (show (33 : Nat) = 3 ∨ (33 : Nat) = 40 from z) (by omega), fun z => absurd (show (33 : Nat) = 4 from z) (by omega), fun z => absurd (show (33 : Nat) = 20 from z) (by omega), fun z => absurd (show (33 : Nat) = 21 from z) (by omega), fun z => absurd (show (33 : Nat) = 30 ∨ (33 : Nat) = 31 from z) (by omega), fun _ => h4⟩
      · show gF g' en' (us ++ vs) ((33 : Nat) == 31) P (gK g' (unw g' w 33 c) 33) _
        rw [hu]
        exact (gF.app l3 r3).imp (fun a ha => hP a ha.1 ha.2)
    · have : j = 0 := by have : j < 1 := hj; omega
      subst this
      rw [gK_o (by omega)]
      exact h3
  · have : j = 0 := by have : j < 1 := hj; omega
    subst this
    rw [gK_o (by omega)]
    exact h2
end
section
variable {d op : Nat} {m : Mem} {M tp e i S k C K : Int} {t : Int → Int} {us : List Int}
theorem RD.inl {w : Bool} {s p : Int} {Q : RM} {m' : Mem} (h1 : Q = some (.inl (some (pI (-1))), m')) (h2 : QE m M S k us C K m' p) : RD w M tp e t op S C m i k us K Q (qE p) s := ⟨fun F j z => (by cases z), fun p' z => by cases z; exact ⟨m', h1, h2⟩⟩
theorem RD.no {w : Bool} {s : Int} {Q : RM} : RD w M tp e t op S C m i k us K Q none s := ⟨fun F j z => (by cases z), fun p z => (by cases z)⟩
theorem RD.inr {w : Bool} {s j k' K' c : Int} {Q : RM} {m' : Mem} {us' : List Int} {dd : ND} {l : Fo} (h1 : Q = some (.inl (some (pI c)), m')) (h2 : QT m' M tp e j t op S k' us' C K') (h3 : QP k m M S k us K m' k' us' K') (h4 : k' ≤ k + 8 * (j - i) - s) (h5 : (us'.length : Int) ≤ us.length + (j - i)) (h6 : k ≤ c ∧ c < k') (h7 : gI (rv m' M) (ev m' M) us' w (fun a => k ≤ a ∧ a < k' ∧ a ≠ c) c dd l) (h8 : dd.1 ≠ 20 → dd.1 ≠ 21 ∧ rv m' M c 1 = -1) : RD w M tp e t op S C m i k us K Q (some (.inr (foC dd l foN, j))) s :=
  ⟨fun F jj z => by cases z; exact ⟨m', k', us', K', c, dd, l, rfl, h1, h2, h3, h4, h5, h6, h7, h8⟩, fun p z => (by cases z)⟩
theorem RD.to {w : Bool} {s s' : Int} {Q Q' : RM} {x : QR} (h : RD w M tp e t op S C m i k us K Q x s) (hQ : ∀ z, Q = some z → Q' = some z) (hs : s' ≤ s) : RD w M tp e t op S C m i k us K Q' x s' := by
  refine ⟨fun F j z => ?_, fun p z => ?_⟩
  · obtain ⟨m', k', us', K', c, dd, l, b1, b2, b3, b4, b5, b6⟩ := h.1 F j z
    exact ⟨m', k', us', K', c, dd, l, b1, hQ _ b2, b3, b4, by omega, b6⟩
  · obtain ⟨m', b1, b2⟩ := h.2 p z
    exact ⟨m', hQ _ b1, b2⟩
/-- a new row with one field -/
theorem QT.row2 {kd f v : Int} (h : QT m M tp e i t op S k us C K) (hk : k ≤ 20000) (hf : 1 ≤ f ∧ f < 8) : ∃ m1 m2 K' K1, (∀ d, cl d 245 [pR M, pI kd] m = some (.inl (some (pI k)), m1)) ∧ QT m1 M tp e i t op S (k + 1) us C K1 ∧ (∀ d, cl d 246 [pR M, pI k, pI f, pI v] m1 = some (.inl none, m2)) ∧ QT m2 M tp e i t op S (k + 1) us C K' ∧ QP k m M S k us K m2 (k + 1) us K' ∧ (∀ g, 0 ≤ g → g < 8 → rv m2 M k g = if g = f then v else if g = 0 then kd else -1) := by
  have hkK := h.kK
  obtain ⟨m1, K1, e1, h1, p1, r0, r1⟩ := c245 (d := 0) (kd := kd) h hk
  obtain ⟨h2, p2, r2, l2⟩ := h1.set (r := k) (f := f) (v := v) (by omega) (by omega)
  refine ⟨m1, _, K1, K1, fun d => cl_le e1 (Nat.zero_le d), h1, fun d => c246 h1 (by omega) (by omega), h2, p1.trans (p2 k (Int.le_refl _)) (Int.le_refl _) h.tw h1.tw, fun g g0 g1 => ?_⟩
  rw [r2 k g g0 g1]
  by_cases q : g = f
  · rw [if_pos ⟨rfl, q⟩, if_pos q]
  · rw [if_neg (fun z => q z.2), if_neg q]
    by_cases q0 : g = 0
    · rw [if_pos q0, q0]; exact r0
    · rw [if_neg q0]; exact r1 g (by omega) g1
/-- from one row to a new one that has it below -/
theorem RD.up {w : Bool} {m0 : Mem} {i0 k0 K0 s1 c2 s kd : Int} {us0 : List Int} {d0 d2 : ND} {l0 l2 : Fo} {Q : RM} (h : QT m M tp e i t op S k us C K) (hk : k ≤ 20000) (hk0 : 0 ≤ k0) (hw0 : TW m0 S 0 us0 C) (g : QP k0 m0 M S k0 us0 K0 m k us K) (hc : k ≤ k0 + 8 * (i - i0) - s1) (hu : (us.length : Int) ≤ us0.length + (i - i0)) (hs : s ≤ s1 - 1) (hf : gF (rv m M) (ev m M) us false (fun a => k0 ≤ a ∧ a < k) (fun _ => c2) (foC d0 l0 foN)) (hd2 : d2.1 ≠ 20 ∧ d2.1 ≠ 21) (hI : ∀ (g' en' : RF) (us : List Int), gF (rv m M) (ev m M) us false (fun a => k0 ≤ a ∧ a < k) (fun _ => c2) (foC d0 l0 foN) → AG (fun a => k0 ≤ a ∧ a < k) (rv m M) (ev m M) g' en' → g' k 0 = kd → g' k 2 = c2 → gI g' en' (us ++ []) w (fun a => k0 ≤ a ∧ a < k + 1 ∧ a ≠ k) k d2 l2) (hQ : ∀ m1 m2, (∀ d, cl d 245 [pR M, pI kd] m = some (.inl (some (pI k)), m1)) → (∀ d, cl d 246 [pR M, pI k, pI 2, pI c2] m1 = some (.inl none, m2)) → Q = some (.inl (some (pI k)), m2)) :
    RD w M tp e t op S C m0 i0 k0 us0 K0 Q (some (.inr (foC d2 l2 foN, i))) s := by
  have hkK := h.kK
  obtain ⟨m1, m2, K', K1, e1, h1, e2, h2, p2, r2⟩ := h.row2 (kd := kd) (f := 2) (v := c2) hk (by omega)
  have hk01 : k0 ≤ k := g.2.2.2.1
  have ag : AG (fun a => k0 ≤ a ∧ a < k) (rv m M) (ev m M) (rv m2 M) (ev m2 M) := p2.2.1.imp (fun a ha => ⟨by have := ha.1; omega, ha.2⟩)
  have e0 : rv m2 M k 0 = kd := by rw [r2 0 (by omega) (by omega), if_neg (by decide), if_pos rfl]
  have e2' : rv m2 M k 2 = c2 := by rw [r2 2 (by omega) (by omega), if_pos rfl]
  have e1' : rv m2 M k 1 = -1 := by rw [r2 1 (by omega) (by omega), if_neg (by decide), if_neg (by decide)]
  have gi1 := hI (rv m2 M) (ev m2 M) us hf ag e0 e2'
  rw [List.append_nil] at gi1
  exact RD.inr (hQ m1 m2 e1 e2) h2 (g.trans p2 hk01 hw0 h.tw) (by omega) hu ⟨hk01, by omega⟩ gi1 (fun _ => ⟨hd2.2, e1'⟩)
end
