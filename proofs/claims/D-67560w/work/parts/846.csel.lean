/-! queries read by the component: selectors -/
set_option maxRecDepth 100000
set_option maxHeartbeats 4000000
/-- depth enough -/
abbrev dpn (op k : Nat) : Nat := 20 * (17 - op) + k + 12
/-- each method of the compiler that reads one thing, n enough -/
def QH (T tp e : Int) (t : Int → Int) (N : Int) (n mo off : Nat) (call : Nat → Mem → RM) : Prop := ∀ (d op : Nat) (m : Mem) (i c : Int) (xs : List Int), CS m T tp e i t op N xs c → (xs.length : Int) + 3 * (e - i) ≤ 5900 → op ≤ 16 → dpn op off ≤ d → (mo = 4 → sB t e i = i) → (mo = 8 → pk t e i = 40) → CR mo T tp e t op N m i c xs (call d m) (sQ t e n mo op false i) (if mo = 10 then 16 else 30)
section
variable {d op : Nat} {T tp e i N c : Int} {t : Int → Int} {m : Mem} {xs : List Int}
theorem CR.inr {mo : Nat} {Q : RM} {F : Fo} {j u o j' : Int} {m' : Mem} (h1 : Q = some (.inl (some (pR o)), m')) (h2 : cls mo (tg m' o)) (h3 : plc mo t e j j') (h4 : CO T tp e t op N m i c xs m' j' 20 o (wrQ mo F)) (h5 : cntF (wrQ mo F) = 1 := by rfl) : CR mo T tp e t op N m i c xs Q (some (.inr (F, j))) u :=
  ⟨fun F' k q => by cases q; exact ⟨m', o, j', h1, h2, h3, h4, h5⟩, fun p q => (by cases q)⟩
theorem CR.inl {mo : Nat} {Q : RM} {p u : Int} {m' : Mem} (h1 : Q = some (.inr 204, m')) (h2 : CEr T N m i c e m' p u) : CR mo T tp e t op N m i c xs Q (some (.inl p)) u :=
  ⟨fun F' k q => (by cases q), fun p' q => by cases q; exact ⟨m', h1, h2⟩⟩
theorem CR.no {mo : Nat} {Q : RM} {u : Int} : CR mo T tp e t op N m i c xs Q none u := ⟨fun F' k q => (by cases q), fun p' q => (by cases q)⟩
theorem plc_ex {mo : Nat} {j : Int} (h : j ≤ e) : plc mo t e j j := by
  unfold plc; split
  · exact ⟨by omega, h, rfl⟩
  · rfl
theorem plc_sB {mo : Nat} {j : Int} (hm : mo = 4 ∨ mo = 5 ∨ mo = 6) (h : j ≤ e) : plc mo t e j (sB t e j) := by
  have := sB_rng t h
  unfold plc; rw [if_pos hm]; exact ⟨this.1, this.2, sB_idem t e j⟩
theorem CS.sb (h : CS m T tp e i t op N xs c) : CS (mst m T 2 (sB t e i)) T tp e (sB t e i) t op N xs c := by
  have hr := h.rng
  have := sB_rng t (e := e) (i := i) (by omega)
  exact h.at (by omega) (by omega)
theorem CS.bad2 {p j k u : Int} (h : CS m T tp e i t op N xs c) (hu : 6 ≤ u) : CEr T N m i c e (mal (mst (mst (mst m T 2 k) T 2 j) T 3 p) 204 6) p u := by
  rw [mst_mst]; exact h.bad hu
/-- a slice's object -/
theorem c92_203 {m1 : Mem} {j s hs v1 he v2 w : Int} {c1 : Int} {xs1 : List Int} (hd : 1 ≤ d) (h : CS m1 T tp e j t op N xs1 c1) (hz : TZ m) (g : CPg T N m i c xs m1 j c1 xs1 s) (hhs : hs = 0 ∨ hs = 1) (hhe : he = 0 ∨ he = 1) : ∃ m', rn d 92 203 [pR T, pI hs, pL v1, pU, pI he, pL v2, pU, pL w, pU] [] m1 = some (.inl (some (pR (nx m1))), m') ∧ tg m' (nx m1) = 29 ∧ CO T tp e t op N m i c xs m' j (s - 5) (nx m1) (foC (4, 0, [hs, v1, he, v2, w], []) foN foN) := by
  have h1 := h.new (q := 29) (n := 5) (by omega)
  have g1 := g.new (q := 29) (n := 5) h (by omega) (by omega)
  have z0 : tg m (nx m1) = 0 := hz _ g.2.2.1.1
  have t0 : tg (mal m1 29 5) (nx m1) = 29 := new_tg.1
  have h2 := h1.obj (o := nx m1) (f := 0) (v := hs) (by omega)
  have g2 := g1.obj (o := nx m1) (f := 0) (v := hs) h1 (by omega) z0
  have h3 := h2.obj (o := nx m1) (f := 1) (v := v1) (show 15 ≤ tg (mal m1 29 5) (nx m1) ∧ tg (mal m1 29 5) (nx m1) ≤ 29 by omega)
  have g3 := g2.obj (o := nx m1) (f := 1) (v := v1) h2 (show 15 ≤ tg (mal m1 29 5) (nx m1) ∧ tg (mal m1 29 5) (nx m1) ≤ 29 by omega) z0
  have h4 := h3.obj (o := nx m1) (f := 2) (v := he) (show 15 ≤ tg (mal m1 29 5) (nx m1) ∧ tg (mal m1 29 5) (nx m1) ≤ 29 by omega)
  have g4 := g3.obj (o := nx m1) (f := 2) (v := he) h3 (show 15 ≤ tg (mal m1 29 5) (nx m1) ∧ tg (mal m1 29 5) (nx m1) ≤ 29 by omega) z0
  have h5 := h4.obj (o := nx m1) (f := 3) (v := v2) (show 15 ≤ tg (mal m1 29 5) (nx m1) ∧ tg (mal m1 29 5) (nx m1) ≤ 29 by omega)
  have g5 := g4.obj (o := nx m1) (f := 3) (v := v2) h4 (show 15 ≤ tg (mal m1 29 5) (nx m1) ∧ tg (mal m1 29 5) (nx m1) ≤ 29 by omega) z0
  have h6 := h5.obj (o := nx m1) (f := 4) (v := w) (show 15 ≤ tg (mal m1 29 5) (nx m1) ∧ tg (mal m1 29 5) (nx m1) ≤ 29 by omega)
  have g6 := g5.obj (o := nx m1) (f := 4) (v := w) h5 (show 15 ≤ tg (mal m1 29 5) (nx m1) ∧ tg (mal m1 29 5) (nx m1) ≤ 29 by omega) z0
  have e340 : cl (d - 1) 340 [pR (nx m1), pI hs, pL v1, pI he, pL v2, pL w] (mal m1 29 5) = some (.inl none, mst (mst (mst (mst (mst (mal m1 29 5) (nx m1) 0 hs) (nx m1) 1 v1) (nx m1) 2 he) (nx m1) 3 v2) (nx m1) 4 w) := by
    refine q340 (NG_new h.1).1 _ ?_
    rw [gd_of t0, gd_of hhs, gd_of hhe]
  have tf : tg (mst (mst (mst (mst (mst (mal m1 29 5) (nx m1) 0 hs) (nx m1) 1 v1) (nx m1) 2 he) (nx m1) 3 v2) (nx m1) 4 w) (nx m1) = 29 := t0
  refine ⟨_, ?_, tf, CO.leaf h6 g6 ⟨z0, by rw [tf]; decide⟩ (Or.inl (by decide)) ?_⟩
  · refine q92_203 (by omega) h.1.1 _ ?_
    rw [nw_eq, bV_eq e340]
  · rw [CB_4 rfl]
    refine ⟨tf, ?_⟩
    simp only [vl_mst, true_and, if_true]
    rfl
/-- from the end of a slice's end on -/
theorem c92_158 {m1 : Mem} {j s hs v1 he v2 : Int} {c1 : Int} {xs1 : List Int} (hd : 6 ≤ d) (h : CS m1 T tp e j t op N xs1 c1) (hz : TZ m) (g : CPg T N m i c xs m1 j c1 xs1 s) (hs25 : 25 ≤ s) (hhs : hs = 0 ∨ hs = 1) (hhe : he = 0 ∨ he = 1) : CR 4 T tp e t op N m i c xs (rn d 92 158 [pR T, pI hs, pL v1, pU, pI he, pU, pU, pU, pU] [pL v2] m1) (sSt t e hs v1 he v2 j) 30 := by
  have hr := h.rng
  have rj := sB_rng t (e := e) (i := j) (by omega)
  have h1 := h.sb
  have g1 := g.at (s' := s) h rj.1 (by omega)
  have e62 := c62 (d := d - 1) (by omega) h.1.1 h.2.2.2.1
  have e63 := c63 (d := d - 1) h1.1.1 h1.2.2.2.1
  have v21 : vl (mst m1 T 2 (sB t e j)) T 2 = sB t e j := h1.2.2.2.1.2.2.2.1
  unfold sSt
  by_cases q : pk t e (sB t e j) = 58
  · have hlt : sB t e j < e := pkf_lt (t := t) (by omega)
    rw [if_pos q]
    have h2 := h1.at (j := sB t e j + 1) (by omega) (by omega)
    have r2 := sB_rng t (e := e) (i := sB t e j + 1) (by omega)
    have e622 := c62 (d := d - 1) (by omega) h2.1.1 h2.2.2.2.1
    have h3 := h2.sb
    rw [mst_mst] at h2 e622 h3
    rw [mst_mst] at h3
    rw [mst_mst] at e622
    have g3 : CPg T N m i c xs (mst m1 T 2 (sB t e (sB t e j + 1))) (sB t e (sB t e j + 1)) c1 xs1 s := g.at h (by omega) (by omega)
    have e102 := c102 (d := d - 1) (by omega) h3
    have st : ∀ Q, (if (if nb (pk t e (sB t e (sB t e j + 1))) then (1 : Int) else 0) = 0 then (rn d 92 203 [pR T, pI hs, pL v1, pU, pI he, pL v2, pU, pL 1, pU] [] (mst m1 T 2 (sB t e (sB t e j + 1)))) else bL (cl (d - 1) 88 [pR T] (mst m1 T 2 (sB t e (sB t e j + 1)))) fun v5 m5 => rn d 92 203 [pR T, pI hs, pL v1, pU, pI he, pL v2, pU, pL v5, pU] [] m5) = some Q → rn d 92 158 [pR T, pI hs, pL v1, pU, pI he, pU, pU, pU, pU] [pL v2] m1 = some Q := by
      intro Q hQ
      refine q92_158 (by omega) h.1.1 _ ?_
      rw [gd_of h.2.2.1, bV_eq e62, bI_eq e63, if_pos q, v21, (w32_of (by omega) (by omega) : w32 (sB t e j + 1) = sB t e j + 1), mst_mst, bV_eq e622, bI_eq e102]
      exact hQ
    by_cases qn : nb (pk t e (sB t e (sB t e j + 1)))
    · rw [if_pos qn]
      rw [if_pos qn] at st
      obtain ⟨s1, s2⟩ := c88 (d := d - 1) (by omega) h3
      cases hE : sIn t e (sB t e (sB t e j + 1)) with
      | inl p =>
        obtain ⟨k, k0, k1, e88⟩ := s2 p hE
        refine CR.inl (st _ (by rw [if_neg (by decide), bL_xq e88])) ?_
        exact CEr.pre (u := 6) (h3.bad (j := k) (p := p) (by omega)) g3 (by omega)
      | inr x =>
        obtain ⟨w, k⟩ := x
        have e88 := s1 w k hE
        have rk := sIn_rng hE
        have h4 := h3.at (j := k) (by omega) rk.2.1
        rw [mst_mst] at h4 e88
        have g4 : CPg T N m i c xs (mst m1 T 2 k) k c1 xs1 s := g.at h (by omega) (by omega)
        obtain ⟨m', e203, t29, co⟩ := c92_203 (v1 := v1) (v2 := v2) (w := w) (d := d) (by omega) h4 hz g4 hhs hhe
        refine CR.inr (st _ (by rw [if_neg (by decide), bL_eq e88]; exact e203)) ?_ (plc_ex rk.2.1) (co.weak (by omega))
        unfold cls; rw [if_neg (by decide), if_neg (by decide), if_pos rfl]; omega
    · rw [if_neg qn]
      rw [if_neg qn, if_pos rfl] at st
      obtain ⟨m', e203, t29, co⟩ := c92_203 (v1 := v1) (v2 := v2) (w := 1) (d := d) (by omega) h3 hz g3 hhs hhe
      refine CR.inr (st _ e203) ?_ (plc_sB (Or.inl rfl) (by omega)) (co.weak (by omega))
      unfold cls; rw [if_neg (by decide), if_neg (by decide), if_pos rfl]; omega
  · rw [if_neg q]
    have g1' : CPg T N m i c xs (mst m1 T 2 (sB t e j)) (sB t e j) c1 xs1 s := g.at h (by omega) (by omega)
    obtain ⟨m', e203, t29, co⟩ := c92_203 (v1 := v1) (v2 := v2) (w := 1) (d := d) (by omega) h1 hz g1' hhs hhe
    refine CR.inr (o := nx (mst m1 T 2 (sB t e j))) (m' := m') ?_ ?_ (plc_sB (Or.inl rfl) (by omega)) (co.weak (by omega))
    · refine q92_158 (by omega) h.1.1 _ ?_
      rw [gd_of h.2.2.1, bV_eq e62, bI_eq e63, if_neg q]
      exact e203
    · unfold cls; rw [if_neg (by decide), if_neg (by decide), if_pos rfl]; omega
/-- a slice from its first colon on -/
theorem c92_129 {m1 : Mem} {j s hs v1 : Int} {c1 : Int} {xs1 : List Int} (hd : 7 ≤ d) (h : CS m1 T tp e j t op N xs1 c1) (hz : TZ m) (g : CPg T N m i c xs m1 j c1 xs1 s) (hs0 : -15 ≤ s) (hhs : hs = 0 ∨ hs = 1) (hp : pk t e j = 58) : CR 4 T tp e t op N m i c xs (rn d 92 129 [pR T, pI hs, pL v1, pU, pU, pU, pU, pU, pU] [] m1) (sSl t e hs v1 j) 30 := by
  have hr := h.rng
  have hlt : j < e := pkf_lt (t := t) (by omega)
  have e65 := c65_1 (d := d - 1) (by omega) h.1.1 h.2.2.2.1 hp (by decide)
  have h1 := h.at (j := j + 1) (by omega) (by omega)
  have r1 := sB_rng t (e := e) (i := j + 1) (by omega)
  have e62 := c62 (d := d - 1) (by omega) h1.1.1 h1.2.2.2.1
  have h2 := h1.sb
  rw [mst_mst] at h2 e62
  have g2 : CPg T N m i c xs (mst m1 T 2 (sB t e (j + 1))) (sB t e (j + 1)) c1 xs1 (s + 40) := g.at h (by omega) (by omega)
  have e102 := c102 (d := d - 1) (by omega) h2
  have st : ∀ Q, (if (if nb (pk t e (sB t e (j + 1))) then (1 : Int) else 0) = 0 then (rn d 92 158 [pR T, pI hs, pL v1, pU, pI (if nb (pk t e (sB t e (j + 1))) then (1 : Int) else 0), pU, pU, pU, pU] [pL 0] (mst m1 T 2 (sB t e (j + 1)))) else bL (cl (d - 1) 88 [pR T] (mst m1 T 2 (sB t e (j + 1)))) fun v4 m4 => rn d 92 158 [pR T, pI hs, pL v1, pU, pI (if nb (pk t e (sB t e (j + 1))) then (1 : Int) else 0), pU, pU, pU, pU] [pL v4] m4) = some Q → rn d 92 129 [pR T, pI hs, pL v1, pU, pU, pU, pU, pU, pU] [] m1 = some Q := by
    intro Q hQ
    refine q92_129 (by omega) h.1.1 _ ?_
    rw [gd_of h.2.2.1, bV_eq e65, bV_eq e62, bI_eq e102]
    exact hQ
  unfold sSl
  by_cases qn : nb (pk t e (sB t e (j + 1)))
  · rw [if_pos qn]
    rw [if_pos qn] at st
    obtain ⟨s1, s2⟩ := c88 (d := d - 1) (by omega) h2
    cases hE : sIn t e (sB t e (j + 1)) with
    | inl p =>
      obtain ⟨k, k0, k1, e88⟩ := s2 p hE
      refine CR.inl (st _ (by rw [if_neg (by decide), bL_xq e88])) ?_
      exact CEr.pre (u := 6) (h2.bad (j := k) (p := p) (by omega)) g2 (by omega)
    | inr x =>
      obtain ⟨w, k⟩ := x
      have e88 := s1 w k hE
      have rk := sIn_rng hE
      have h4 := h2.at (j := k) (by omega) rk.2.1
      rw [mst_mst] at h4 e88
      have g4 : CPg T N m i c xs (mst m1 T 2 k) k c1 xs1 (s + 40) := g.at h (by omega) (by omega)
      have key := c92_158 (v1 := v1) (v2 := w) (d := d) (by omega) h4 hz g4 (by omega) hhs (he := 1) (Or.inr rfl)
      refine ⟨fun F jj q => ?_, fun p q => ?_⟩
      · obtain ⟨m', o, j', a1, a2⟩ := key.1 F jj q
        exact ⟨m', o, j', st _ (by rw [if_neg (by decide), bL_eq e88]; exact a1), a2⟩
      · obtain ⟨m', a1, a2⟩ := key.2 p q
        exact ⟨m', st _ (by rw [if_neg (by decide), bL_eq e88]; exact a1), a2⟩
  · rw [if_neg qn]
    rw [if_neg qn, if_pos rfl] at st
    have key := c92_158 (v1 := v1) (v2 := 0) (d := d) (by omega) h2 hz g2 (by omega) hhs (he := 0) (Or.inl rfl)
    refine ⟨fun F jj q => ?_, fun p q => ?_⟩
    · obtain ⟨m', o, j', a1, a2⟩ := key.1 F jj q
      exact ⟨m', o, j', st _ a1, a2⟩
    · obtain ⟨m', a1, a2⟩ := key.2 p q
      exact ⟨m', st _ a1, a2⟩
theorem c93_94 {m' : Mem} {r : Rs} (hd : 1 ≤ d) (h : CS m T tp e i t op N xs c) (hr : ∀ z, r = .inl (some z) → ∃ o, z = pR o) (hn : r ≠ .inl none) (he : cl (d - 1) 94 [pR T, pI 1, pI 124] m = some (r, m')) : cl d 93 [pR T] m = some (r, m') := by
  refine q93 (by omega) h.1.1 _ ?_
  rw [gd_of h.2.2.1]
  rcases r with (_ | z) | x
  · exact absurd rfl hn
  · obtain ⟨o, rfl⟩ := hr z rfl
    rw [bR_eq he]
  · rw [bR_xq he]
/-- a selector -/
theorem c92 {n : Nat} (H5 : QH T tp e t N n 5 14 (fun d m => cl d 94 [pR T, pI 1, pI 124] m)) : QH T tp e t N (n + 1) 4 16 (fun d m => cl d 92 [pR T] m) := by
  intro d op m i c xs h hL ho hd hi0 _
  have hi := hi0 rfl
  unfold dpn at hd
  have hr := h.rng
  have hz := h.1.1
  have hT := h.2.2.1
  have v2 := h.2.2.2.1.2.2.2.1
  have e63 := c63 (d := d - 1) h.1.1 h.2.2.2.1
  have e102 := c102 (d := d - 1) (by omega) h
  show CR 4 T tp e t op N m i c xs (cl d 92 [pR T] m) (sQ t e (n + 1) 4 op false i) 30
  unfold sQ
  rw [if_neg (by decide : ¬ (4 : Nat) = 0), if_neg (by decide : ¬ (4 : Nat) = 1), if_neg (by decide : ¬ (4 : Nat) = 2), if_neg (by decide : ¬ (4 : Nat) = 3), if_pos (rfl : (4 : Nat) = 4)]
  by_cases q1 : pk t e i = 39 ∨ pk t e i = 34
  · rw [if_pos q1]
    have st : ∀ Q, (bR (cl (d - 1) 87 [pR T] m) fun v2 m2 => some (.inl (some (pR v2)), m2)) = some Q → cl d 92 [pR T] m = some Q := by
      intro Q hQ
      refine q92 (by omega) hz _ ?_
      rw [gd_of hT, bI_eq e63]
      by_cases q : pk t e i = 39
      · rw [if_pos q]; exact hQ
      · rw [if_neg q, bI_eq e63, if_pos (by omega)]; exact hQ
    obtain ⟨s1, s2⟩ := c87 (d := d - 1) (by omega) h hL q1
    have rs : ∀ us j, sS t e (pk t e i) (i + 1) = .inr (us, j) → j ≤ e := fun us j hE => by
      obtain ⟨m', o, e1, t1, c', xs', a1, a2⟩ := s1 us j hE
      exact a1.rng.2.1
    cases hE : sS t e (pk t e i) (i + 1) with
    | inl p =>
      obtain ⟨m', e1, ce⟩ := s2 p hE
      exact CR.inl (st _ (by rw [bR_xq e1])) ce
    | inr x =>
      obtain ⟨us, j⟩ := x
      obtain ⟨m', o, e1, t1, co⟩ := s1 us j hE
      refine CR.inr (st _ (by rw [bR_eq e1])) ?_ (plc_ex (rs us j hE)) (co.weak (by omega))
      unfold cls; rw [if_neg (by decide), if_neg (by decide), if_pos rfl]; omega
  · rw [if_neg q1]
    by_cases q2 : pk t e i = 42
    · rw [if_pos ⟨rfl, q2⟩]
      have hlt : i < e := pkf_lt (t := t) (by omega)
      have h1 := h.at (j := i + 1) (by omega) (by omega)
      have g1 := CPg.at0 (s := 40) (j := i + 1) h (by omega) (by omega)
      have h2 := h1.new (q := 19) (n := 0) (by omega)
      have g2 := g1.new (q := 19) (n := 0) h1 (by omega) (by omega)
      have t0 : tg (mal (mst m T 2 (i + 1)) 19 0) (nx (mst m T 2 (i + 1))) = 19 := new_tg.1
      have z0 : tg m (nx (mst m T 2 (i + 1))) = 0 := hz _ (Int.le_refl _)
      have e310 : cl (d - 1) 310 [pR (nx (mst m T 2 (i + 1)))] (mal (mst m T 2 (i + 1)) 19 0) = some (.inl none, mal (mst m T 2 (i + 1)) 19 0) := by
        refine q310 h2.1.1 _ ?_
        rw [gd_of t0]
      refine CR.inr (m' := mal (mst m T 2 (i + 1)) 19 0) (o := nx (mst m T 2 (i + 1))) ?_ ?_ (plc_ex (by omega)) ((CO.leaf h2 g2 ⟨z0, by rw [t0]; decide⟩ (Or.inl (by decide)) ?_).weak (by omega))
      · refine q92 (by omega) hz _ ?_
        rw [gd_of hT, bI_eq e63, if_neg (by omega), bI_eq e63, if_neg (by omega), bI_eq e63, if_pos q2, v2, (w32_of (by omega) (by omega) : w32 (i + 1) = i + 1), nw_eq, bV_eq e310]
      · unfold cls; rw [if_neg (by decide), if_neg (by decide), if_pos rfl]; omega
      · rw [CB_2 rfl]; exact t0
    · rw [if_neg (fun q => q2 q.2)]
      by_cases q3 : pk t e i = 63
      · rw [if_pos ⟨rfl, q3⟩]
        have hlt : i < e := pkf_lt (t := t) (by omega)
        have h1 := h.at (j := i + 1) (by omega) (by omega)
        have r1 := sB_rng t (e := e) (i := i + 1) (by omega)
        have e62 := c62 (d := d - 1) (by omega) h1.1.1 h1.2.2.2.1
        have h2 := h1.sb
        rw [mst_mst] at h2 e62
        have g2 : CPg T N m i c xs (mst m T 2 (sB t e (i + 1))) (sB t e (i + 1)) c xs 40 := CPg.at0 h (by omega) (by omega)
        have h3 := h2.new (q := 20) (n := 1) (by omega)
        have g3 := g2.new (q := 20) (n := 1) h2 (by omega) (by omega)
        have key := H5 (d - 2) op _ _ _ _ h3 (by omega) ho (by unfold dpn; omega) (fun q => by omega) (fun q => by omega)
        have st : ∀ Q, (bR (cl (d - 1) 93 [pR T] (mal (mst m T 2 (sB t e (i + 1))) 20 1)) fun v10 m10 => bV (cl (d - 1) 312 [pR (nx (mst m T 2 (sB t e (i + 1)))), pR v10] m10) fun m11 => some (.inl (some (pR (nx (mst m T 2 (sB t e (i + 1)))))), m11)) = some Q → cl d 92 [pR T] m = some Q := by
          intro Q hQ
          refine q92 (by omega) hz _ ?_
          rw [gd_of hT, bI_eq e63, if_neg (by omega), bI_eq e63, if_neg (by omega), bI_eq e63, if_neg q2, bI_eq e63, if_pos q3, v2, (w32_of (by omega) (by omega) : w32 (i + 1) = i + 1), bV_eq e62, nw_eq]
          exact hQ
        cases hE : sQ t e n 5 op false (sB t e (i + 1)) with
        | none => exact CR.no
        | some y =>
          rw [hE] at key
          rcases y with p | ⟨L, j⟩
          · obtain ⟨m', e1, ce⟩ := key.2 p rfl
            have e93 := c93_94 (d := d - 1) (by omega) h3 (fun z q => (by cases q)) (by intro q; cases q) (show cl (d - 1 - 1) 94 [pR T, pI 1, pI 124] _ = some (.inr 204, m') from e1)
            exact CR.inl (st _ (by rw [bR_xq e93])) (ce.pre g3 (by rw [if_neg (by decide)]; omega))
          · obtain ⟨m', x, j', e1, tc, pl, co, -⟩ := key.1 L j rfl
            have e93 := c93_94 (d := d - 1) (by omega) h3 (fun z q => by cases q; exact ⟨x, rfl⟩) (by intro q; cases q) (show cl (d - 1 - 1) 94 [pR T, pI 1, pI 124] _ = some (.inl (some (pR x)), m') from e1)
            obtain ⟨ck, tk, tm, -⟩ := CO.kid (kd := 5) (v := vl m' (nx (mst m T 2 (sB t e (i + 1)))) 1) hz h2 g2 (by omega) (by omega) co (Or.inl rfl) (fun M N xs ht _ => by rw [CB_5 rfl]; exact ht)
            have es : mst (mst m' (nx (mst m T 2 (sB t e (i + 1)))) 0 x) (nx (mst m T 2 (sB t e (i + 1)))) 1 (vl m' (nx (mst m T 2 (sB t e (i + 1)))) 1) = mst m' (nx (mst m T 2 (sB t e (i + 1)))) 0 x := mst_self (by rw [vl_mst, if_neg (by omega)])
            rw [es] at ck tk
            have hz' : TZ m' := by obtain ⟨c', xs', a1, -⟩ := co; exact a1.1.1
            have e312 : cl (d - 1) 312 [pR (nx (mst m T 2 (sB t e (i + 1)))), pR x] m' = some (.inl none, mst m' (nx (mst m T 2 (sB t e (i + 1)))) 0 x) := by
              refine q312 hz' _ ?_
              rw [gd_of tm]
            refine CR.inr (st _ (by rw [bR_eq e93, bV_eq e312])) ?_ ?_ (ck.weak (by omega))
            · unfold cls; rw [if_neg (by decide), if_neg (by decide), if_pos rfl]; omega
            · unfold plc at pl ⊢; rw [if_pos (by decide)] at pl; rw [if_pos (by decide)]; exact pl
      · rw [if_neg (fun q => q3 q.2)]
        by_cases q4 : nb (pk t e i)
        · rw [if_pos q4]
          rw [if_pos q4] at e102
          have st : ∀ Q, (bL (cl (d - 1) 88 [pR T] m) fun v7 m7 => rn d 92 102 [pR T, pI 1, pU, pU, pU, pU, pU, pU, pU] [pL v7] m7) = some Q → cl d 92 [pR T] m = some Q := by
            intro Q hQ
            refine q92 (by omega) hz _ ?_
            rw [gd_of hT, bI_eq e63, if_neg (by omega), bI_eq e63, if_neg (by omega), bI_eq e63, if_neg q2, bI_eq e63, if_neg q3, bI_eq e102, if_neg (by decide)]
            exact hQ
          obtain ⟨s1, s2⟩ := c88 (d := d - 1) (by omega) h
          cases hE : sIn t e i with
          | inl p =>
            obtain ⟨k, k0, k1, e88⟩ := s2 p hE
            exact CR.inl (st _ (by rw [bL_xq e88])) (h.bad (j := k) (by omega))
          | inr x =>
            obtain ⟨v, j⟩ := x
            have e88 := s1 v j hE
            have rj := sIn_rng hE
            have rb := sB_rng t (e := e) (i := j) rj.2.1
            have h1 := h.at (j := j) (by omega) rj.2.1
            have e62 := c62 (d := d - 1) (by omega) h1.1.1 h1.2.2.2.1
            have h2 := h1.sb
            rw [mst_mst] at h2 e62
            have g2 : CPg T N m i c xs (mst m T 2 (sB t e j)) (sB t e j) c xs 40 := CPg.at0 h (by omega) (by omega)
            have e632 := c63 (d := d - 1) h2.1.1 h2.2.2.2.1
            dsimp only
            by_cases q5 : pk t e (sB t e j) = 58
            · rw [if_pos ⟨rfl, q5⟩]
              have key := c92_129 (v1 := v) (d := d) (by omega) h2 hz g2 (by omega) (hs := 1) (Or.inr rfl) q5
              have st2 : ∀ Q, rn d 92 129 [pR T, pI 1, pL v, pU, pU, pU, pU, pU, pU] [] (mst m T 2 (sB t e j)) = some Q → cl d 92 [pR T] m = some Q := by
                intro Q hQ
                refine st Q ?_
                rw [bL_eq e88]
                refine q92_102 (by omega) h1.1.1 _ ?_
                rw [gd_of h1.2.2.1, bV_eq e62, if_neg (by decide), bI_eq e632, if_pos q5]
                exact hQ
              refine ⟨fun F jj q => ?_, fun p q => ?_⟩
              · obtain ⟨m', o, j', a1, a2⟩ := key.1 F jj q
                exact ⟨m', o, j', st2 _ a1, a2⟩
              · obtain ⟨m', a1, a2⟩ := key.2 p q
                exact ⟨m', st2 _ a1, a2⟩
            · rw [if_neg (fun q => q5 q.2)]
              have h3 := h2.new (q := 18) (n := 1) (by omega)
              have g3 := g2.new (q := 18) (n := 1) h2 (by omega) (by omega)
              have t0 : tg (mal (mst m T 2 (sB t e j)) 18 1) (nx (mst m T 2 (sB t e j))) = 18 := new_tg.1
              have z0 : tg m (nx (mst m T 2 (sB t e j))) = 0 := hz _ (Int.le_refl _)
              have h4 := h3.obj (o := nx (mst m T 2 (sB t e j))) (f := 0) (v := v) (by omega)
              have g4 := g3.obj (o := nx (mst m T 2 (sB t e j))) (f := 0) (v := v) h3 (by omega) z0
              have e308 : cl (d - 1) 308 [pR (nx (mst m T 2 (sB t e j))), pL v] (mal (mst m T 2 (sB t e j)) 18 1) = some (.inl none, mst (mal (mst m T 2 (sB t e j)) 18 1) (nx (mst m T 2 (sB t e j))) 0 v) := by
                refine q308 h3.1.1 _ ?_
                rw [gd_of t0]
              refine CR.inr (m' := mst (mal (mst m T 2 (sB t e j)) 18 1) (nx (mst m T 2 (sB t e j))) 0 v) (o := nx (mst m T 2 (sB t e j))) ?_ ?_ (plc_sB (Or.inl rfl) rj.2.1) ((CO.leaf h4 g4 ⟨z0, by show tg (mal (mst m T 2 (sB t e j)) 18 1) _ ≠ 0; rw [t0]; decide⟩ (Or.inl (by decide)) ?_).weak (by omega))
              · refine st _ ?_
                rw [bL_eq e88]
                refine q92_102 (by omega) h1.1.1 _ ?_
                rw [gd_of h1.2.2.1, bV_eq e62, if_neg (by decide), bI_eq e632, if_neg q5, nw_eq, bV_eq e308]
              · show cls 4 (tg (mal (mst m T 2 (sB t e j)) 18 1) (nx (mst m T 2 (sB t e j))))
                unfold cls; rw [if_neg (by decide), if_neg (by decide), if_pos rfl]; omega
              · rw [CB_3 rfl]
                exact ⟨t0, by rw [vl_mst, if_pos ⟨rfl, rfl⟩]⟩
        · rw [if_neg q4]
          rw [if_neg q4] at e102
          have e62 := c62 (d := d - 1) (by omega) h.1.1 h.2.2.2.1
          rw [hi, mst_self v2] at e62
          have st : ∀ Q, rn d 92 129 [pR T, pI 0, pL 0, pU, pU, pU, pU, pU, pU] [] m = some Q → cl d 92 [pR T] m = some Q := by
            intro Q hQ
            refine q92 (by omega) hz _ ?_
            rw [gd_of hT, bI_eq e63, if_neg (by omega), bI_eq e63, if_neg (by omega), bI_eq e63, if_neg q2, bI_eq e63, if_neg q3, bI_eq e102, if_pos rfl]
            refine q92_102 (by omega) hz _ ?_
            rw [gd_of hT, bV_eq e62, if_pos rfl]
            exact hQ
          by_cases q5 : pk t e i = 58
          · rw [if_pos ⟨rfl, q5⟩]
            have key := c92_129 (v1 := 0) (d := d) (by omega) h hz (CPg.refl h) (by omega) (hs := 0) (Or.inl rfl) q5
            refine ⟨fun F jj q => ?_, fun p q => ?_⟩
            · obtain ⟨m', o, j', a1, a2⟩ := key.1 F jj q
              exact ⟨m', o, j', st _ a1, a2⟩
            · obtain ⟨m', a1, a2⟩ := key.2 p q
              exact ⟨m', st _ a1, a2⟩
          · rw [if_neg (fun q => q5 q.2)]
            have e65 := c65_0 (d := d - 1) (x := 58) (by omega) h.1.1 h.2.2.2.1 q5
            refine CR.inl (st _ (q92_129 (by omega) hz _ ?_)) (h.bad0 (p := i) (by omega))
            rw [gd_of hT, bV_xq e65]
end
