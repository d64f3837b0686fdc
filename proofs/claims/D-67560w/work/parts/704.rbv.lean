/-! reading what was printed: values -/
set_option maxRecDepth 100000
set_option maxHeartbeats 4000000
/-- nothing but what is read: no indices, no names in arrays, names of whole characters -/
def cnN (d : ND) (ob : Bool) : Prop := (d.1 ≠ 3 → d.2.1 = 0) ∧ (d.1 ≠ 4 → d.2.2.1 = []) ∧ (ob = false → d.2.2.2 = []) ∧ sur d.2.2.2
def cnF : Bool → Fo → Prop
  | _, .leaf => True
  | ob, .inner n d _ l r => n = 0 ∧ cnN d ob ∧ cnF (d.1 == 6) l ∧ cnF ob r
section
variable {t : Int → Int} {e a : Int} {nd : ND} {l : Fo}
theorem prN_hd (v : Int) : ∃ c r, prN v = c :: r ∧ (c = 45 ∨ dg c) := by
  unfold prN
  split
  · exact ⟨45, _, rfl, Or.inl rfl⟩
  · obtain ⟨r, hr⟩ := dl_hd (kd 17 v) v
    exact ⟨_, r, hr, Or.inr (by show 48 ≤ _ ∧ _ ≤ 57; omega)⟩
/-- how a value begins -/
theorem prV_hd (hk : nd.1 ≤ 6) : ∃ c r, prV nd l = c :: r ∧ ¬ bk c ∧ c ≠ 93 ∧ c ≠ 125 := by
  unfold prV prD
  by_cases k0 : nd.1 = 0
  · rw [if_pos k0]; exact ⟨110, _, rfl, by decide, by decide, by decide⟩
  rw [if_neg k0]
  by_cases k1 : nd.1 = 1
  · rw [if_pos k1]; exact ⟨102, _, rfl, by decide, by decide, by decide⟩
  rw [if_neg k1]
  by_cases k2 : nd.1 = 2
  · rw [if_pos k2]; exact ⟨116, _, rfl, by decide, by decide, by decide⟩
  rw [if_neg k2]
  by_cases k3 : nd.1 = 3
  · rw [if_pos k3]
    obtain ⟨c, r, h1, h2⟩ := prN_hd nd.2.1
    exact ⟨c, r, h1, by omega, by omega, by omega⟩
  rw [if_neg k3]
  by_cases k4 : nd.1 = 4
  · rw [if_pos k4]; exact ⟨34, _, rfl, by decide, by decide, by decide⟩
  rw [if_neg k4]
  by_cases k5 : nd.1 = 5
  · rw [if_pos k5]; exact ⟨91, _, rfl, by decide, by decide, by decide⟩
  · rw [if_neg k5]; exact ⟨123, _, rfl, by decide, by decide, by decide⟩
theorem prF_hd {F : Fo} (hF : F ≠ .leaf) (hw : wfF F) (ob : Bool) : ∃ c r, prF ob true F = c :: r ∧ ¬ bk c ∧ c ≠ clo ob := by
  cases F with
  | leaf => exact absurd rfl hF
  | inner n d u l r =>
    rw [prF_inner, if_pos rfl, List.nil_append]
    cases ob with
    | true => rw [if_pos rfl]; exact ⟨34, _, rfl, by decide, by decide⟩
    | false =>
      rw [if_neg (by decide), List.nil_append]
      obtain ⟨c, r', h1, h2, h3, h4⟩ := prV_hd (nd := d) (l := l) hw.1.1
      rw [h1]
      exact ⟨c, _, rfl, h2, h3⟩
theorem prF_false {F : Fo} (hF : F ≠ .leaf) (ob : Bool) : prF ob false F = 44 :: prF ob true F := by
  cases F with
  | leaf => exact absurd rfl hF
  | inner n d u l r => rw [prF_inner, prF_inner, if_neg (by decide), if_pos rfl]; rfl
def RBF (t : Int → Int) (e : Int) (F : Fo) : Prop := ∀ (n dep : Nat) (ob : Bool) (seen : List (List Int)) (a : Int), F ≠ .leaf → wfF F → cnF ob F → dep + dpF F ≤ 32 → (ob = true → (seen ++ nmsF F).Nodup) → AtT t e a (prF ob true F ++ [clo ob]) → 2 * (prF ob true F).length + 4 ≤ n → sP t e n true dep ob seen a = some (.inr (F, a + (prF ob true F).length + 1))
theorem RBV {n dep : Nat} {ob : Bool} {seen : List (List Int)} (hF : RBF t e l) (hw : wfF (foC nd l foN)) (hc : cnF ob (foC nd l foN)) (hd : dep + dpV nd l ≤ 32) (h : AtT t e a (prV nd l)) (hf : fol (pk t e (a + (prV nd l).length))) (hn : 2 * (prV nd l).length + 1 ≤ n) : sP t e n false dep ob seen a = some (.inr (foC (nd.1, nd.2.1, nd.2.2.1, []) l foN, a + (prV nd l).length)) := by
  obtain ⟨⟨w1, w2, w3, w4, w5⟩, w6, w7, w8', w9, -⟩ := hw
  obtain ⟨-, ⟨c1, c2, c3, c4⟩, c5, -⟩ := hc
  obtain ⟨k, num, us, nm⟩ := nd
  simp only at *
  cases n with
  | zero => omega
  | succ n =>
    unfold prV prD at h hf hn ⊢
    simp only at h hf hn ⊢
    have word : ∀ (kk : Nat) (cs : List Int) (ch : Int), kk < 3 → k = kk → cs = (if kk = 0 then cNul else if kk = 1 then cFls else cTru) → ch = (if kk = 0 then 110 else if kk = 1 then 102 else 116) → AtT t e a cs → sP t e (n + 1) false dep ob seen a = some (.inr (foC (k, num, us, []) l foN, a + cs.length)) := by
      intro kk cs ch hkk hk hcs hch hA
      have hl := w7 (by omega)
      rw [c1 (by omega), c2 (by omega), hl, hk]
      have hs := sW_rd cs a hA
      have p1 : pk t e a = ch := by
        have : kk = 0 ∨ kk = 1 ∨ kk = 2 := by omega
        rcases this with q | q | q <;> subst q <;> subst hcs <;> subst hch <;> exact hA.cons.1
      unfold sP
      have : kk = 0 ∨ kk = 1 ∨ kk = 2 := by omega
      rcases this with q | q | q
      · subst q
        have hch : ch = 110 := hch
        have hcs : cs = cNul := hcs
        subst hch hcs
        rw [if_neg (by omega), if_neg (by omega), if_neg (by omega), if_pos p1]
        unfold sWd; rw [hs]
      · subst q
        have hch : ch = 102 := hch
        have hcs : cs = cFls := hcs
        subst hch hcs
        rw [if_neg (by omega), if_neg (by omega), if_pos p1]
        unfold sWd; rw [hs]
      · subst q
        have hch : ch = 116 := hch
        have hcs : cs = cTru := hcs
        subst hch hcs
        rw [if_neg (by omega), if_neg (by omega), if_neg (by omega), if_neg (by omega), if_pos p1]
        unfold sWd; rw [hs]
    by_cases k0 : k = 0
    · rw [if_pos k0] at h hf hn ⊢
      exact word 0 cNul 110 (by decide) k0 rfl rfl h
    rw [if_neg k0] at h hf hn ⊢
    by_cases k1 : k = 1
    · rw [if_pos k1] at h hf hn ⊢
      exact word 1 cFls 102 (by decide) k1 rfl rfl h
    rw [if_neg k1] at h hf hn ⊢
    by_cases k2 : k = 2
    · rw [if_pos k2] at h hf hn ⊢
      exact word 2 cTru 116 (by decide) k2 rfl rfl h
    rw [if_neg k2] at h hf hn ⊢
    by_cases k3 : k = 3
    · rw [if_pos k3] at h hf hn ⊢
      obtain ⟨r1, r2⟩ := sNm_rd ⟨w2, w3⟩ h hf
      have r2' : pk t e a = 45 ∨ 48 ≤ pk t e a ∧ pk t e a ≤ 57 := r2
      rw [c2 (by omega), w7 (by omega), k3]
      unfold sP
      rw [if_neg (by omega), if_neg (by omega), if_neg (by omega), if_neg (by omega), if_neg (by omega), r1]
    rw [if_neg k3] at h hf hn ⊢
    by_cases k4 : k = 4
    · rw [if_pos k4] at h hf hn ⊢
      obtain ⟨r1, r2⟩ := sS_rd w4 w6 h
      rw [c1 (by omega), w7 (by omega), k4]
      unfold sP
      rw [if_pos r1, r2]
    rw [if_neg k4] at h hf hn ⊢
    have hd' : dep + (1 + dpF l) ≤ 32 := by unfold dpV at hd; rw [if_neg (by show ¬ k < 5; omega)] at hd; exact hd
    have brk : ∀ (ob1 : Bool) (ch : Int), (k == 6) = ob1 → ch = (if ob1 then 123 else 91) → AtT t e a (ch :: (prF ob1 true l ++ [clo ob1])) → 2 * (ch :: (prF ob1 true l ++ [clo ob1])).length + 1 ≤ n + 1 → sP t e (n + 1) false dep ob seen a = some (.inr (foC (k, num, us, []) l foN, a + (ch :: (prF ob1 true l ++ [clo ob1])).length)) := by
      intro ob1 ch hob hch hA hlen
      obtain ⟨p1, h1⟩ := hA.cons
      have hl0 := hA.1
      have hl1 := h1.2.1
      have hkk : k = (if ob1 then 6 else 5) := by
        cases ob1 with
        | true => simp at hob; rw [hob]; rfl
        | false => simp at hob; rw [if_neg (by decide)]; omega
      have hb1 : (pk t e a == 123) = ob1 := by rw [p1, hch]; cases ob1 <;> rfl
      have hbr : pk t e a = 91 ∨ pk t e a = 123 := by rw [p1, hch]; cases ob1 <;> simp
      simp only [List.length_cons, List.length_append, List.length_nil] at hlen ⊢
      rw [c1 (by omega), c2 (by omega)]
      unfold sP
      rw [if_neg (by omega), if_pos hbr, if_neg (by omega), hb1, hkk]
      by_cases hl : l = .leaf
      · subst hl
        rw [show prF ob1 true .leaf = [] from prF_leaf ob1 true] at h1 ⊢
        have p2 : pk t e (a + 1) = clo ob1 := h1.cons.1
        rw [sB_here (by rw [p2]; cases ob1 <;> decide), if_pos p2]
        simp; omega
      · obtain ⟨c, r, e1, e2, e3⟩ := prF_hd hl w9 ob1
        have p2 : pk t e (a + 1) = c := by
          have h2 := h1
          rw [e1] at h2
          exact h2.cons.1
        have := hF n (dep + 1) ob1 [] (a + 1) hl w9 (by rw [hob] at c5; exact c5) (by omega) (fun ho => by
          rw [List.nil_append]
          refine w8' ?_
          rw [hkk, ho]; rfl) h1 (by omega)
        rw [sB_here (by rw [p2]; exact e2), if_neg (by rw [p2]; exact e3), this]
        simp; omega
    by_cases k5 : k = 5
    · rw [if_pos k5] at h hf hn ⊢
      have hob : (k == 6) = false := by rw [k5]; rfl
      rw [hob] at h hf hn ⊢
      exact brk false 91 hob rfl h hn
    · rw [if_neg k5] at h hf hn ⊢
      have hob : (k == 6) = true := by rw [show k = 6 by omega]; rfl
      rw [hob] at h hf hn ⊢
      exact brk true 123 hob rfl h hn
theorem RBF_all (F : Fo) : RBF t e F := by
  induction F with
  | leaf => intro n dep ob seen a hF; exact absurd rfl hF
  | inner i nd u l r ihl ihr =>
    intro n dep ob seen a _ hw hc hd hnd h hn
    have hw' := hw
    obtain ⟨w1, w2, w3, w4, w5, w6⟩ := hw
    obtain ⟨c1, c2, c3, c4⟩ := hc
    subst c1
    have hd1 : dep + dpV nd l ≤ 32 ∧ dep + dpF r ≤ 32 := by
      have : dpF (.inner 0 nd u l r) = max (if nd.1 < 5 then 0 else 1 + dpF l) (dpF r) := rfl
      unfold dpV
      omega
    rw [prF_inner, if_pos rfl, List.nil_append] at h hn ⊢
    cases n with
    | zero => omega
    | succ n =>
      -- the key
      obtain ⟨j, hkey, hj, hA⟩ : ∃ j, sKey t e ob seen a = .inr (nd.2.2.2, j) ∧ j = a + (if ob then prS 34 nd.2.2.2 ++ [58] else []).length ∧ AtT t e j (prV nd l ++ (prF ob false r ++ [clo ob])) := by
        rw [List.append_assoc] at h
        obtain ⟨h1, h2⟩ := h.app
        rw [List.append_assoc] at h2
        refine ⟨_, ?_, rfl, h2⟩
        cases ob with
        | false =>
          unfold sKey
          rw [if_neg (by decide), if_neg (by decide), c2.2.2.1 rfl]
          simp
        | true =>
          rw [if_pos rfl] at h1 h2 ⊢
          obtain ⟨g1, g2⟩ := h1.app
          obtain ⟨s1, s2⟩ := sS_rd w1.2.2.2.2 c2.2.2.2 g1
          have p58 := g2.cons.1
          obtain ⟨c, r', e1, e2, -, -⟩ := prV_hd (nd := nd) (l := l) w1.1
          have h3 := h2
          rw [e1] at h3
          have pc := h3.cons.1
          have hni : nd.2.2.2 ∉ seen := by
            have := hnd rfl
            rw [List.nodup_append] at this
            intro q
            exact this.2.2 _ q _ (by simp [nmsF]) rfl
          unfold sKey
          rw [if_pos rfl, if_pos s1, s2]
          dsimp only
          rw [if_neg hni, sB_here (by rw [p58]; decide), if_pos p58]
          rw [List.length_append] at pc ⊢
          simp only [List.length_cons, List.length_nil] at pc ⊢
          rw [show a + ((prS 34 nd.2.2.2).length : Int) + 1 = a + (((prS 34 nd.2.2.2).length + (0 + 1) : Nat) : Int) by omega, sB_here (by rw [pc]; exact e2)]
      obtain ⟨hA1, hA2⟩ := hA.app
      have hcn : cnF ob (foC nd l foN) := ⟨rfl, c2, c3, trivial⟩
      unfold sP
      rw [hkey]
      dsimp only
      by_cases hr : r = .leaf
      · subst hr
        rw [show prF ob false .leaf = [] from prF_leaf ob false] at hA2 hn ⊢
        have pc : pk t e (j + (prV nd l).length) = clo ob := hA2.cons.1
        have hv := RBV (n := n) (ob := ob) (seen := seen) ihl ⟨w1, w2, w3, w4, w5, trivial⟩ hcn hd1.1 hA1 (by rw [pc]; cases ob <;> decide) (by simp only [List.length_append, List.length_nil] at hn; omega)
        rw [hv]
        dsimp only
        rw [sB_here (by rw [pc]; cases ob <;> decide), if_pos pc, hj]
        simp only [List.length_append, List.length_nil]
        congr 3
        omega
      · rw [prF_false hr] at hA2 hn ⊢
        obtain ⟨p44, hA3⟩ := hA2.cons
        have hv := RBV (n := n) (ob := ob) (seen := seen) ihl ⟨w1, w2, w3, w4, w5, trivial⟩ hcn hd1.1 hA1 (by rw [p44]; decide) (by simp only [List.length_append, List.length_cons] at hn; omega)
        obtain ⟨c, r', e1, e2, e3⟩ := prF_hd hr w6 ob
        have pc : pk t e (j + (prV nd l).length + 1) = c := by
          have h3 := hA3
          rw [e1] at h3
          exact h3.cons.1
        have hrest := ihr n dep ob (seen ++ [nd.2.2.2]) (j + (prV nd l).length + 1) hr w6 c4 hd1.2 (fun ho => by
          have := hnd ho
          simpa [nmsF] using this) hA3 (by simp only [List.length_append, List.length_cons] at hn; omega)
        rw [hv]
        dsimp only
        rw [sB_here (by rw [p44]; decide), if_neg (by rw [p44]; cases ob <;> decide), if_pos p44, sB_here (by rw [pc]; exact e2), hrest]
        dsimp only
        rw [hj]
        simp only [List.length_append, List.length_cons]
        congr 3
        omega
/-- what was printed is read back -/
theorem sRd_pr {L : List Int} {n : Nat} (hw : wfF (foC nd l foN)) (hc : cnF false (foC nd l foN)) (hd : dpV nd l ≤ 32) (hL : L = prV nd l) (ht : AtT t L.length 0 L) (hn : 2 * L.length + 1 ≤ n) : sRd t L.length n = some (.inr (foC nd l foN)) := by
  subst hL
  obtain ⟨c, r, e1, e2, -, -⟩ := prV_hd (nd := nd) (l := l) hw.1.1
  have p1 : pk t (prV nd l).length 0 = c := by
    have h := ht
    rw [e1] at h
    rw [e1]; exact h.cons.1
  have hend : pk t (prV nd l).length (0 + (prV nd l).length) = -1 := by unfold pk; rw [if_neg (by omega)]
  have := RBV (n := n) (dep := 0) (ob := false) (seen := []) (RBF_all l) hw hc (by omega) ht (by rw [hend]; decide) hn
  unfold sRd
  rw [sB_here (by rw [p1]; exact e2), this]
  dsimp only
  rw [Int.zero_add] at hend ⊢
  rw [sB_here (by rw [hend]; decide), if_pos rfl]
  obtain ⟨-, ⟨-, -, c3, -⟩, -, -⟩ := hc
  obtain ⟨k, num, us, nm⟩ := nd
  simp only at c3 ⊢
  rw [c3 trivial]
end
