/-! the twin's texts: values into trees (words for it) -/
set_option maxRecDepth 100000
set_option maxHeartbeats 4000000
theorem sB_nb (t : Int → Int) (e : Int) : ∀ (n : Nat) (i : Int), (e - i).toNat = n → ¬ bk (pk t e (sB t e i)) := by
  intro n
  induction n with
  | zero =>
    intro i hn
    have hp : pk t e i = -1 := by unfold pk; rw [if_neg (by omega)]
    rw [sB_eq, if_neg (by rw [hp]; decide), hp]; decide
  | succ n ih =>
    intro i hn
    rw [sB_eq]
    by_cases h : bk (pk t e i)
    · rw [if_pos h]; exact ih (i + 1) (by omega)
    · rw [if_neg h]; exact h
theorem sB_idem (t : Int → Int) (e i : Int) : sB t e (sB t e i) = sB t e i := by rw [sB_eq t e (sB t e i), if_neg (sB_nb t e _ i rfl)]
theorem fnI_neg (ks : List Int) (A : Fo) : fnI ks A < 0 ↔ ks ∉ nmsF A := by
  induction A with
  | leaf => simp [fnI, nmsF]
  | inner i d u l r _ ih =>
    simp only [fnI, nmsF]
    by_cases h : d.2.2.2 = ks
    · rw [if_pos h]; simp [h]
    · rw [if_neg h, ih]; simp [Ne.symm h]
theorem erF_fapp (A B : Fo) : erF (fapp A B) = fapp (erF A) (erF B) := by
  induction A with
  | leaf => rfl
  | inner i d u l r _ ih => simp only [fapp, erF, ih]
theorem nmsF_er (A : Fo) : nmsF (erF A) = nmsF A := by
  induction A with
  | leaf => rfl
  | inner i d u l r _ ih => simp only [nmsF, erF, ih]
theorem insG_03 (g : Int → Int → Int) (p b k f j : Int) (hf : f ≤ 3) : insG g p b k f j = g f j := by
  unfold insG
  split
  · rw [up_ne _ _ _ _ _ _ (by omega), up_ne _ _ _ _ _ _ (by omega), up_ne _ _ _ _ _ _ (by omega)]
  · rw [up_ne _ _ _ _ _ _ (by omega), up_ne _ _ _ _ _ _ (by omega), up_ne _ _ _ _ _ _ (by omega)]
theorem insG_o (g : Int → Int → Int) (p b k f j : Int) (h1 : j ≠ p) (h2 : j ≠ b) (h3 : j ≠ k) : insG g p b k f j = g f j := by
  unfold insG
  split
  · rw [up_ne _ _ _ _ _ _ (by omega), up_ne _ _ _ _ _ _ (by omega), up_ne _ _ _ _ _ _ (by omega)]
  · rw [up_ne _ _ _ _ _ _ (by omega), up_ne _ _ _ _ _ _ (by omega), up_ne _ _ _ _ _ _ (by omega)]
section
variable {g g' : Int → Int → Int} {us vs : List Int} {n n' : Int}
theorem TN.keep {i : Nat} {d : ND} {l : Fo} (hn : n ≤ n') (h : TN g us n i d l) (hg : ∀ f (j : Nat), 0 ≤ f → f ≤ 9 → j ∈ idF l → g' f j = g f j) (hi : ∀ f, 0 ≤ f → f ≤ 4 → g' f i = g f i) : TN g' (us ++ vs) n' i d l := by
  obtain ⟨a1, a2, a3, ⟨a4, a5⟩, a6, a7⟩ := h
  exact ⟨by omega, by rw [hi 0 (by decide) (by decide)]; exact a2, fun q => by rw [hi 1 (by decide) (by decide)]; exact a3 q, ⟨by rw [hi 3 (by decide) (by decide)]; exact a4, by rw [hi 2 (by decide) (by decide)]; exact a5.ext⟩, by rw [hi 4 (by decide) (by decide)]; exact a6, TF.keep hn a7 hg⟩
theorem TN.keep0 {i : Nat} {d : ND} {l : Fo} (h : TN g us n i d l) (hg : ∀ f (j : Nat), 0 ≤ f → f ≤ 9 → j ∈ idF l → g' f j = g f j) (hi : ∀ f, 0 ≤ f → f ≤ 4 → g' f i = g f i) : TN g' us n i d l := by
  have := TN.keep (vs := []) (Int.le_refl n) h hg hi
  rwa [List.append_nil] at this
end
/-- tree tr went from n nodes with units us to n' and us'; the first b nodes and all other trees are as they were -/
def YT (tr b : Int) (m : Mem) (n : Int) (us : List Int) (C : Int) (m' : Mem) (n' : Int) (us' : List Int) (C' : Int) : Prop :=
  TW m' tr n' us' C' ∧ TV tr b m m' ∧ GR m m' (tC m tr C) (tC m' tr C') ∧ C' ≤ max C (2 * n') ∧ uC m' tr ≤ max (uC m tr) (2 * us'.length) ∧ n ≤ n' ∧ (∃ vs, us' = us ++ vs) ∧ wfU us'
section
variable {d : Nat} {m : Mem} {tr n C : Int} {us : List Int}
theorem TV.mono {b b' : Int} {m' : Mem} (h : TV tr b m m') (hb : b' ≤ b) : TV tr b' m m' := ⟨h.1, h.2.1, fun f j f0 f1 j0 j1 => h.2.2 f j f0 f1 j0 (by omega)⟩
theorem YT.trans {b b1 n1 n2 C1 C2 : Int} {m1 m2 : Mem} {us1 us2 : List Int} (h : YT tr b m n us C m1 n1 us1 C1) (h' : YT tr b1 m1 n1 us1 C1 m2 n2 us2 C2) (hb : b ≤ b1) : YT tr b m n us C m2 n2 us2 C2 := by
  obtain ⟨a1, a2, a3, a4, a5, a6, ⟨vs, a7⟩, a8⟩ := h
  obtain ⟨b1, b2, b3, b4, b5, b6, ⟨ws, b7⟩, b8⟩ := h'
  refine ⟨b1, a2.trans b2 hb, a3.trans b3, by omega, ?_, by omega, ⟨vs ++ ws, by rw [b7, a7, List.append_assoc]⟩, b8⟩
  rw [b7, List.length_append] at b5 ⊢
  omega
theorem YT.mono {b b' n' C' : Int} {m' : Mem} {us' : List Int} (h : YT tr b m n us C m' n' us' C') (hb : b' ≤ b) : YT tr b' m n us C m' n' us' C' := ⟨h.1, h.2.1.mono hb, h.2.2⟩
theorem YT.of {m' : Mem} {us' : List Int} (h : YQ tr n C m us' m') (hw : TW m tr n us C) (hv : ∃ vs, us' = us ++ vs) : YT tr n m n us C m' n us' C := by
  obtain ⟨a1, a2, a3, a4, a5⟩ := h
  refine ⟨a1, a2.tv hw, ?_, by omega, a4, by omega, hv, a5⟩
  unfold tC GR at *; omega
theorem YT.mT {T f v : Int} (hT : tg m T ≠ 13 ∧ tg m T < 100) (hI : TI m) (h : TW m tr n us C) (hw : wfU us) : YT tr n m n us C (mst m T f v) n us C := YT.of (YQ.mT hT hI h hw) h ⟨[], by rw [List.append_nil]⟩
theorem YT.add {k : Int} {n : Nat} (hd : 0 < d) (h : TW m tr n us C) (hT : TI m) (ok : OK m) (hn : n < 20000) (hw : wfU us) : ∃ m' C', cl d 285 [pR tr, pI k] m = some (.inl (some (pI n)), m') ∧ YT tr n m n us C m' ((n + 1 : Nat) : Int) us C' ∧ (nv m' tr 0 n = k ∧ nv m' tr 4 n = -1 ∧ nv m' tr 5 n = -1 ∧ nv m' tr 8 n = -1 ∧ nv m' tr 6 n = -1 ∧ nv m' tr 3 n = 0 ∧ nv m' tr 2 n = us.length) := by
  obtain ⟨m', C', e1, e2, e3, e4, e5, e6, e7⟩ := c285 (d := d) (k := k) hd h hT ok (by omega)
  exact ⟨m', C', e1, ⟨e2, e3, e6, by omega, by rw [e5]; omega, by omega, ⟨[], by rw [List.append_nil]⟩, hw⟩, e4⟩
theorem YT.tg {b : Int} {m' : Mem} {g : Int → Int → Int} (hw' : TW m' tr n us C) (hg : TG tr m m' g) (hb : ∀ f j, 0 ≤ f → f ≤ 9 → 0 ≤ j → j < b → g f j = nv m tr f j) (hu : uC m' tr = uC m tr) (hx : nx m' = nx m) (hs : sl m' = sl m) (hU : wfU us) : YT tr b m n us C m' n us C := by
  refine ⟨hw', ⟨hg.1, hg.2.2.1, fun f j f0 f1 j0 j1 => by rw [hg.2.2.2 f j f0 f1]; exact hb f j f0 f1 j0 j1⟩, ?_, by omega, by omega, by omega, ⟨[], by rw [List.append_nil]⟩, hU⟩
  unfold GR tC; omega
end
def STY (m : Mem) : Prop := SC m 46 cNul ∧ SC m 48 cTru ∧ SC m 50 cFls ∧ SC m 52 cEsc
theorem STY.fr {k : Nat} {m m' : Mem} (h : STY m) (hf : FRM (eM k) m m') (hz : TZ m) (hn : scN (eM k) = true) : STY m' := ⟨h.1.fr hf hz hn, h.2.1.fr hf hz hn, h.2.2.1.fr hf hz hn, h.2.2.2.fr hf hz hn⟩
theorem STY.mT {m : Mem} {T f v : Int} (h : STY m) (hT : tg m T ≠ 31 ∧ tg m T ≠ 103) : STY (mst m T f v) := ⟨h.1.mT hT, h.2.1.mT hT, h.2.2.1.mT hT, h.2.2.2.mT hT⟩
/-- the twin reads -/
def YS (m : Mem) (M tp e i : Int) (t : Int → Int) : Prop := OK m ∧ YX m M tp e i t ∧ STY m
theorem YS.at {m : Mem} {M tp e i j : Int} {t : Int → Int} (h : YS m M tp e i t) (h0 : 0 ≤ j) (h1 : j ≤ e) : YS (mst m M 12 j) M tp e j t := ⟨h.1, h.2.1.at h0 h1, h.2.2.mT (by have := h.2.1.1; omega)⟩
theorem YS.fr {k : Nat} {m m' : Mem} {M tp e i : Int} {t : Int → Int} (h : YS m M tp e i t) (hf : FRM (eM k) m m') (hn : yxN (eM k) = true) (hs : scN (eM k) = true) : YS m' M tp e i t := ⟨h.1.fr hf, h.2.1.fr hf h.1.1 hn, h.2.2.fr hf h.1.1 hs⟩
theorem YS.fr2 {k : Nat} {m m' : Mem} {M tp e i j : Int} {t : Int → Int} (h : YS m M tp e i t) (hf : FRM (eM k) m m') (hx : YX m' M tp e j t) (hs : scN (eM k) = true) : YS m' M tp e j t := ⟨h.1.fr hf, hx, h.2.2.fr hf h.1.1 hs⟩
/-- a place of an array of a tree is written -/
theorem YS.ta {m : Mem} {M tp e i tr n C f k v a : Int} {us : List Int} {t : Int → Int} (h : YS m M tp e i t) (hw : TW m tr n us C) (hf : 0 ≤ f ∧ f ≤ 9) (ha : a = vl m tr f) : YS (mst m a k v) M tp e i t := by
  obtain ⟨a1, a2, a3⟩ := hw.arr (f := f) (Or.inl hf)
  have hM := h.2.1.1
  have htp := h.2.1.2.2.2.2.2.1
  rw [ha]
  refine ⟨h.1, h.2.1.st ⟨?_, ?_⟩, h.2.2.mT ⟨by omega, by omega⟩⟩
  · intro q; rw [q] at a1; omega
  · intro q; rw [q] at a1 a2; omega
