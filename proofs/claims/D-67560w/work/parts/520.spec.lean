/-! values as trees: first kid, next one beside it -/
set_option maxRecDepth 100000
set_option maxHeartbeats 4000000
/-- kind (0 null, 1 false, 2 true, 3 number, 4 string, 5 array, 6 object), number, units, name -/
abbrev ND : Type := Nat × Int × List Int × List Int
abbrev Fo : Type := Std.DTreeMap.Internal.Impl ND (fun _ => Unit)
abbrev foN : Fo := Std.DTreeMap.Internal.Impl.leaf
abbrev foC (d : ND) (l r : Fo) : Fo := Std.DTreeMap.Internal.Impl.inner 0 d () l r
def l2 (n : Nat) : List Int := [w8 ((n : Int) / 256), w8 n]
def nmB (us : List Int) : List Int := l2 (uts us).length ++ uts us
def enD (d : ND) (body : List Int) : List Int := if d.1 < 3 then [(d.1 : Int)] else if d.1 = 3 then 3 :: nuB d.2.1 else if d.1 = 4 then 4 :: nmB d.2.2.1 else (d.1 : Int) :: (l2 body.length ++ body)
def enF : Bool → Fo → List Int
  | _, .leaf => []
  | ob, .inner _ d _ l r => (if ob then nmB d.2.2.2 else []) ++ (enD d (enF (d.1 == 6) l) ++ enF ob r)
def enV (d : ND) (l : Fo) : List Int := enD d (enF (d.1 == 6) l)
def wfU (us : List Int) : Prop := ∀ u ∈ us, 0 ≤ u ∧ u < 65536
/-- pairs of units stand whole -/
def sur : List Int → Prop
  | [] => True
  | [u] => ¬ (55296 ≤ u ∧ u ≤ 57343)
  | u :: v :: r => (55296 ≤ u ∧ u ≤ 56319 ∧ 56320 ≤ v ∧ v ≤ 57343 ∧ sur r) ∨ (¬ (55296 ≤ u ∧ u ≤ 57343) ∧ sur (v :: r))
def wfN (d : ND) : Prop := d.1 ≤ 6 ∧ -9007199254740992 < d.2.1 ∧ d.2.1 < 9007199254740992 ∧ wfU d.2.2.1 ∧ wfU d.2.2.2
/-- the names of what stands side by side -/
def nmsF : Fo → List (List Int)
  | .leaf => []
  | .inner _ d _ _ r => d.2.2.2 :: nmsF r
def wfF : Fo → Prop
  | .leaf => True
  | .inner _ d _ l r => wfN d ∧ sur d.2.2.1 ∧ (d.1 < 5 → l = foN) ∧ (d.1 = 6 → (nmsF l).Nodup) ∧ wfF l ∧ wfF r
def fapp : Fo → Fo → Fo
  | .leaf, g => g
  | .inner n d u l r, g => .inner n d u l (fapp r g)
theorem enF_leaf (ob : Bool) : enF ob foN = [] := by cases ob <;> rfl
theorem enF_inner (ob : Bool) (n : Nat) (d : ND) (u : Unit) (l r : Fo) : enF ob (.inner n d u l r) = (if ob then nmB d.2.2.2 else []) ++ (enV d l ++ enF ob r) := by cases ob <;> rfl
theorem enF_fapp (ob : Bool) (f g : Fo) : enF ob (fapp f g) = enF ob f ++ enF ob g := by
  induction f with
  | leaf => rw [fapp, enF_leaf, List.nil_append]
  | inner n d u l r _ ih => rw [fapp, enF_inner, enF_inner, ih]; simp [List.append_assoc]
theorem nmsF_fapp (f g : Fo) : nmsF (fapp f g) = nmsF f ++ nmsF g := by
  induction f with
  | leaf => rfl
  | inner n d u l r _ ih => simp only [fapp, nmsF, ih, List.cons_append]
theorem fapp_assoc (f g h : Fo) : fapp (fapp f g) h = fapp f (fapp g h) := by
  induction f with
  | leaf => rfl
  | inner n d u l r _ ih => simp only [fapp, ih]
theorem fapp_nil (f : Fo) : fapp f foN = f := by
  induction f with
  | leaf => rfl
  | inner n d u l r _ ih => simp only [fapp, ih]
theorem l2_len (n : Nat) : (l2 n).length = 2 := rfl
theorem nmB_len (us : List Int) : (nmB us).length = 2 + (uts us).length := by unfold nmB; simp [l2_len]
theorem enV_pos (d : ND) (l : Fo) : 1 ≤ (enV d l).length := by
  unfold enV enD; split
  · simp
  · split
    · simp
    · split <;> simp
theorem tw_l2 {xs : List Int} {a : Int} {n : Nat} (h : At xs a (l2 n)) (hn : n < 65536) : tw xs a = n := by
  obtain ⟨h1, h2⟩ := h.cons
  obtain ⟨h3, -⟩ := h2.cons
  unfold tw
  rw [h1, h3]
  unfold w8
  omega
theorem tw_nm {xs us : List Int} {a : Int} (h : At xs a (nmB us)) (hn : (uts us).length < 65536) : tw xs a = (uts us).length := tw_l2 h.app.1 hn
theorem At.sub {xs ys zs : List Int} {a b : Int} (h : At xs a ys) (h' : At ys b zs) : At xs (a + b) zs := by
  obtain ⟨h0, h1, h2⟩ := h
  obtain ⟨h3, h4, h5⟩ := h'
  refine ⟨by omega, by omega, fun j j0 j1 => ?_⟩
  rw [Int.add_assoc, h2 _ (by omega) (by omega)]; exact h5 j j0 j1
section
variable {d : Nat} {m : Mem} {r a c : Int} {xs : List Int}
theorem c137_l (hz : TZ m) (hR : RW m r xs c) {a1 : Int} : ∀ (n : Nat) (u k : Int), 0 ≤ u → u < 128 ^ (n + 1) → At xs k (vi n u) → rn d 137 44 [pR r, pI a1, pI k] [] m = some (.inl (some (pI (k + (vi n u).length))), m) := by
  have hR' := hR
  obtain ⟨ht, hb, hc, hs, hl, hcc, hv⟩ := hR
  intro n
  induction n with
  | zero =>
    intro u k h0 hu hA
    simp at hu
    have hA' := hA
    obtain ⟨g1, -⟩ := hA.cons
    obtain ⟨k0, k1, -⟩ := hA'
    simp [vi] at k1
    have : w8 u = u := w8_of (by omega) (by omega)
    refine q137_44 hz _ ?_
    simp (disch := first | assumption | omega) only [nm, gd_of, hv, g1, this, if_neg, w32_of]
    rfl
  | succ n ih =>
    intro u k h0 hu hA
    have hA' := hA
    unfold vi at hA ⊢
    by_cases hz0 : u / 128 = 0
    · rw [if_pos hz0] at hA ⊢
      have hA2 := hA
      obtain ⟨k0, k1, -⟩ := hA2
      obtain ⟨g1, -⟩ := hA.cons
      simp at k1
      have : w8 u = u := w8_of (by omega) (by omega)
      refine q137_44 hz _ ?_
      simp (disch := first | assumption | omega) only [nm, gd_of, hv, g1, this, if_neg, w32_of]
      rfl
    · rw [if_neg hz0] at hA ⊢
      have hA2 := hA
      obtain ⟨k0, k1, -⟩ := hA2
      obtain ⟨g1, g2⟩ := hA.cons
      simp at k1
      have : w8 (128 + u % 128) < 0 := by unfold w8; omega
      have hi := ih (u / 128) (k + 1) (by omega) (by rw [Int.pow_succ] at hu; omega) g2
      refine q137_44 hz _ ?_
      simp (disch := first | assumption | omega) only [nm, gd_of, hv, g1, if_pos, w32_of]
      have e9 : k + 1 + ((vi n (u / 128)).length : Int) = k + ((w8 (128 + u % 128) :: vi n (u / 128)).length : Int) := by simp only [List.length_cons]; omega
      rw [hi, e9]
theorem zz_rng {v : Int} (h : -9007199254740992 < v) (h' : v < 9007199254740992) : 0 ≤ zz v ∧ zz v < 18014398509481984 := by unfold zz; split <;> omega
theorem c137 {nd : ND} {l : Fo} (hd : 1 ≤ d) (hz : TZ m) (hR : RW m r xs c) (hA : At xs a (enV nd l)) (hw : wfN nd) (hn : (enV nd l).length < 65536) : cl d 137 [pR r, pI a] m = some (.inl (some (pI (a + (enV nd l).length))), m) := by
  have hR' := hR
  obtain ⟨ht, hb, hc, hs, hl, hcc, hv⟩ := hR
  have hA2 := hA
  obtain ⟨a0, a1, -⟩ := hA2
  have hp := enV_pos nd l
  obtain ⟨hk6, hv1, hv2, -, -⟩ := hw
  refine q137 (by omega) hz _ ?_
  by_cases h3 : nd.1 < 3
  · have e : enV nd l = [(nd.1 : Int)] := by unfold enV enD; rw [if_pos h3]
    rw [e] at hA a1 ⊢
    obtain ⟨g1, -⟩ := hA.cons
    simp at a1
    simp (disch := first | assumption | omega) only [nm, gd_of, hv, g1, if_pos, w32_of]
    rfl
  · by_cases h4 : nd.1 = 3
    · have e : enV nd l = 3 :: nuB nd.2.1 := by unfold enV enD; rw [if_neg h3, if_pos h4]
      rw [e] at hA a1 ⊢
      obtain ⟨g1, g2⟩ := hA.cons
      simp at a1
      simp (disch := first | assumption | omega) only [nm, gd_of, hv, g1, if_pos, if_neg, reduceIte, w32_of]
      have hr := zz_rng hv1 hv2
      rw [c137_l hz hR' 9 (zz nd.2.1) (a + 1) hr.1 (Int.lt_of_lt_of_le hr.2 (by decide)) g2]
      have e9 : a + 1 + ((vi 9 (zz nd.2.1)).length : Int) = a + ((3 :: nuB nd.2.1).length : Int) := by simp only [List.length_cons]; unfold nuB; omega
      rw [e9]
    · obtain ⟨k, body, e, hk⟩ : ∃ (k : Int) (body : List Int), enV nd l = k :: (l2 body.length ++ body) ∧ k = nd.1 := by
        unfold enV enD nmB; rw [if_neg h3, if_neg h4]
        split
        · rename_i h5; exact ⟨4, _, rfl, by omega⟩
        · exact ⟨_, _, rfl, rfl⟩
      rw [e] at hA a1 hn ⊢
      simp only [List.length_cons, List.length_append, l2_len] at hn a1 ⊢
      obtain ⟨g1, g2⟩ := hA.cons
      obtain ⟨g3, g4⟩ := g2.app
      have ht2 := tw_l2 g3 (by omega)
      have h134 := c134 (d := d - 1) (a := a + 1) hz hR' (by omega) (by omega)
      simp (disch := first | assumption | omega) only [nm, gd_of, hv, g1, if_neg, w32_of, h134, bI_ok, ht2]
      have e9 : a + 3 + (body.length : Int) = a + ((2 + body.length + 1 : Nat) : Int) := by omega
      rw [e9]
end
