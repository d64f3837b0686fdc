/-! the patcher: what a splice in a body makes -/
set_option maxRecDepth 100000
set_option maxHeartbeats 4000000
/-- a change in the body of what was found -/
theorem enc_body {k : List Fr} {i : Nat} {nd : ND} {l : Fo} {B1 mid B2 : List Int} (hk : okK k) (h5 : nd.1 = 5 ∨ nd.1 = 6) (hb : enF (nd.1 == 6) l = B1 ++ (mid ++ B2)) : enV (plug k (i, nd, l)).2.1 (plug k (i, nd, l)).2.2 = prB (((nd.1 : Int), B1, B2) :: k.map bfr) (lnB (((nd.1 : Int), B1, B2) :: k.map bfr) mid.length) ++ (mid ++ poB (((nd.1 : Int), B1, B2) :: k.map bfr)) := by
  have e : enV nd l = (nd.1 : Int) :: (l2 (B1.length + mid.length + B2.length) ++ (B1 ++ (mid ++ B2))) := by
    unfold enV enD
    rw [if_neg (by omega), if_neg (by omega), if_neg (by omega), hb]
    simp only [List.length_append]
    rw [show B1.length + (mid.length + B2.length) = B1.length + mid.length + B2.length by omega]
  rw [enc_plug k (i, nd, l) hk]
  show prL k (lnK k (enV nd l).length) ++ (enV nd l ++ poK k) = _
  rw [e]
  simp only [prB, lnB, poB, prB_map, lnB_map, poB_map, List.length_cons, List.length_append, l2_len, List.append_assoc, List.cons_append]
  rw [show 2 + (B1.length + (mid.length + B2.length)) + 1 = 3 + B1.length + mid.length + B2.length by omega]
/-- the hole of a value -/
theorem enc_hole {k : List Fr} {v : Vl} (hk : okK k) : enV (plug k v).2.1 (plug k v).2.2 = prB (k.map bfr) (lnB (k.map bfr) (enV v.2.1 v.2.2).length) ++ (enV v.2.1 v.2.2 ++ poB (k.map bfr)) := by
  rw [enc_plug k v hk, prB_map, lnB_map, poB_map]
theorem enF_sp (ob : Bool) (A : Fo) (i : Nat) (d : ND) (l B : Fo) : enF ob (fapp A (.inner i d () l B)) = (enF ob A ++ nmF ob d.2.2.2) ++ (enV d l ++ enF ob B) := by
  rw [enF_fapp, enF_inner]
  unfold nmF
  simp
theorem eltP_cut : ∀ (F : Fo) (n : Nat) (p : Int), n < cntF F → eltP F n p = p + (enF false (cutI n F).1).length := by
  intro F
  induction F with
  | leaf => intro n p h; simp [cntF] at h
  | inner i d u l r _ ih =>
    intro n p h
    simp only [cntF] at h
    simp only [eltP]
    rw [if_neg (by omega)]
    cases n with
    | zero => rw [if_pos (by omega)]; simp [cutI, show enF false .leaf = [] from rfl]
    | succ n =>
      rw [if_neg (by omega), show ((n + 1 : Nat) : Int) - 1 = n by omega, ih n _ (by omega)]
      simp only [cutI]
      rw [enF_inner, if_neg (by decide)]
      simp only [List.length_append, List.nil_append]; omega
theorem cutI_all : ∀ (F : Fo), cutI (cntF F) F = (F, .leaf) := by
  intro F
  induction F with
  | leaf => rfl
  | inner i d u l r _ ih => simp only [cntF, cutI, ih]
/-- a value in the array's body -/
theorem enF_cut (n : Nat) (F : Fo) (w : Vl) : enF false (amg (cutI n F).1 w [] (cutI n F).2) = enF false (cutI n F).1 ++ (enV w.2.1 w.2.2 ++ enF false (cutI n F).2) := by
  rw [enF_amg]; simp [nmF]
theorem enF_cut0 (n : Nat) (F : Fo) : enF false F = enF false (cutI n F).1 ++ ([] ++ enF false (cutI n F).2) := by
  have := (cutI_eq n F).1
  rw [List.nil_append, ← enF_fapp, ← this]
