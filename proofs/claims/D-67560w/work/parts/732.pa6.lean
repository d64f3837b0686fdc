/-! the patcher: going; lengths of what is around -/
set_option maxRecDepth 100000
set_option maxHeartbeats 4000000
section
variable {d : Nat} {m : Mem} {P rt sa rd aa ct cd : Int} {tks : List (List Int)} {xs : List Int} {v0 : Vl}
theorem c123 (hd : 6 ≤ d) (hx : xs.length < 60000) (hA : At xs 0 (enV v0.2.1 v0.2.2)) (htk : ∀ tk, tk ∈ tks → wfU tk ∧ (uts tk).length < 6000) (htl : (tkB tks).length ≤ 6000) (n : Nat) (hn : n ≤ tks.length) (hw : wfF (foC v0.2.1 v0.2.2 foN)) (hdp : dpV v0.2.1 v0.2.2 ≤ 32) (hG : GS m P rt sa rd aa tks ct xs cd) :
    (∀ k w, goZ (tks.take n) [] v0 = some (k, w) → plug k w = v0 ∧ okK k ∧ wfF (foC w.2.1 w.2.2 foN) ∧ k.length + dpV w.2.1 w.2.2 ≤ 32 ∧ ∃ m', cl d 123 [pR P, pI n] m = some (.inl none, m') ∧ GF P aa m m' ∧ GP m' P aa k) ∧
    (goZ (tks.take n) [] v0 = none → ∃ m1, cl d 123 [pR P, pI n] m = some (.inr 206, mal m1 206 6) ∧ GF P aa m m1) := by
  have ok := hG.1.1
  have hP := hG.1.2.1
  have g1 : GF P aa m (mst (mst m P 14 0) P 13 0) := (GF.p (Or.inr rfl)).trans (GF.p (Or.inl rfl))
  have hgp : GP (mst (mst m P 14 0) P 13 0) P aa [] := ⟨by rw [vl_mst, if_neg (by omega), vl_mst, if_pos ⟨rfl, rfl⟩]; rfl, by rw [vl_mst, if_pos ⟨rfl, rfl⟩]; rfl, fun i i0 i1 => absurd i1 (by simp; omega)⟩
  have hL := c123_12 (d := d) (P := P) (rt := rt) (sa := sa) (rd := rd) (aa := aa) (ct := ct) (cd := cd) (tks := tks) (xs := xs) (v0 := v0) hd hx hA htk htl n hn (tks.take n) 0 [] v0 (mst (mst m P 14 0) P 13 0) pU pU rfl rfl (by rw [List.length_take]; omega) (fun i h1 h2 => by rw [List.getElem_take]; congr 1; omega) rfl (fun f hf => absurd hf (by simp)) hw (by simpa using hdp) (hG.gf g1) hgp
  have st : ∀ Q, rn d 123 12 [pR P, pI n, pI ((0 : Nat) : Int), pU, pU] [] (mst (mst m P 14 0) P 13 0) = some Q → cl d 123 [pR P, pI n] m = some Q := by
    intro Q hQ
    refine q123 ok.1 _ ?_
    rw [gd_of hP]; exact hQ
  refine ⟨fun k w h => ?_, fun h => ?_⟩
  · obtain ⟨b1, b2, b3, b4, m', b5, b6, b7⟩ := hL.1 k w h
    exact ⟨b1, b2, b3, b4, m', st _ b5, g1.trans b6, b7⟩
  · obtain ⟨m', b5, b6⟩ := hL.2 h
    exact ⟨m', st _ b5, g1.trans b6⟩
end
/-- what stands around a value, in bytes: before it (with lengths) and behind it -/
def frB (f : Fr) : List Int := enF (obF f) f.2.2.1 ++ nmF (obF f) f.2.2.2.1
def frT (f : Fr) : List Int := enF (obF f) f.2.2.2.2
def prL : List Fr → List Nat → List Int
  | f :: k, n :: ns => prL k ns ++ ((f.2.1.1 : Int) :: (l2 n ++ frB f))
  | _, _ => []
def poK : List Fr → List Int
  | [] => []
  | f :: k => frT f ++ poK k
def lnK : List Fr → Nat → List Nat
  | [], _ => []
  | f :: k, n => ((frB f).length + n + (frT f).length) :: lnK k (3 + (frB f).length + n + (frT f).length)
theorem lnK_len : ∀ (k : List Fr) (n : Nat), (lnK k n).length = k.length := by
  intro k
  induction k with
  | nil => intro n; rfl
  | cons f k ih => intro n; simp only [lnK, List.length_cons, ih]
theorem frOf_len (f : Fr) : frOf f = 3 + (frB f).length := by unfold frOf frB; rw [List.length_append]; omega
theorem prL_len : ∀ (k : List Fr) (ns : List Nat), ns.length = k.length → (prL k ns).length = offK k := by
  intro k
  induction k with
  | nil => intro ns _; simp [prL, offK]
  | cons f k ih =>
    intro ns h
    cases ns with
    | nil => simp at h
    | cons n ns =>
      simp only [prL, offK, List.length_append, List.length_cons, l2_len, frOf_len, ih ns (by simpa using h)]; omega
/-- the bytes of a value with what is around it -/
theorem enc_plug : ∀ (k : List Fr) (v : Vl), okK k → enV (plug k v).2.1 (plug k v).2.2 = prL k (lnK k (enV v.2.1 v.2.2).length) ++ (enV v.2.1 v.2.2 ++ poK k) := by
  intro k
  induction k with
  | nil => intro v _; simp [plug, prL, poK]
  | cons f k ih =>
    intro v hk
    have h1 := ih (f.1, f.2.1, amg f.2.2.1 v f.2.2.2.1 f.2.2.2.2) (fun g hg => hk g (by simp [hg]))
    have e : enV f.2.1 (amg f.2.2.1 v f.2.2.2.1 f.2.2.2.2) = (f.2.1.1 : Int) :: (l2 ((frB f).length + (enV v.2.1 v.2.2).length + (frT f).length) ++ (frB f ++ (enV v.2.1 v.2.2 ++ frT f))) := by
      have hl : (enF (obF f) f.2.2.1 ++ (nmF (obF f) f.2.2.2.1 ++ (enV v.2.1 v.2.2 ++ enF (obF f) f.2.2.2.2))).length = (frB f).length + (enV v.2.1 v.2.2).length + (frT f).length := by
        unfold frB frT; simp only [List.length_append]; omega
      rw [enV_mid (hk f (by simp)), enF_amg, hl]
      unfold frB frT
      simp only [List.cons_append, List.append_assoc]
    show enV (plug k _).2.1 (plug k _).2.2 = _
    rw [h1]
    show prL k (lnK k (enV f.2.1 (amg f.2.2.1 v f.2.2.2.1 f.2.2.2.2)).length) ++ (enV f.2.1 (amg f.2.2.1 v f.2.2.2.1 f.2.2.2.2) ++ poK k) = _
    rw [e]
    simp only [prL, lnK, poK, List.length_cons, List.length_append, l2_len, List.append_assoc, List.cons_append]
    congr 2
    congr 1
    omega
/-- one length is changed -/
theorem prL_mid : ∀ (k1 : List Fr) (f : Fr) (k2 : List Fr) (n1 : List Nat) (n : Nat) (n2 : List Nat), n1.length = k1.length → ∃ tail, ∀ n', prL (k1 ++ f :: k2) (n1 ++ n' :: n2) = (prL k2 n2 ++ [(f.2.1.1 : Int)]) ++ w8 ((n' : Int) / 256) :: w8 n' :: tail := by
  intro k1
  induction k1 with
  | nil =>
    intro f k2 n1 n n2 h
    cases n1 with
    | cons a n1 => simp at h
    | nil => exact ⟨frB f, fun n' => by simp [prL, l2]⟩
  | cons g k1 ih =>
    intro f k2 n1 n n2 h
    cases n1 with
    | nil => simp at h
    | cons a n1 =>
      obtain ⟨tail, ht⟩ := ih f k2 n1 n n2 (by simpa using h)
      refine ⟨tail ++ ((g.2.1.1 : Int) :: (l2 a ++ frB g)), fun n' => ?_⟩
      simp only [List.cons_append, prL, ht n']
      simp
theorem arK_mid : ∀ (k1 : List Fr) (f : Fr) (k2 : List Fr), gi (arK (k1 ++ f :: k2)) k2.length = offK k2 := by
  intro k1
  induction k1 with
  | nil =>
    intro f k2
    show gi (arK k2 ++ [(offK k2 : Int)]) k2.length = offK k2
    rw [gi_app_r (by rw [arK_len]; omega), arK_len, Int.sub_self]; rfl
  | cons g k1 ih =>
    intro f k2
    show gi (arK (k1 ++ f :: k2) ++ [_]) k2.length = offK k2
    rw [gi_app_l (by omega) (by rw [arK_len]; simp; omega), ih]
