/-! values out of texts: what is read -/
set_option maxRecDepth 100000
set_option maxHeartbeats 4000000
abbrev b2i (b : Bool) : Int := if b then 1 else 0
abbrev clo (b : Bool) : Int := if b then 125 else 93
def cNul : List Int := [110, 117, 108, 108]
def cFls : List Int := [102, 97, 108, 115, 101]
def cTru : List Int := [116, 114, 117, 101]
def STX (m : Mem) : Prop := SC m 10 cNul ∧ SC m 12 cFls ∧ SC m 14 cTru
theorem STX.fr {k : Nat} {m m' : Mem} (h : STX m) (hf : FRM (eM k) m m') (hz : TZ m) (hn : scN (eM k) = true) : STX m' := ⟨h.1.fr hf hz hn, h.2.1.fr hf hz hn, h.2.2.fr hf hz hn⟩
theorem STX.mT {m : Mem} {T f v : Int} (h : STX m) (hT : tg m T = 4) : STX (mst m T f v) := ⟨h.1.mT (by omega), h.2.1.mT (by omega), h.2.2.mT (by omega)⟩
theorem TX.m4 {m : Mem} {T tp e i v : Int} {t : Int → Int} (h : TX m T tp e i t) : TX (mst m T 4 v) T tp e i t := by
  obtain ⟨a1, a2, a3, a4, a5, a6, a7⟩ := h
  have hne : tp ≠ T := by intro q; rw [q] at a5; omega
  exact ⟨a1, by rw [vl_mst, if_neg (by omega)]; exact a2, by rw [vl_mst, if_neg (by omega)]; exact a3, by rw [vl_mst, if_neg (by omega)]; exact a4, a5, a6, fun k k0 k1 => by rw [vl_mst, if_neg (by omega)]; exact a7 k k0 k1⟩
/-- the name of a member and the colon -/
def sKey (t : Int → Int) (e : Int) (ob : Bool) (seen : List (List Int)) (i : Int) : Int ⊕ (List Int × Int) :=
  if ob then (if pk t e i = 34 then (match sS t e 34 (i + 1) with
    | .inl p => .inl p
    | .inr (nm, j) => if nm ∈ seen then .inl i else if pk t e (sB t e j) = 58 then .inr (nm, sB t e (sB t e j + 1)) else .inl (sB t e j)) else .inl i) else .inr ([], i)
def sWd (t : Int → Int) (e : Int) (cs : List Int) (k : Nat) (i : Int) : Int ⊕ (Fo × Int) := match sW t e cs i with
  | .inl p => .inl p
  | .inr j => .inr (foC (k, 0, [], []) foN foN, j)
/-- a value (false), or what stands between brackets up to the closing one (true) -/
def sP (t : Int → Int) (e : Int) : Nat → Bool → Nat → Bool → List (List Int) → Int → Option (Int ⊕ (Fo × Int))
  | 0, _, _, _, _, _ => none
  | n + 1, false, dep, _, _, i =>
    if pk t e i = 34 then (match sS t e 34 (i + 1) with
      | .inl p => some (.inl p)
      | .inr (us, j) => some (.inr (foC (4, 0, us, []) foN foN, j)))
    else if pk t e i = 91 ∨ pk t e i = 123 then
      (if ¬ dep < 32 then some (.inl i) else
      if pk t e (sB t e (i + 1)) = clo (pk t e i == 123) then some (.inr (foC (if pk t e i == 123 then 6 else 5, 0, [], []) foN foN, sB t e (i + 1) + 1)) else
      match sP t e n true (dep + 1) (pk t e i == 123) [] (sB t e (i + 1)) with
      | none => none
      | some (.inl p) => some (.inl p)
      | some (.inr (l, j)) => some (.inr (foC (if pk t e i == 123 then 6 else 5, 0, [], []) l foN, j)))
    else if pk t e i = 102 then some (sWd t e cFls 1 i)
    else if pk t e i = 110 then some (sWd t e cNul 0 i)
    else if pk t e i = 116 then some (sWd t e cTru 2 i)
    else (match sNm t e i with
      | .inl p => some (.inl p)
      | .inr (v, j) => some (.inr (foC (3, v, [], []) foN foN, j)))
  | n + 1, true, dep, ob, seen, i => match sKey t e ob seen i with
    | .inl p => some (.inl p)
    | .inr (nm, j) => match sP t e n false dep ob seen j with
      | none => none
      | some (.inl p) => some (.inl p)
      | some (.inr (.leaf, _)) => none
      | some (.inr (.inner _ d _ l _, k)) =>
        if pk t e (sB t e k) = clo ob then some (.inr (foC (d.1, d.2.1, d.2.2.1, nm) l foN, sB t e k + 1)) else
        if pk t e (sB t e k) = 44 then (match sP t e n true dep ob (seen ++ [nm]) (sB t e (sB t e k + 1)) with
          | none => none
          | some (.inl p) => some (.inl p)
          | some (.inr (r, q)) => some (.inr (foC (d.1, d.2.1, d.2.2.1, nm) l r, q)))
        else some (.inl (sB t e k))
/-! bytes tell units -/
theorem utf_inj {u v : Int} {x y : List Int} (hu : 0 ≤ u ∧ u < 65536) (hv : 0 ≤ v ∧ v < 65536) (h : utf u ++ x = utf v ++ y) : u = v ∧ x = y := by
  unfold utf at h
  by_cases u1 : u < 128 <;> by_cases v1 : v < 128 <;> by_cases u2 : u < 2048 <;> by_cases v2 : v < 2048 <;> simp only [u1, v1, u2, v2, if_true, if_false, List.cons_append, List.nil_append, List.cons.injEq] at h <;> (try omega) <;> (try (unfold w8 at h; omega)) <;>
  first
  | exact ⟨h.1, h.2⟩
  | (refine ⟨?_, h.2.2⟩; unfold w8 at h; omega)
  | (refine ⟨?_, h.2.2.2⟩; unfold w8 at h; omega)
theorem uts_inj : ∀ {us vs : List Int}, wfU us → wfU vs → uts us = uts vs → us = vs
  | [], [], _, _, _ => rfl
  | [], v :: vs, _, _, h => by
    rw [uts_nil, uts_cons] at h
    have := utf_len v
    have h2 := congrArg List.length h
    rw [List.length_append, List.length_nil] at h2; omega
  | u :: us, [], _, _, h => by
    rw [uts_nil, uts_cons] at h
    have := utf_len u
    have h2 := congrArg List.length h
    rw [List.length_append, List.length_nil] at h2; omega
  | u :: us, v :: vs, h1, h2, h => by
    rw [uts_cons, uts_cons] at h
    obtain ⟨a, b⟩ := utf_inj (h1 u (by simp)) (h2 v (by simp)) h
    rw [a, uts_inj (fun w hw => h1 w (by simp [hw])) (fun w hw => h2 w (by simp [hw])) b]
section
variable {d : Nat} {m : Mem} {T r c : Int} {xs : List Int}
/-- no name but the new one is the new one -/
theorem c78_dup {st ob qt a5 : Int} {nm : List Int} (hd : 2 ≤ d) (hz : TZ m) (hT : tg m T = 4) (hR : RW m r xs c) (hn : At xs a5 (nmB nm)) (hnw : wfU nm) (hnl : (uts nm).length < 65536) : ∀ (F : Fo) (k : Int), wfF F → (enF true F).length < 65536 → At xs k (enF true F) → k + (enF true F).length = a5 →
    (nm ∉ nmsF F → ∀ Q, rn d 78 46 [pR T, pR r, pI st, pI ob, pI qt, pI a5, pI a5] [] m = some Q → rn d 78 46 [pR T, pR r, pI st, pI ob, pI qt, pI a5, pI k] [] m = some Q) ∧
    (nm ∈ nmsF F → rn d 78 46 [pR T, pR r, pI st, pI ob, pI qt, pI a5, pI k] [] m = some (.inr 204, mal (mst m T 3 qt) 204 6)) := by
  intro F
  induction F with
  | leaf =>
    intro k hw hl hA hk
    rw [enF_leaf] at hk
    have : k = a5 := by simp at hk; omega
    subst this
    exact ⟨fun _ Q hQ => hQ, fun h => absurd h (by simp [nmsF])⟩
  | inner n dd u l rr _ ih =>
    intro k hw hl hA hk
    obtain ⟨w1, w2, w3, w4, w5, w6⟩ := hw
    rw [enF_inner, if_pos rfl] at hA hk hl
    simp only [List.length_append] at hk hl
    obtain ⟨A1, A2⟩ := hA.app
    obtain ⟨A3, A4⟩ := A2.app
    have hp := enV_pos dd l
    have hnl2 := nmB_len dd.2.2.2
    have hnl3 := nmB_len nm
    have x0 := A1.1
    have x1 := A1.2.1
    have y0 := hn.1
    have y1 := hn.2.1
    have hcc := hR.2.2.2.2.1
    have hcc2 := hR.2.2.2.2.2.1
    obtain ⟨A5, A6⟩ := A1.app
    have t1 := tw_nm A1 (by omega)
    obtain ⟨N1, N2⟩ := hn.app
    have t2 := tw_nm hn hnl
    have h134a := c134 (d := d - 1) (a := k) hz hR (by omega) (by omega)
    have h134b := c134 (d := d - 1) (a := a5) hz hR (by omega) (by omega)
    rw [t1] at h134a
    rw [t2] at h134b
    have h136 := c136 (d := d - 1) (a := k) (by omega) hz hR (by omega) (by omega)
    rw [t1] at h136
    have e2 : k + 2 + ((uts dd.2.2.2).length : Int) = k + (nmB dd.2.2.2).length := by omega
    rw [e2] at h136
    have h137 := c137 (d := d - 1) (a := k + (nmB dd.2.2.2).length) (by omega) hz hR A3 w1 (by omega)
    have hr8 := hR.1
    have e3 : k + ((nmB dd.2.2.2).length : Int) + (enV dd l).length = k + ((nmB dd.2.2.2).length : Int) + ((enV dd l).length : Int) := rfl
    have hI := ih (k + (nmB dd.2.2.2).length + (enV dd l).length) w6 (by omega) A4 (by omega)
    have st96 : ∀ Q, rn d 78 46 [pR T, pR r, pI st, pI ob, pI qt, pI a5, pI (k + (nmB dd.2.2.2).length + (enV dd l).length)] [] m = some Q → rn d 78 96 [pR T, pR r, pI st, pI ob, pI qt, pI a5, pI k] [] m = some Q := by
      intro Q hQ
      refine q78_96 (by omega) hz _ ?_
      rw [gd_of hr8, bI_eq h136, bI_eq h137]; exact hQ
    have hT4 : tg m T = 4 ∨ tg m T = 5 := Or.inl hT
    by_cases hs : dd.2.2.2 = nm
    · refine ⟨fun hno => absurd (by simp [nmsF, hs]) hno, fun _ => ?_⟩
      have h135 := c135 (d := d - 1) (a := k + 2) (b := a5 + 2) (n := (uts nm).length) hz hR hR (by rw [l2_len] at A6; exact A6) (by rw [l2_len] at N2; exact N2) (by rw [hs]) rfl
      rw [if_pos (by rw [hs])] at h135
      have h67 := c67 (d := d - 1) (p := qt) hz hT4
      refine q78_46 (by omega) hz _ ?_
      rw [if_pos (by omega), gd_of hr8, bI_eq h134a, bI_eq h134b, if_pos (by rw [hs]), bI_eq h134b, w32_of (by omega) (by omega), w32_of (by omega) (by omega), bI_eq h135, if_neg (by decide), gd_of hT, bV_xq h67]
    · have hne : uts dd.2.2.2 ≠ uts nm := fun h => hs (uts_inj w1.2.2.2.2 hnw h)
      have go : ∀ Q, rn d 78 46 [pR T, pR r, pI st, pI ob, pI qt, pI a5, pI (k + (nmB dd.2.2.2).length + (enV dd l).length)] [] m = some Q → rn d 78 46 [pR T, pR r, pI st, pI ob, pI qt, pI a5, pI k] [] m = some Q := by
        intro Q hQ
        refine q78_46 (by omega) hz _ ?_
        rw [if_pos (by omega), gd_of hr8, bI_eq h134a, bI_eq h134b]
        by_cases hle : (uts dd.2.2.2).length = (uts nm).length
        · have h135 := c135 (d := d - 1) (a := k + 2) (b := a5 + 2) (n := (uts nm).length) hz hR hR (by rw [l2_len] at A6; exact A6) (by rw [l2_len] at N2; exact N2) (by omega) rfl
          rw [if_neg hne] at h135
          rw [if_pos (by omega), bI_eq h134b, w32_of (by omega) (by omega), w32_of (by omega) (by omega), bI_eq h135, if_pos rfl]; exact st96 _ hQ
        · rw [if_neg (by omega)]; exact st96 _ hQ
      refine ⟨fun hno Q hQ => go _ (hI.1 (fun h => hno (by simp [nmsF, h])) Q hQ), fun hyes => go _ (hI.2 ?_)⟩
      simp only [nmsF, List.mem_cons] at hyes
      rcases hyes with h | h
      · exact absurd h.symm hs
      · exact h
end
