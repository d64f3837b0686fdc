/-! the twin's patches: pointers -/
set_option maxRecDepth 100000
set_option maxHeartbeats 4000000
theorem getD_ap {L M : List (List Int)} {k : Nat} (h : k < L.length) : (L ++ M).getD k [] = L.getD k [] := by
  rw [List.getD_eq_getElem?_getD, List.getD_eq_getElem?_getD, List.getElem?_append_left h]
/-- no tree's array bears this tag -/
abbrev nTr (T : Int) : Prop := T ≠ 13 ∧ T ≠ 284101 ∧ T ≠ 287101 ∧ T ≠ 284102 ∧ T ≠ 286102 ∧ T ≠ 284104 ∧ T ≠ 288104
theorem TW.neA {m : Mem} {t n C a f : Int} {us : List Int} (h : TW m t n us C) (hf : aF f) (ha : nTr (tg m a)) : vl m t f ≠ a ∧ t ≠ a := by
  have h1 := h.1
  refine ⟨fun q => ?_, fun q => ?_⟩
  · obtain ⟨n1, n2, n3, n4, n5, n6, n7⟩ := ha
    rcases hf with ⟨f0, f1⟩ | f11
    · by_cases e1 : f = 1
      · have := h.2.2.1.1; rw [e1] at q; rw [q] at this; omega
      · have := (h.2.1 f f0 f1 e1).1; rw [q] at this; omega
    · have := h.2.2.2.1; rw [f11] at q; rw [q] at this; omega
  · rw [q] at h1; exact ha.1 h1
theorem TW.mA {m : Mem} {t n C a k v : Int} {us : List Int} (h : TW m t n us C) (ha : nTr (tg m a)) : TW (mst m a k v) t n us C := by
  have h11 := h.neA (f := 11) (Or.inr rfl) ha
  exact h.keep (fun _ => rfl) (fun _ => rfl) (fun g => by rw [vl_mst, if_neg (by omega)]) (fun i _ _ => by rw [vl_mst, if_neg (by omega)])
theorem nv_mA {m : Mem} {t n C a k v g i : Int} {us : List Int} (h : TW m t n us C) (ha : nTr (tg m a)) (hg : aF g) : nv (mst m a k v) t g i = nv m t g i := by
  have h1 := h.neA hg ha
  have e : vl (mst m a k v) t g = vl m t g := by rw [vl_mst, if_neg (by omega)]
  unfold nv
  rw [e, vl_mst, if_neg (by omega)]
theorem uC_mA {m : Mem} {t n C a k v : Int} {us : List Int} (h : TW m t n us C) (ha : nTr (tg m a)) : uC (mst m a k v) t = uC m t := by
  have h11 := h.neA (f := 11) (Or.inr rfl) ha
  unfold uC; rw [vl_mst, if_neg (by omega)]; rfl
theorem TU.mA {m : Mem} {tr a k v : Int} (ha : nTr (tg m a)) (hI : TI m) : TU tr m (mst m a k v) := ⟨hI.mT ha.1, fun _ _ _ _ _ h => ⟨h.mA ha, uC_mA h ha⟩, fun _ _ _ _ _ _ h f0 f1 => nv_mA h ha (Or.inl ⟨f0, f1⟩)⟩
theorem YQ.mA {m : Mem} {tr n C a k v : Int} {us : List Int} (ha : nTr (tg m a)) (hI : TI m) (h : TW m tr n us C) (hw : wfU us) : YQ tr n C m us (mst m a k v) := by
  have e : uC (mst m a k v) tr = uC m tr := uC_mA h ha
  refine ⟨h.mA ha, TU.mA ha hI, ?_, ?_, hw⟩
  · rw [e]; exact ⟨by omega, by show nx m - nx m ≤ _; omega, by show sl m - sl m ≤ _; omega⟩
  · rw [e]; omega
theorem gi_take2 {α : Type} (L : List (List α)) (k : Nat) (hk : k < L.length) : (L.take (k + 1)).flatten = (L.take k).flatten ++ L[k] := by
  rw [List.take_succ_eq_append_getElem hk, List.flatten_append]; simp
/-- tokens L in the making: their units stand side by side in the tree of names -/
def STK (m : Mem) (M NT C : Int) (L : List (List Int)) : Prop := tg m M = 11 ∧ vl m M 25 = NT ∧ (tg m (vl m M 22) = 186101 ∧ ln m (vl m M 22) = 16385) ∧ (tg m (vl m M 23) = 186101 ∧ ln m (vl m M 23) = 16385) ∧ vl m M 22 ≠ vl m M 23 ∧ vl m M 24 = L.length ∧ TW m NT 0 L.flatten C ∧ wfU L.flatten ∧ ∀ k : Nat, k < L.length → vl m (vl m M 23) k = (L.getD k []).length ∧ vl m (vl m M 22) k = (L.take k).flatten.length
theorem STK.tks {m : Mem} {M NT C : Int} {L : List (List Int)} (h : STK m M NT C L) (hl : L.length ≤ 16000) : TKS m M NT L := by
  obtain ⟨h1, h2, h3, h4, h5, h6, h7, h8, h9⟩ := h
  refine ⟨h1, h2, h3, h4, h6, hl, 0, L.flatten, C, h7, fun k hk => ?_⟩
  obtain ⟨a1, a2⟩ := h9 k hk
  have e : L.getD k [] = L[k] := by rw [List.getD_eq_getElem?_getD, List.getElem?_eq_getElem hk]; rfl
  rw [e] at a1
  refine ⟨a1, ?_, fun u hu => h8 u (List.mem_flatten.mpr ⟨L[k], List.getElem_mem hk, hu⟩)⟩
  rw [a2]
  have e2 : L.flatten = (L.take k).flatten ++ (L[k] ++ (L.drop (k + 1)).flatten) := by
    conv => lhs; rw [← List.take_append_drop (k + 1) L, List.flatten_append, gi_take2 L k hk, List.append_assoc]
  rw [e2]
  have h0 : At ((L.take k).flatten ++ (L[k] ++ (L.drop (k + 1)).flatten)) (L.take k).flatten.length (L[k] ++ (L.drop (k + 1)).flatten) := At.end
  exact h0.app.1
section
variable {d : Nat} {m : Mem} {M NT C T n Ct : Int} {us : List Int}
/-- another token begins -/
theorem STK.new {L : List (List Int)} (h : STK m M NT C L) (hI : TI m) (ok : OK m) (hl : L.length ≤ 16000) :
    STK (mst (mst (mst m (vl m M 22) L.length L.flatten.length) (vl m M 23) L.length 0) M 24 (L.length + 1)) M NT C (L ++ [[]]) ∧ YQ NT 0 C m L.flatten (mst (mst (mst m (vl m M 22) L.length L.flatten.length) (vl m M 23) L.length 0) M 24 (L.length + 1)) := by
  obtain ⟨h1, h2, ⟨h3, h3'⟩, ⟨h4, h4'⟩, h5, h6, h7, h8, h9⟩ := h
  have n22 : M ≠ vl m M 22 := by intro q; rw [← q] at h3; omega
  have n23 : M ≠ vl m M 23 := by intro q; rw [← q] at h4; omega
  have y1 := YQ.mA (m := m) (a := vl m M 22) (k := L.length) (v := L.flatten.length) (by rw [h3]; decide) hI h7 h8
  have y2 := YQ.mA (m := mst m (vl m M 22) L.length L.flatten.length) (a := vl m M 23) (k := L.length) (v := 0) (by show nTr (tg m (vl m M 23)); rw [h4]; decide) y1.2.1.1 y1.1 h8
  have y3 := YQ.mT (m := mst (mst m (vl m M 22) L.length L.flatten.length) (vl m M 23) L.length 0) (T := M) (f := 24) (v := L.length + 1) (by show tg m M ≠ 13 ∧ tg m M < 100; omega) y2.2.1.1 y2.1 h8
  have y := (YQ.trans h7 y1 y2 (Nat.le_refl _)).trans h7 y3 (Nat.le_refl _)
  have vM : ∀ f, f ≠ 24 → vl (mst (mst (mst m (vl m M 22) L.length L.flatten.length) (vl m M 23) L.length 0) M 24 (L.length + 1)) M f = vl m M f := fun f hf => by
    rw [vl_mst, if_neg (by omega), vl_mst, if_neg (by omega), vl_mst, if_neg (by omega)]
  have fl : (L ++ [[]]).flatten = L.flatten := by simp
  refine ⟨⟨h1, by rw [vM 25 (by omega)]; exact h2, by rw [vM 22 (by omega)]; exact ⟨h3, h3'⟩, by rw [vM 23 (by omega)]; exact ⟨h4, h4'⟩, by rw [vM 22 (by omega), vM 23 (by omega)]; exact h5, by rw [vl_mst, if_pos ⟨rfl, rfl⟩]; simp, by rw [fl]; exact y3.1, by rw [fl]; exact h8, fun k hk => ?_⟩, y⟩
  rw [vM 22 (by omega), vM 23 (by omega), vl_mst, if_neg (by omega), vl_mst (a := M), if_neg (by omega)]
  simp only [List.length_append, List.length_cons, List.length_nil] at hk
  by_cases e : k = L.length
  · subst e
    rw [vl_mst, if_pos ⟨rfl, rfl⟩, vl_mst, if_neg (by omega), vl_mst, if_pos ⟨rfl, rfl⟩]
    refine ⟨by simp, by rw [List.take_append_of_le_length (Nat.le_refl _), List.take_length]⟩
  · have hk : k < L.length := by omega
    rw [vl_mst, if_neg (by omega), vl_mst, if_neg (by omega), vl_mst, if_neg (by omega), vl_mst, if_neg (by omega)]
    obtain ⟨a1, a2⟩ := h9 k hk
    refine ⟨by rw [a1, getD_ap hk], by rw [a2, List.take_append_of_le_length (by omega)]⟩
/-- the state while a pointer is read -/
def PYS (m : Mem) (M NT C T n Ct : Int) (us : List Int) (s : Int) (path : List Int) : Prop := OK m ∧ TI m ∧ vl m M 19 = T ∧ T ≠ NT ∧ TW m T n us Ct ∧ At us s path
theorem PYS.yq {m' : Mem} {s : Int} {path us1 : List Int} (h : PYS m M NT C T n Ct us s path) (y : YQ NT 0 C m us1 m') (ok : OK m') (h19 : vl m' M 19 = vl m M 19) : PYS m' M NT C T n Ct us s path := by
  obtain ⟨h1, h2, h3, h4, h5, h6⟩ := h
  exact ⟨ok, y.2.1.1, by rw [h19]; exact h3, h4, (y.2.1.2.1 T h4 n us Ct h5).1, h6⟩
/-- a unit comes to the last token -/
theorem q230_u {s x a3 i v u : Int} {L0 : List (List Int)} {acc path : List Int} {z6 : PV} (hd : 2 ≤ d) (hz6 : cat z6 = 1) (h : STK m M NT C (L0 ++ [acc])) (hp : PYS m M NT C T n Ct us s path) (hu : 0 ≤ u ∧ u < 65536) (hl : (L0 ++ [acc]).flatten.length ≤ 5000) (hL : (L0 ++ [acc]).length ≤ 16000) (hi : 0 ≤ i ∧ i < 100000) :
    ∃ m', STK m' M NT C (L0 ++ [acc ++ [u]]) ∧ PYS m' M NT C T n Ct us s path ∧ YQ NT 0 C m (L0 ++ [acc ++ [u]]).flatten m' ∧ FRM (eM 230) m m' ∧ ∀ Q, rn d 230 55 [pR M, pI x, pI s, pI a3, pI (i + 1), pI u, z6] [] m' = some Q → rn d 230 187 [pR M, pI x, pI s, pI a3, pI i, pI u, z6] [] m = some Q := by
  have h0 := h
  obtain ⟨h1, h2, ⟨h3, h3'⟩, ⟨h4, h4'⟩, h5, h6, h7, h8, h9⟩ := h
  have efl : (L0 ++ [acc ++ [u]]).flatten = (L0 ++ [acc]).flatten ++ [u] := by simp
  obtain ⟨m1, e1, y1⟩ := YQ.unit (d := d - 1) (u := u) h7 hp.2.1 hp.1 h8 (by omega) hu
  have f1 := cl_FRM e1
  have z := hp.1.1
  have ok1 := hp.1.fr f1
  have v1 : ∀ f, f ∈ ([19, 22, 23, 24, 25] : List Int) → vl m1 M f = vl m M f := fun f hf => by
    refine vl_of f1 z h1 (by decide) ?_
    simp only [List.mem_cons, List.not_mem_nil, or_false] at hf
    rcases hf with q | q | q | q | q <;> subst q <;> rfl
  have t1 : tg m1 M = 11 := by rw [tg_of f1 z (by omega)]; exact h1
  have t22 : tg m1 (vl m M 22) = 186101 := by rw [tg_of f1 z (by omega)]; exact h3
  have t23 : tg m1 (vl m M 23) = 186101 ∧ ln m1 (vl m M 23) = 16385 := ⟨by rw [tg_of f1 z (by omega)]; exact h4, by rw [ln_of f1 z (by omega)]; exact h4'⟩
  have a22 : ∀ j, vl m1 (vl m M 22) j = vl m (vl m M 22) j := fun j => vl_of f1 z h3 (by decide) (by rw [bix_arr (by decide)]; rfl)
  have a23 : ∀ j, vl m1 (vl m M 23) j = vl m (vl m M 23) j := fun j => vl_of f1 z h4 (by decide) (by rw [bix_arr (by decide)]; rfl)
  have hlast : vl m (vl m M 23) L0.length = acc.length := by
    have := (h9 L0.length (by simp)).1
    rw [this]; simp
  have n22 : M ≠ vl m M 22 := by intro q; rw [← q] at h3; omega
  have n23 : M ≠ vl m M 23 := by intro q; rw [← q] at h4; omega
  have y2 := YQ.mA (m := m1) (a := vl m M 23) (k := L0.length) (v := acc.length + 1) (by rw [t23.1]; decide) y1.2.1.1 y1.1 y1.2.2.2.2
  have y := YQ.trans h7 y1 y2 (Nat.le_refl _)
  have hlen : ((L0 ++ [acc]).length : Int) = L0.length + 1 := by simp
  have hacc : acc.length ≤ 5000 := by simp at hl; omega
  refine ⟨mst m1 (vl m M 23) L0.length (acc.length + 1), ⟨t1, ?_, ?_, ?_, ?_, ?_, by rw [efl]; exact y2.1, by rw [efl]; exact y2.2.2.2.2, fun k hk => ?_⟩, hp.yq y ok1 ?_, by rw [efl]; exact y, ?_, fun Q hQ => ?_⟩
  · rw [vl_mst, if_neg (by omega), v1 25 (by simp)]; exact h2
  · rw [vl_mst, if_neg (by omega), v1 22 (by simp)]; exact ⟨t22, by show ln m1 _ = _; rw [ln_of f1 z (by omega)]; exact h3'⟩
  · rw [vl_mst, if_neg (by omega), v1 23 (by simp)]; exact t23
  · rw [vl_mst, if_neg (by omega), vl_mst, if_neg (by omega), v1 22 (by simp), v1 23 (by simp)]; exact h5
  · rw [vl_mst, if_neg (by omega), v1 24 (by simp), h6]; simp
  · simp only [List.length_append, List.length_cons, List.length_nil] at hk
    rw [vl_mst (k := (L0.length : Int)) (j := 22), if_neg (by omega), vl_mst (k := (L0.length : Int)) (j := 23), if_neg (by omega), v1 22 (by simp), v1 23 (by simp)]
    by_cases e : k = L0.length
    · subst e
      rw [vl_mst, if_pos ⟨rfl, rfl⟩, vl_mst, if_neg (by omega), a22]
      refine ⟨by simp, ?_⟩
      have := (h9 L0.length (by simp)).2
      rw [this]
      simp
    · have hk : k < L0.length := by omega
      rw [vl_mst, if_neg (by omega), vl_mst, if_neg (by omega), a22, a23]
      obtain ⟨a1, a2⟩ := h9 k (by simp; omega)
      refine ⟨by rw [a1, getD_ap hk, getD_ap hk], by rw [a2, List.take_append_of_le_length (by omega), List.take_append_of_le_length (by omega)]⟩
  · rw [vl_mst, if_neg (by omega), v1 19 (by simp)]
  · exact (f1.sub (by rfl)).trans (fr_mstA (by rw [t23.1]; decide) (by rw [t23.1]; rfl))
  · refine q230_187 (by omega) z hz6 _ ?_
    have hf := hp.2.2.2.2.1.1
    rw [gd_of h1, nm_eq, h2, gd_of h7.1, bV_eq e1, nm_eq, v1 23 (by simp), nm_eq, v1 24 (by simp), h6, hlen, (w32_of (by omega) (by omega) : w32 ((L0.length : Int) + 1 - 1) = (L0.length : Int) + 1 - 1), show (L0.length : Int) + 1 - 1 = L0.length by omega, gd_of t23.1, gd_of ⟨by omega, by omega⟩, a23, hlast, (w32_of (by omega) (by omega) : w32 ((acc.length : Int) + 1) = (acc.length : Int) + 1), (w32_of (by omega) (by omega) : w32 (i + 1) = i + 1)]
    exact hQ
end
