/-! fields -/
set_option maxRecDepth 100000
/-- a field's link, of the class itself or of a nest mate -/
def FLk (s : State) (args : Array Value) (own : String) (idx : Nat) (ref n d : String) : Prop := (Cond.fieldLink own idx ref n d).before args s = true ∨ ∃ host, (Cond.fieldLinkNest own idx ref n d host).before args s = true
theorem RP.obj {s0 : State} {pre : Int → Nat} {dC : Nat → ClassId} {dI : Nat → Nat → Nat} {m : Mem} {H : Heap} (h : RP s0 pre dC dI m H) {a : Int} {t : Nat} (ht : tg m a = (t : Int)) (h0 : 0 < t) (h1 : t < 100) : 0 < a ∧ a < nx m ∧ o_OB (92 ≤ a) (adr s0.heap.size pre a) (dC t) (fTy t).length (dI t) H (fun k => sv s0.heap.size pre ((fTy t).getD k 0) (vl m a k)) ∧ ∀ k : Nat, k < (fTy t).length → srg ((fTy t).getD k 0) (vl m a k) := by
  obtain ⟨-, -, -, h4, h5⟩ := h
  obtain ⟨q1, q2, -⟩ := h4 a (fun e => by omega)
  obtain ⟨q3, q4⟩ := (h5 a q1 q2).1 (by omega) (by omega)
  rw [ht] at q3 q4
  exact ⟨q1, q2, q3, q4⟩
section FLD
variable {p : Program} {l : Launch} {e : Env} {R : Room} {s : State} {mid : MethodId} {args : Array Value} {below : List Frame} {meth : Method} {c : Code} {Q : State → Prop}
variable {s0 : State} {pre : Int → Nat} {dC : Nat → ClassId} {dI : Nat → Nat → Nat} {mb : Mem} {cc : ByteArray} {pc : Nat} {ls st : List PV} {m : Mem}
theorem kn1 {s0 s : State} {dC : Nat → ClassId} {dI : Nat → Nat → Nat} {t : Nat} (hW : s0.WarmedH s.vm) (hKn : u_Kn s0 (cNm t) (TT t) (fTy t).length (dC t) (dI t)) : va_K ((fun _ => dC t), (fun _ => dI t)) [(cNm t, TT t, (fTy t).length)] [] s := by
  refine ⟨fun c q hq => ?_, fun k q hk => by simp at hk⟩
  have h := u_Kn_moved hW.alike hKn
  match c, hq with
  | 0, hq => cases hq; exact h
  | c + 1, hq => simp at hq
theorem vp_map (f : Nat → Value) {n k : Nat} (h : k < n) : vp_V ((List.range n).map f) k = f k := by
  unfold vp_V
  rw [List.getD_eq_getElem?_getD, List.getElem?_map, List.getElem?_range h]
  rfl
theorem g_getf0 {a : Int} {r : List PV} {own ref : String} {idx t k : Nat} (hx : p.tables.exec = Jvm.exec) (hb : c.code = cc) (hW : s0.WarmedH s.vm) (hts : ∀ w ∈ lw_all, w.before args s = true) (hown : s.vm.findClass own = some mid.cls) (hob : OBK t) (hKn : u_Kn s0 (cNm t) (TT t) (fTy t).length (dC t) (dI t)) (h0 : 0 < t) (h1 : t < 100)
    (d : decode cc pc = .ok (.getfield idx, 3)) (ht : tg m a = (t : Int)) (hk : k < (fTy t).length) (hl : FLk s args own idx ref (TT t k).2.1 (TT t k).2.2.1) (hsame : ∀ x, s.fieldFound? (TT t k).1 (TT t k).2.1 (TT t k).2.2.1 = some x → s.fieldFound? ref (TT t k).2.1 (TT t k).2.2.1 = some x)
    {H : Heap} {locs : List Loc} {lc : Array Slot} {sc : List Value} {cells slots : Nat} (hR : RP s0 pre dC dI m H) (kk : W p l e R s mid args below meth c H locs cells slots Q (F0 mid (pc + 3) lc (sv s0.heap.size pre ((fTy t).getD k 0) (vl m a k) :: sc))) : W p l e R s mid args below meth c H locs cells slots Q (F0 mid pc lc (.ref (adr s0.heap.size pre a) :: sc)) := by
  obtain ⟨g1, g2, g3, g4⟩ := hR.obj ht h0 h1
  obtain ⟨cell, q1, q2, ⟨⟨q3, -⟩, -⟩, q4⟩ := g3
  obtain ⟨hS, hfc, kC, hkC, hkind⟩ := u_Kn_moved hW.alike hKn
  obtain ⟨cf, kf, fi, f, hi, hsl⟩ := hS k hk
  rcases hl with hl | ⟨host, hl⟩
  · exact W.getf hx hb hown hl (hsame _ hi) (u_facts hfc hkC (u_lays hts hob.1 hk) hi).1 q1 q3 (v := sv s0.heap.size pre ((fTy t).getD k 0) (vl m a k)) (by rw [hsl, q4 k hk]) rfl rfl d kk
  · exact va_Wgetf hx hb hown hl (hsame _ hi) (u_facts hfc hkC (u_lays hts hob.1 hk) hi).1 q1 q3 (v := sv s0.heap.size pre ((fTy t).getD k 0) (vl m a k)) (by rw [hsl, q4 k hk]) rfl rfl d kk
theorem sv_vR {sz : Nat} {pre : Int → Nat} {ty : Nat} {x : Int} (hr : srg ty x) : vR sz pre (if ty = 1 then pL x else if ty = 2 then pR x else pI x) (sv sz pre ty x) := by
  unfold srg at hr
  unfold sv
  split
  · rename_i h; rw [if_pos h] at hr; exact ⟨rfl, hr⟩
  · rename_i h; rw [if_neg h] at hr
    split
    · exact rfl
    · rename_i h2; rw [if_neg h2] at hr; exact ⟨rfl, hr⟩
theorem g_getf {a : Int} {r : List PV} {own ref : String} {idx t k : Nat} (hx : p.tables.exec = Jvm.exec) (hb : c.code = cc) (hW : s0.WarmedH s.vm) (hts : ∀ w ∈ lw_all, w.before args s = true) (hown : s.vm.findClass own = some mid.cls) (hob : OBK t) (hKn : u_Kn s0 (cNm t) (TT t) (fTy t).length (dC t) (dI t)) (h0 : 0 < t) (h1 : t < 100)
    (d : decode cc pc = .ok (.getfield idx, 3)) (ht : tg m a = (t : Int)) (hk : k < (fTy t).length) (hl : FLk s args own idx ref (TT t k).2.1 (TT t k).2.2.1) (hsame : ∀ x, s.fieldFound? (TT t k).1 (TT t k).2.1 (TT t k).2.2.1 = some x → s.fieldFound? ref (TT t k).2.1 (TT t k).2.2.1 = some x)
    (kk : WS s0 pre dC dI p l e R s mid args below meth c mb Q (pc + 3) ls ((if (fTy t).getD k 0 = 1 then pL (vl m a k) else if (fTy t).getD k 0 = 2 then pR (vl m a k) else pI (vl m a k)) :: r) m) : WS s0 pre dC dI p l e R s mid args below meth c mb Q pc ls (pR a :: r) m := by
  intro H locs lc sc hR hL hS hQ
  obtain ⟨q, rfl, hS9⟩ := sR_r hS
  obtain ⟨g1, g2, g3, g4⟩ := hR.obj ht h0 h1
  rw [rfv_ref (by omega)]
  exact g_getf0 (r := r) hx hb hW hts hown hob hKn h0 h1 d ht hk hl hsame hR (kk H locs lc _ hR hL ⟨sv_vR (g4 k hk), hS9⟩ hQ)
/-- the cell behind a field's store -/
theorem RP.oput {H H1 : Heap} (hpre : ∀ a, 0 < a → a < 92 → pre a < s0.heap.size) (h : RP s0 pre dC dI m H) {a v : Int} {t k : Nat} (ha : 92 ≤ a) (ht : tg m a = (t : Int)) (h0 : 0 < t) (h1 : t < 100) (hk : k < (fTy t).length) (hv : srg ((fTy t).getD k 0) v) (hap : ∀ x y, x < (fTy t).length → y < (fTy t).length → x ≠ y → dI t x ≠ dI t y)
    {cell : Cell} (q1 : H[adr s0.heap.size pre a]? = some cell) (q2 : cell.cls = dC t) (q3 : cell.vm = .none) (q4 : ∀ k, k < (fTy t).length → cell.slots[dI t k]? = some (sv s0.heap.size pre ((fTy t).getD k 0) (vl m a k)))
    (he : H1[adr s0.heap.size pre a]? = some (cell.setSlot (dI t k) (sv s0.heap.size pre ((fTy t).getD k 0) v))) (hz : H1.size = H.size) (ho : ∀ q, q ≠ adr s0.heap.size pre a → H1[q]? = H[q]?) : RP s0 pre dC dI (mst m a k v) H1 := by
  obtain ⟨g1, g2, g3, g4⟩ := h.obj ht h0 h1
  refine RP.put hpre h ha hz ho ⟨fun _ _ => ⟨?_, fun j hj => ?_⟩, fun c1 c2 => ?_⟩
  · show o_OB _ _ (dC (tg m a).toNat) (fTy (tg m a).toNat).length _ _ (fun j => sv _ _ ((fTy (tg m a).toNat).getD j 0) _)
    rw [ht]
    refine o_OB.of (t_OB.to (V := updV (fun k => sv s0.heap.size pre ((fTy t).getD k 0) (vl m a k)) k (sv s0.heap.size pre ((fTy t).getD k 0) v)) ⟨_, he, q2, q3, t_set q4 hap hk _⟩ (fun j hj => ?_))
    unfold updV
    by_cases e : j = k
    · subst e; simp
    · rw [if_neg e]; show _ = sv _ _ _ (if (j : Int) = (k : Int) then v else vl m a j); rw [if_neg (by omega)]; rfl
  · show srg ((fTy (tg m a).toNat).getD j 0) (if (j : Int) = (k : Int) then v else vl m a j)
    replace hj : j < (fTy (tg m a).toNat).length := hj
    rw [ht] at hj ⊢
    by_cases e : j = k
    · subst e; rw [if_pos rfl]; exact hv
    · rw [if_neg (by omega)]; exact g4 j hj
  · exfalso; rw [ht, Int.emod_eq_of_lt (by omega) (by omega)] at c1; omega
theorem okTy_nf {k : Nat} {ty : FieldType} {sz : Nat} {x : Int} (h : okTy k ty = true) (h3 : k = 3 → x = 0 ∨ x = 1) (h0 : k = 0 → ty = .int) : narrow ty (sv sz pre k x) = sv sz pre k x ∧ fits ty (sv sz pre k x) = true := by
  have hr : ∀ x, rfv sz pre x = .null ∨ ∃ a, rfv sz pre x = .ref a := fun x => by unfold rfv; split; exact Or.inl rfl; exact Or.inr ⟨_, rfl⟩
  unfold okTy at h
  split at h
  · exact ⟨rfl, rfl⟩
  · cases h0 rfl
  · exact ⟨rfl, rfl⟩
  · show narrow _ (rfv sz pre x) = rfv sz pre x ∧ _
    show _ ∧ fits _ (rfv sz pre x) = true
    rcases hr x with h9 | ⟨a, h9⟩ <;> rw [h9] <;> exact ⟨rfl, rfl⟩
  · show narrow _ (rfv sz pre x) = rfv sz pre x ∧ _
    show _ ∧ fits _ (rfv sz pre x) = true
    rcases hr x with h9 | ⟨a, h9⟩ <;> rw [h9] <;> exact ⟨rfl, rfl⟩
  · rcases h3 rfl with rfl | rfl <;> exact ⟨rfl, rfl⟩
  · cases h
theorem g_putf {a x : Int} {v : PV} {r : List PV} {own ref : String} {idx t k : Nat} (hx : p.tables.exec = Jvm.exec) (hb : c.code = cc) (hW : s0.WarmedH s.vm) (hpre : ∀ a, 0 < a → a < 92 → pre a < s0.heap.size) (hts : ∀ w ∈ lw_all, w.before args s = true) (hown : s.vm.findClass own = some mid.cls) (hob : OBK t) (hKn : u_Kn s0 (cNm t) (TT t) (fTy t).length (dC t) (dI t)) (h0 : 0 < t) (h1 : t < 100)
    (d : decode cc pc = .ok (.putfield idx, 3)) (ha9 : t ≠ 31) (ht : tg m a = (t : Int)) (hk : k < (fTy t).length) (hl : FLk s args own idx ref (TT t k).2.1 (TT t k).2.2.1) (hsame : ∀ x, s.fieldFound? (TT t k).1 (TT t k).2.1 (TT t k).2.2.1 = some x → s.fieldFound? ref (TT t k).2.1 (TT t k).2.2.1 = some x)
    (hfin : (TT t k).2.2.2 = false ∨ ((TT t k).2.2.2 = true ∧ own = (TT t k).1 ∧ meth.name = "<init>" ∧ (Cond.fieldLink own idx ref (TT t k).2.1 (TT t k).2.2.1).before args s = true))
    (hv : v = if (fTy t).getD k 0 = 1 then pL x else if (fTy t).getD k 0 = 2 then pR x else pI x) (hz : (fTy t).getD k 0 = 3 → x = 0 ∨ x = 1) (hi0 : (fTy t).getD k 0 = 0 → tyF t k = .int) (kk : WS s0 pre dC dI p l e R s mid args below meth c mb Q (pc + 3) ls r (mst m a k x)) : WS s0 pre dC dI p l e R s mid args below meth c mb Q pc ls (v :: pR a :: r) m := by
  intro H locs lc sc hR hL hS hQ
  have ha := hR.mine (a := a) (by omega) (by omega) (by omega)
  obtain ⟨w, q, rfl, hv2, hS⟩ := sR_cons hS
  obtain ⟨q, rfl, hS9⟩ := sR_r hS
  obtain ⟨g1, g2, ⟨cell, q1, q2, ⟨-, q3⟩, q4⟩, g4⟩ := hR.obj ht h0 h1
  replace q3 := q3 ha
  have hw : w = sv s0.heap.size pre ((fTy t).getD k 0) x ∧ srg ((fTy t).getD k 0) x := by
    subst hv
    unfold sv srg
    split at hv2
    · rename_i h; rw [if_pos h, if_pos h]; exact hv2
    · rename_i h; rw [if_neg h, if_neg h]
      split at hv2
      · rename_i h2; rw [if_pos h2, if_pos h2]; exact ⟨hv2, trivial⟩
      · rename_i h2; rw [if_neg h2, if_neg h2]; exact hv2
  obtain ⟨rfl, hrg⟩ := hw
  have hK := kn1 (t := t) hW hKn
  have hap := va_apart (own := own) (D := ((fun _ => dC t), (fun _ => dI t))) (ci := 0) hts hob.1 (tyF t) hob.2.1 hob.2.2.1 hK rfl
  obtain ⟨hSl, hfc, kC, hkC, hkind⟩ := hK.1 0 _ rfl
  obtain ⟨cf, kf, fi, f, hi, hsl⟩ := hSl k hk
  have hlay := hts _ (hob.1 _ (u_in_lay hk))
  have hst := (u_facts hfc hkC (u_lays hts hob.1 hk) hi).1
  obtain ⟨n1, n2⟩ := okTy_nf (pre := pre) (sz := s0.heap.size) (hob.2.2.2 k hk) hz hi0
  have hlocs : ∀ z ∈ locs ++ [(⟨adr s0.heap.size pre a, f.slot⟩ : Loc)], s0.heap.size ≤ z.base := fun z hz => by
    rcases List.mem_append.mp hz with h | h
    · exact hQ z h
    · rw [List.mem_singleton.mp h]; show s0.heap.size ≤ adr s0.heap.size pre a; rw [adr_ge ha]; omega
  have fin : ∀ H1 : Heap, H1[adr s0.heap.size pre a]? = some (cell.setSlot f.slot (sv s0.heap.size pre ((fTy t).getD k 0) x)) → H1.size = H.size → (∀ q, q ≠ adr s0.heap.size pre a → H1[q]? = H[q]?) → W p l e R s mid args below meth c H1 (locs ++ [⟨adr s0.heap.size pre a, f.slot⟩]) (nx m - nx mb).toNat (sl m - sl mb).toNat Q (F0 mid (pc + 3) lc q) := by
    intro H1 e1 e2 e3
    rw [hsl] at e1
    exact kk H1 _ lc q (RP.oput hpre hR ha ht h0 h1 hk hrg hap q1 q2 q3 q4 e1 e2 e3) hL hS9 hlocs
  rw [rfv_ref (by omega)]
  rcases hfin with hfin | ⟨hfin, hdecl, hin2, hl⟩
  · unfold u_lay at hlay
    rw [if_neg (by rw [hfin]; decide)] at hlay
    have h6 := u_store hfc hkC hkind hlay hi (hob.2.1 k hk) n1 n2
    rcases hl with hl | ⟨host, hl⟩
    · exact W.putK hx hb (f := f) ⟨hown, hl, ⟨_, _, _, hsame _ hi⟩, hst⟩ (by rw [q2]; exact h6) q1 q3 (by rw [hsl]; exact k2_hasslot (q4 k hk)) rfl rfl d fin
    · exact va_WputK hx hb (f := f) hown hl (hsame _ hi) hst (by rw [q2]; exact h6) q1 q3 (by rw [hsl]; exact k2_hasslot (q4 k hk)) rfl rfl d fin
  · unfold u_lay at hlay
    rw [if_pos hfin] at hlay
    have hcf : mid.cls = cf := by
      obtain ⟨_, _, c', _, _, _, -, -, hf', -, -, -, hown2, -⟩ := Cond.laysFinal_spec hlay
      have e1 : c' = cf := by have := hi.symm.trans hf'; simp at this; exact this.1.symm
      rw [← hdecl] at hown2
      rw [← e1]; exact Option.some.inj (hown.symm.trans hown2)
    have h6 := u_fits hfc hkC hkind (Or.inr hlay) hi (hob.2.1 k hk) n1 n2
    exact W.putFinK hx hb hown hl (hsame _ hi) hst hcf hin2 (by rw [q2]; exact h6) q1 q3 (by rw [hsl]; exact k2_hasslot (q4 k hk)) rfl rfl d fin
end FLD
