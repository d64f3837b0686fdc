/-! what makes cells -/
set_option maxRecDepth 100000
theorem sv_zero (sz : Nat) (pre : Int → Nat) (ty : Nat) : sv sz pre ty 0 = if ty = 1 then .long 0 else if ty = 2 then .null else .int 0 := by
  unfold sv
  split
  · rfl
  · split
    · unfold rfv; rw [if_pos rfl]
    · rfl
theorem srg_zero (ty : Nat) : srg ty 0 := by
  unfold srg pin
  split
  · omega
  · split
    · trivial
    · omega
theorem arg_zero (t : Int) : arg t 0 := by
  unfold arg
  split
  · unfold pin; omega
  · exact srg_zero _
theorem okTy_dv {k : Nat} {ty : FieldType} {sz : Nat} {pre : Int → Nat} (h : okTy k ty = true) : defaultValue ty = sv sz pre k 0 := by
  rw [sv_zero]
  unfold okTy at h
  split at h <;> first | rfl | cases h
theorem cR_arr {s0 : State} {pre : Int → Nat} {dC : Nat → ClassId} {dI : Nat → Nat → Nat} {a q n : Int} {k : Nat} {H : Heap} {cell : Cell} {f : Int → Int} (hq : 100 < q ∧ q < 119) (hn : 0 ≤ n ∧ n < 2147483648) (hf : ∀ k : Int, 0 ≤ k → k < n → arg q (f k))
    (e1 : H[adr s0.heap.size pre a]? = some cell) (e2 : s0.isArrayOf cell (elF q)) (e3 : cell.vm = .none) (e4 : cell.slots.size = n.toNat) (e5 : ∀ j : Nat, (j : Int) < n → cell.slots[j]? = some (sv s0.heap.size pre (elT q) (f j)))
    (e6 : s0.vm.findClass ("[" ++ (elF q).toString) = some cell.cls) (e7 : elT q = 2 → ∃ (kA : Class) (comp : ClassId), s0.vm.classes[cell.cls]? = some kA ∧ kA.kind = .array comp (elF q) ∧ s0.vm.findClass (elC q) = some comp) : cR s0 pre dC dI a (q + 1000 * (k + 1)) n f H := by
  have hm : (q + 1000 * ((k : Int) + 1)) % 1000 = q := by omega
  refine ⟨fun h1 h2 => by omega, fun h1 h2 => ?_⟩
  rw [hm]
  refine ⟨hn.1, hn.2, hf, cell, e1, e2, (by rw [e3]; exact fun h => (by cases h)), (by rw [e3]; exact fun q h => (by cases h)), ⟨⟨(by omega), (by rw [e4])⟩, fun _ => e4⟩, e5, fun _ => ⟨e6, ?_⟩⟩
  by_cases h : elT q = 2
  · obtain ⟨kA, comp, g1, g2, g3⟩ := e7 h
    exact ⟨kA, comp, g1, g2, fun _ => g3⟩
  · obtain ⟨-, kA, g1, comp, g2⟩ := e2
    exact ⟨kA, comp, g1, g2, fun h9 => absurd h9 h⟩
section NEW
variable {p : Program} {l : Launch} {e : Env} {R : Room} {s : State} {mid : MethodId} {args : Array Value} {below : List Frame} {meth : Method} {c : Code} {Q : State → Prop}
variable {s0 : State} {pre : Int → Nat} {dC : Nat → ClassId} {dI : Nat → Nat → Nat} {mb : Mem} {cc : ByteArray} {pc : Nat} {ls st : List PV} {m : Mem}
theorem g_new {own : String} {idx t : Nat} (hx : p.tables.exec = Jvm.exec) (hb : c.code = cc) (hW : s0.WarmedH s.vm) (hpre : ∀ a, 0 < a → a < 92 → pre a < s0.heap.size) (hts : ∀ w ∈ lw_all, w.before args s = true) (hown : s.vm.findClass own = some mid.cls) (hob : OBK t) (hKn : u_Kn s0 (cNm t) (TT t) (fTy t).length (dC t) (dI t)) (h1 : t < 100)
    (d : decode cc pc = .ok (.new idx, 3)) (hcl : Cond.classLink own idx (cNm t) ∈ lw_all) (hins : Cond.instantiable (cNm t) (fTy t).length ∈ lw_all) (hini : Cond.initialized (cNm t) ∈ lw_all)
    (hb1 : nx mb ≤ nx m) (hb2 : sl mb ≤ sl m) (hr1 : (nx m + 1 - nx mb).toNat ≤ R.cells) (hr2 : (sl m + (fTy t).length - sl mb).toNat ≤ R.slots)
    (kk : WS s0 pre dC dI p l e R s mid args below meth c mb Q (pc + 3) ls (pR (nx m) :: st) (mal m t (fTy t).length)) : WS s0 pre dC dI p l e R s mid args below meth c mb Q pc ls st m := by
  intro H locs lc sc hR hL hS hQ
  have hKs := u_Kn_moved hW.alike hKn
  obtain ⟨ea, eb⟩ := hR.at_new
  refine W.newcK hx hb hown (hts _ hcl) (hts _ hins) (hts _ hini) rfl d (by omega) (by omega) hKs.2.1 rfl fun H1 kC hkC e1 z1 o1 => ?_
  have k1 := kk H1 locs lc (.ref H.size :: sc) (RP.new hpre hR z1 o1 ⟨fun _ _ => ⟨?_, fun j _ => srg_zero _⟩, fun q1 q2 => ?_⟩) hL ⟨eb.symm, hS⟩ hQ
  · rw [nx_mal, sl_mal] at k1
    rw [show (nx m - nx mb).toNat + 1 = (nx m + 1 - nx mb).toNat by omega, show (sl m - sl mb).toNat + (fTy t).length = (sl m + (fTy t).length - sl mb).toNat by omega]
    exact k1
  · rw [← ea]
    exact o_OB.of ((u_born (tyF t) hts hob.1 hKs hkC e1 hob.2.1).to (fun j hj => okTy_dv (hob.2.2.2 j hj)))
  · exfalso; rw [Int.emod_eq_of_lt (by omega) (by omega)] at q1; omega
theorem aTy_ok {t : ArrayType} {q : Int} (h : aTy t = some q) : newarray.typeOf t = elF q ∧ 100 < q ∧ q < 106 ∧ (∀ sz pre, defaultValue (elF q) = sv sz pre (elT q) 0) ∧ componentBytes (elF q) ≤ 8 ∧ elT q ≠ 2 := by
  unfold aTy at h
  cases t <;> cases h <;> exact ⟨rfl, by omega, by omega, fun _ _ => rfl, by decide, by decide⟩
theorem g_newa {t : ArrayType} {q n : Int} {k : Nat} {r : List PV} (hx : p.tables.exec = Jvm.exec) (hb : c.code = cc) (hW : s0.WarmedH s.vm) (hpre : ∀ a, 0 < a → a < 92 → pre a < s0.heap.size) (hts : ∀ w ∈ lw_all, w.before args s = true) (hq : aTy t = some q) (harr : Cond.arrayClass (elF q) ∈ lw_all)
    (d : decode cc pc = .ok (.newarray t, 2)) (hn : 0 ≤ n ∧ n ≤ 2000000) (hb1 : nx mb ≤ nx m) (hb2 : sl mb ≤ sl m) (hr1 : (nx m + 1 - nx mb).toNat ≤ R.cells) (hr2 : (sl m + n - sl mb).toNat ≤ R.slots)
    (kk : WS s0 pre dC dI p l e R s mid args below meth c mb Q (pc + 2) ls (pR (nx m) :: r) (mal m (q + 1000 * (k + 1)) n)) : WS s0 pre dC dI p l e R s mid args below meth c mb Q pc ls (pI n :: r) m := by
  intro H locs lc sc hR hL hS hQ
  obtain ⟨z, rfl, hv, hS⟩ := sR_i hS
  obtain ⟨ea, eb⟩ := hR.at_new
  obtain ⟨t1, t2, t3, t4, t5, t6⟩ := aTy_ok hq
  have hN := cl_ofInt hv hn.1
  refine va_newaK (atype := t) (N := n.toNat) hx hb (by rw [t1]; exact hts _ harr) rfl d rfl (fun h => by have h : Int32.ofInt n < Int32.ofInt 0 := h; rw [i32_lt hv z32] at h; omega) hN (by rw [t1]; have := Nat.mul_le_mul_left n.toNat t5; omega) (by omega) (by omega) rfl fun H1 cA e1 z1 o1 hAr hNm => ?_
  rw [t1] at e1 hAr hNm
  have hAr := arrOfT_moved hW.alike.symm hAr
  have k1 := kk H1 locs lc (.ref H.size :: z) (RP.new hpre hR z1 o1 (cR_arr (cell := arrV cA n.toNat (fun _ => defaultValue (elF q))) ⟨t2, by omega⟩ ⟨hn.1, by omega⟩ (fun _ _ _ => arg_zero _) (by rw [← ea]; exact e1) (hAr _ _) rfl (arrV_size _ _ _) (fun j hj => by rw [arrV_read _ _ (by omega), ← t4]) (by rw [← hW.alike.findClass]; exact hNm) (fun h => absurd h t6))) hL ⟨eb.symm, hS⟩ hQ
  rw [nx_mal, sl_mal] at k1
  rw [show (nx m - nx mb).toNat + 1 = (nx m + 1 - nx mb).toNat by omega, show (sl m - sl mb).toNat + n.toNat = (sl m + n - sl mb).toNat by omega]
  exact k1
theorem g_anew {q n : Int} {k : Nat} {r : List PV} {own : String} {idx : Nat} (hx : p.tables.exec = Jvm.exec) (hb : c.code = cc) (hW : s0.WarmedH s.vm) (hpre : ∀ a, 0 < a → a < 92 → pre a < s0.heap.size) (hts : ∀ w ∈ lw_all, w.before args s = true) (hown : s.vm.findClass own = some mid.cls) (hq : 110 < q ∧ q < 119) (hcl : Cond.classLink own idx (elC q) ∈ lw_all) (hov : (Cond.arrayOver (elF q)).before args s = true)
    (d : decode cc pc = .ok (.anewarray idx, 3)) (hn : 0 ≤ n ∧ n ≤ 2000000) (hb1 : nx mb ≤ nx m) (hb2 : sl mb ≤ sl m) (hr1 : (nx m + 1 - nx mb).toNat ≤ R.cells) (hr2 : (sl m + n - sl mb).toNat ≤ R.slots)
    (kk : WS s0 pre dC dI p l e R s mid args below meth c mb Q (pc + 3) ls (pR (nx m) :: r) (mal m (q + 1000 * (k + 1)) n)) : WS s0 pre dC dI p l e R s mid args below meth c mb Q pc ls (pI n :: r) m := by
  intro H locs lc sc hR hL hS hQ
  obtain ⟨z, rfl, hv, hS⟩ := sR_i hS
  obtain ⟨ea, eb⟩ := hR.at_new
  have hN := cl_ofInt hv hn.1
  have h2 : elT q = 2 := (elF_ref hq.1 hq.2).2
  have hneg : ¬ Int32.ofInt n < 0 := fun h => by have h : Int32.ofInt n < Int32.ofInt 0 := h; rw [i32_lt hv z32] at h; omega
  have fin : ∀ (cA : ClassId) (kA : Class) (comp : ClassId), s.vm.findClass ("[" ++ (elF q).toString) = some cA → s.vm.classes[cA]? = some kA → kA.kind = .array comp (elF q) → s.vm.findClass (elC q) = some comp →
      W p l e R s mid args below meth c (H.push { cls := cA, slots := Array.replicate (Int32.ofInt n).toNatClampNeg .null, vm := .none }) locs ((nx m - nx mb).toNat + 1) ((sl m - sl mb).toNat + (Int32.ofInt n).toNatClampNeg) Q (F0 mid (pc + 3) lc (.ref H.size :: z)) := by
    intro cA kA comp f1 f2 f3 f4
    rw [hN]
    have f1' : s0.vm.findClass ("[" ++ (elF q).toString) = some cA := by rw [← hW.alike.findClass]; exact f1
    have f4' : s0.vm.findClass (elC q) = some comp := by rw [← hW.alike.findClass]; exact f4
    obtain ⟨kB, f2', fe⟩ := hW.alike.symm.2.2 _ _ f2
    have f3' : kB.kind = .array comp (elF q) := by rw [fe]; exact f3
    have k1 := kk (H.push { cls := cA, slots := Array.replicate n.toNat .null, vm := .none }) locs lc (.ref H.size :: z) (RP.new hpre hR (Array.size_push _) (fun x hx => by rw [Array.getElem?_push, if_neg (by omega)]) (cR_arr (cell := { cls := cA, slots := Array.replicate n.toNat .null, vm := .none }) ⟨by omega, by omega⟩ ⟨hn.1, by omega⟩ (fun _ _ _ => arg_zero _) (by rw [← ea]; simp) ⟨fun _ h => (by cases h), kB, f2', comp, f3'⟩ rfl (by simp) (fun j hj => by
        rw [h2, sv_zero, if_neg (by decide), if_pos rfl]
        simp only [Array.getElem?_replicate]
        rw [if_pos (by omega)]) f1' (fun _ => ⟨kB, comp, f2', f3', f4'⟩))) hL ⟨eb.symm, hS⟩ hQ
    rw [nx_mal, sl_mal] at k1
    rw [show (nx m - nx mb).toNat + 1 = (nx m + 1 - nx mb).toNat by omega, show (sl m - sl mb).toNat + n.toNat = (sl m + n - sl mb).toNat by omega]
    exact k1
  have : q = 111 ∨ q = 112 ∨ q = 113 ∨ q = 114 ∨ q = 115 ∨ q = 116 ∨ q = 117 ∨ q = 118 := by omega
  rcases this with rfl | rfl | rfl | rfl | rfl | rfl | rfl | rfl
  · exact W.anew hx hb hown (hts _ hcl) hov rfl d rfl hneg (by rw [hN]; omega) (by omega) (by rw [hN]; omega) fin
  · exact W.anew hx hb hown (hts _ hcl) hov rfl d rfl hneg (by rw [hN]; omega) (by omega) (by rw [hN]; omega) fin
  · exact W.anew hx hb hown (hts _ hcl) hov rfl d rfl hneg (by rw [hN]; omega) (by omega) (by rw [hN]; omega) fin
  · exact W.anew hx hb hown (hts _ hcl) hov rfl d rfl hneg (by rw [hN]; omega) (by omega) (by rw [hN]; omega) fin
  · exact W.anew hx hb hown (hts _ hcl) hov rfl d rfl hneg (by rw [hN]; omega) (by omega) (by rw [hN]; omega) fin
  · exact W.anew hx hb hown (hts _ hcl) hov rfl d rfl hneg (by rw [hN]; omega) (by omega) (by rw [hN]; omega) fin
  · exact W.anew hx hb hown (hts _ hcl) hov rfl d rfl hneg (by rw [hN]; omega) (by omega) (by rw [hN]; omega) fin
  · exact W.anewA (t := .byte) hx hb hown (hts _ hcl) hov rfl d rfl hneg (by rw [hN]; omega) (by omega) (by rw [hN]; omega) fin
end NEW
