/-! ends of methods -/
set_option maxRecDepth 100000
section RET
variable {p : Program} {l : Launch} {e : Env} {R : Room} {s : State} {mid : MethodId} {args : Array Value} {below : List Frame} {meth : Method} {c : Code} {Q : State → Prop}
variable {s0 : State} {pre : Int → Nat} {dC : Nat → ClassId} {dI : Nat → Nat → Nat} {mb : Mem} {cc : ByteArray} {pc : Nat} {ls st : List PV} {m m1 : Mem}
/-- the kinds of answers -/
def rkOk (rk : Nat) (ret : Option FieldType) : Bool := match rk, ret with
  | 0, none => true
  | 1, some .int => true
  | 2, some .long => true
  | 3, some (.object _) => true
  | 3, some (.array _) => true
  | 4, some .boolean => true
  | 5, some .char => true
  | 6, some .byte => true
  | _, _ => false
theorem g_iret {x : Int} {rk : Nat} {ret : Option FieldType} (hx : p.tables.exec = Jvm.exec) (hb : c.code = cc) (hr : meth.sig.returnType = ret) (hk : rkOk rk ret = true) (hlocks : meth.locks = false) (d : decode cc pc = .ok (.ireturn, 1)) (h : rk = 1 ∨ (rk = 4 ∧ (x = 0 ∨ x = 1)) ∨ (rk = 5 ∧ pin x 0 65536) ∨ (rk = 6 ∧ pin x (-128) 128)) :
    WS s0 pre dC dI p l e R s mid args below meth c mb (vx_MQ below (QcR s0 pre dC dI (.inl (some (pI x))) m) (XcR s0 pre dC dI (.inl (some (pI x))) m) args s (nx m - nx mb).toNat (sl m - sl mb).toNat (frO s0)) pc ls [pI x] m := by
  intro H locs lc sc hR hL hS hQ
  obtain ⟨q, rfl, v1, hS1⟩ := sR_i hS
  rw [sR_nil hS1]
  have key : ∀ k ty, rk = k → (∀ r, rkOk k r = true → r = some ty) → narrow ty (.int (Int32.ofInt x)) = .int (Int32.ofInt x) → ∃ ty, ret = some ty ∧ narrow ty (.int (Int32.ofInt x)) = .int (Int32.ofInt x) := fun k ty e1 e2 e3 => ⟨ty, e2 _ (by rw [← e1]; exact hk), e3⟩
  have this : ∃ ty, ret = some ty ∧ narrow ty (.int (Int32.ofInt x)) = .int (Int32.ofInt x) := by
    rcases h with h | ⟨h, h9⟩ | ⟨h, h9⟩ | ⟨h, h9⟩
    · exact key 1 .int h (fun r => by unfold rkOk; split <;> simp <;> omega) rfl
    · exact key 4 .boolean h (fun r => by unfold rkOk; split <;> simp <;> omega) (by rcases h9 with rfl | rfl <;> rfl)
    · refine key 5 .char h (fun r => by unfold rkOk; split <;> simp <;> omega) ?_
      rw [nar_char]
      unfold pin at h9
      congr 2; omega
    · refine key 6 .byte h (fun r => by unfold rkOk; split <;> simp <;> omega) ?_
      show Value.int (Int32.ofInt x).toInt8.toInt32 = _
      rw [i32_i2b]
      unfold pin at h9
      unfold w8
      congr 2; omega
  obtain ⟨ty, h1, h2⟩ := this
  exact vx_ret (W.zret hx hb (hr.trans h1) h2 (fun t ht _ => ⟨by rw [ht]; exact hR, _, rfl, rfl, v1⟩) hQ d hlocks)
theorem g_lret {x : Int} {rk : Nat} {ret : Option FieldType} (hx : p.tables.exec = Jvm.exec) (hb : c.code = cc) (hr : meth.sig.returnType = ret) (hk : rkOk rk ret = true) (hlocks : meth.locks = false) (d : decode cc pc = .ok (.lreturn, 1)) (h : rk = 2) :
    WS s0 pre dC dI p l e R s mid args below meth c mb (vx_MQ below (QcR s0 pre dC dI (.inl (some (pL x))) m) (XcR s0 pre dC dI (.inl (some (pL x))) m) args s (nx m - nx mb).toNat (sl m - sl mb).toNat (frO s0)) pc ls [pL x] m := by
  intro H locs lc sc hR hL hS hQ
  obtain ⟨q, rfl, v1, hS1⟩ := sR_l hS
  rw [sR_nil hS1]
  have h1 : ret = some .long := by
    subst h
    unfold rkOk at hk
    split at hk <;> first | rfl | (exfalso; omega) | cases hk
  exact vx_ret (W.lret hx hb (hr.trans h1) (fun t ht _ => ⟨by rw [ht]; exact hR, _, rfl, rfl, v1⟩) hQ d (hlocks := hlocks))
theorem g_aret {x : Int} {rk : Nat} {ret : Option FieldType} (hx : p.tables.exec = Jvm.exec) (hb : c.code = cc) (hr : meth.sig.returnType = ret) (hk : rkOk rk ret = true) (hlocks : meth.locks = false) (d : decode cc pc = .ok (.areturn, 1)) (h : rk = 3) :
    WS s0 pre dC dI p l e R s mid args below meth c mb (vx_MQ below (QcR s0 pre dC dI (.inl (some (pR x))) m) (XcR s0 pre dC dI (.inl (some (pR x))) m) args s (nx m - nx mb).toNat (sl m - sl mb).toNat (frO s0)) pc ls [pR x] m := by
  intro H locs lc sc hR hL hS hQ
  obtain ⟨q, rfl, hS1⟩ := sR_r hS
  rw [sR_nil hS1]
  have h1 : ∃ ty, ret = some ty ∧ ((∃ n, ty = .object n) ∨ ∃ t, ty = .array t) := by
    subst h
    unfold rkOk at hk
    split at hk <;> first | exact ⟨_, rfl, Or.inl ⟨_, rfl⟩⟩ | exact ⟨_, rfl, Or.inr ⟨_, rfl⟩⟩ | (exfalso; omega) | cases hk
  obtain ⟨ty, h1, h2⟩ := h1
  have hv : rfv s0.heap.size pre x = .null ∨ ∃ a, rfv s0.heap.size pre x = .ref a := by
    unfold rfv; split
    · exact Or.inl rfl
    · exact Or.inr ⟨_, rfl⟩
  exact vx_ret (W.aret hx hb (hr.trans h1) h2 hv (fun t ht _ => ⟨by rw [ht]; exact hR, _, rfl, rfl⟩) hQ d hlocks)
theorem g_vret {rk : Nat} {ret : Option FieldType} (hx : p.tables.exec = Jvm.exec) (hb : c.code = cc) (hr : meth.sig.returnType = ret) (hk : rkOk rk ret = true) (hlocks : meth.locks = false) (d : decode cc pc = .ok (.return_, 1)) (h : rk = 0) :
    WS s0 pre dC dI p l e R s mid args below meth c mb (vx_MQ below (QcR s0 pre dC dI (.inl none) m) (XcR s0 pre dC dI (.inl none) m) args s (nx m - nx mb).toNat (sl m - sl mb).toNat (frO s0)) pc ls [] m := by
  intro H locs lc sc hR hL hS hQ
  rw [sR_nil hS]
  have h1 : ret = none := by
    subst h
    unfold rkOk at hk
    split at hk <;> first | rfl | (exfalso; omega) | cases hk
  exact vx_ret (W.vret hx hb (hr.trans h1) (fun t ht _ => ⟨by rw [ht]; exact hR, rfl⟩) hQ d hlocks)
end RET
