/-! the memory and the heap -/
set_option maxRecDepth 100000
def elT (t : Int) : Nat := if t = 102 then 1 else if 110 < t then 2 else 0
def elF (t : Int) : FieldType := match t with
  | 101 => .int
  | 102 => .long
  | 103 => .byte
  | 104 => .char
  | 105 => .boolean
  | 111 => .object "PathStore$Selector"
  | 112 => .object "PathStore$Test"
  | 113 => .object "PathStore$Segment"
  | 114 => .object "PathStore$Disk$Node"
  | 115 => .object "PathStore$Version"
  | 116 => .object "PathStore$Table"
  | 117 => .object "PathStoreModel$Store"
  | _ => .array .byte
def elC (t : Int) : String := match t with
  | 111 => "PathStore$Selector"
  | 112 => "PathStore$Test"
  | 113 => "PathStore$Segment"
  | 114 => "PathStore$Disk$Node"
  | 115 => "PathStore$Version"
  | 116 => "PathStore$Table"
  | 117 => "PathStoreModel$Store"
  | _ => "[B"
def sv (sz : Nat) (pre : Int → Nat) (ty : Nat) (x : Int) : Value := if ty = 1 then .long (Int64.ofInt x) else if ty = 2 then rfv sz pre x else .int (Int32.ofInt x)
def srg (ty : Nat) (x : Int) : Prop := if ty = 1 then pin x (-9223372036854775808) 9223372036854775808 else if ty = 2 then True else pin x (-2147483648) 2147483648
def arg (t x : Int) : Prop := if t = 103 then pin x (-128) 128 else srg (elT t) x
theorem arg_srg {t x : Int} (h : arg t x) : srg (elT t) x := by
  unfold arg at h
  split at h
  · rename_i e; subst e; show pin x _ _; unfold pin at *; omega
  · exact h
def fty (t : Int) (k : Nat) : Nat := (fTy t.toNat).getD k 0
def fN (t : Int) : Nat := (fTy t.toNat).length
/-- an array's size; those made since the law's start have it exactly (of the others the given words tell the length as an int) -/
def aSz (a n : Int) (z : Nat) : Prop := (n.toNat ≤ z ∧ z.toInt32 = Int32.ofNat n.toNat) ∧ (92 ≤ a → z = n.toNat)
/-- an array's cell -/
def aR (s0 : State) (pre : Int → Nat) (a t n : Int) (f : Int → Int) (H : Heap) : Prop :=
  ∃ cell : Cell, H[adr s0.heap.size pre a]? = some cell ∧ s0.isArrayOf cell (elF t) ∧ cell.vm ≠ .unknown ∧ (∀ q, cell.vm ≠ .statics q) ∧ aSz a n cell.slots.size ∧ (∀ j : Nat, (j : Int) < n → cell.slots[j]? = some (sv s0.heap.size pre (elT t) (f j)))
    ∧ (92 ≤ a → s0.vm.findClass ("[" ++ (elF t).toString) = some cell.cls ∧ ∃ (kA : Class) (comp : ClassId), s0.vm.classes[cell.cls]? = some kA ∧ kA.kind = .array comp (elF t) ∧ (elT t = 2 → s0.vm.findClass (elC t) = some comp))
/-- an object's cell; those made since the law's start are plain -/
def o_OB (mine : Prop) (o : Nat) (cC : ClassId) (N : Nat) (iS : Nat → Nat) (H : Heap) (V : Nat → Value) : Prop :=
  ∃ cell : Cell, H[o]? = some cell ∧ cell.cls = cC ∧ ((cell.vm ≠ .unknown ∧ cell.vm.isStatics = false) ∧ (mine → cell.vm = .none)) ∧ ∀ k, k < N → cell.slots[iS k]? = some (V k)
theorem o_OB.kept {P : Prop} {o : Nat} {cC : ClassId} {N : Nat} {iS : Nat → Nat} {H H1 : Heap} {V : Nat → Value} (h : o_OB P o cC N iS H V) (h1 : H1[o]? = H[o]?) : o_OB P o cC N iS H1 V := by
  obtain ⟨cell, q, r⟩ := h
  exact ⟨cell, by rw [h1]; exact q, r⟩
theorem o_OB.of {P : Prop} {o : Nat} {cC : ClassId} {N : Nat} {iS : Nat → Nat} {H : Heap} {V : Nat → Value} (h : t_OB o cC N iS H V) : o_OB P o cC N iS H V := by
  obtain ⟨cell, q1, q2, q3, q4⟩ := h
  exact ⟨cell, q1, q2, ⟨⟨(by rw [q3]; intro h; cases h), (by rw [q3]; rfl)⟩, fun _ => q3⟩, q4⟩
def cR (s0 : State) (pre : Int → Nat) (dC : Nat → ClassId) (dI : Nat → Nat → Nat) (a t n : Int) (f : Int → Int) (H : Heap) : Prop :=
  (0 < t → t < 100 → o_OB (92 ≤ a) (adr s0.heap.size pre a) (dC t.toNat) (fN t) (dI t.toNat) H (fun k => sv s0.heap.size pre (fty t k) (f k)) ∧ ∀ k : Nat, k < fN t → srg (fty t k) (f k)) ∧
  (100 < t % 1000 → t % 1000 < 119 → 0 ≤ n ∧ n < 2147483648 ∧ (∀ k : Int, 0 ≤ k → k < n → arg (t % 1000) (f k)) ∧ aR s0 pre a (t % 1000) n f H)
def RP (s0 : State) (pre : Int → Nat) (dC : Nat → ClassId) (dI : Nat → Nat → Nat) (m : Mem) (H : Heap) : Prop :=
  92 ≤ nx m ∧ H.size = s0.heap.size + (nx m - 92).toNat ∧ (∀ q, q < s0.heap.size → H[q]? = s0.heap[q]?) ∧ (∀ a, tg m a ≠ 0 → 0 < a ∧ a < nx m ∧ (92 ≤ a ∨ tg m a = 31 ∨ tg m a = 101 ∨ tg m a = 103)) ∧ ∀ a, 0 < a → a < nx m → cR s0 pre dC dI a (tg m a) (ln m a) (vl m a) H
theorem adr_ge {sz : Nat} {pre : Int → Nat} {a : Int} (h : 92 ≤ a) : adr sz pre a = sz + (a - 92).toNat := by unfold adr; rw [if_neg (by omega)]
theorem adr_lt {sz : Nat} {pre : Int → Nat} {a : Int} (h : a < 92) : adr sz pre a = pre a := by unfold adr; rw [if_pos h]
theorem rfv_ref {sz : Nat} {pre : Int → Nat} {a : Int} (h : a ≠ 0) : rfv sz pre a = .ref (adr sz pre a) := by unfold rfv; rw [if_neg h]
theorem adr_ne {sz : Nat} {pre : Int → Nat} (hpre : ∀ a, 0 < a → a < 92 → pre a < sz) {a b : Int} (ha : 92 ≤ a) (hb : 0 < b) (h : b ≠ a) : adr sz pre b ≠ adr sz pre a := by
  rw [adr_ge ha]
  by_cases hb2 : b < 92
  · rw [adr_lt hb2]; have := hpre b hb hb2; omega
  · rw [adr_ge (by omega)]; omega
theorem aR.kept {s0 : State} {pre : Int → Nat} {a t n : Int} {f : Int → Int} {H H1 : Heap} (h : aR s0 pre a t n f H) (e : H1[adr s0.heap.size pre a]? = H[adr s0.heap.size pre a]?) : aR s0 pre a t n f H1 := by
  unfold aR at h ⊢
  rw [e]; exact h
theorem cR.kept {s0 : State} {pre : Int → Nat} {dC : Nat → ClassId} {dI : Nat → Nat → Nat} {a t n : Int} {f : Int → Int} {H H1 : Heap} (h : cR s0 pre dC dI a t n f H) (e : H1[adr s0.heap.size pre a]? = H[adr s0.heap.size pre a]?) : cR s0 pre dC dI a t n f H1 :=
  ⟨fun h1 h2 => ⟨(h.1 h1 h2).1.kept e, (h.1 h1 h2).2⟩, fun h1 h2 => ⟨(h.2 h1 h2).1, (h.2 h1 h2).2.1, (h.2 h1 h2).2.2.1, (h.2 h1 h2).2.2.2.kept e⟩⟩
theorem nx_mst (m : Mem) (a k v : Int) : nx (mst m a k v) = nx m := rfl
theorem sl_mst (m : Mem) (a k v : Int) : sl (mst m a k v) = sl m := rfl
theorem tg_mst (m : Mem) (a k v b : Int) : tg (mst m a k v) b = tg m b := rfl
theorem ln_mst (m : Mem) (a k v b : Int) : ln (mst m a k v) b = ln m b := rfl
theorem vl_mst (m : Mem) (a k v b j : Int) : vl (mst m a k v) b j = if b = a ∧ j = k then v else vl m b j := rfl
theorem nx_mal (m : Mem) (t n : Int) : nx (mal m t n) = nx m + 1 := rfl
theorem sl_mal (m : Mem) (t n : Int) : sl (mal m t n) = sl m + n := rfl
theorem tg_mal (m : Mem) (t n b : Int) : tg (mal m t n) b = if b = nx m then t else tg m b := rfl
theorem ln_mal (m : Mem) (t n b : Int) : ln (mal m t n) b = if b = nx m then n else ln m b := rfl
theorem vl_mal (m : Mem) (t n b j : Int) : vl (mal m t n) b j = if b = nx m then 0 else vl m b j := rfl
theorem nx_mcp (m : Mem) (s sp d dp n : Int) : nx (mcp m s sp d dp n) = nx m := rfl
theorem sl_mcp (m : Mem) (s sp d dp n : Int) : sl (mcp m s sp d dp n) = sl m := rfl
theorem tg_mcp (m : Mem) (s sp d dp n b : Int) : tg (mcp m s sp d dp n) b = tg m b := rfl
theorem ln_mcp (m : Mem) (s sp d dp n b : Int) : ln (mcp m s sp d dp n) b = ln m b := rfl
theorem vl_mcp (m : Mem) (s sp d dp n b j : Int) : vl (mcp m s sp d dp n) b j = if b = d ∧ dp ≤ j ∧ j < dp + n then vl m s (sp + (j - dp)) else vl m b j := rfl
/-- one cell is written -/
theorem RP.put {s0 : State} {pre : Int → Nat} {dC : Nat → ClassId} {dI : Nat → Nat → Nat} {m : Mem} {H H1 : Heap} (hpre : ∀ a, 0 < a → a < 92 → pre a < s0.heap.size) (h : RP s0 pre dC dI m H) {a k v : Int} (ha : 92 ≤ a)
    (hz : H1.size = H.size) (ho : ∀ q, q ≠ adr s0.heap.size pre a → H1[q]? = H[q]?) (hc : cR s0 pre dC dI a (tg m a) (ln m a) (fun j => if j = k then v else vl m a j) H1) : RP s0 pre dC dI (mst m a k v) H1 := by
  obtain ⟨h1, h2, h3, h4, h5⟩ := h
  refine ⟨h1, by rw [hz]; exact h2, fun q hq => ?_, h4, fun b hb1 hb2 => ?_⟩
  · rw [ho q (by rw [adr_ge ha]; omega)]; exact h3 q hq
  · by_cases e : b = a
    · subst e
      have : vl (mst m b k v) b = fun j => if j = k then v else vl m b j := by
        funext j; rw [vl_mst]; simp
      rw [tg_mst, ln_mst, this]; exact hc
    · have : vl (mst m a k v) b = vl m b := by
        funext j; rw [vl_mst]; simp [e]
      rw [tg_mst, ln_mst, this]
      exact (h5 b hb1 hb2).kept (ho _ (adr_ne hpre ha hb1 e))
/-- one cell is made -/
theorem RP.new {s0 : State} {pre : Int → Nat} {dC : Nat → ClassId} {dI : Nat → Nat → Nat} {m : Mem} {H H1 : Heap} (hpre : ∀ a, 0 < a → a < 92 → pre a < s0.heap.size) (h : RP s0 pre dC dI m H) {t n : Int} (hz : H1.size = H.size + 1) (ho : ∀ q, q < H.size → H1[q]? = H[q]?) (hc : cR s0 pre dC dI (nx m) t n (fun _ => 0) H1) : RP s0 pre dC dI (mal m t n) H1 := by
  obtain ⟨h1, h2, h3, h4, h5⟩ := h
  refine ⟨by rw [nx_mal]; omega, by rw [nx_mal, hz, h2]; omega, fun q hq => ?_, fun a ha => ?_, fun b hb1 hb2 => ?_⟩
  · rw [ho q (by omega)]; exact h3 q hq
  · rw [tg_mal] at ha ⊢
    rw [nx_mal]
    split at ha
    · refine ⟨by omega, by omega, Or.inl (by omega)⟩
    · rename_i h9
      rw [if_neg h9]
      obtain ⟨z1, z2, z3⟩ := h4 a ha
      exact ⟨z1, by omega, z3⟩
  · rw [nx_mal] at hb2
    rw [tg_mal, ln_mal]
    by_cases e : b = nx m
    · have : vl (mal m t n) b = fun _ => 0 := by
        funext j; rw [vl_mal, if_pos e]
      rw [if_pos e, if_pos e, this, e]; exact hc
    · have : vl (mal m t n) b = vl m b := by
        funext j; rw [vl_mal, if_neg e]
      rw [if_neg e, if_neg e, this]
      refine (h5 b hb1 (by omega)).kept (ho _ ?_)
      by_cases hb3 : b < 92
      · rw [adr_lt hb3]; have := hpre b hb1 hb3; omega
      · rw [adr_ge (by omega)]; omega
theorem RP.at_new {s0 : State} {pre : Int → Nat} {dC : Nat → ClassId} {dI : Nat → Nat → Nat} {m : Mem} {H : Heap} (h : RP s0 pre dC dI m H) : H.size = adr s0.heap.size pre (nx m) ∧ rfv s0.heap.size pre (nx m) = .ref H.size := by
  obtain ⟨h1, h2, -⟩ := h
  have e : H.size = adr s0.heap.size pre (nx m) := by rw [adr_ge h1]; exact h2
  exact ⟨e, by rw [rfv_ref (by omega), e]⟩
theorem RP.big {s0 : State} {pre : Int → Nat} {dC : Nat → ClassId} {dI : Nat → Nat → Nat} {m : Mem} {H : Heap} (h : RP s0 pre dC dI m H) {a : Int} (h1 : 1000 ≤ tg m a) : 92 ≤ a := by
  obtain ⟨-, -, -, h4, -⟩ := h
  obtain ⟨-, -, q | q | q | q⟩ := h4 a (by omega)
  · exact q
  all_goals omega
theorem RP.mine {s0 : State} {pre : Int → Nat} {dC : Nat → ClassId} {dI : Nat → Nat → Nat} {m : Mem} {H : Heap} (h : RP s0 pre dC dI m H) {a : Int} (h1 : 0 < tg m a) (h2 : tg m a < 100) (h3 : tg m a ≠ 31) : 92 ≤ a := by
  obtain ⟨-, -, -, h4, -⟩ := h
  obtain ⟨-, -, q | q | q | q⟩ := h4 a (by omega)
  · exact q
  all_goals omega
