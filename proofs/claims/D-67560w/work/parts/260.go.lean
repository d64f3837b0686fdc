/-! the steps of the pure machine that call nothing -/
set_option maxRecDepth 100000
/-- what is known at the law's start -/
def G0 (s0 : State) (b0 : Addr) (pre : Int → Nat) (dC : Nat → ClassId) (dI : Nat → Nat → Nat) : Prop :=
  (∀ a, 0 < a → a < 92 → pre a < s0.heap.size) ∧ (∀ t ∈ obL, u_Kn s0 (cNm t) (TT t) (fTy t).length (dC t) (dI t)) ∧ (∀ w ∈ lw_tbl, w.before #[Value.ref b0] s0 = true) ∧
  (∀ c idx a, (idx, 1, a) ∈ rCt c → ∃ tx, vk_R (cNm c) idx tx (pre a) s0) ∧ (∀ q ∈ ncL, va_Nc q.1 q.2 s0) ∧ (∀ x y : Nat, 200 < x → x < 207 → 200 < y → y < 207 → x ≠ y → va_Nc (eNm x) (eNm y) s0) ∧
  va_Z "java/lang/String" "COMPACT_STRINGS" "Z" (.int 1) (fun q => s0.heap.size ≤ q) s0 s0.heap ∧ va_Zq "jdk/internal/util/Preconditions" "SIOOBE_FORMATTER" "Ljava/util/function/BiFunction;" (fun q => s0.heap.size ≤ q) s0 s0.heap ∧
  vx_Zq Bundle.tN "UNASSIGNED_STACK" Bundle.steD (fun q => s0.heap.size ≤ q) s0 s0.heap ∧ vx_Zq Bundle.tN "SUPPRESSED_SENTINEL" Bundle.listD (fun q => s0.heap.size ≤ q) s0 s0.heap ∧ (∀ w ∈ selX, w.before #[Value.ref b0] s0 = true)
/-- what is known in a method -/
def EM (s0 : State) (p : Program) (s : State) (mid : MethodId) (args : Array Value) (meth : Method) (c : Code) (en : mE) (mb : Mem) : Prop :=
  p.tables.exec = Jvm.exec ∧ c.code = enB en ∧ c.maxLocals = enL en ∧ meth.sig.returnType = enR en ∧ meth.locks = false ∧ (∀ w ∈ lw_all, w.before args s = true) ∧ s.vm.findClass (cNm en.1) = some mid.cls ∧ s0.WarmedH s.vm ∧ (enI en = 1 → meth.name = "<init>") ∧
  s.heap.size = s0.heap.size + (nx mb - 92).toNat ∧ (∀ q, q < s0.heap.size → s.heap[q]? = s0.heap[q]?) ∧ 92 ≤ nx mb
theorem lkN_mem {α : Type} {l : List (Nat × α)} {i : Nat} {a : α} (h : lkN l i = some a) : (i, a) ∈ l := by
  induction l with
  | nil => cases h
  | cons q r ih =>
    unfold lkN at h
    split at h
    · rename_i e; cases h; rw [← e]; exact List.mem_cons_self
    · exact List.mem_cons_of_mem _ (ih h)
theorem nG_inj {a a' : Nat} {b b' c c' : List PV} {d d' : Mem} (h : nG a b c d = some (.inl (a', b', c', d'))) : a = a' ∧ b = b' ∧ c = c' ∧ d = d' := by
  unfold nG at h; cases h; exact ⟨rfl, rfl, rfl, rfl⟩
theorem nJ_inj {a a' : Nat} {o : Int} {b b' c c' : List PV} {d d' : Mem} (h : nJ a o b c d = some (.inl (a', b', c', d'))) : (a : Int) + o = (a' : Int) ∧ b = b' ∧ c = c' ∧ d = d' := by
  unfold nJ at h
  split at h
  · rename_i h0
    obtain ⟨e1, e2, e3, e4⟩ := nG_inj h
    exact ⟨by rw [← e1]; exact (Int.toNat_of_nonneg h0).symm, e2, e3, e4⟩
  · cases h
theorem nCall_go {k : Nat} {as rest : List PV} {len : Nat} {x : Nat × List PV × List PV × Mem} (h : nCall k as rest len = some (.inl x)) : False := by
  unfold nCall nC at h; split at h <;> cases h
theorem nR_go {v : Option PV} {x : Nat × List PV × List PV × Mem} (h : nR v = some (.inl x)) : False := by unfold nR at h; cases h
theorem nT_go {v : Int} {m : Mem} {x : Nat × List PV × List PV × Mem} (h : nT v m = some (.inl x)) : False := by unfold nT at h; cases h
theorem FLw.use {s0 s : State} {b0 : Addr} {args : Array Value} {c idx t f : Nat} {o : Bool} (h : FLw c idx t f o) (hW : s0.WarmedH s.vm) (hts : ∀ w ∈ lw_all, w.before args s = true) (hw0 : ∀ w ∈ lw_tbl, w.before #[Value.ref b0] s0 = true) : ∃ ref, FLk s args (cNm c) idx ref (TT t f).2.1 (TT t f).2.2.1 ∧ (∀ x, s.fieldFound? (TT t f).1 (TT t f).2.1 (TT t f).2.2.1 = some x → s.fieldFound? ref (TT t f).2.1 (TT t f).2.2.1 = some x) ∧ (o = true → (Cond.fieldLink (cNm c) idx ref (TT t f).2.1 (TT t f).2.2.1).before args s = true) := by
  obtain ⟨ref, h1, h2⟩ := h
  refine ⟨ref, ?_, ?_, ?_⟩
  · rcases h1 with h1 | ⟨-, host, h1⟩
    · exact Or.inl (hts _ h1)
    · exact Or.inr ⟨host, mv_FN hW (hw0 _ h1)⟩
  · rcases h2 with h2 | h2
    · rw [h2]; exact fun _ h => h
    · exact fun x h => u_same (hts _ h2) x h
  · intro ho
    rcases h1 with h1 | ⟨h9, -⟩
    · exact hts _ h1
    · rw [ho] at h9; cases h9
theorem FOKb.use {c t : Nat} {q : Nat × Nat × Nat × Nat × Nat} (h : FOKb c q t = true) : t ∈ obL ∧ 0 < t ∧ t < 100 ∧ q.2.1 < (fTy t).length ∧ (fTy t).getD q.2.1 0 = q.1 ∧ ((TT t q.2.1).2.2.2 = (q.2.2.2.2 == 1)) ∧ (q.1 = 0 → c ≠ 31 → tyF t q.2.1 = .int) ∧ (c ≠ 31 → t ≠ 31) ∧ (q.2.2.2.2 ≠ 0 → (TT t q.2.1).1 = cNm t) := by
  unfold FOKb at h
  simp only [Bool.and_eq_true, Bool.or_eq_true, beq_iff_eq, bne_iff_ne, decide_eq_true_eq, List.contains_iff_mem] at h
  obtain ⟨⟨⟨⟨⟨⟨⟨⟨h1, h2⟩, h3⟩, h4⟩, h5⟩, h6⟩, h7⟩, h8⟩, h9⟩ := h
  refine ⟨h1, h2, h3, h4, h5, h6, fun e1 e2 => ?_, fun e => ?_, fun e => ?_⟩
  · rcases h7 with (h7 | h7) | h7
    · exact absurd e1 h7
    · exact absurd h7 e2
    · exact h7
  · rcases h8 with h8 | h8
    · exact absurd h8 e
    · exact h8
  · rcases h9 with h9 | h9
    · exact absurd h9 e
    · exact h9
