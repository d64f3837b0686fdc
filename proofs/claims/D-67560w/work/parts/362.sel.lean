/-! private methods of an abstract class -/
set_option maxRecDepth 100000
set_option maxHeartbeats 4000000
theorem sel_private {C : String} {y x z : MethodName} {s : State} {args : Array Value} {n : Nat} (hy : y.cls ≠ "java/lang/invoke/MethodHandle" ∧ y.cls ≠ "java/lang/invoke/VarHandle") (hins : (Cond.instantiable C n).before args s = true) (hpriv : (Cond.privateMethod y).before args s = true) (hinst : (Cond.instanceMethod y).before args s = true)
    (ho : (Cond.selects C x z).before args s = true) (hz : z.cls = y.cls) : (Cond.selects C y y).before args s = true := by
  obtain ⟨c, k, hc, hk, -, -⟩ := Cond.instantiable_spec hins
  obtain ⟨mk, methM, hnamed, hmethM, -, -⟩ := Cond.instanceMethod_spec hinst
  have hfound : s.methodFound? y.cls y.name y.desc = some mk := State.methodFound?_of_named hnamed hy
  have hsel : selectMethod {} s.vm c mk = .method mk := selectMethod_private hmethM (Cond.privateMethod_at hpriv mk methM hnamed hmethM)
  have hni : (s.vm.classes[mk.cls]?).any (!·.isInterface) = true := by
    simp only [Cond.before, Cond.holds, Cond.value, hc] at ho
    cases hf : s.methodFound? x.cls x.name x.desc with
    | none => simp [hf] at ho
    | some r =>
      cases hn : s.methodNamed? z with
      | none => simp [hf, hn] at ho
      | some m =>
        have e1 := findClass_of_methodNamed hn
        have e2 := findClass_of_methodNamed hnamed
        rw [hz] at e1
        have e3 : mk.cls = m.cls := Option.some.inj (e2.symm.trans e1)
        rw [e3]
        simp only [hf, hn] at ho
        cases hs : selectMethod {} s.vm c r with
        | method m' => simp [hs] at ho; simpa using ho.2
        | _ => simp [hs] at ho
  simp only [Cond.before, Cond.holds, Cond.value, hc, hfound, hnamed, hsel]
  simpa using hni
def sxT : List MethodName := [⟨"PathStore$Text", "character", "(LPathStore$Row;I)V"⟩, ⟨"PathStore$Text", "units", "(LPathStore$Row;I)V"⟩, ⟨"PathStore$Text", "four", "(I)I"⟩]
theorem sx_words : (∀ y ∈ sxT, Cond.privateMethod y ∈ lw_tbl ∧ Cond.instanceMethod y ∈ lw_tbl) ∧ Cond.selects "PathStore$Reader" ⟨"PathStore$Text", "peek", "()I"⟩ ⟨"PathStore$Text", "peek", "()I"⟩ ∈ lw_tbl ∧ Cond.selects "PathStore$Compiler" ⟨"PathStore$Text", "peek", "()I"⟩ ⟨"PathStore$Text", "peek", "()I"⟩ ∈ lw_tbl := by decide +kernel
theorem sx_at {s : State} {args : Array Value} (hts : ∀ w ∈ lw_tbl, w.before args s = true) : ∀ w ∈ selX, w.before args s = true := by
  obtain ⟨h1, h2, h3⟩ := sx_words
  have i1 := hts _ (ob_inst 4 (by decide))
  have i2 := hts _ (ob_inst 5 (by decide))
  have k1 : ∀ y ∈ sxT, y.cls = "PathStore$Text" → (Cond.selects "PathStore$Reader" y y).before args s = true ∧ (Cond.selects "PathStore$Compiler" y y).before args s = true := fun y hy e => ⟨sel_private (by rw [e]; decide) i1 (hts _ (h1 y hy).1) (hts _ (h1 y hy).2) (hts _ h2) e.symm, sel_private (by rw [e]; decide) i2 (hts _ (h1 y hy).1) (hts _ (h1 y hy).2) (hts _ h3) e.symm⟩
  intro w hw
  simp only [selX, List.mem_cons, List.not_mem_nil, or_false] at hw
  rcases hw with rfl | rfl | rfl | rfl | rfl | rfl
  · exact (k1 _ (by decide) rfl).1
  · exact (k1 _ (by decide) rfl).2
  · exact (k1 _ (by decide) rfl).1
  · exact (k1 _ (by decide) rfl).2
  · exact (k1 _ (by decide) rfl).1
  · exact (k1 _ (by decide) rfl).2
