/-! what the tables must say -/
set_option maxRecDepth 100000
abbrev enY (en : mE) : MethodName := en.2.1
abbrev enB (en : mE) : ByteArray := en.2.2.1
abbrev enL (en : mE) : Nat := en.2.2.2.1
abbrev enR (en : mE) : Option FieldType := en.2.2.2.2.1
abbrev enK (en : mE) : Nat := en.2.2.2.2.2.1
abbrev enN (en : mE) : Nat := en.2.2.2.2.2.2.1
abbrev enI (en : mE) : Nat := en.2.2.2.2.2.2.2.1
abbrev enH (en : mE) : List (Nat × Nat × Nat × Nat) := en.2.2.2.2.2.2.2.2
/-- selections of private methods of an abstract class -/
def selX : List Cond := [.selects "PathStore$Reader" ⟨"PathStore$Text", "character", "(LPathStore$Row;I)V"⟩ ⟨"PathStore$Text", "character", "(LPathStore$Row;I)V"⟩, .selects "PathStore$Compiler" ⟨"PathStore$Text", "character", "(LPathStore$Row;I)V"⟩ ⟨"PathStore$Text", "character", "(LPathStore$Row;I)V"⟩,
  .selects "PathStore$Reader" ⟨"PathStore$Text", "units", "(LPathStore$Row;I)V"⟩ ⟨"PathStore$Text", "units", "(LPathStore$Row;I)V"⟩, .selects "PathStore$Compiler" ⟨"PathStore$Text", "units", "(LPathStore$Row;I)V"⟩ ⟨"PathStore$Text", "units", "(LPathStore$Row;I)V"⟩,
  .selects "PathStore$Reader" ⟨"PathStore$Text", "four", "(I)I"⟩ ⟨"PathStore$Text", "four", "(I)I"⟩, .selects "PathStore$Compiler" ⟨"PathStore$Text", "four", "(I)I"⟩ ⟨"PathStore$Text", "four", "(I)I"⟩]
def FLw (c idx t f : Nat) (own1 : Bool) : Prop := ∃ ref, (Cond.fieldLink (cNm c) idx ref (TT t f).2.1 (TT t f).2.2.1 ∈ lw_all ∨ (own1 = false ∧ ∃ host, Cond.fieldLinkNest (cNm c) idx ref (TT t f).2.1 (TT t f).2.2.1 host ∈ lw_tbl)) ∧ (ref = (TT t f).1 ∨ Cond.sameField ref (TT t f).1 (TT t f).2.1 (TT t f).2.2.1 ∈ lw_all)
/-- the part of a field's entry that is counted -/
def FOKb (c : Nat) (q : Nat × Nat × Nat × Nat × Nat) (t : Nat) : Bool := obL.contains t && decide (0 < t) && decide (t < 100) && decide (q.2.1 < (fTy t).length) && ((fTy t).getD q.2.1 0 == q.1) && ((TT t q.2.1).2.2.2 == (q.2.2.2.2 == 1)) && (q.1 != 0 || c == 31 || (tyF t q.2.1 == .int)) && (c == 31 || t != 31) && (q.2.2.2.2 == 0 || (TT t q.2.1).1 == cNm t)
def FOK (c idx : Nat) (q : Nat × Nat × Nat × Nat × Nat) : Prop := (FOKb c q q.2.2.1 = true ∧ FLw c idx q.2.2.1 q.2.1 (q.2.2.1 == c)) ∧ (FOKb c q q.2.2.2.1 = true ∧ FLw c idx q.2.2.2.1 q.2.1 (q.2.2.1 == c))
def VOK (c idx : Nat) (en : mE) (t : Nat) : Prop := obL.contains t = true ∧ (0 < t ∧ t < 100) ∧ Cond.instanceMethod (enY en) ∈ lw_all ∧ ((Cond.methodLink (cNm c) idx (enY en) ∈ lw_all ∧ Cond.selects (cNm t) (enY en) (enY en) ∈ lw_all) ∨ (enH en = [] ∧ ∃ x : MethodName, Cond.methodLink (cNm c) idx x ∈ lw_all ∧ Cond.sameMethod x.cls (enY en).cls x.name x.desc ∈ lw_all ∧ enY en = ⟨(enY en).cls, x.name, x.desc⟩ ∧ (Cond.selects (cNm t) x (enY en) ∈ lw_all ∨ Cond.selects (cNm t) x (enY en) ∈ selX)))
def SOK (c idx : Nat) (en : mE) : Prop := Cond.static (enY en) ∈ lw_all ∧ (Cond.methodLink (cNm c) idx (enY en) ∈ lw_all ∨ (enH en = [] ∧ ∃ x : MethodName, Cond.methodLink (cNm c) idx x ∈ lw_all ∧ Cond.sameMethod x.cls (enY en).cls x.name x.desc ∈ lw_all ∧ enY en = ⟨(enY en).cls, x.name, x.desc⟩))
def COK (c idx : Nat) (en : mE) : Prop := Cond.instanceMethod (enY en) ∈ lw_all ∧ (Cond.methodLink (cNm c) idx (enY en) ∈ lw_all ∨ ∃ host, Cond.methodLinkNest (cNm c) idx (enY en) host ∈ lw_tbl) ∧ (enY en).name = "<init>" ∧ enR en = none ∧ enH en = []
def DOK (c idx : Nat) (en : mE) (t na : Nat) : Prop := obL.contains t = true ∧ (0 < t ∧ t < 100) ∧ Cond.instanceMethod (enY en) ∈ lw_all ∧ enH en = [] ∧ ∃ x : MethodName, Cond.methodLink (cNm c) idx x ∈ lw_all ∧ Cond.selects (cNm t) x (enY en) ∈ lw_all ∧ Cond.declares x ∈ lw_tbl ∧ Cond.interfaceMethod x.cls x.cls x.name x.desc ∈ lw_tbl ∧ Cond.publicMethod (enY en) ∈ lw_tbl ∧ Cond.unhidden (cNm t) x.name x.desc ∈ lw_tbl ∧ Cond.castable (cNm t) x.cls ∈ lw_tbl ∧ (x.cls ≠ "java/lang/invoke/MethodHandle" ∧ x.cls ≠ "java/lang/invoke/VarHandle") ∧ (parseMethodDescriptor x.desc).map (fun d => d.parameters.length) = some na
/-- an entry of a call -/
def IOK (c idx : Nat) (q : Nat × Nat × Nat × Nat × Nat) : Prop := match q with
  | (0, k, na, t1, t2) => ∃ en, mI k = some en ∧ enN en = na ∧ VOK c idx en t1 ∧ VOK c idx en t2
  | (5, k, na, t1, t2) => ∃ en, mI k = some en ∧ enN en = na ∧ COK c idx en ∧ (0 < t1 ∧ t1 < 100) ∧ (0 < t2 ∧ t2 < 100)
  | (1, k, na, _) => ∃ en, mI k = some en ∧ enN en = na ∧ SOK c idx en
  | (2, _) => Cond.methodLink (cNm c) idx Lib.objectInit ∈ lw_all
  | (3, f, na, _) => ∀ z ∈ rDt f, ∃ en, mI z.2 = some en ∧ enN en = na ∧ DOK c idx en z.1 na
  | (4, _) => Cond.methodLink (cNm c) idx arraycopyName ∈ lw_all
  | (6, _) => Cond.methodLink (cNm c) idx Lib.Math.max.name ∈ lw_all
  | (7, _) => Cond.methodLink (cNm c) idx Lib.Math.min.name ∈ lw_all
  | (8, _) => Cond.methodLink (cNm c) idx Lib.MathLoose.max_long.x ∈ lw_all
  | (9, _) => Cond.methodLink (cNm c) idx Lib.MathLoose.min_long.x ∈ lw_all
  | _ => True
def NOK (c idx : Nat) (q : Nat × Nat × Nat) : Prop := match q with
  | (0, t, n) => obL.contains t = true ∧ (0 < t ∧ t < 100) ∧ n = (fTy t).length ∧ Cond.classLink (cNm c) idx (cNm t) ∈ lw_all ∧ Cond.instantiable (cNm t) (fTy t).length ∈ lw_all ∧ Cond.initialized (cNm t) ∈ lw_all
  | (1, x, n) => n = 6 ∧ Cond.classLink (cNm c) idx (eNm x) ∈ lw_all ∧ (200 < x ∧ x < 207)
  | _ => True
def AOK (c idx : Nat) (q : Nat) : Prop := (110 < q ∧ q < 119) ∧ Cond.classLink (cNm c) idx (elC q) ∈ lw_all ∧ Cond.arrayOver (elF q) ∈ lw_tbl
def KOK (c idx : Nat) (q : Nat × Int) : Prop := match q with
  | (0, v) => Cond.constant (cNm c) idx (Int32.ofInt v) ∈ lw_all
  | (1, a) => 0 < a ∧ a < 92
  | _ => True
def LOK (c idx : Nat) (v : Int) : Prop := Cond.constantLong (cNm c) idx (Int64.ofInt v) ∈ lw_all
/-- classes that are apart -/
def ncL : List (String × String) := (["PathStore$Name", "PathStore$Index", "PathStore$All", "PathStore$Filter", "PathStore$Slice"].flatMap fun a => ["PathStore$Name", "PathStore$Index"].filterMap fun b => if a = b then none else some (a, b))
def OOK (c idx t : Nat) : Prop := (t = 17 ∨ t = 18) ∧ Cond.classLink (cNm c) idx (cNm t) ∈ lw_all
/-- a method -/
def MOKb (en : mE) : Bool := plainName (enY en).cls && ((enY en).cls != "java/lang/invoke/MethodHandle") && ((enY en).cls != "java/lang/invoke/VarHandle") && ((parseMethodDescriptor (enY en).desc).map (fun d => d.parameters.length) == some (enN en)) && decide (enL en ≤ 21) && (cNm en.1 == (enY en).cls) && rkOk (enK en) (enR en) && ((enI en == 1) == ((enY en).name == "<init>"))
/-- the handlers of a method -/
def hOK (c : Nat) (zs qs : List (Nat × Nat × Nat × Nat)) : Prop := match zs, qs with
  | [], [] => True
  | z :: zs, q :: qs => (q.1 = z.1 ∧ q.2.1 = z.2.1 ∧ q.2.2.2 = z.2.2.1 ∧ z.2.2.2 ≠ 0 ∧ Cond.classLink (cNm c) z.2.2.2 (eNm q.2.2.1) ∈ lw_all ∧ (200 < q.2.2.1 ∧ q.2.2.1 < 207)) ∧ hOK c zs qs
  | _, _ => False
def MOK (k : Nat) (en : mE) : Prop := MOKb en = true ∧ hOK en.1 (enH en) (rHt k) ∧ Cond.initialized (enY en).cls ∈ lw_all ∧ (enH en = [] → Cond.code (enY en) (enB en) (enL en) (enR en) ∈ lw_all) ∧ (enH en ≠ [] → Cond.codeWith (enY en) (enB en) (enL en) (enR en) (enH en) ∈ lw_all)
def wP (w : Cond) : Prop := w ∈ lw_all ∨ (w ∈ lw_tbl ∧ ((∃ a b, w = .castable a b) ∨ ∃ x, w = .declares x))
/-- a place where an exception is made and thrown -/
def XOK (k pc x : Nat) : Prop := ∃ en ik ic, mI k = some en ∧ decode (enB en) pc = .ok (.new ik, 3) ∧ decode (enB en) (pc + 3) = .ok (.dup, 1) ∧ decode (enB en) (pc + 4) = .ok (.invokespecial ic, 3) ∧ decode (enB en) (pc + 7) = .ok (.athrow, 1) ∧ (∀ w ∈ vx_at0 (cNm en.1) ic (eNm x) ["java/lang/RuntimeException", "java/lang/Exception"], wP w ∧ vx_ot w = true) ∧ Bundle.fit (eNm x) = true ∧ Cond.initialized (eNm x) ∈ lw_all
