/-! what a query chooses: nodes with what is around them, and the work done -/
set_option maxRecDepth 100000
set_option maxHeartbeats 4000000
/-- a value: where the component has it, the twin's index, what it is, its kids, which kid it is -/
abbrev Nk : Type := Int × Nat × ND × Fo × Nat
/-- a node: a value and those around it, the root at the end -/
abbrev Nd : Type := List Nk
/-- kids whose first begins at p -/
def kdL (ob : Bool) : Fo → Int → Nat → List Nk
  | .leaf, _, _ => []
  | .inner i d _ l r, p, k => (p + ((if ob then nmB d.2.2.2 else []).length : Int), i, d, l, k) :: kdL ob r (p + ((if ob then nmB d.2.2.2 else []).length : Int) + (enV d l).length) (k + 1)
def kdS (x : Nk) : List Nk := kdL (x.2.2.1.1 == 6) x.2.2.2.1 (x.1 + 3) 0
/-- what takes work: done so far, then done; none: too much -/
abbrev EV (α : Type) : Type := Int → Option (α × Int)
section
variable {α β : Type}
def eR (a : α) : EV α := fun w => some (a, w)
def eB (x : EV α) (f : α → EV β) : EV β := fun w => match x w with
  | none => none
  | some (a, w') => f a w'
def eT : EV Unit := fun w => if 10000 < w + 1 then none else some ((), w + 1)
theorem eB_some {x : EV α} {f : α → EV β} {a : α} {w w' : Int} (h : x w = some (a, w')) : eB x f w = f a w' := by unfold eB; rw [h]
theorem eB_none {x : EV α} {f : α → EV β} {w : Int} (h : x w = none) : eB x f w = none := by unfold eB; rw [h]
theorem eT_1 {w : Int} (h : ¬ 10000 < w + 1) : eT w = some ((), w + 1) := by unfold eT; rw [if_neg h]
theorem eT_0 {w : Int} (h : 10000 < w + 1) : eT w = none := by unfold eT; rw [if_pos h]
end
/-- one node more -/
def eA (x : Nd) : EV (List Nd) := eB eT fun _ => eR [x]
/-- one after the other -/
def eL {α : Type} (f : α → EV (List Nd)) : List α → EV (List Nd)
  | [] => eR []
  | x :: xs => eB (f x) fun a => eB (eL f xs) fun b => eR (a ++ b)
/-- some of the kids of x: each is tried -/
def eF (f : Nd → EV Bool) (x : Nd) : List Nk → EV (List Nd)
  | [] => eR []
  | c :: cs => eB eT fun _ => eB (f (c :: x)) fun b => eB (if b then eA (c :: x) else eR []) fun a => eB (eF f x cs) fun e => eR (a ++ e)
/-- kids, and what is below them, of x -/
def dwF (f : Nd → EV (List Nd)) : Nd → Bool → Fo → Int → Nat → EV (List Nd)
  | _, _, .leaf, _, _ => eR []
  | x, ob, .inner i d _ l r, p, k => eB (eB eT fun _ => eB (f ((p + ((if ob then nmB d.2.2.2 else []).length : Int), i, d, l, k) :: x)) fun a => eB (dwF f ((p + ((if ob then nmB d.2.2.2 else []).length : Int), i, d, l, k) :: x) (d.1 == 6) l (p + ((if ob then nmB d.2.2.2 else []).length : Int) + 3) 0) fun b => eR (a ++ b)) fun a => eB (dwF f x ob r (p + ((if ob then nmB d.2.2.2 else []).length : Int) + (enV d l).length) (k + 1)) fun b => eR (a ++ b)
def dwn (f : Nd → EV (List Nd)) : Nd → EV (List Nd)
  | [] => eR []
  | c :: x => eB eT fun _ => eB (f (c :: x)) fun a => eB (dwF f (c :: x) (c.2.2.1.1 == 6) c.2.2.2.1 (c.1 + 3) 0) fun b => eR (a ++ b)
/-- numbers from k on, by step, before to (behind to if step < 0) -/
def slU : Nat → Int → Int → Int → List Int
  | 0, _, _, _ => []
  | n + 1, k, s, z => if (0 < s ∧ k < z) ∨ (s < 0 ∧ z < k) then k :: slU n (k + s) s z else []
/-- a bound of a slice -/
def slB (v n lo hi : Int) : Int := max lo (min hi (if v < 0 then v + n else v))
/-- which elements of n a slice is -/
def slI (us : List Int) (n : Int) : List Int :=
  let hs := gi us 0
  let s := gi us 1
  let he := gi us 2
  let e := gi us 3
  let st := gi us 4
  if st = 0 then [] else if 0 < st then slU (n.toNat + 1) (if hs ≠ 0 then slB s n 0 n else 0) st (if he ≠ 0 then slB e n 0 n else n)
  else slU (n.toNat + 1) (if hs ≠ 0 then slB s n (-1) (n - 1) else n - 1) st (if he ≠ 0 then slB e n (-1) (n - 1) else -1)
/-- what a comparable is: a value, or nothing -/
abbrev VR : Type := Option (ND × Fo)
def vNum (n : Int) : VR := some ((3, n, [], []), foN)
/-- how long -/
def vLen (v : VR) : VR := match v with
  | none => none
  | some (d, l) => if d.1 < 4 then none else if d.1 = 4 then vNum (chU d.2.2.1).length else vNum (cntF l)
def vSm (a b : VR) : Bool := match a, b with
  | none, none => true
  | some (d, l), some (d', l') => smV d l d' l'
  | _, _ => false
def vLt (a b : VR) : Bool := match a, b with
  | some (d, _), some (d', _) => if d.1 = 3 ∧ d'.1 = 3 then decide (d.2.1 < d'.2.1) else if d.1 = 4 ∧ d'.1 = 4 then decide (orC (chU d.2.2.1) (chU d'.2.2.1) < 0) else false
  | _, _ => false
def vCm (o : Int) (a b : VR) : Bool := if o = 0 then vSm a b else if o = 1 then !vSm a b else if o = 2 then vLt a b else if o = 3 then vLt a b || vSm a b else if o = 4 then vLt b a else vLt b a || vSm a b
/-- the only one -/
def vOne (xs : List Nd) : VR := match xs with
  | [(c :: _)] => some (c.2.2.1, c.2.2.2.1)
  | _ => none
/-- a kid with this name -/
def kdN (nm : List Int) : List Nk → Option Nk
  | [] => none
  | c :: cs => if c.2.2.1.2.2.2 = nm then some c else kdN nm cs
/-- one of the kids -/
def evI (c : Nk) (x : Nd) (i : Int) : EV (List Nd) := if i < 0 then eR [] else match (kdS c)[i.toNat]? with
  | none => eR []
  | some y => eA (y :: c :: x)
/-- one selector but a filter -/
def sel1 (d : ND) : Nd → EV (List Nd)
  | [] => eR []
  | c :: x =>
    if d.1 = 1 then (if c.2.2.1.1 = 6 then (match kdN d.2.2.1 (kdS c) with
      | none => eR []
      | some y => eA (y :: c :: x)) else eR [])
    else if d.1 = 2 then eL eA ((kdS c).map (· :: c :: x))
    else if d.1 = 3 then (if c.2.2.1.1 = 5 then evI c x (if d.2.1 < 0 then d.2.1 + cntF c.2.2.2.1 else d.2.1) else eR [])
    else if d.1 = 4 then (if c.2.2.1.1 = 5 then eL (evI c x) (slI d.2.2.1 (cntF c.2.2.2.1)) else eR [])
    else eR []
theorem sel1_1 {d : ND} {c : Nk} {x : Nd} (h : d.1 = 1) : sel1 d (c :: x) = if c.2.2.1.1 = 6 then (match kdN d.2.2.1 (kdS c) with
      | none => eR []
      | some y => eA (y :: c :: x)) else eR [] := by
  unfold sel1; dsimp only; rw [if_pos h]
theorem sel1_2 {d : ND} {c : Nk} {x : Nd} (h : d.1 = 2) : sel1 d (c :: x) = eL eA ((kdS c).map (· :: c :: x)) := by
  unfold sel1; dsimp only; rw [if_neg (by omega), if_pos h]
theorem sel1_3 {d : ND} {c : Nk} {x : Nd} (h : d.1 = 3) : sel1 d (c :: x) = if c.2.2.1.1 = 5 then evI c x (if d.2.1 < 0 then d.2.1 + cntF c.2.2.2.1 else d.2.1) else eR [] := by
  unfold sel1; dsimp only; rw [if_neg (show ¬ d.1 = 1 by omega), if_neg (show ¬ d.1 = 2 by omega), if_pos h]
theorem sel1_4 {d : ND} {c : Nk} {x : Nd} (h : d.1 = 4) : sel1 d (c :: x) = if c.2.2.1.1 = 5 then eL (evI c x) (slI d.2.2.1 (cntF c.2.2.2.1)) else eR [] := by
  unfold sel1; dsimp only; rw [if_neg (show ¬ d.1 = 1 by omega), if_neg (show ¬ d.1 = 2 by omega), if_neg (show ¬ d.1 = 3 by omega), if_pos h]
/-- what a query's parts do: selectors, segments, any, all, a test, a comparable, the second of two, a query -/
abbrev EvT : Type := (Nd → EV (List Nd)) × (List Nd → EV (List Nd)) × (Nd → EV Bool) × (Nd → EV Bool) × (Nd → EV Bool) × (Nd → EV VR) × (Nd → EV VR) × (Nd → EV (List Nd))
abbrev EvT.sel (x : EvT) := x.1
abbrev EvT.seg (x : EvT) := x.2.1
abbrev EvT.any (x : EvT) := x.2.2.1
abbrev EvT.all (x : EvT) := x.2.2.2.1
abbrev EvT.tst (x : EvT) := x.2.2.2.2.1
abbrev EvT.cpb (x : EvT) := x.2.2.2.2.2.1
abbrev EvT.cp2 (x : EvT) := x.2.2.2.2.2.2.1
abbrev EvT.qry (x : EvT) := x.2.2.2.2.2.2.2
/-- one selector -/
def evS (d : ND) (K : EvT) : Nd → EV (List Nd) := fun x => if d.1 = 5 then (match x with
  | [] => eR []
  | c :: y => eF K.tst (c :: y) (kdS c)) else sel1 d x
/-- one segment -/
def evG (d : ND) (K : EvT) : Nd → EV (List Nd) := fun x => if d.2.1 = 0 then K.sel x else dwn K.sel x
/-- one test -/
def evT (d : ND) (K : EvT) : Nd → EV Bool := fun x =>
  if d.1 = 30 then K.any x else if d.1 = 31 then K.all x else if d.1 = 32 then eB (K.tst x) fun b => eR (!b)
  else if d.1 = 34 then eB (K.qry x) fun xs => eR (!xs.isEmpty)
  else eB (K.cpb x) fun a => eB (K.cp2 x) fun b => eR (vCm d.2.1 a b)
/-- one comparable -/
def evC (d : ND) (K : EvT) : Nd → EV VR := fun x =>
  if d.1 = 45 ∨ d.1 = 48 then eB (K.qry x) fun xs => eR (vOne xs)
  else if d.1 = 47 then eB (K.qry x) fun xs => eR (vNum xs.length)
  else if d.1 = 46 then eB (K.cpb x) fun v => eR (vLen v)
  else eR (some (litN d, foN))
/-- a query, from its start on -/
def evQ (rt : Nd) (d : ND) (K : EvT) : Nd → EV (List Nd) := fun x => eB (eA (if d.2.1 = 0 then x else rt)) K.seg
def evX (rt : Nd) : Fo → EvT
  | .leaf => (fun _ => eR [], fun xs => eR xs, fun _ => eR false, fun _ => eR true, fun _ => eR false, fun _ => eR none, fun _ => eR none, fun _ => eR [])
  | .inner _ d _ l r => (fun x => eB (evS d (evX rt l) x) fun a => eB ((evX rt r).sel x) fun b => eR (a ++ b), fun xs => eB (eL (evG d (evX rt l)) xs) (evX rt r).seg, fun x => eB (evT d (evX rt l) x) fun b => if b then eR true else (evX rt r).any x, fun x => eB (evT d (evX rt l) x) fun b => if b then (evX rt r).all x else eR false, evT d (evX rt l), evC d (evX rt l), (evX rt r).cpb, evQ rt d (evX rt l))
