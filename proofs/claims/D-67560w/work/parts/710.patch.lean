/-! patches: what a step does to a value -/
set_option maxRecDepth 100000
/-- a value: its index (0 where there is none), what it is, what is in it -/
abbrev Vl : Type := Nat × ND × Fo
/-- tokens of a pointer, behind a slash -/
def pTk : List Int → List Int → Option (List (List Int))
  | acc, [] => some [acc]
  | acc, [c] => if c = 47 then some [acc, []] else if c = 126 then none else some [acc ++ [c]]
  | acc, c :: x :: r => if c = 47 then (pTk [] (x :: r)).map (acc :: ·) else if c = 126 then (if x = 48 then pTk (acc ++ [126]) r else if x = 49 then pTk (acc ++ [47]) r else none) else pTk (acc ++ [c]) (x :: r)
def ptr : List Int → Option (List (List Int))
  | [] => some []
  | c :: r => if c = 47 then pTk [] r else none
def digs : List Int → Nat → Option Nat
  | [], v => some v
  | c :: r, v => if 48 ≤ c ∧ c ≤ 57 then digs r (10 * v + (c - 48).toNat) else none
/-- the index that a token is -/
def ixT (tk : List Int) : Option Nat := if tk = [] ∨ (1 < tk.length ∧ tk.head? = some 48) then none else digs tk 0
/-- what stands left of a place, there, and right of it -/
abbrev Sp : Type := Fo × Nat × ND × Fo × Fo
def spI : Nat → Fo → Option Sp
  | _, .leaf => none
  | 0, .inner i d _ l r => some (.leaf, i, d, l, r)
  | n + 1, .inner i d u l r => (spI n r).map (fun x => (.inner i d u l x.1, x.2))
def spN (k : List Int) : Fo → Option Sp
  | .leaf => none
  | .inner i d u l r => if d.2.2.2 = k then some (.leaf, i, d, l, r) else (spN k r).map (fun x => (.inner i d u l x.1, x.2))
/-- the first n of them, and the others -/
def cutI : Nat → Fo → Fo × Fo
  | 0, F => (.leaf, F)
  | _ + 1, .leaf => (.leaf, .leaf)
  | n + 1, .inner i d u l r => (.inner i d u l (cutI n r).1, (cutI n r).2)
/-- around a value: what it is in, what stands before it, its name, what stands behind it -/
abbrev Fr : Type := Nat × ND × Fo × List Int × Fo
abbrev noN (d : ND) : ND := (d.1, d.2.1, d.2.2.1, [])
abbrev wiN (d : ND) (k : List Int) : ND := (d.1, d.2.1, d.2.2.1, k)
/-- a value among others -/
abbrev amg (A : Fo) (v : Vl) (k : List Int) (B : Fo) : Fo := fapp A (.inner v.1 (wiN v.2.1 k) () v.2.2 B)
def plug : List Fr → Vl → Vl
  | [], v => v
  | f :: k, v => plug k (f.1, f.2.1, amg f.2.2.1 v f.2.2.2.1 f.2.2.2.2)
def fr1 (v : Vl) (x : Sp) : Fr × Vl := ((v.1, v.2.1, x.1, x.2.2.1.2.2.2, x.2.2.2.2), (x.2.1, noN x.2.2.1, x.2.2.2.1))
/-- where one token leads -/
def go1 (tk : List Int) (v : Vl) : Option (Fr × Vl) :=
  if v.2.1.1 = 6 then (spN tk v.2.2).map (fr1 v)
  else if v.2.1.1 = 5 then (match ixT tk with
    | none => none
    | some i => (spI i v.2.2).map (fr1 v))
  else none
def goZ : List (List Int) → List Fr → Vl → Option (List Fr × Vl)
  | [], k, v => some (k, v)
  | tk :: tks, k, v => match go1 tk v with
    | none => none
    | some (f, w) => goZ tks (f :: k) w
/-- a value comes in at a token of what was found: the kids -/
def ad1 (tk : List Int) (w v : Vl) : Option Fo :=
  if v.2.1.1 = 6 then (match spN tk v.2.2 with
    | some x => some (amg x.1 w x.2.2.1.2.2.2 x.2.2.2.2)
    | none => some (amg v.2.2 w tk foN))
  else if v.2.1.1 = 5 then (match (if tk = [45] then some (cntF v.2.2) else ixT tk) with
    | none => none
    | some i => if i ≤ cntF v.2.2 then some (amg (cutI i v.2.2).1 w [] (cutI i v.2.2).2) else none)
  else none
def adZ (tks : List (List Int)) (w v : Vl) : Option Vl := match tks.reverse with
  | [] => some w
  | tk :: rest => match goZ rest.reverse [] v with
    | none => none
    | some (k, u) => (ad1 tk w u).map (fun l => plug k (u.1, u.2.1, l))
def rmZ (tks : List (List Int)) (v : Vl) : Option Vl := match goZ tks [] v with
  | some (f :: k, _) => some (plug k (f.1, f.2.1, fapp f.2.2.1 f.2.2.2.2))
  | _ => none
def rpZ (tks : List (List Int)) (w v : Vl) : Option Vl := (goZ tks [] v).map (fun x => plug x.1 w)
def wOp : List Int := [111, 112]
def wPath : List Int := [112, 97, 116, 104]
def wVal : List Int := [118, 97, 108, 117, 101]
def wFrom : List Int := [102, 114, 111, 109]
def wAdd : List Int := [97, 100, 100]
def wRem : List Int := [114, 101, 109, 111, 118, 101]
def wRep : List Int := [114, 101, 112, 108, 97, 99, 101]
def wTst : List Int := [116, 101, 115, 116]
def wMov : List Int := [109, 111, 118, 101]
def wCop : List Int := [99, 111, 112, 121]
/-- a member that is a string -/
def strM (l : Fo) (k : List Int) : Option (List Int) := match fndF l k with
  | some (d, _) => if d.1 = 4 then some d.2.2.1 else none
  | none => none
/-- one step of a patch: o is the step, v the value -/
def pSt (o v : Vl) : Option Vl :=
  if o.2.1.1 ≠ 6 then none else match strM o.2.2 wOp, strM o.2.2 wPath with
  | some op, some path => (match ptr path with
    | none => none
    | some tks =>
      if op = wAdd then (match fndF o.2.2 wVal with
        | none => none
        | some (d, l) => adZ tks (0, noN d, l) v)
      else if op = wRem then rmZ tks v
      else if op = wRep then (match fndF o.2.2 wVal with
        | none => none
        | some (d, l) => rpZ tks (0, noN d, l) v)
      else if op = wTst then (match fndF o.2.2 wVal with
        | none => none
        | some (d, l) => match goZ tks [] v with
          | none => none
          | some (_, w) => if smV w.2.1 w.2.2 d l then some v else none)
      else if op = wMov ∨ op = wCop then (match strM o.2.2 wFrom with
        | none => none
        | some fr => match ptr fr with
          | none => none
          | some ftk => match goZ ftk [] v with
            | none => none
            | some (_, w) =>
              if op = wCop then adZ tks w v
              else if path = fr then some v
              else if fr ++ [47] <+: path then none
              else match rmZ ftk v with
                | none => none
                | some v' => adZ tks w v')
      else none)
  | _, _ => none
