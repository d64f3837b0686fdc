/-! queries as they are written: what is read -/
set_option maxRecDepth 100000
set_option maxHeartbeats 4000000
abbrev ltr (c : Int) : Prop := (97 ≤ c ∧ c ≤ 122) ∨ (65 ≤ c ∧ c ≤ 90) ∨ c = 95
def pNa : Nat → (Int → Int) → Int → List Int × Int
  | 0, _, i => ([], i)
  | n + 1, p, i => if ltr (p i) ∨ dg (p i) then (p i :: (pNa n p (i + 1)).1, (pNa n p (i + 1)).2) else ([], i)
/-- letters and digits -/
def sNa (t : Int → Int) (e i : Int) : List Int × Int := pNa (e - i).toNat (pk t e) i
theorem sNa_eq (t : Int → Int) (e i : Int) : sNa t e i = if ltr (pk t e i) ∨ dg (pk t e i) then (pk t e i :: (sNa t e (i + 1)).1, (sNa t e (i + 1)).2) else ([], i) := by
  unfold sNa
  by_cases h : ltr (pk t e i) ∨ dg (pk t e i)
  · have hlt : i < e := pkf_lt (t := t) (by omega)
    rw [if_pos h, show (e - i).toNat = (e - (i + 1)).toNat + 1 by omega]
    show (if _ then _ else _) = _
    rw [if_pos h]
  · rw [if_neg h]
    cases hn : (e - i).toNat with
    | zero => rfl
    | succ n => show (if _ then _ else _) = _; rw [if_neg h]
/-- a whole number -/
def sIn (t : Int → Int) (e i : Int) : Int ⊕ (Int × Int) :=
  if ¬ dg (pk t e (nI0 t e i)) ∨ (pk t e i = 45 ∧ pk t e (nI0 t e i) = 48) then .inl (nI0 t e i) else
  if 9007199254740991 < (nDV t e (nI0 t e i)).1 then .inl i else
  .inr (if pk t e i = 45 then -(nDV t e (nI0 t e i)).1 else (nDV t e (nI0 t e i)).1, (nDV t e (nI0 t e i)).2)
abbrev QR : Type := Option (Int ⊕ (Fo × Int))
def bnd (x : QR) (f : Fo → Int → QR) : QR := match x with
  | none => none
  | some (.inl p) => some (.inl p)
  | some (.inr (F, j)) => f F j
abbrev qE (p : Int) : QR := some (.inl p)
abbrev qN (k : Nat) (v : Int) (us : List Int) (l : Fo) (j : Int) : QR := some (.inr (foC (k, v, us, []) l foN, j))
/-- a word's end, or where it breaks -/
def sWo (t : Int → Int) (e : Int) (cs : List Int) (i : Int) (f : Int → QR) : QR := match sW t e cs i with
  | .inl p => qE p
  | .inr j => f j
abbrev nb (c : Int) : Prop := dg c ∨ c = 45
/-- a slice's step, and its end -/
def sSt (t : Int → Int) (e hs s he v j : Int) : QR :=
  if pk t e (sB t e j) = 58 then (if nb (pk t e (sB t e (sB t e j + 1))) then (match sIn t e (sB t e (sB t e j + 1)) with
    | .inl p => qE p
    | .inr (w, k) => qN 4 0 [hs, s, he, v, w] foN k) else qN 4 0 [hs, s, he, v, 1] foN (sB t e j + 1)) else qN 4 0 [hs, s, he, v, 1] foN j
/-- a slice from its first colon on -/
def sSl (t : Int → Int) (e hs s i : Int) : QR :=
  if nb (pk t e (sB t e (i + 1))) then (match sIn t e (sB t e (i + 1)) with
    | .inl p => qE p
    | .inr (v, j) => sSt t e hs s 1 v j) else sSt t e hs s 0 0 (sB t e (i + 1))
abbrev cmp (c : Int) : Prop := c = 61 ∨ c = 33 ∨ c = 60 ∨ c = 62
def sOp (t : Int → Int) (e i : Int) : Int ⊕ (Int × Int) :=
  if pk t e i = 61 then (if pk t e (i + 1) = 61 then .inr (0, i + 2) else .inl (i + 1)) else
  if pk t e i = 33 then (if pk t e (i + 1) = 61 then .inr (1, i + 2) else .inl (i + 1)) else
  if pk t e i = 60 then (if pk t e (i + 1) = 61 then .inr (3, i + 2) else .inr (2, i + 1)) else
  if pk t e i = 62 then (if pk t e (i + 1) = 61 then .inr (5, i + 2) else .inr (4, i + 1)) else .inl i
/-- one name or one index, not down -/
def sg1 (d : ND) (l : Fo) : Bool := d.2.1 == 0 && (match l with
  | .inner _ k _ _ .leaf => k.1 == 1 || k.1 == 3
  | _ => false)
def sgF : Fo → Bool
  | .leaf => true
  | .inner _ d _ l r => sg1 d l && sgF r
abbrev rot (c : Int) : Int := if c = 36 then 1 else 0
abbrev qb (c : Int) : Prop := c = 36 ∨ c = 64
def cLen : List Int := [108, 101, 110, 103, 116, 104]
def cCnt : List Int := [99, 111, 117, 110, 116]
def cVal : List Int := [118, 97, 108, 117, 101]
/-- a query's segments (0), a segment (1), selectors from the bracket (2) and behind it (3), a selector (4), what is or-ed (5) and and-ed (6), a test (7), one in parentheses (8), an operand (10) -/
def sQ (t : Int → Int) (e : Int) : Nat → Nat → Nat → Bool → Int → QR
  | 0, _, _, _, _ => none
  | n + 1, mo, op, sg, i =>
    if mo = 0 then (if pk t e (sB t e i) = 46 ∨ pk t e (sB t e i) = 91 then bnd (sQ t e n 1 op sg (sB t e i)) fun S j => bnd (sQ t e n 0 op sg j) fun R k => some (.inr (fapp S R, k)) else some (.inr (foN, i)))
    else if mo = 1 then (if pk t e i = 46 then
      (if sg = false ∧ pk t e (i + 1) = 46 then
        (if pk t e (i + 2) = 91 then bnd (sQ t e n 2 op sg (i + 2)) fun L j => qN 21 1 [] L j
        else if pk t e (i + 2) = 42 then qN 21 1 [] (foC (2, 0, [], []) foN foN) (i + 3)
        else if ¬ ltr (pk t e (i + 2)) then qE (i + 2) else qN 21 1 [] (foC (1, 0, (sNa t e (i + 2)).1, []) foN foN) (sNa t e (i + 2)).2)
      else if sg = false ∧ pk t e (i + 1) = 42 then qN 21 0 [] (foC (2, 0, [], []) foN foN) (i + 2)
      else if ¬ ltr (pk t e (i + 1)) then qE (i + 1) else qN 21 0 [] (foC (1, 0, (sNa t e (i + 1)).1, []) foN foN) (sNa t e (i + 1)).2)
      else bnd (sQ t e n 2 op sg i) fun L j => qN 21 0 [] L j)
    else if mo = 2 then (if ¬ op < 16 then qE i else sQ t e n 3 (op + 1) sg (i + 1))
    else if mo = 3 then (bnd (sQ t e n 4 op sg (sB t e i)) fun S j =>
      if pk t e (sB t e j) = 93 then some (.inr (S, sB t e j + 1))
      else if sg = false ∧ pk t e (sB t e j) = 44 then bnd (sQ t e n 3 op sg (sB t e j + 1)) fun R k => some (.inr (fapp S R, k))
      else qE (sB t e j))
    else if mo = 4 then (if pk t e i = 39 ∨ pk t e i = 34 then (match sS t e (pk t e i) (i + 1) with
        | .inl p => qE p
        | .inr (us, j) => qN 1 0 us foN j)
      else if sg = false ∧ pk t e i = 42 then qN 2 0 [] foN (i + 1)
      else if sg = false ∧ pk t e i = 63 then bnd (sQ t e n 5 op false (sB t e (i + 1))) fun L j => qN 5 0 [] (foC (30, 0, [], []) L foN) j
      else if nb (pk t e i) then (match sIn t e i with
        | .inl p => qE p
        | .inr (v, j) => if sg = false ∧ pk t e (sB t e j) = 58 then sSl t e 1 v (sB t e j) else qN 3 v [] foN j)
      else if sg = false ∧ pk t e i = 58 then sSl t e 0 0 i
      else qE i)
    else if mo = 5 then (bnd (sQ t e n 6 op false i) fun B j =>
      if pk t e (sB t e j) = 124 then (if pk t e (sB t e j + 1) = 124 then bnd (sQ t e n 5 op false (sB t e (sB t e j + 2))) fun R k => some (.inr (foC (31, 0, [], []) B R, k)) else qE (sB t e j + 1))
      else qN 31 0 [] B j)
    else if mo = 6 then (bnd (sQ t e n 7 op false i) fun B j =>
      if pk t e (sB t e j) = 38 then (if pk t e (sB t e j + 1) = 38 then bnd (sQ t e n 6 op false (sB t e (sB t e j + 2))) fun R k => some (.inr (fapp B R, k)) else qE (sB t e j + 1))
      else some (.inr (B, j)))
    else if mo = 7 then (if pk t e i = 33 then
        (if pk t e (sB t e (i + 1)) = 40 then bnd (sQ t e n 8 op false (sB t e (i + 1))) fun X j => qN 32 0 [] X j
        else if qb (pk t e (sB t e (i + 1))) then bnd (sQ t e n 0 op false (sB t e (i + 1) + 1)) fun S j => qN 32 0 [] (foC (34, 0, [], []) (foC (20, rot (pk t e (sB t e (i + 1))), [], []) S foN) foN) j
        else qE (sB t e (i + 1)))
      else if pk t e i = 40 then sQ t e n 8 op false i
      else if qb (pk t e i) then (bnd (sQ t e n 0 op false (i + 1)) fun S j =>
        if cmp (pk t e (sB t e j)) then (if sgF S = true then (match sOp t e (sB t e j) with
            | .inl p => qE p
            | .inr (o, k) => bnd (sQ t e n 10 op false (sB t e k)) fun R q => qN 33 o [] (foC (45, 0, [], []) (foC (20, rot (pk t e i), [], []) S foN) R) q) else qE (sB t e j))
        else qN 34 0 [] (foC (20, rot (pk t e i), [], []) S foN) j)
      else (bnd (sQ t e n 10 op false i) fun L j => match sOp t e (sB t e j) with
            | .inl p => qE p
            | .inr (o, k) => bnd (sQ t e n 10 op false (sB t e k)) fun R q => qN 33 o [] (fapp L R) q))
    else if mo = 8 then (if ¬ op < 16 then qE i else bnd (sQ t e n 5 (op + 1) false (sB t e (i + 1))) fun L j => if pk t e (sB t e j) = 41 then qN 30 0 [] L (sB t e j + 1) else qE (sB t e j))
    else (if qb (pk t e i) then bnd (sQ t e n 0 op true (i + 1)) fun S j => qN 45 0 [] (foC (20, rot (pk t e i), [], []) S foN) j
      else if pk t e i = 39 ∨ pk t e i = 34 then (match sS t e (pk t e i) (i + 1) with
        | .inl p => qE p
        | .inr (us, j) => qN 41 0 us foN j)
      else if pk t e i = 116 then sWo t e cTru i fun j => qN 42 0 [] foN j
      else if pk t e i = 102 then sWo t e cFls i fun j => qN 43 0 [] foN j
      else if pk t e i = 110 then sWo t e cNul i fun j => qN 44 0 [] foN j
      else if pk t e i = 108 then sWo t e cLen i fun j => if pk t e j = 40 ∧ op < 16 then bnd (sQ t e n 10 (op + 1) false (sB t e (j + 1))) fun X k => (if pk t e (sB t e k) = 41 then qN 46 0 [] X (sB t e k + 1) else qE (sB t e k)) else qE j
      else if pk t e i = 99 ∨ pk t e i = 118 then sWo t e (if pk t e i = 99 then cCnt else cVal) i fun j => if pk t e j = 40 ∧ op < 16 then (if qb (pk t e (sB t e (j + 1))) then bnd (sQ t e n 0 (op + 1) false (sB t e (j + 1) + 1)) fun S k => (if pk t e (sB t e k) = 41 then qN (if pk t e i = 99 then 47 else 48) 0 [] (foC (20, rot (pk t e (sB t e (j + 1))), [], []) S foN) (sB t e k + 1) else qE (sB t e k)) else qE (sB t e (j + 1))) else qE j
      else (match sIn t e i with
        | .inl p => qE p
        | .inr (v, j) => qN 40 v [] foN j))
/-- a whole query: broken at a place, or segments -/
def sQu (t : Int → Int) (e : Int) (n : Nat) : Option (Int ⊕ Fo) :=
  if pk t e 0 ≠ 36 then some (.inl 0) else match sQ t e n 0 0 false 1 with
  | none => none
  | some (.inl p) => some (.inl p)
  | some (.inr (S, j)) => if j < e then some (.inl (sB t e j)) else some (.inr S)
