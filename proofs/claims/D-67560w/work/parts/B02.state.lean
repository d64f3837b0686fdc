/-! what both stores are, and what the calls do to it -/
set_option maxRecDepth 100000
set_option maxHeartbeats 4000000
/-- documents: id, what it is -/
abbrev DC : Type := List (Int × ND × Fo)
def encD (D : DC) : DL := mpL (fun v : ND × Fo => enV v.1 v.2) D
def prtD (D : DC) : List (Int × List Int) := mpL (fun v : ND × Fo => prV v.1 v.2) D
/-- a document as it may be kept -/
def DKv (v : ND × Fo) : Prop := (GV (0, v.1, v.2) ∧ erF v.2 = v.2) ∧ dpV v.1 v.2 ≤ 32 ∧ (prV v.1 v.2).length ≤ 480
def DCK (n : Nat) (D : DC) : Prop := srt D ∧ D.length ≤ n ∧ ∀ x ∈ D, (0 ≤ x.1 ∧ x.1 < 10000) ∧ DKv x.2
theorem DCK.mono {n n' : Nat} {D : DC} (h : DCK n D) (hn : n ≤ n') : DCK n' D := ⟨h.1, by have := h.2.1; omega, h.2.2⟩
theorem DCK.nil {n : Nat} : DCK n [] := ⟨trivial, by simp, fun x hx => (by cases hx)⟩
theorem DCK.ins {n : Nat} {D : DC} {id : Int} {v : ND × Fo} (h : DCK n D) (hid : 0 ≤ id ∧ id < 10000) (hv : DKv v) : DCK (n + 1) (insL id v D) := by
  refine ⟨srt_ins h.1, ?_, fun x hx => ?_⟩
  · rw [insL_len h.1]
    have := h.2.1
    split <;> omega
  · rcases insL_mem hx with q | q
    · rw [q]; exact ⟨hid, hv⟩
    · exact h.2.2 x q
theorem DCK.rm {n : Nat} {D : DC} {id : Int} (h : DCK n D) : DCK n (rmL id D) := by
  refine ⟨srt_rm h.1, ?_, fun x hx => h.2.2 x (rmL_mem hx)⟩
  have := rmL_len (id := id) (L := D)
  have := h.2.1
  omega
theorem lkL_mem {α : Type} {id : Int} {b : α} : ∀ {L : List (Int × α)}, lkL id L = some b → (id, b) ∈ L := by
  intro L h
  obtain ⟨A, B, rfl, -⟩ := lkL_spl h
  exact List.mem_append_right _ List.mem_cons_self
theorem DCK.lk {n : Nat} {D : DC} {id : Int} {v : ND × Fo} (h : DCK n D) (hl : lkL id D = some v) : DKv v := (h.2.2 _ (lkL_mem hl)).2
/-- the tape, the answer, the place, the power is gone, the cut, the documents now, readers, indexes -/
abbrev St : Type := List Int × List Int × Int × Bool × Int × DC × (Int → Option DC) × (Int → Option Fo)
abbrev St.tp (s : St) : List Int := s.1
abbrev St.res (s : St) : List Int := s.2.1
abbrev St.pl (s : St) : Int := s.2.2.1
abbrev St.dk (s : St) : Bool := s.2.2.2.1
abbrev St.ct (s : St) : Int := s.2.2.2.2.1
abbrev St.now (s : St) : DC := s.2.2.2.2.2.1
abbrev St.rd (s : St) : Int → Option DC := s.2.2.2.2.2.2.1
abbrev St.ix (s : St) : Int → Option Fo := s.2.2.2.2.2.2.2
/-- with another tape, answer, place -/
def St.wtp (s : St) (t : List Int) : St := (t, s.res, s.pl, s.dk, s.ct, s.now, s.rd, s.ix)
def St.wres (s : St) (r : List Int) : St := (s.tp, r, s.pl, s.dk, s.ct, s.now, s.rd, s.ix)
def St.wpl (s : St) (p : Int) : St := (s.tp, s.res, p, s.dk, s.ct, s.now, s.rd, s.ix)
def St.wct (s : St) (c : Int) : St := (s.tp, s.res, s.pl, s.dk, c, s.now, s.rd, s.ix)
def St.wrd (s : St) (r : Int → Option DC) : St := (s.tp, s.res, s.pl, s.dk, s.ct, s.now, r, s.ix)
def St.wix (s : St) (x : Int → Option Fo) : St := (s.tp, s.res, s.pl, s.dk, s.ct, s.now, s.rd, x)
/-- a version -/
def St.ver (s : St) (r : Int) : Option DC := if r < 0 then some s.now else s.rd r
/-- what is changed, once it is written: as far as the cut lets it -/
def St.com (s : St) (D : DC) : St := (s.tp, s.res, s.pl, if s.ct < 0 then s.dk else true, -1, if s.ct < 0 ∨ s.ct = 3 then D else s.now, if s.ct < 0 then s.rd else fun _ => none, s.ix)
/-- the power stays -/
abbrev St.oks (s : St) : Prop := s.ct < 0
/-- four bytes of a number -/
def fourB (v : Int) : List Int := [w8 (pUshr v 24), w8 (pUshr v 16), w8 (pUshr v 8), w8 (pUshr v 0)]
def gtp (tp : List Int) : Int → Int := fun j => gi tp j
/-- what is answered: a code (0: none was thrown), a value, the state -/
abbrev Ans : Type := Int × Int × St
def oFeed (s : St) (a b c d e : Int) : Ans := (0, s.tp.length + 20, s.wtp (s.tp ++ (fourB a ++ (fourB b ++ (fourB c ++ (fourB d ++ fourB e))))))
def oEnd (s : St) (n : Int) : Ans := if 0 ≤ n ∧ n ≤ s.tp.length then (0, n, s.wtp (s.tp.take n.toNat)) else (1, 0, s)
/-- a reading of the tape, with enough fuel -/
def sRdT (tp : List Int) : Option (Int ⊕ Fo) := sRd (gtp tp) tp.length (2 * tp.length + 10)
def sQuT (tp : List Int) : Option (Int ⊕ Fo) := sQu (gtp tp) tp.length (8 * tp.length + 10)
def hdV (F : Fo) : ND × Fo := match F with
  | .leaf => ((0, 0, [], []), foN)
  | .inner _ d _ l _ => (d, l)
def oPut (s : St) (id : Int) : Ans :=
  if ¬ (0 ≤ id ∧ id < 10000) then (1, 0, s)
  else if s.dk then (2, 0, s.wtp [])
  else match sRdT s.tp with
    | some (.inr F) => if 480 < (prV (hdV F).1 (hdV F).2).length then (4, 0, (s.wtp []).wpl (-1))
      else if s.ct < 0 then (0, (insL id (hdV F) s.now).length, ((s.wtp []).wpl (-1)).com (insL id (hdV F) s.now)) else (2, 0, ((s.wtp []).wpl (-1)).com (insL id (hdV F) s.now))
    | some (.inl p) => (3, 0, (s.wtp []).wpl p)
    | none => (9, 0, s)
def oGet (s : St) (r id : Int) : Ans :=
  if ¬ ((-1 ≤ r ∧ r < 8) ∧ 0 ≤ id ∧ id < 10000) then (1, 0, s)
  else if s.dk then (2, 0, s)
  else match s.ver r with
    | none => (2, 0, s)
    | some D => match lkL id D with
      | none => (3, 0, s)
      | some v => (0, (prV v.1 v.2).length, s.wres (prV v.1 v.2))
def oOut (s : St) (id : Int) : Ans :=
  if ¬ (0 ≤ id ∧ id < 10000) then (1, 0, s)
  else if s.dk then (2, 0, s)
  else match lkL id s.now with
    | none => (3, 0, s)
    | some _ => if s.ct < 0 then (0, (rmL id s.now).length, s.com (rmL id s.now)) else (2, 0, s.com (rmL id s.now))
def oClear (s : St) : Ans := if s.dk then (1, 0, s) else if s.ct < 0 then (0, s.now.length, s.com []) else (1, 0, s.com [])
def oPatch (s : St) (id : Int) : Ans :=
  if ¬ (0 ≤ id ∧ id < 10000) then (1, 0, s)
  else if s.dk then (2, 0, s.wtp [])
  else match sRdT s.tp with
    | some (.inr F) => (match lkL id s.now with
      | none => (4, 0, (s.wtp []).wpl (-1))
      | some v => if (hdV F).1.1 ≠ 5 then (5, 0, (s.wtp []).wpl (-1)) else match pRn (hdV F).2 (0, v.1, v.2) 0 with
        | .inr (some k) => (5, 0, (s.wtp []).wpl k)
        | .inr none => (6, 0, (s.wtp []).wpl (-1))
        | .inl v' => if s.ct < 0 then (0, (prV v'.2.1 v'.2.2).length, ((s.wtp []).wpl (-1)).com (insL id v'.2 s.now)) else (2, 0, ((s.wtp []).wpl (-1)).com (insL id v'.2 s.now)))
    | some (.inl p) => (3, 0, (s.wtp []).wpl p)
    | none => (9, 0, s)
def oOpen (s : St) (r : Int) : Ans :=
  if ¬ (0 ≤ r ∧ r < 8) then (1, 0, s)
  else if s.dk = true ∨ (s.rd r).isSome = true then (2, 0, s)
  else (0, 0, s.wrd fun k => if k = r then some s.now else s.rd k)
def oClose (s : St) (r : Int) : Ans :=
  if ¬ (0 ≤ r ∧ r < 8) then (1, 0, s)
  else if s.dk = true ∨ (s.rd r).isSome = false then (2, 0, s)
  else (0, 0, s.wrd fun k => if k = r then none else s.rd k)
/-- what a query chooses from a document -/
def qDoc (S : Fo) (v : ND × Fo) : EV (List Nd) := (evX [(0, 0, v.1, v.2, 0)] (foC (20, 1, [], []) S foN)).qry [(0, 0, v.1, v.2, 0)]
/-- a node's line -/
def hdN (x : Nd) : ND × Fo := match x with
  | [] => ((0, 0, [], []), foN)
  | c :: _ => (c.2.2.1, c.2.2.2.1)
def lnQ (id : Int) (x : Nd) : List Int := prN id ++ (32 :: (prP x ++ (32 :: (prV (hdN x).1 (hdN x).2 ++ [10]))))
/-- a query over documents: work done, lines so far, nodes so far -/
def qAll (S : Fo) : DC → Int → List Int → Int → Option (List Int × Int)
  | [], _, out, k => some (out, k)
  | x :: D, w, out, k => match qDoc S x.2 w with
    | none => none
    | some (xs, w') => if 32768 < (out ++ xs.flatMap (lnQ x.1)).length then none else qAll S D w' (out ++ xs.flatMap (lnQ x.1)) (k + xs.length)
def oQuery (s : St) (r : Int) : Ans :=
  if ¬ (-1 ≤ r ∧ r < 8) then (1, 0, s)
  else if s.dk then (2, 0, s.wtp [])
  else match s.ver r with
    | none => (2, 0, s.wtp [])
    | some D => match sQuT s.tp with
      | some (.inr S) => (match qAll S D 0 [] 0 with
        | none => (4, 0, (s.wtp []).wpl (-1))
        | some (out, k) => (0, k, ((s.wtp []).wpl (-1)).wres out))
      | some (.inl p) => (3, 0, (s.wtp []).wpl p)
      | none => (9, 0, s)
def oIndex (s : St) (k : Int) : Ans :=
  if ¬ (0 ≤ k ∧ k < 4) then (1, 0, s)
  else if s.dk then (2, 0, s.wtp [])
  else match sQuT s.tp with
    | some (.inr S) => if sgF S = true then (0, 0, ((s.wtp []).wpl (-1)).wix fun j => if j = k then some S else s.ix j) else (3, 0, (s.wtp []).wpl s.tp.length)
    | some (.inl p) => (3, 0, (s.wtp []).wpl p)
    | none => (9, 0, s)
/-- the value that a singular query finds -/
def chs (S : Fo) (v : ND × Fo) : VR := match qDoc S v 0 with
  | some (xs, _) => vOne xs
  | none => none
def hits (S : Fo) (t : ND × Fo) (D : DC) : List Int := D.filterMap fun x => match chs S x.2 with
  | some u => if smV u.1 u.2 t.1 t.2 then some x.1 else none
  | none => none
def oFind (s : St) (k r : Int) : Ans :=
  if ¬ ((0 ≤ k ∧ k < 4) ∧ -1 ≤ r ∧ r < 8) then (1, 0, s)
  else if s.dk then (2, 0, s.wtp [])
  else match s.ver r with
    | none => (2, 0, s.wtp [])
    | some D => match s.ix k with
      | none => (2, 0, s.wtp [])
      | some S => match sRdT s.tp with
        | some (.inr F) => (0, (hits S (hdV F) D).length, ((s.wtp []).wpl (-1)).wres ((hits S (hdV F) D).flatMap fun i => prN i ++ [10]))
        | some (.inl p) => (3, 0, (s.wtp []).wpl p)
        | none => (9, 0, s)
def oCut (s : St) (h : Int) : Ans := if ¬ (0 ≤ h ∧ h < 4) then (1, 0, s) else if s.dk then (2, 0, s) else (0, 0, s.wct h)
def oMount (s : St) : Ans := (0, s.now.length, (s.tp, s.res, s.pl, false, -1, s.now, s.rd, s.ix))
/-- eight bytes from i on -/
def wdA (r : List Int) (i : Int) : Nat → Int → Int
  | 0, v => v
  | n + 1, v => wdA r (i + 1) n (qOr (qShl v 8) (if i < r.length then gi r i % 256 else 0))
def oWord (s : St) (i : Int) : Ans := if 0 ≤ i ∧ i < s.res.length then (0, wdA s.res i 8 0, s) else (1, 0, s)
def oCount (s : St) (w : Int) : Ans := if ¬ (0 ≤ w ∧ w < 4) then (1, 0, s) else (0, if w = 0 then s.tp.length else if w = 1 then s.res.length else if w = 2 then s.pl else 0, s)
/-- a state as it may come to be, after n calls -/
def STq (n : Nat) (s : St) : Prop := (s.tp.length ≤ 20 * n ∧ ∀ b ∈ s.tp, -128 ≤ b ∧ b < 128) ∧ s.res.length ≤ 32768 ∧ (-1 ≤ s.ct ∧ s.ct ≤ 3) ∧ DCK n s.now ∧ (∀ k D, s.rd k = some D → DCK n D) ∧ (s.dk = true → ∀ k, s.rd k = none)
