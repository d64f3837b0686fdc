/-! THE PURE MACHINE: memory is blocks of whole numbers, values are tagged -/
set_option maxRecDepth 100000
abbrev PV : Type := Int ⊕ Int ⊕ Int ⊕ Unit
abbrev pI (x : Int) : PV := Sum.inl x
abbrev pL (x : Int) : PV := Sum.inr (Sum.inl x)
abbrev pR (a : Int) : PV := Sum.inr (Sum.inr (Sum.inl a))
abbrev pU : PV := Sum.inr (Sum.inr (Sum.inr ()))
/-- the next address, slots made, tags, lengths, contents -/
abbrev Mem : Type := Int × Int × (Int → Int) × (Int → Int) × (Int → Int → Int)
def nx (m : Mem) : Int := m.1
def sl (m : Mem) : Int := m.2.1
def tg (m : Mem) (a : Int) : Int := m.2.2.1 a
def ln (m : Mem) (a : Int) : Int := m.2.2.2.1 a
def vl (m : Mem) (a k : Int) : Int := m.2.2.2.2 a k
def mst (m : Mem) (a k v : Int) : Mem := (m.1, m.2.1, m.2.2.1, m.2.2.2.1, fun b j => if b = a ∧ j = k then v else m.2.2.2.2 b j)
def mal (m : Mem) (t n : Int) : Mem := (m.1 + 1, m.2.1 + n, fun b => if b = m.1 then t else m.2.2.1 b, fun b => if b = m.1 then n else m.2.2.2.1 b, fun b j => if b = m.1 then 0 else m.2.2.2.2 b j)
/-- n places from sp on of s come to d from dp on -/
def mcp (m : Mem) (s sp d dp n : Int) : Mem := (m.1, m.2.1, m.2.2.1, m.2.2.2.1, fun b j => if b = d ∧ dp ≤ j ∧ j < dp + n then m.2.2.2.2 s (sp + (j - dp)) else m.2.2.2.2 b j)
/-- an array of n arrays of k bytes -/
def mgr (m : Mem) (t u n k : Int) : Mem := (m.1 + 1 + n, m.2.1 + n + n * k, fun b => if b = m.1 then t else if m.1 < b ∧ b ≤ m.1 + n then u else m.2.2.1 b, fun b => if b = m.1 then n else if m.1 < b ∧ b ≤ m.1 + n then k else m.2.2.2.1 b, fun b j => if b = m.1 then (if 0 ≤ j ∧ j < n then m.1 + 1 + j else 0) else if m.1 < b ∧ b ≤ m.1 + n then 0 else m.2.2.2.2 b j)
def w32 (z : Int) : Int := (z + 2147483648) % 4294967296 - 2147483648
def w64 (z : Int) : Int := (z + 9223372036854775808) % 18446744073709551616 - 9223372036854775808
def w8 (z : Int) : Int := (z + 128) % 256 - 128
def pAnd (x y : Int) : Int := (Int32.ofInt x &&& Int32.ofInt y).toInt
def pOr (x y : Int) : Int := (Int32.ofInt x ||| Int32.ofInt y).toInt
def pShl (x y : Int) : Int := (Int32.ofInt x <<< (Int32.ofInt y &&& 31)).toInt
def pShr (x y : Int) : Int := (Int32.ofInt x >>> (Int32.ofInt y &&& 31)).toInt
def pUshr (x y : Int) : Int := ((Int32.ofInt x).toUInt32 >>> ((Int32.ofInt y).toUInt32 &&& Int32.toUInt32 31)).toInt32.toInt
def qAnd (x y : Int) : Int := (Int64.ofInt x &&& Int64.ofInt y).toInt
def qOr (x y : Int) : Int := (Int64.ofInt x ||| Int64.ofInt y).toInt
def qXor (x y : Int) : Int := (Int64.ofInt x ^^^ Int64.ofInt y).toInt
def qShl (x y : Int) : Int := (Int64.ofInt x <<< ((Int32.ofInt y).toInt64 &&& 63)).toInt
def qShr (x y : Int) : Int := (Int64.ofInt x >>> ((Int32.ofInt y).toInt64 &&& 63)).toInt
def qUshr (x y : Int) : Int := ((Int64.ofInt x).toUInt64 >>> ((Int32.ofInt y).toInt64.toUInt64 &&& Int64.toUInt64 63)).toInt64.toInt
def lcp (x y : Int) : Int := if y < x then 1 else if x = y then 0 else -1
/-- a local that a store cuts -/
def lkl (ls : List PV) (i : Nat) : List PV := match i with
  | 0 => ls
  | j + 1 => match ls[j]? with
    | some (.inr (.inl _)) => ls.set j pU
    | _ => ls
def ls1 (ls : List PV) (i : Nat) (v : PV) : List PV := (lkl ls i).set i v
def ls2 (ls : List PV) (i : Nat) (v : PV) : List PV := ((lkl ls i).set i v).set (i + 1) pU
/-- what a step comes to: a frame; a call (method, arguments, the stack below, the length of the instruction); an answer; an exception -/
abbrev Nxt : Type := (Nat × List PV × List PV × Mem) ⊕ (Nat × List PV × List PV × Nat) ⊕ (Option PV) ⊕ (Int × Mem)
def nG (pc : Nat) (ls st : List PV) (m : Mem) : Option Nxt := some (.inl (pc, ls, st, m))
def nJ (pc : Nat) (off : Int) (ls st : List PV) (m : Mem) : Option Nxt := if 0 ≤ (pc : Int) + off then nG ((pc : Int) + off).toNat ls st m else none
def nC (k : Nat) (as rest : List PV) (len : Nat) : Option Nxt := some (.inr (.inl (k, as, rest, len)))
def nR (v : Option PV) : Option Nxt := some (.inr (.inr (.inl v)))
def nT (e : Int) (m : Mem) : Option Nxt := some (.inr (.inr (.inr (e, m))))
def cnd (c : ClassFile.Cond) (x y : Int) : Bool := match c with
  | .eq => decide (x = y)
  | .ne => decide (x ≠ y)
  | .lt => decide (x < y)
  | .ge => decide (y ≤ x)
  | .gt => decide (y < x)
  | .le => decide (x ≤ y)
def lkN {α : Type} (l : List (Nat × α)) (i : Nat) : Option α := match l with
  | [] => none
  | q :: r => if q.1 = i then some q.2 else lkN r i
def aTy (t : ArrayType) : Option Int := match t with
  | .int => some 101
  | .long => some 102
  | .byte => some 103
  | .char => some 104
  | .boolean => some 105
  | _ => none
/-- which objects an array of references takes -/
def aOk (k t : Int) : Bool := match k with
  | 111 => t == 17 || t == 18 || t == 19 || t == 20 || t == 29
  | 112 => t == 21 || t == 22 || t == 26 || t == 28
  | 113 => t == 16
  | 114 => t == 14
  | 115 => t == 10
  | 116 => t == 30
  | 117 => t == 12
  | 118 => t % 1000 == 103 && decide (1000 ≤ t)
  | _ => false
def takeN (n : Nat) (st : List PV) : Option (List PV × List PV) := if n ≤ st.length then some ((st.take n).reverse, st.drop n) else none
def cat (v : PV) : Nat := match v with
  | .inr (.inl _) => 2
  | _ => 1
def catS (l : List PV) : Nat := (l.map cat).sum
abbrev pin (x lo hi : Int) : Prop := lo ≤ x ∧ x < hi
/-- a call's rest on the stack fits the kit's rows -/
def nCall (k : Nat) (as rest : List PV) (len : Nat) : Option Nxt := if catS rest ≤ 8 ∧ 0 < k then nC k as rest len else none
/-- the length of an instruction -/
def ilen (i : Instr) (len : Nat) : Nat := match i with
  | .aload _ => 2
  | .iload _ => 2
  | .lload _ => 2
  | .astore _ => 2
  | .istore _ => 2
  | .lstore _ => 2
  | .bipush _ => 2
  | .ldc _ => 2
  | .newarray _ => 2
  | .sipush _ => 3
  | .ldc_w _ => 3
  | .ldc2_w _ => 3
  | .iinc _ _ => 3
  | .if_icmp _ _ => 3
  | .ifCond _ _ => 3
  | .ifnull _ => 3
  | .ifnonnull _ => 3
  | .goto _ => 3
  | .getfield _ => 3
  | .putfield _ => 3
  | .getstatic _ => 3
  | .invokevirtual _ => 3
  | .invokespecial _ => 3
  | .invokestatic _ => 3
  | .new _ => 3
  | .anewarray _ => 3
  | .instanceof _ => 3
  | .multianewarray _ _ => 4
  | .invokeinterface _ _ => 5
  | .tableswitch _ _ _ _ => len
  | .lookupswitch _ _ => len
  | _ => 1
/-- c: the class of the method k; rk: the kind of its answer; ini: 1 for a constructor -/
def stp (c k rk ini : Nat) (i : Instr) (pc len : Nat) (ls st : List PV) (m : Mem) : Option Nxt := match i with
  | .aconst_null => nG (pc + 1) ls (pR 0 :: st) m
  | .aload n => match ls[n]? with
    | some (.inr (.inr (.inl a))) => nG (pc + len) ls (pR a :: st) m
    | _ => none
  | .aload_n n => match ls[(n : Nat)]? with
    | some (.inr (.inr (.inl a))) => nG (pc + 1) ls (pR a :: st) m
    | _ => none
  | .iload n => match ls[n]? with
    | some (.inl a) => nG (pc + len) ls (pI a :: st) m
    | _ => none
  | .iload_n n => match ls[(n : Nat)]? with
    | some (.inl a) => nG (pc + 1) ls (pI a :: st) m
    | _ => none
  | .lload n => match ls[n]? with
    | some (.inr (.inl a)) => nG (pc + len) ls (pL a :: st) m
    | _ => none
  | .lload_n n => match ls[(n : Nat)]? with
    | some (.inr (.inl a)) => nG (pc + 1) ls (pL a :: st) m
    | _ => none
  | .astore n => match st with
    | .inr (.inr v) :: r => if n < ls.length then nG (pc + len) (ls1 ls n (.inr (.inr v))) r m else none
    | _ => none
  | .astore_n n => match st with
    | .inr (.inr v) :: r => if (n : Nat) < ls.length then nG (pc + 1) (ls1 ls n (.inr (.inr v))) r m else none
    | _ => none
  | .istore n => match st with
    | .inl x :: r => if n < ls.length then nG (pc + len) (ls1 ls n (pI x)) r m else none
    | _ => none
  | .istore_n n => match st with
    | .inl x :: r => if (n : Nat) < ls.length then nG (pc + 1) (ls1 ls n (pI x)) r m else none
    | _ => none
  | .lstore n => match st with
    | .inr (.inl x) :: r => if n + 1 < ls.length then nG (pc + len) (ls2 ls n (pL x)) r m else none
    | _ => none
  | .lstore_n n => match st with
    | .inr (.inl x) :: r => if (n : Nat) + 1 < ls.length then nG (pc + 1) (ls2 ls n (pL x)) r m else none
    | _ => none
  | .iinc n d => match ls[n]? with
    | some (.inl x) => if n < ls.length then nG (pc + len) (ls1 ls n (pI (w32 (x + d)))) st m else none
    | _ => none
  | .iconst n => if pin n (-128) 128 then nG (pc + 1) ls (pI n :: st) m else none
  | .bipush n => if pin n (-128) 128 then nG (pc + 2) ls (pI n :: st) m else none
  | .sipush n => if pin n (-32768) 32768 then nG (pc + 3) ls (pI n :: st) m else none
  | .lconst n => nG (pc + 1) ls (pL ((n : Nat) : Int) :: st) m
  | .ldc n => match lkN (rCt c) n with
    | some (0, v) => if pin v (-2147483648) 2147483648 then nG (pc + 2) ls (pI v :: st) m else none
    | some (1, a) => nG (pc + 2) ls (pR a :: st) m
    | _ => none
  | .ldc_w n => match lkN (rCt c) n with
    | some (1, a) => nG (pc + 3) ls (pR a :: st) m
    | _ => none
  | .ldc2_w n => match lkN (rLt c) n with
    | some v => if pin v (-9223372036854775808) 9223372036854775808 then nG (pc + 3) ls (pL v :: st) m else none
    | _ => none
  | .iadd => match st with
    | .inl y :: .inl x :: r => nG (pc + 1) ls (pI (w32 (x + y)) :: r) m
    | _ => none
  | .isub => match st with
    | .inl y :: .inl x :: r => nG (pc + 1) ls (pI (w32 (x - y)) :: r) m
    | _ => none
  | .imul => match st with
    | .inl y :: .inl x :: r => nG (pc + 1) ls (pI (w32 (x * y)) :: r) m
    | _ => none
  | .idiv => match st with
    | .inl y :: .inl x :: r => if y ≠ 0 then nG (pc + 1) ls (pI (w32 (x.tdiv y)) :: r) m else none
    | _ => none
  | .iand => match st with
    | .inl y :: .inl x :: r => nG (pc + 1) ls (pI (pAnd x y) :: r) m
    | _ => none
  | .ior => match st with
    | .inl y :: .inl x :: r => nG (pc + 1) ls (pI (pOr x y) :: r) m
    | _ => none
  | .ishl => match st with
    | .inl y :: .inl x :: r => nG (pc + 1) ls (pI (pShl x y) :: r) m
    | _ => none
  | .ishr => match st with
    | .inl y :: .inl x :: r => nG (pc + 1) ls (pI (pShr x y) :: r) m
    | _ => none
  | .iushr => match st with
    | .inl y :: .inl x :: r => nG (pc + 1) ls (pI (pUshr x y) :: r) m
    | _ => none
  | .ladd => match st with
    | .inr (.inl y) :: .inr (.inl x) :: r => nG (pc + 1) ls (pL (w64 (x + y)) :: r) m
    | _ => none
  | .lsub => match st with
    | .inr (.inl y) :: .inr (.inl x) :: r => nG (pc + 1) ls (pL (w64 (x - y)) :: r) m
    | _ => none
  | .lmul => match st with
    | .inr (.inl y) :: .inr (.inl x) :: r => nG (pc + 1) ls (pL (w64 (x * y)) :: r) m
    | _ => none
  | .ldiv => match st with
    | .inr (.inl y) :: .inr (.inl x) :: r => if y ≠ 0 then nG (pc + 1) ls (pL (w64 (x.tdiv y)) :: r) m else none
    | _ => none
  | .lrem => match st with
    | .inr (.inl y) :: .inr (.inl x) :: r => if y ≠ 0 then nG (pc + 1) ls (pL (w64 (x - w64 (x.tdiv y) * y)) :: r) m else none
    | _ => none
  | .lneg => match st with
    | .inr (.inl x) :: r => nG (pc + 1) ls (pL (w64 (-x)) :: r) m
    | _ => none
  | .land => match st with
    | .inr (.inl y) :: .inr (.inl x) :: r => nG (pc + 1) ls (pL (qAnd x y) :: r) m
    | _ => none
  | .lor => match st with
    | .inr (.inl y) :: .inr (.inl x) :: r => nG (pc + 1) ls (pL (qOr x y) :: r) m
    | _ => none
  | .lxor => match st with
    | .inr (.inl y) :: .inr (.inl x) :: r => nG (pc + 1) ls (pL (qXor x y) :: r) m
    | _ => none
  | .lshl => match st with
    | .inl y :: .inr (.inl x) :: r => nG (pc + 1) ls (pL (qShl x y) :: r) m
    | _ => none
  | .lshr => match st with
    | .inl y :: .inr (.inl x) :: r => nG (pc + 1) ls (pL (qShr x y) :: r) m
    | _ => none
  | .lushr => match st with
    | .inl y :: .inr (.inl x) :: r => nG (pc + 1) ls (pL (qUshr x y) :: r) m
    | _ => none
  | .lcmp => match st with
    | .inr (.inl y) :: .inr (.inl x) :: r => nG (pc + 1) ls (pI (lcp x y) :: r) m
    | _ => none
  | .i2l => match st with
    | .inl x :: r => nG (pc + 1) ls (pL x :: r) m
    | _ => none
  | .l2i => match st with
    | .inr (.inl x) :: r => nG (pc + 1) ls (pI (w32 x) :: r) m
    | _ => none
  | .i2b => match st with
    | .inl x :: r => nG (pc + 1) ls (pI (w8 x) :: r) m
    | _ => none
  | .i2c => match st with
    | .inl x :: r => nG (pc + 1) ls (pI (x % 65536) :: r) m
    | _ => none
  | .if_icmp d off => match st with
    | .inl y :: .inl x :: r => if 0 ≤ (pc : Int) + off then (if cnd d x y = true then nG ((pc : Int) + off).toNat ls r m else nG (pc + 3) ls r m) else none
    | _ => none
  | .ifCond d off => match st with
    | .inl x :: r => if 0 ≤ (pc : Int) + off then (if cnd d x 0 = true then nG ((pc : Int) + off).toNat ls r m else nG (pc + 3) ls r m) else none
    | _ => none
  | .ifnull off => match st with
    | .inr (.inr (.inl a)) :: r => if 0 ≤ (pc : Int) + off then (if a = 0 then nG ((pc : Int) + off).toNat ls r m else nG (pc + 3) ls r m) else none
    | _ => none
  | .ifnonnull off => match st with
    | .inr (.inr (.inl a)) :: r => if 0 ≤ (pc : Int) + off then (if a = 0 then nG (pc + 3) ls r m else nG ((pc : Int) + off).toNat ls r m) else none
    | _ => none
  | .goto off => nJ pc off ls st m
  | .tableswitch d lo hi offs => match st with
    | .inl x :: r => if x < lo ∨ hi < x then nJ pc d ls r m else match offs[(x - lo).toNat]? with
      | some off => nJ pc off ls r m
      | none => none
    | _ => none
  | .lookupswitch d ps => match st with
    | .inl x :: r => if (ps.toList.zip (ps.toList.drop 1)).all (fun (a, next) => a.1 < next.1) = true then nJ pc (Op.lookupswitch.offset ps.toList d x) ls r m else none
    | _ => none
  | .dup => match st with
    | v :: r => if cat v = 1 then nG (pc + 1) ls (v :: v :: r) m else none
    | _ => none
  | .pop => match st with
    | v :: r => if cat v = 1 then nG (pc + 1) ls r m else none
    | _ => none
  | .dup_x1 => match st with
    | v :: w :: r => if cat v = 1 ∧ cat w = 1 then nG (pc + 1) ls (v :: w :: v :: r) m else none
    | _ => none
  | .dup2 => match st with
    | v :: w :: r => if cat v = 1 ∧ cat w = 1 then nG (pc + 1) ls (v :: w :: v :: w :: r) m else none
    | _ => none
  | .getfield n => match lkN (rFt c) n, st with
    | some (ty, f, t1, t2, _), .inr (.inr (.inl a)) :: r => if tg m a = (t1 : Int) ∨ tg m a = (t2 : Int) then (match ty with
      | 1 => nG (pc + 3) ls (pL (vl m a f) :: r) m
      | 2 => nG (pc + 3) ls (pR (vl m a f) :: r) m
      | _ => nG (pc + 3) ls (pI (vl m a f) :: r) m) else none
    | _, _ => none
  | .putfield n => match lkN (rFt c) n, st with
    | some (ty, f, t1, t2, fin), v :: .inr (.inr (.inl a)) :: r => if (tg m a = (t1 : Int) ∨ tg m a = (t2 : Int)) ∧ c ≠ 31 ∧ (fin = 0 ∨ (ini = 1 ∧ t1 = c)) then (match ty, v with
      | 0, .inl x => nG (pc + 3) ls r (mst m a f x)
      | 1, .inr (.inl x) => nG (pc + 3) ls r (mst m a f x)
      | 2, .inr (.inr (.inl x)) => nG (pc + 3) ls r (mst m a f x)
      | 3, .inl x => if x = 0 ∨ x = 1 then nG (pc + 3) ls r (mst m a f x) else none
      | _, _ => none) else none
    | _, _ => none
  | .getstatic n => if c = 31 ∧ n = 38 then nG (pc + 3) ls (pI 1 :: st) m else if c = 31 ∧ n = 1053 then nG (pc + 3) ls (pU :: st) m else none
  | .invokevirtual n => match lkN (rIt c) n with
    | some (0, k1, na, t1, t2) => match takeN na st with
      | some (as, .inr (.inr (.inl a)) :: r) => if tg m a = (t1 : Int) ∨ tg m a = (t2 : Int) then nCall k1 (pR a :: as) r 3 else none
      | _ => none
    | _ => none
  | .invokespecial n => match lkN (rIt c) n with
    | some (5, k1, na, t1, t2) => match takeN na st with
      | some (as, .inr (.inr (.inl a)) :: r) => if tg m a = (t1 : Int) ∨ tg m a = (t2 : Int) then nCall k1 (pR a :: as) r 3 else none
      | _ => none
    | some (2, _) => match st with
      | .inr (.inr (.inl a)) :: r => if 0 < tg m a ∧ tg m a < 100 ∧ catS r ≤ 8 then nG (pc + 3) ls r m else none
      | _ => none
    | _ => none
  | .invokestatic n => match lkN (rIt c) n with
    | some (1, k1, na, _) => match takeN na st with
      | some (as, r) => nCall k1 as r 3
      | _ => none
    | some (6, _) => match st with
      | .inl y :: .inl x :: r => if catS r ≤ 8 then nG (pc + 3) ls (pI (max x y) :: r) m else none
      | _ => none
    | some (7, _) => match st with
      | .inl y :: .inl x :: r => if catS r ≤ 8 then nG (pc + 3) ls (pI (min x y) :: r) m else none
      | _ => none
    | some (8, _) => match st with
      | .inr (.inl y) :: .inr (.inl x) :: r => if catS r ≤ 8 then nG (pc + 3) ls (pL (max x y) :: r) m else none
      | _ => none
    | some (9, _) => match st with
      | .inr (.inl y) :: .inr (.inl x) :: r => if catS r ≤ 8 then nG (pc + 3) ls (pL (min x y) :: r) m else none
      | _ => none
    | some (4, _) => match st with
      | .inl n :: .inl dp :: .inr (.inr (.inl d)) :: .inl sp :: .inr (.inr (.inl s)) :: r =>
        if 0 ≤ n ∧ 0 ≤ sp ∧ 0 ≤ dp ∧ sp + n ≤ ln m s ∧ dp + n ≤ ln m d ∧ catS r ≤ 8 ∧ 1000 ≤ tg m d ∧ 1000 ≤ tg m s ∧ tg m s % 1000 = tg m d % 1000 ∧ (tg m d % 1000 = 101 ∨ tg m d % 1000 = 103) then nG (pc + 3) ls r (mcp m s sp d dp n) else none
      | _ => none
    | _ => none
  | .invokeinterface n _ => match lkN (rIt c) n with
    | some (3, f, na, _) => match takeN na st with
      | some (as, .inr (.inr (.inl a)) :: r) => match lkN (rDt f) (tg m a).toNat with
        | some k1 => if 0 < tg m a then nCall k1 (pR a :: as) r 5 else none
        | none => none
      | _ => none
    | _ => none
  | .new n => match lkN (rNt c) n with
    | some (0, t, f) => nG (pc + 3) ls (pR (nx m) :: st) (mal m t f)
    | some (1, e, f) => if (pc, e) ∈ rXt k ∧ catS st ≤ 8 then nT e (mal m e f) else none
    | _ => none
  | .newarray t => match aTy t, st with
    | some q, .inl n :: r => if 0 ≤ n ∧ n ≤ 2000000 then nG (pc + 2) ls (pR (nx m) :: r) (mal m (q + 1000 * (k + 1)) n) else none
    | _, _ => none
  | .anewarray n => match lkN (rAt c) n, st with
    | some q, .inl z :: r => if 0 ≤ z ∧ z ≤ 2000000 then nG (pc + 3) ls (pR (nx m) :: r) (mal m (q + 1000 * (k + 1)) z) else none
    | _, _ => none
  | .multianewarray n d => match st with
    | .inl y :: .inl x :: r => if c = 12 ∧ n = 18 ∧ d = 2 ∧ x = 100 ∧ y = 480 then nG (pc + 4) ls (pR (nx m) :: r) (mgr m (118 + 1000 * (k + 1)) (103 + 1000 * (k + 1)) x y) else none
    | _ => none
  | .arraylength => match st with
    | .inr (.inr (.inl a)) :: r => if 100 < tg m a % 1000 ∧ tg m a % 1000 < 119 then nG (pc + 1) ls (pI (ln m a) :: r) m else none
    | _ => none
  | .iaload => match st with
    | .inl j :: .inr (.inr (.inl a)) :: r => if tg m a % 1000 = 101 ∧ 0 ≤ j ∧ j < ln m a then nG (pc + 1) ls (pI (vl m a j) :: r) m else none
    | _ => none
  | .laload => match st with
    | .inl j :: .inr (.inr (.inl a)) :: r => if tg m a % 1000 = 102 ∧ 0 ≤ j ∧ j < ln m a then nG (pc + 1) ls (pL (vl m a j) :: r) m else none
    | _ => none
  | .baload => match st with
    | .inl j :: .inr (.inr (.inl a)) :: r => if (tg m a % 1000 = 103 ∨ tg m a % 1000 = 105) ∧ 0 ≤ j ∧ j < ln m a then nG (pc + 1) ls (pI (vl m a j) :: r) m else none
    | _ => none
  | .caload => match st with
    | .inl j :: .inr (.inr (.inl a)) :: r => if tg m a % 1000 = 104 ∧ 0 ≤ j ∧ j < ln m a then nG (pc + 1) ls (pI (vl m a j) :: r) m else none
    | _ => none
  | .aaload => match st with
    | .inl j :: .inr (.inr (.inl a)) :: r => if (110 < tg m a % 1000 ∧ tg m a % 1000 < 119) ∧ 0 ≤ j ∧ j < ln m a then nG (pc + 1) ls (pR (vl m a j) :: r) m else none
    | _ => none
  | .iastore => match st with
    | .inl x :: .inl j :: .inr (.inr (.inl a)) :: r => if 1000 ≤ tg m a ∧ tg m a % 1000 = 101 ∧ 0 ≤ j ∧ j < ln m a then nG (pc + 1) ls r (mst m a j x) else none
    | _ => none
  | .lastore => match st with
    | .inr (.inl x) :: .inl j :: .inr (.inr (.inl a)) :: r => if 1000 ≤ tg m a ∧ tg m a % 1000 = 102 ∧ 0 ≤ j ∧ j < ln m a then nG (pc + 1) ls r (mst m a j x) else none
    | _ => none
  | .bastore => match st with
    | .inl x :: .inl j :: .inr (.inr (.inl a)) :: r => if 1000 ≤ tg m a ∧ 0 ≤ j ∧ j < ln m a then (if tg m a % 1000 = 103 then nG (pc + 1) ls r (mst m a j (w8 x)) else if tg m a % 1000 = 105 ∧ (x = 0 ∨ x = 1) then nG (pc + 1) ls r (mst m a j x) else none) else none
    | _ => none
  | .castore => match st with
    | .inl x :: .inl j :: .inr (.inr (.inl a)) :: r => if 1000 ≤ tg m a ∧ tg m a % 1000 = 104 ∧ 0 ≤ j ∧ j < ln m a then nG (pc + 1) ls r (mst m a j (x % 65536)) else none
    | _ => none
  | .aastore => match st with
    | .inr (.inr (.inl x)) :: .inl j :: .inr (.inr (.inl a)) :: r => if 1000 ≤ tg m a ∧ 0 ≤ j ∧ j < ln m a ∧ (110 < tg m a % 1000 ∧ tg m a % 1000 < 119) ∧ aOk (tg m a % 1000) (tg m x) = true then nG (pc + 1) ls r (mst m a j x) else none
    | _ => none
  | .instanceof n => match lkN (rOt c) n, st with
    | some t, .inr (.inr (.inl a)) :: r => if aOk 111 (tg m a) = true then nG (pc + 3) ls (pI (if tg m a = (t : Int) then 1 else 0) :: r) m else none
    | _, _ => none
  | .ireturn => match st with
    | [.inl x] => if rk = 1 ∨ (rk = 4 ∧ (x = 0 ∨ x = 1)) ∨ (rk = 5 ∧ pin x 0 65536) ∨ (rk = 6 ∧ pin x (-128) 128) then nR (some (pI x)) else none
    | _ => none
  | .lreturn => match st with
    | [.inr (.inl x)] => if rk = 2 then nR (some (pL x)) else none
    | _ => none
  | .areturn => match st with
    | [.inr (.inr (.inl x))] => if rk = 3 then nR (some (pR x)) else none
    | _ => none
  | .return_ => match st with
    | [] => if rk = 0 then nR none else none
    | _ => none
  | _ => none
/-- locals at a method's entry -/
def arL (as : List PV) : List PV := match as with
  | [] => []
  | (.inr (.inl x)) :: r => pL x :: pU :: arL r
  | v :: r => v :: arL r
def ini (n : Nat) (as : List PV) : List PV := arL as ++ List.replicate (n - (arL as).length) pU
/-- where an exception goes in a method: some (some pc), some none: to the caller -/
def hdl (l : List (Nat × Nat × Nat × Nat)) (pc : Nat) (e : Int) : Option (Option Nat) := match l with
  | [] => some none
  | (a, b, t, h) :: r => if a ≤ pc ∧ pc < b then (if e = (t : Int) then some (some h) else if 200 < e ∧ e < 207 then (match hdl r pc e with
    | some (some x) => some (some x)
    | _ => none) else none) else hdl r pc e
/-- the same where a call throws: past handlers that don't take it -/
def hdlC (l : List (Nat × Nat × Nat × Nat)) (pc : Nat) (e : Int) : Option (Option Nat) := match l with
  | [] => some none
  | (a, b, t, h) :: r => if a ≤ pc ∧ pc < b then (if e = (t : Int) then some (some h) else if 200 < e ∧ e < 207 then hdlC r pc e else none) else hdlC r pc e
abbrev Rs : Type := Option PV ⊕ Int
/-- n steps at most, d frames deep at most -/
def exec (n d k pc : Nat) (ls st : List PV) (m : Mem) : Option (Rs × Mem) := match n with
  | 0 => none
  | n + 1 => match mI k with
    | none => none
    | some (c, _, bs, _, _, rk, _, ik, _) => match decode bs pc with
      | .ok (i, len) => if len ≠ ilen i len then none else match stp c k rk ik i pc len ls st m with
        | none => none
        | some (.inl (pc1, ls1, st1, m1)) => exec n d k pc1 ls1 st1 m1
        | some (.inr (.inl (k1, as, rest, len1))) => (match d with
          | 0 => none
          | d1 + 1 => match mI k1 with
            | none => none
            | some e1 => if e1.2.2.2.1 < (arL as).length then none else match exec n d1 k1 0 (ini e1.2.2.2.1 as) [] m with
              | none => none
              | some (.inl v, m1) => exec n d k (pc + len1) ls (v.toList ++ rest) m1
              | some (.inr e, m1) => if k = 0 then none else match hdlC (rHt k) pc e with
                | some (some h) => exec n d k h ls [pU] m1
                | some none => some (.inr e, m1)
                | none => none)
        | some (.inr (.inr (.inl v))) => some (.inl v, m)
        | some (.inr (.inr (.inr (e, m1)))) => if k = 0 then none else match hdl (rHt k) (pc + 7) e with
          | some none => some (.inr e, m1)
          | _ => none
      | _ => none
termination_by structural n
