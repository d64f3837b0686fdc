/-! the disk: what blocks hold; versions as trees of blocks -/
set_option maxRecDepth 100000
set_option maxHeartbeats 4000000
section
variable {α : Type}
/-- a document comes in at its id -/
def insL (id : Int) (a : α) : List (Int × α) → List (Int × α)
  | [] => [(id, a)]
  | (j, b) :: r => if j < id then (j, b) :: insL id a r else if j = id then (id, a) :: r else (id, a) :: (j, b) :: r
def rmL (id : Int) : List (Int × α) → List (Int × α)
  | [] => []
  | (j, b) :: r => if j = id then r else (j, b) :: rmL id r
def lkL (id : Int) : List (Int × α) → Option α
  | [] => none
  | (j, b) :: r => if j = id then some b else lkL id r
/-- ids grow -/
def srt : List (Int × α) → Prop
  | [] => True
  | x :: r => (∀ y ∈ r, x.1 < y.1) ∧ srt r
theorem srt_app : ∀ {A B : List (Int × α)}, srt (A ++ B) ↔ srt A ∧ srt B ∧ ∀ x ∈ A, ∀ y ∈ B, x.1 < y.1 := by
  intro A
  induction A with
  | nil => intro B; exact ⟨fun h => ⟨trivial, h, fun x hx => (by cases hx)⟩, fun h => h.2.1⟩
  | cons z A ih =>
    intro B
    constructor
    · rintro ⟨h1, h2⟩
      obtain ⟨a1, a2, a3⟩ := ih.mp h2
      refine ⟨⟨fun y hy => h1 y (List.mem_append_left _ hy), a1⟩, a2, fun x hx y hy => ?_⟩
      rcases List.mem_cons.mp hx with q | q
      · rw [q]; exact h1 y (List.mem_append_right _ hy)
      · exact a3 x q y hy
    · rintro ⟨⟨h1, h2⟩, h3, h4⟩
      refine ⟨fun y hy => ?_, ih.mpr ⟨h2, h3, fun x hx y hy => h4 x (List.mem_cons_of_mem _ hx) y hy⟩⟩
      rcases List.mem_append.mp hy with q | q
      · exact h1 y q
      · exact h4 z List.mem_cons_self y q
theorem insL_mid {id : Int} {a : α} : ∀ {A Q : List (Int × α)}, (∀ x ∈ A, x.1 < id) → insL id a (A ++ Q) = A ++ insL id a Q := by
  intro A
  induction A with
  | nil => intro Q _; rfl
  | cons z A ih =>
    intro Q h
    obtain ⟨j, b⟩ := z
    have hz : j < id := h (j, b) List.mem_cons_self
    show (if j < id then (j, b) :: insL id a (A ++ Q) else _) = (j, b) :: (A ++ insL id a Q)
    rw [if_pos hz, ih fun x hx => h x (List.mem_cons_of_mem _ hx)]
theorem insL_end {id : Int} {a : α} : ∀ {Q R : List (Int × α)}, (∀ x ∈ R, id < x.1) → insL id a (Q ++ R) = insL id a Q ++ R := by
  intro Q
  induction Q with
  | nil =>
    intro R h
    cases R with
    | nil => rfl
    | cons z R =>
      obtain ⟨j, b⟩ := z
      have hz : id < j := h (j, b) List.mem_cons_self
      show (if j < id then _ else if j = id then _ else (id, a) :: (j, b) :: R) = (id, a) :: (j, b) :: R
      rw [if_neg (by omega), if_neg (by omega)]
  | cons z Q ih =>
    intro R h
    obtain ⟨j, b⟩ := z
    show (if j < id then (j, b) :: insL id a (Q ++ R) else if j = id then (id, a) :: (Q ++ R) else (id, a) :: (j, b) :: (Q ++ R)) = (if j < id then (j, b) :: insL id a Q else if j = id then (id, a) :: Q else (id, a) :: (j, b) :: Q) ++ R
    split
    · rw [ih h]; rfl
    · split <;> rfl
theorem rmL_mid {id : Int} : ∀ {A Q : List (Int × α)}, (∀ x ∈ A, x.1 ≠ id) → rmL id (A ++ Q) = A ++ rmL id Q := by
  intro A
  induction A with
  | nil => intro Q _; rfl
  | cons z A ih =>
    intro Q h
    obtain ⟨j, b⟩ := z
    have hz : j ≠ id := h (j, b) List.mem_cons_self
    show (if j = id then A ++ Q else (j, b) :: rmL id (A ++ Q)) = (j, b) :: (A ++ rmL id Q)
    rw [if_neg hz, ih fun x hx => h x (List.mem_cons_of_mem _ hx)]
theorem rmL_end {id : Int} : ∀ {Q R : List (Int × α)}, (∀ x ∈ R, x.1 ≠ id) → rmL id (Q ++ R) = rmL id Q ++ R := by
  intro Q
  induction Q with
  | nil =>
    intro R h
    have := rmL_mid (Q := []) h
    rw [List.append_nil] at this
    show rmL id R = R
    rw [this]; exact List.append_nil R
  | cons z Q ih =>
    intro R h
    obtain ⟨j, b⟩ := z
    show (if j = id then Q ++ R else (j, b) :: rmL id (Q ++ R)) = (if j = id then Q else (j, b) :: rmL id Q) ++ R
    split
    · rfl
    · rw [ih h]; rfl
theorem lkL_mid {id : Int} : ∀ {A Q : List (Int × α)}, (∀ x ∈ A, x.1 ≠ id) → lkL id (A ++ Q) = lkL id Q := by
  intro A
  induction A with
  | nil => intro Q _; rfl
  | cons z A ih =>
    intro Q h
    obtain ⟨j, b⟩ := z
    have hz : j ≠ id := h (j, b) List.mem_cons_self
    show (if j = id then some b else lkL id (A ++ Q)) = _
    rw [if_neg hz, ih fun x hx => h x (List.mem_cons_of_mem _ hx)]
theorem lkL_end {id : Int} : ∀ {Q R : List (Int × α)}, (∀ x ∈ R, x.1 ≠ id) → lkL id (Q ++ R) = lkL id Q := by
  intro Q
  induction Q with
  | nil =>
    intro R h
    have := lkL_mid (Q := []) h
    rw [List.append_nil] at this
    exact this
  | cons z Q ih =>
    intro R h
    obtain ⟨j, b⟩ := z
    show (if j = id then some b else lkL id (Q ++ R)) = if j = id then some b else lkL id Q
    split
    · rfl
    · exact ih h
theorem insL_mem {id : Int} {a : α} : ∀ {L : List (Int × α)} {x : Int × α}, x ∈ insL id a L → x = (id, a) ∨ x ∈ L := by
  intro L
  induction L with
  | nil => intro x h; exact Or.inl (List.mem_singleton.mp h)
  | cons z L ih =>
    intro x h
    obtain ⟨j, b⟩ := z
    unfold insL at h
    split at h
    · rcases List.mem_cons.mp h with q | q
      · exact Or.inr (by rw [q]; exact List.mem_cons_self)
      · rcases ih q with w | w
        · exact Or.inl w
        · exact Or.inr (List.mem_cons_of_mem _ w)
    · split at h
      · rcases List.mem_cons.mp h with q | q
        · exact Or.inl q
        · exact Or.inr (List.mem_cons_of_mem _ q)
      · rcases List.mem_cons.mp h with q | q
        · exact Or.inl q
        · exact Or.inr q
theorem srt_ins {id : Int} {a : α} : ∀ {L : List (Int × α)}, srt L → srt (insL id a L) := by
  intro L
  induction L with
  | nil => intro _; exact ⟨fun y hy => (by cases hy), trivial⟩
  | cons z L ih =>
    rintro ⟨h1, h2⟩
    obtain ⟨j, b⟩ := z
    unfold insL
    split
    · rename_i hj
      refine ⟨fun y hy => ?_, ih h2⟩
      rcases insL_mem hy with q | q
      · rw [q]; exact hj
      · exact h1 y q
    · split
      · rename_i hj
        subst hj
        exact ⟨h1, h2⟩
      · rename_i hj hj2
        refine ⟨fun y hy => ?_, h1, h2⟩
        rcases List.mem_cons.mp hy with q | q
        · rw [q]; show id < j; omega
        · have := h1 y q
          show id < y.1
          have : j < y.1 := this
          omega
theorem rmL_mem {id : Int} : ∀ {L : List (Int × α)} {x : Int × α}, x ∈ rmL id L → x ∈ L := by
  intro L
  induction L with
  | nil => intro x h; cases h
  | cons z L ih =>
    intro x h
    obtain ⟨j, b⟩ := z
    unfold rmL at h
    split at h
    · exact List.mem_cons_of_mem _ h
    · rcases List.mem_cons.mp h with q | q
      · rw [q]; exact List.mem_cons_self
      · exact List.mem_cons_of_mem _ (ih q)
theorem srt_rm {id : Int} : ∀ {L : List (Int × α)}, srt L → srt (rmL id L) := by
  intro L
  induction L with
  | nil => intro _; exact trivial
  | cons z L ih =>
    rintro ⟨h1, h2⟩
    obtain ⟨j, b⟩ := z
    unfold rmL
    split
    · exact h2
    · exact ⟨fun y hy => h1 y (rmL_mem hy), ih h2⟩
theorem lkL_none {id : Int} : ∀ {L : List (Int × α)}, lkL id L = none ↔ ∀ x ∈ L, x.1 ≠ id := by
  intro L
  induction L with
  | nil => exact ⟨fun _ x hx => (by cases hx), fun _ => rfl⟩
  | cons z L ih =>
    obtain ⟨j, b⟩ := z
    show (if j = id then some b else lkL id L) = none ↔ _
    constructor
    · intro h x hx
      split at h
      · cases h
      · rename_i hj
        rcases List.mem_cons.mp hx with q | q
        · rw [q]; exact hj
        · exact ih.mp h x q
    · intro h
      rw [if_neg (h (j, b) List.mem_cons_self)]
      exact ih.mpr fun x hx => h x (List.mem_cons_of_mem _ hx)
theorem insL_len {id : Int} {a : α} : ∀ {L : List (Int × α)}, srt L → (insL id a L).length = L.length + (if (lkL id L).isNone then 1 else 0) := by
  intro L
  induction L with
  | nil => intro _; rfl
  | cons z L ih =>
    rintro ⟨h1, h2⟩
    obtain ⟨j, b⟩ := z
    have hl : lkL id ((j, b) :: L) = if j = id then some b else lkL id L := rfl
    rw [hl]
    by_cases h3 : j < id
    · have h4 : ¬ j = id := by omega
      rw [if_neg h4]
      unfold insL
      rw [if_pos h3, List.length_cons, ih h2, List.length_cons]; omega
    · by_cases h4 : j = id
      · rw [if_pos h4]
        unfold insL
        rw [if_neg h3, if_pos h4]; rfl
      · rw [if_neg h4]
        unfold insL
        rw [if_neg h3, if_neg h4]
        have : lkL id L = none := lkL_none.mpr fun x hx => by have : j < x.1 := h1 x hx; omega
        rw [this]; rfl
theorem rmL_len {id : Int} : ∀ {L : List (Int × α)}, (rmL id L).length + (if (lkL id L).isNone then 0 else 1) = L.length := by
  intro L
  induction L with
  | nil => rfl
  | cons z L ih =>
    obtain ⟨j, b⟩ := z
    have hl : lkL id ((j, b) :: L) = if j = id then some b else lkL id L := rfl
    rw [hl]
    unfold rmL
    by_cases hj : j = id
    · rw [if_pos hj, if_pos hj]; rfl
    · rw [if_neg hj, if_neg hj, List.length_cons, List.length_cons]; omega
end
section
variable {α β : Type}
/-- with other contents -/
def mpL (f : α → β) (L : List (Int × α)) : List (Int × β) := L.map fun x => (x.1, f x.2)
theorem insL_mp {f : α → β} {id : Int} {a : α} : ∀ {L : List (Int × α)}, mpL f (insL id a L) = insL id (f a) (mpL f L) := by
  intro L
  induction L with
  | nil => rfl
  | cons z L ih =>
    obtain ⟨j, b⟩ := z
    show mpL f (if j < id then (j, b) :: insL id a L else if j = id then (id, a) :: L else (id, a) :: (j, b) :: L) = if j < id then (j, f b) :: insL id (f a) (mpL f L) else if j = id then (id, f a) :: mpL f L else (id, f a) :: (j, f b) :: mpL f L
    split
    · rw [← ih]; rfl
    · split <;> rfl
theorem rmL_mp {f : α → β} {id : Int} : ∀ {L : List (Int × α)}, mpL f (rmL id L) = rmL id (mpL f L) := by
  intro L
  induction L with
  | nil => rfl
  | cons z L ih =>
    obtain ⟨j, b⟩ := z
    show mpL f (if j = id then L else (j, b) :: rmL id L) = if j = id then mpL f L else (j, f b) :: rmL id (mpL f L)
    split
    · rfl
    · rw [← ih]; rfl
theorem lkL_mp {f : α → β} {id : Int} : ∀ {L : List (Int × α)}, lkL id (mpL f L) = (lkL id L).map f := by
  intro L
  induction L with
  | nil => rfl
  | cons z L ih =>
    obtain ⟨j, b⟩ := z
    show (if j = id then some (f b) else lkL id (mpL f L)) = Option.map f (if j = id then some b else lkL id L)
    split
    · rfl
    · exact ih
theorem srt_mp {f : α → β} : ∀ {L : List (Int × α)}, srt (mpL f L) ↔ srt L := by
  intro L
  induction L with
  | nil => exact Iff.rfl
  | cons z L ih =>
    obtain ⟨j, b⟩ := z
    constructor
    · rintro ⟨h1, h2⟩
      exact ⟨fun y hy => h1 (y.1, f y.2) (List.mem_map.mpr ⟨y, hy, rfl⟩), ih.mp h2⟩
    · rintro ⟨h1, h2⟩
      refine ⟨fun y hy => ?_, ih.mpr h2⟩
      obtain ⟨x, hx, rfl⟩ := List.mem_map.mp hy
      exact h1 x hx
end
/-- documents of a version, as bytes; a child of a node: its block, its documents, its blocks -/
abbrev DL : Type := List (Int × List Int)
abbrev CH : Type := List (Int × DL × List Int)
def ftw (f : Int → Int) (a : Int) : Int := 256 * (f a % 256) + f (a + 1) % 256
/-- a block's sum -/
def sumN (f : Int → Int) : Nat → Int
  | 0 => 17
  | n + 1 => w32 (w32 (31 * sumN f n) + f n)
def SLD (f : Int → Int) : Prop := ∀ k : Int, 0 ≤ k → k < 4 → f (732 + k) = w8 (pShr (sumN f 732) (24 - 8 * k))
def hdId (L : DL) : Int := match L with
  | [] => 0
  | x :: _ => x.1
def ents (ch : CH) : List (Int × Int) := ch.map fun x => (hdId x.2.1, x.1)
def flL (ch : CH) : DL := ch.flatMap (·.2.1)
def flB (ch : CH) : List Int := ch.flatMap (·.2.2)
def bNode (f : Int → Int) (lf : Bool) (es : List (Int × Int)) : Prop := f 0 = (if lf then 2 else 3) ∧ ftw f 1 = es.length ∧ (∀ (j : Nat) (e : Int × Int), es[j]? = some e → ftw f (3 + 4 * j) = e.1 ∧ ftw f (5 + 4 * j) = e.2) ∧ SLD f
def bDoc (f : Int → Int) (xs : List Int) : Prop := f 0 = 1 ∧ ftw f 1 = xs.length ∧ (∀ j : Int, 0 ≤ j → j < xs.length → f (3 + j) = gi xs j) ∧ SLD f ∧ xs.length ≤ 729
/-- a tree of blocks below a node: a document, or a node with its children -/
def VTr (c : RF) : Nat → Int → DL → List Int → Prop
  | 0, b, L, bs => bs = [b] ∧ ∃ id xs, L = [(id, xs)] ∧ bDoc (c b) xs
  | h + 1, b, L, bs => ∃ ch : CH, bNode (c b) (h == 0) (ents ch) ∧ L = flL ch ∧ bs = b :: flB ch ∧ (3 ≤ ch.length ∧ ch.length ≤ 8) ∧ ∀ x ∈ ch, VTr c h x.1 x.2.1 x.2.2
/-- children of a node -/
def chV (c : RF) (h : Nat) (ch : CH) : Prop := ∀ x ∈ ch, VTr c h x.1 x.2.1 x.2.2
/-- a version's blocks -/
def VV (c : RF) (root : Int) (L : DL) (bs : List Int) : Prop := (root = 0 ∧ L = [] ∧ bs = []) ∨ ∃ (h : Nat) (ch : CH), bNode (c root) (h == 0) (ents ch) ∧ L = flL ch ∧ bs = root :: flB ch ∧ (1 ≤ ch.length ∧ ch.length ≤ 8 ∧ (0 < h → 2 ≤ ch.length)) ∧ chV c h ch
/-- a version as it should be -/
def VsO (c : RF) (root : Int) (L : DL) (bs : List Int) : Prop := VV c root L bs ∧ srt L ∧ (∀ x ∈ L, 0 ≤ x.1 ∧ x.1 < 10000) ∧ bs.Nodup ∧ ∀ b ∈ bs, 2 ≤ b ∧ b < 1600
theorem flL_app (A B : CH) : flL (A ++ B) = flL A ++ flL B := List.flatMap_append
theorem flB_app (A B : CH) : flB (A ++ B) = flB A ++ flB B := List.flatMap_append
theorem flL_cons (x : Int × DL × List Int) (B : CH) : flL (x :: B) = x.2.1 ++ flL B := List.flatMap_cons
theorem flB_cons (x : Int × DL × List Int) (B : CH) : flB (x :: B) = x.2.2 ++ flB B := List.flatMap_cons
theorem VTr.ne {c : RF} : ∀ {h : Nat} {b : Int} {L : DL} {bs : List Int}, VTr c h b L bs → L ≠ [] := by
  intro h
  induction h with
  | zero => rintro b L bs ⟨-, id, xs, rfl, -⟩; simp
  | succ h ih =>
    rintro b L bs ⟨ch, -, rfl, -, hl, hv⟩
    cases ch with
    | nil => simp at hl
    | cons x ch =>
      rw [flL_cons]
      intro hh
      exact ih (hv x List.mem_cons_self) (List.append_eq_nil_iff.mp hh).1
/-- it depends on its blocks alone -/
theorem VTr.cg {c c' : RF} : ∀ {h : Nat} {b : Int} {L : DL} {bs : List Int}, VTr c h b L bs → (∀ x ∈ bs, ∀ j, 0 ≤ j → j < 736 → c' x j = c x j) → VTr c' h b L bs := by
  have hs : ∀ (f f' : Int → Int), (∀ j, 0 ≤ j → j < 736 → f' j = f j) → ∀ n : Nat, n ≤ 736 → sumN f' n = sumN f n := by
    intro f f' h n
    induction n with
    | zero => intro _; rfl
    | succ n ih => intro hn; show w32 (w32 (31 * sumN f' n) + f' n) = w32 (w32 (31 * sumN f n) + f n); rw [ih (by omega), h n (by omega) (by omega)]
  have hS : ∀ (f f' : Int → Int), (∀ j, 0 ≤ j → j < 736 → f' j = f j) → SLD f → SLD f' := fun f f' h hf k k0 k1 => by rw [h _ (by omega) (by omega), hs f f' h 732 (by omega)]; exact hf k k0 k1
  intro h
  induction h with
  | zero =>
    rintro b L bs ⟨rfl, id, xs, rfl, d1, d2, d3, d4, d5⟩ hc
    have e := hc b List.mem_cons_self
    exact ⟨rfl, id, xs, rfl, by rw [e 0 (by decide) (by decide)]; exact d1, by unfold ftw; rw [e 1 (by decide) (by decide), e (1 + 1) (by decide) (by decide)]; exact d2, fun j j0 j1 => by rw [e _ (by omega) (by omega)]; exact d3 j j0 j1, hS _ _ e d4, d5⟩
  | succ h ih =>
    rintro b L bs ⟨ch, ⟨n1, n2, n3, n4⟩, rfl, rfl, hl, hv⟩ hc
    have e := hc b List.mem_cons_self
    have hel : (ents ch).length = ch.length := by unfold ents; rw [List.length_map]
    refine ⟨ch, ⟨by rw [e 0 (by decide) (by decide)]; exact n1, by unfold ftw; rw [e 1 (by decide) (by decide), e (1 + 1) (by decide) (by decide)]; exact n2, fun j ee hj => ?_, hS _ _ e n4⟩, rfl, rfl, hl, fun x hx => ih (hv x hx) fun y hy => hc y (List.mem_cons_of_mem _ (List.mem_flatMap.mpr ⟨x, hx, hy⟩))⟩
    have hj1 : j < (ents ch).length := (List.getElem?_eq_some_iff.mp hj).1
    have := n3 j ee hj
    unfold ftw at this ⊢
    rw [e _ (by omega) (by omega), e _ (by omega) (by omega), e _ (by omega) (by omega), e _ (by omega) (by omega)]
    exact this
