/-! evaluation doesn't look at indices -/
set_option maxRecDepth 100000
set_option maxHeartbeats 4000000
def eK (q : Nk) : Nk := (q.1, 0, q.2.2.1, erF q.2.2.2.1, q.2.2.2.2)
def eN (x : Nd) : Nd := x.map eK
def eVR (v : VR) : VR := v.map fun z => (z.1, erF z.2)
theorem enF_er0 (F : Fo) : ∀ ob, enF ob (erF F) = enF ob F := by
  induction F with
  | leaf => intro ob; rfl
  | inner i d u l r ihl ihr =>
    intro ob
    simp only [erF, enF_inner, enV, ihl, ihr]
theorem enV_er0 (d : ND) (l : Fo) : enV d (erF l) = enV d l := by unfold enV; rw [enF_er0]
theorem kdL_er {ob : Bool} : ∀ (F : Fo) (p : Int) (k : Nat), kdL ob (erF F) p k = (kdL ob F p k).map eK := by
  intro F
  induction F with
  | leaf => intro p k; rfl
  | inner i d u l r _ ih =>
    intro p k
    show (_, 0, d, erF l, k) :: kdL ob (erF r) (p + _ + ((enV d (erF l)).length : Int)) (k + 1) = _
    rw [enV_er0, ih]; rfl
theorem kdS_er (c : Nk) : kdS (eK c) = (kdS c).map eK := kdL_er _ _ _
/-- the same, but for f -/
def Rl {α β : Type} (f : α → β) (x : EV α) (y : EV β) : Prop := ∀ w, y w = (x w).map fun z => (f z.1, z.2)
section
variable {α β γ δ : Type}
theorem Rl.r {f : α → β} {a : α} : Rl f (eR a) (eR (f a)) := fun _ => rfl
theorem Rl.r' {f : α → β} {a : α} {b : β} (h : b = f a) : Rl f (eR a) (eR b) := by rw [h]; exact Rl.r
theorem Rl.t : Rl (fun u : Unit => u) eT eT := fun w => by unfold eT; split <;> rfl
theorem Rl.b {g : α → β} {f : γ → δ} {x : EV α} {y : EV β} {k : α → EV γ} {k' : β → EV δ} (h : Rl g x y) (h' : ∀ a, Rl f (k a) (k' (g a))) : Rl f (eB x k) (eB y k') := fun w => by
  unfold eB
  rw [h w]
  cases hx : x w with
  | none => rfl
  | some z =>
    obtain ⟨a, w'⟩ := z
    exact h' a w'
theorem Rl.cast {f : α → β} {x x' : EV α} {y y' : EV β} (h : Rl f x y) (e1 : x' = x) (e2 : y' = y) : Rl f x' y' := by rw [e1, e2]; exact h
theorem Rl.app {f : α → β} {x g : EV (List α)} {y g' : EV (List β)} (h : Rl (List.map f) x y) (h' : Rl (List.map f) g g') : Rl (List.map f) (eB x fun a => eB g fun b => eR (a ++ b)) (eB y fun a => eB g' fun b => eR (a ++ b)) := h.b fun a => h'.b fun b => Rl.r' (List.map_append).symm
end
theorem Rl.a {x : Nd} : Rl (List.map eN) (eA x) (eA (eN x)) := Rl.t.b fun _ => Rl.r
theorem Rl.l {α β : Type} {f : α → EV (List Nd)} {f' : β → EV (List Nd)} {g : α → β} : ∀ {zs : List α}, (∀ z, Rl (List.map eN) (f z) (f' (g z))) → Rl (List.map eN) (eL f zs) (eL f' (zs.map g)) := by
  intro zs
  induction zs with
  | nil => intro _; exact Rl.r
  | cons z zs ih => intro h; exact (h z).app (ih h)
theorem Rl.f {f f' : Nd → EV Bool} {x : Nd} (h : ∀ c, Rl id (f (c :: x)) (f' (eK c :: eN x))) : ∀ {cs : List Nk}, Rl (List.map eN) (eF f x cs) (eF f' (eN x) (cs.map eK)) := by
  intro cs
  induction cs with
  | nil => exact Rl.r
  | cons c cs ih =>
    refine Rl.t.b fun _ => (h c).b fun b => ?_
    refine Rl.app ?_ ih
    cases b with
    | true => exact Rl.a (x := c :: x)
    | false => exact Rl.r
theorem kdN_er {nm : List Int} : ∀ (cs : List Nk), kdN nm (cs.map eK) = (kdN nm cs).map eK := by
  intro cs
  induction cs with
  | nil => rfl
  | cons c cs ih =>
    show (if c.2.2.1.2.2.2 = nm then some (eK c) else kdN nm (cs.map eK)) = Option.map eK (if c.2.2.1.2.2.2 = nm then some c else kdN nm cs)
    rw [ih]
    split <;> rfl
theorem evI_er {c : Nk} {x : Nd} {i : Int} : Rl (List.map eN) (evI c x i) (evI (eK c) (eN x) i) := by
  unfold evI
  split
  · exact Rl.r
  · rw [kdS_er, List.getElem?_map]
    cases (kdS c)[i.toNat]? with
    | none => exact Rl.r
    | some y => exact Rl.a (x := y :: c :: x)
theorem sel1_er {d : ND} {x : Nd} : Rl (List.map eN) (sel1 d x) (sel1 d (eN x)) := by
  cases x with
  | nil => exact Rl.r
  | cons c x =>
    have ek : (eK c).2.2.1 = c.2.2.1 := rfl
    have el : cntF (eK c).2.2.2.1 = cntF c.2.2.2.1 := cntF_er _
    show Rl (List.map eN) (sel1 d (c :: x)) (sel1 d (eK c :: eN x))
    by_cases k1 : d.1 = 1
    · rw [sel1_1 k1, sel1_1 k1, ek, kdS_er, kdN_er]
      split
      · cases kdN d.2.2.1 (kdS c) with
        | none => exact Rl.r
        | some y => exact Rl.a (x := y :: c :: x)
      · exact Rl.r
    · by_cases k2 : d.1 = 2
      · rw [sel1_2 k2, sel1_2 k2, kdS_er]
        have e : ((kdS c).map eK).map (· :: eK c :: eN x) = ((kdS c).map (· :: c :: x)).map eN := by rw [List.map_map, List.map_map]; rfl
        rw [e]
        exact Rl.l (g := eN) fun z => Rl.a
      · by_cases k3 : d.1 = 3
        · rw [sel1_3 k3, sel1_3 k3, ek, el]
          split
          · exact evI_er
          · exact Rl.r
        · by_cases k4 : d.1 = 4
          · rw [sel1_4 k4, sel1_4 k4, ek, el]
            split
            · have := Rl.l (f := evI c x) (f' := evI (eK c) (eN x)) (g := fun i : Int => i) (zs := slI d.2.2.1 (cntF c.2.2.2.1)) fun z => evI_er
              rwa [List.map_id'] at this
            · exact Rl.r
          · unfold sel1
            dsimp only
            rw [if_neg k1, if_neg k2, if_neg k3, if_neg k4, if_neg k1, if_neg k2, if_neg k3, if_neg k4]
            exact Rl.r
theorem dwF_er {f f' : Nd → EV (List Nd)} (h : ∀ z, Rl (List.map eN) (f z) (f' (eN z))) : ∀ (F : Fo) (x : Nd) (ob : Bool) (p : Int) (k : Nat), Rl (List.map eN) (dwF f x ob F p k) (dwF f' (eN x) ob (erF F) p k) := by
  intro F
  induction F with
  | leaf => intro x ob p k; exact Rl.r
  | inner i d u l r ihl ihr =>
    intro x ob p k
    have h1 := (h ((p + ((if ob then nmB d.2.2.2 else []).length : Int), i, d, l, k) :: x)).app (ihl ((p + ((if ob then nmB d.2.2.2 else []).length : Int), i, d, l, k) :: x) (d.1 == 6) (p + ((if ob then nmB d.2.2.2 else []).length : Int) + 3) 0)
    have h2 := ihr x ob (p + ((if ob then nmB d.2.2.2 else []).length : Int) + (enV d l).length) (k + 1)
    rw [← enV_er0 d l] at h2
    have h3 := (Rl.t.b fun _ => h1).app h2
    rw [enV_er0] at h3
    have e1 : dwF f' (eN x) ob (erF (.inner i d u l r)) p k = dwF f' (eN x) ob (.inner 0 d u (erF l) (erF r)) p k := rfl
    rw [e1]
    show Rl (List.map eN) _ (eB (eB eT fun _ => eB (f' ((p + ((if ob then nmB d.2.2.2 else []).length : Int), 0, d, erF l, k) :: eN x)) fun a => eB (dwF f' ((p + ((if ob then nmB d.2.2.2 else []).length : Int), 0, d, erF l, k) :: eN x) (d.1 == 6) (erF l) (p + ((if ob then nmB d.2.2.2 else []).length : Int) + 3) 0) fun b => eR (a ++ b)) fun a => eB (dwF f' (eN x) ob (erF r) (p + ((if ob then nmB d.2.2.2 else []).length : Int) + (enV d (erF l)).length) (k + 1)) fun b => eR (a ++ b))
    rw [enV_er0]
    exact h3
theorem dwn_er {f f' : Nd → EV (List Nd)} (h : ∀ z, Rl (List.map eN) (f z) (f' (eN z))) (x : Nd) : Rl (List.map eN) (dwn f x) (dwn f' (eN x)) := by
  cases x with
  | nil => exact Rl.r
  | cons c x => exact Rl.t.b fun _ => (h (c :: x)).app (dwF_er h _ (c :: x) _ _ _)
theorem vNum_er (n : Int) : eVR (vNum n) = vNum n := rfl
theorem vLen_er (v : VR) : vLen (eVR v) = eVR (vLen v) := by
  cases v with
  | none => rfl
  | some z =>
    obtain ⟨d, l⟩ := z
    show (if d.1 < 4 then none else if d.1 = 4 then vNum (chU d.2.2.1).length else vNum (cntF (erF l))) = eVR (if d.1 < 4 then none else if d.1 = 4 then vNum (chU d.2.2.1).length else vNum (cntF l))
    rw [cntF_er]
    split
    · rfl
    · split <;> rfl
theorem vSm_er (a b : VR) : vSm (eVR a) (eVR b) = vSm a b := by
  cases a with
  | none => cases b <;> rfl
  | some z =>
    cases b with
    | none => rfl
    | some y => exact smV_er _ _ _ _
theorem vLt_er (a b : VR) : vLt (eVR a) (eVR b) = vLt a b := by
  cases a with
  | none => cases b <;> rfl
  | some z => cases b <;> rfl
theorem vCm_er (o : Int) (a b : VR) : vCm o (eVR a) (eVR b) = vCm o a b := by unfold vCm; rw [vSm_er, vLt_er, vLt_er]
theorem vOne_er (xs : List Nd) : vOne (xs.map eN) = eVR (vOne xs) := by
  cases xs with
  | nil => rfl
  | cons x xs =>
    cases xs with
    | nil => cases x <;> rfl
    | cons y ys => cases x <;> rfl
theorem evX_er {rt : Nd} : ∀ F : Fo, (∀ x, Rl (List.map eN) ((evX rt F).sel x) ((evX (eN rt) F).sel (eN x))) ∧ (∀ zs, Rl (List.map eN) ((evX rt F).seg zs) ((evX (eN rt) F).seg (zs.map eN))) ∧ (∀ x, Rl id ((evX rt F).any x) ((evX (eN rt) F).any (eN x))) ∧ (∀ x, Rl id ((evX rt F).all x) ((evX (eN rt) F).all (eN x))) ∧ (∀ x, Rl id ((evX rt F).tst x) ((evX (eN rt) F).tst (eN x))) ∧ (∀ x, Rl eVR ((evX rt F).cpb x) ((evX (eN rt) F).cpb (eN x))) ∧ (∀ x, Rl eVR ((evX rt F).cp2 x) ((evX (eN rt) F).cp2 (eN x))) ∧ (∀ x, Rl (List.map eN) ((evX rt F).qry x) ((evX (eN rt) F).qry (eN x))) := by
  intro F
  induction F with
  | leaf => exact ⟨fun _ => Rl.r, fun _ => Rl.r, fun _ => Rl.r, fun _ => Rl.r, fun _ => Rl.r, fun _ => Rl.r, fun _ => Rl.r, fun _ => Rl.r⟩
  | inner n d u l r ihl ihr =>
    obtain ⟨l1, l2, l3, l4, l5, l6, l7, l8⟩ := ihl
    obtain ⟨r1, r2, r3, r4, r5, r6, r7, r8⟩ := ihr
    have hS : ∀ x, Rl (List.map eN) (evS d (evX rt l) x) (evS d (evX (eN rt) l) (eN x)) := fun x => by
      unfold evS
      by_cases k5 : d.1 = 5
      · rw [if_pos k5, if_pos k5]
        cases x with
        | nil => exact Rl.r
        | cons c y =>
          show Rl (List.map eN) (eF (evX rt l).tst (c :: y) (kdS c)) (eF (evX (eN rt) l).tst (eN (c :: y)) (kdS (eK c)))
          rw [kdS_er]
          exact Rl.f (x := c :: y) fun q => l5 (q :: c :: y)
      · rw [if_neg k5, if_neg k5]
        exact sel1_er
    have hG : ∀ x, Rl (List.map eN) (evG d (evX rt l) x) (evG d (evX (eN rt) l) (eN x)) := fun x => by
      unfold evG
      split
      · exact l1 x
      · exact dwn_er l1 x
    have hT : ∀ x, Rl id (evT d (evX rt l) x) (evT d (evX (eN rt) l) (eN x)) := fun x => by
      unfold evT
      split
      · exact l3 x
      · split
        · exact l4 x
        · split
          · exact (l5 x).b fun b => Rl.r
          · split
            · exact (l8 x).b fun xs => Rl.r' (by cases xs <;> rfl)
            · exact (l6 x).b fun a => (l7 x).b fun b => Rl.r' (vCm_er _ _ _)
    have hC : ∀ x, Rl eVR (evC d (evX rt l) x) (evC d (evX (eN rt) l) (eN x)) := fun x => by
      unfold evC
      split
      · exact (l8 x).b fun xs => Rl.r' (vOne_er xs)
      · split
        · exact (l8 x).b fun xs => Rl.r' (by rw [List.length_map]; rfl)
        · split
          · exact (l6 x).b fun v => Rl.r' (vLen_er v)
          · exact Rl.r
    have hQ : ∀ x, Rl (List.map eN) (evQ rt d (evX rt l) x) (evQ (eN rt) d (evX (eN rt) l) (eN x)) := fun x => by
      unfold evQ
      have e : (if d.2.1 = 0 then eN x else eN rt) = eN (if d.2.1 = 0 then x else rt) := by split <;> rfl
      rw [e]
      exact Rl.a.b fun a => l2 a
    refine ⟨fun x => (hS x).app (r1 x), fun zs => (Rl.l (g := eN) hG).b fun a => r2 a, fun x => (hT x).b fun b => ?_, fun x => (hT x).b fun b => ?_, hT, hC, r6, hQ⟩
    · cases b with
      | true => exact Rl.r
      | false => exact r3 x
    · cases b with
      | true => exact r4 x
      | false => exact Rl.r
