/-! what is chosen keeps what kids keep -/
set_option maxRecDepth 100000
set_option maxHeartbeats 4000000
section
variable {Pn : Nd → Prop}
def EPn (Pn : Nd → Prop) (x : EV (List Nd)) : Prop := ∀ w ys w', x w = some (ys, w') → ∀ n ∈ ys, Pn n
theorem EPn.nil : EPn Pn (eR []) := fun w ys w' h n hn => by cases h; cases hn
theorem EPn.ret {ys : List Nd} (h : ∀ n ∈ ys, Pn n) : EPn Pn (eR ys) := fun w ys w' e n hn => by cases e; exact h n hn
theorem EPn.b {α : Type} {x : EV α} {k : α → EV (List Nd)} (h : ∀ a w w', x w = some (a, w') → EPn Pn (k a)) : EPn Pn (eB x k) := by
  intro w ys w' e
  cases hE : x w with
  | none => rw [eB_none hE] at e; cases e
  | some z =>
    obtain ⟨a, w1⟩ := z
    rw [eB_some hE] at e
    exact h a w w1 hE w1 ys w' e
theorem EPn.one {x : Nd} (h : Pn x) : EPn Pn (eA x) := EPn.b fun _ _ _ _ => EPn.ret fun n hn => by rw [List.mem_singleton.mp hn]; exact h
theorem EPn.app {x g : EV (List Nd)} (hx : EPn Pn x) (hg : EPn Pn g) : EPn Pn (eB x fun a => eB g fun b => eR (a ++ b)) := EPn.b fun a w w' e => EPn.b fun b w2 w3 e2 => EPn.ret fun n hn => by
  rcases List.mem_append.mp hn with z | z
  · exact hx w a w' e n z
  · exact hg w2 b w3 e2 n z
theorem EPn.l {α : Type} {f : α → EV (List Nd)} : ∀ {zs : List α}, (∀ z ∈ zs, EPn Pn (f z)) → EPn Pn (eL f zs) := by
  intro zs
  induction zs with
  | nil => intro _; exact EPn.nil
  | cons z zs ih => intro h; exact EPn.app (h z (List.mem_cons_self)) (ih fun y hy => h y (List.mem_cons_of_mem _ hy))
theorem EPn.f {f : Nd → EV Bool} {x : Nd} : ∀ {cs : List Nk}, (∀ c ∈ cs, Pn (c :: x)) → EPn Pn (eF f x cs) := by
  intro cs
  induction cs with
  | nil => intro _; exact EPn.nil
  | cons c cs ih =>
    intro h
    refine EPn.b fun _ _ _ _ => EPn.b fun b _ _ _ => EPn.app ?_ (ih fun y hy => h y (List.mem_cons_of_mem _ hy))
    cases b
    · exact EPn.nil
    · exact EPn.one (h c (List.mem_cons_self))
theorem EPn.i {c : Nk} {x : Nd} {i : Int} (h : ∀ y ∈ kdS c, Pn (y :: c :: x)) : EPn Pn (evI c x i) := by
  unfold evI
  split
  · exact EPn.nil
  · split
    · exact EPn.nil
    · rename_i y hy
      exact EPn.one (h y (List.mem_of_getElem? hy))
theorem EPn.s1 (hk : ∀ c x, Pn (c :: x) → ∀ y ∈ kdS c, Pn (y :: c :: x)) {d : ND} {x : Nd} (hx : Pn x) : EPn Pn (sel1 d x) := by
  cases x with
  | nil => exact EPn.nil
  | cons q t =>
    have hk := hk q t hx
    unfold sel1
    dsimp only
    split
    · split
      · split
        · exact EPn.nil
        · rename_i y hy
          exact EPn.one (hk y (kdN_mem hy))
      · exact EPn.nil
    · split
      · exact EPn.l fun z hz => by
          obtain ⟨y, hy, rfl⟩ := List.mem_map.mp hz
          exact EPn.one (hk y hy)
      · split
        · split
          · exact EPn.i hk
          · exact EPn.nil
        · split
          · split
            · exact EPn.l fun z _ => EPn.i hk
            · exact EPn.nil
          · exact EPn.nil
theorem EPn.dw {f : Nd → EV (List Nd)} (hk : ∀ c x, Pn (c :: x) → ∀ y ∈ kdS c, Pn (y :: c :: x)) (hf : ∀ z, Pn z → EPn Pn (f z)) : ∀ (F : Fo) (x : Nd) (ob : Bool) (p : Int) (k : Nat), (∀ y ∈ kdL ob F p k, Pn (y :: x)) → EPn Pn (dwF f x ob F p k) := by
  intro F
  induction F with
  | leaf => intro x ob p k _; exact EPn.nil
  | inner n dd u l r ihl ihr =>
    intro x ob p k h
    rw [kdL_inner] at h
    have h0 := h _ (List.mem_cons_self)
    exact EPn.app (EPn.b fun _ _ _ _ => EPn.app (hf _ h0) (ihl _ _ _ _ (hk _ _ h0))) (ihr _ _ _ _ fun y hy => h y (List.mem_cons_of_mem _ hy))
theorem EPn.dn {f : Nd → EV (List Nd)} (hk : ∀ c x, Pn (c :: x) → ∀ y ∈ kdS c, Pn (y :: c :: x)) {x : Nd} (hx : Pn x) (hf : ∀ z, Pn z → EPn Pn (f z)) : EPn Pn (dwn f x) := by
  cases x with
  | nil => exact EPn.nil
  | cons q t => exact EPn.b fun _ _ _ _ => EPn.app (hf _ hx) (EPn.dw hk hf _ _ _ _ _ (hk q t hx))
theorem evX_Pn (hk : ∀ c x, Pn (c :: x) → ∀ y ∈ kdS c, Pn (y :: c :: x)) {rt : Nd} (hrt : Pn rt) : ∀ F : Fo, (∀ x, Pn x → EPn Pn ((evX rt F).sel x)) ∧ (∀ zs, (∀ n ∈ zs, Pn n) → EPn Pn ((evX rt F).seg zs)) ∧ ∀ x, Pn x → EPn Pn ((evX rt F).qry x) := by
  intro F
  induction F with
  | leaf => exact ⟨fun _ _ => EPn.nil, fun zs h => EPn.ret h, fun _ _ => EPn.nil⟩
  | inner n d u l r ihl ihr =>
    have hS : ∀ x, Pn x → EPn Pn (evS d (evX rt l) x) := by
      intro x hx
      unfold evS
      split
      · cases x with
        | nil => exact EPn.nil
        | cons q t => exact EPn.f (hk q t hx)
      · exact EPn.s1 hk hx
    have hG : ∀ x, Pn x → EPn Pn (evG d (evX rt l) x) := by
      intro x hx
      unfold evG
      split
      · exact ihl.1 x hx
      · exact EPn.dn hk hx ihl.1
    refine ⟨fun x hx => EPn.app (hS x hx) (ihr.1 x hx), fun zs hzs => EPn.b fun a w w' e => ihr.2.1 a (EPn.l (fun z hz => hG z (hzs z hz)) w a w' e), fun x hx => EPn.b fun a w w' e => ihl.2.1 a ?_⟩
    refine EPn.one (x := if d.2.1 = 0 then x else rt) ?_ w a w' e
    split
    · exact hx
    · exact hrt
end
/-- a node and what is around it, up to the root -/
def chN (rt : Nk) : Nd → Prop
  | [] => False
  | [c] => c = rt
  | y :: c :: x => y ∈ kdS c ∧ chN rt (c :: x)
theorem chN_k {rt : Nk} : ∀ c x, chN rt (c :: x) → ∀ y ∈ kdS c, chN rt (y :: c :: x) := fun _ _ h _ hy => ⟨hy, h⟩
/-- a path, printed -/
def prP : Nd → List Int
  | [] => []
  | [_] => [36]
  | y :: c :: x => prP (c :: x) ++ (91 :: ((if c.2.2.1.1 = 6 then prS 39 y.2.2.1.2.2.2 else prN (y.2.2.2.2 : Nat)) ++ [93]))
