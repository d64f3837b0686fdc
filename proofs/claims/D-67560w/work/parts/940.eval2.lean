/-! what a query chooses stands in the row; what a query looks like -/
set_option maxRecDepth 100000
set_option maxHeartbeats 4000000
section
variable {xs : List Int} {f : Nd → EV (List Nd)}
theorem EOk.dw (hf : ∀ z, NVn xs z → EOk xs (f z)) : ∀ (F : Fo) (x : Nd) (ob : Bool) (p : Int) (k : Nat), (∀ y ∈ kdL ob F p k, NVn xs (y :: x)) → EOk xs (dwF f x ob F p k) := by
  intro F
  induction F with
  | leaf => intro x ob p k _; exact EOk.nil
  | inner n dd u l r ihl ihr =>
    intro x ob p k h
    rw [kdL_inner] at h
    have h0 := h _ (List.mem_cons_self)
    have h0' := h0
    obtain ⟨q, t, e, hN, hdp⟩ := h0'
    injection e with e1 e2
    subst e1 e2
    exact EOk.app (EOk.b fun _ _ _ _ => EOk.app (hf _ h0) (ihl _ _ _ _ (kdS_ok hN hdp))) (ihr _ _ _ _ fun y hy => h y (List.mem_cons_of_mem _ hy))
theorem EOk.dn {x : Nd} (hx : NVn xs x) (hf : ∀ z, NVn xs z → EOk xs (f z)) : EOk xs (dwn f x) := by
  have hx' := hx
  obtain ⟨q, t, rfl, hN, hdp⟩ := hx
  exact EOk.b fun _ _ _ _ => EOk.app (hf _ hx') (EOk.dw hf _ _ _ _ _ (kdS_ok hN hdp))
theorem evX_ok {rt : Nd} (hrt : NVn xs rt) : ∀ F : Fo, (∀ x, NVn xs x → EOk xs ((evX rt F).sel x)) ∧ (∀ zs, (∀ n ∈ zs, NVn xs n) → EOk xs ((evX rt F).seg zs)) ∧ ∀ x, NVn xs x → EOk xs ((evX rt F).qry x) := by
  intro F
  induction F with
  | leaf => exact ⟨fun _ _ => EOk.nil, fun zs h => EOk.ret h, fun _ _ => EOk.nil⟩
  | inner n d u l r ihl ihr =>
    have hS : ∀ x, NVn xs x → EOk xs (evS d (evX rt l) x) := by
      intro x hx
      unfold evS
      split
      · obtain ⟨q, t, rfl, hN, hdp⟩ := hx
        exact EOk.f (kdS_ok hN hdp)
      · exact EOk.s1 hx
    have hG : ∀ x, NVn xs x → EOk xs (evG d (evX rt l) x) := by
      intro x hx
      unfold evG
      split
      · exact ihl.1 x hx
      · exact EOk.dn hx ihl.1
    refine ⟨fun x hx => EOk.app (hS x hx) (ihr.1 x hx), fun zs hzs => EOk.b fun a w w' e => ihr.2.1 a (EOk.l (fun z hz => hG z (hzs z hz)) w a w' e), fun x hx => EOk.b fun a w w' e => ihl.2.1 a ?_⟩
    refine EOk.one (x := if d.2.1 = 0 then x else rt) ?_ w a w' e
    split
    · exact hx
    · exact hrt
end
/-- which kind of thing: selector, segment, test, comparable, query -/
def cK (k : Nat) : Nat := if 1 ≤ k ∧ k ≤ 5 then 1 else if k = 21 then 2 else if 30 ≤ k ∧ k ≤ 34 then 3 else if 40 ≤ k ∧ k ≤ 48 then 4 else if k = 20 then 5 else 0
/-- what stands below -/
def cB (k : Nat) : Nat := if k = 5 ∨ k = 30 ∨ k = 31 ∨ k = 32 then 3 else if k = 20 then 2 else if k = 21 then 1 else if k = 33 ∨ k = 46 then 4 else if k = 34 ∨ k = 45 ∨ k = 47 ∨ k = 48 then 5 else 0
/-- how many stand below, where it matters -/
def cN (k : Nat) (n : Nat) : Prop := if k = 5 ∨ k = 32 ∨ k = 34 ∨ k = 45 ∨ k = 46 ∨ k = 47 ∨ k = 48 then n = 1 else if k = 33 then n = 2 else if k = 30 ∨ k = 31 then 1 ≤ n else True
/-- a query as it is read: everything where it belongs -/
def okF : Nat → Fo → Prop
  | _, .leaf => True
  | cls, .inner _ d _ l r => cK d.1 = cls ∧ cN d.1 (cntF l) ∧ (d.1 = 3 ∨ d.1 = 33 ∨ d.1 = 40 ∨ d.1 = 20 ∨ d.1 = 21 → -9007199254740992 < d.2.1 ∧ d.2.1 < 9007199254740992 ∧ (d.1 = 33 → 0 ≤ d.2.1 ∧ d.2.1 ≤ 5) ∧ (d.1 = 20 ∨ d.1 = 21 → d.2.1 = 0 ∨ d.2.1 = 1)) ∧ (d.1 = 4 → ∀ u ∈ d.2.2.1, -9007199254740992 < u ∧ u < 9007199254740992) ∧ okF (cB d.1) l ∧ okF cls r
/-- how deep its evaluation calls -/
def hQ : Fo → Nat
  | .leaf => 0
  | .inner _ d _ l r => max (hQ l + if d.1 = 21 ∨ d.1 = 46 then 70 else 5) (hQ r)
theorem okF_app {cls : Nat} : ∀ {A B : Fo}, okF cls A → okF cls B → okF cls (fapp A B) := by
  intro A
  induction A with
  | leaf => intro B _ hB; exact hB
  | inner n d u l r ihl ihr => intro B hA hB; exact ⟨hA.1, hA.2.1, hA.2.2.1, hA.2.2.2.1, hA.2.2.2.2.1, ihr hA.2.2.2.2.2 hB⟩
theorem hQ_app : ∀ (A B : Fo), hQ (fapp A B) = max (hQ A) (hQ B) := by
  intro A
  induction A with
  | leaf => intro B; show hQ B = max 0 (hQ B); omega
  | inner n d u l r ihl ihr =>
    intro B
    show max (hQ l + if d.1 = 21 ∨ d.1 = 46 then 70 else 5) (hQ (fapp r B)) = max (max (hQ l + if d.1 = 21 ∨ d.1 = 46 then 70 else 5) (hQ r)) (hQ B)
    rw [ihr]; omega
