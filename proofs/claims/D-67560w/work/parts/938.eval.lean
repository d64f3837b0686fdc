/-! what is chosen stands in the row -/
set_option maxRecDepth 100000
set_option maxHeartbeats 4000000
section
variable {xs : List Int}
/-- a node stands in the row -/
def NVn (xs : List Int) (x : Nd) : Prop := ∃ q t, x = q :: t ∧ NV xs q ∧ dpF q.2.2.2.1 ≤ 40
theorem kdL_dp {ob : Bool} : ∀ (F : Fo) (p : Int) (k : Nat), wfF F → ∀ y ∈ kdL ob F p k, dpF y.2.2.2.1 ≤ dpF F := by
  intro F
  induction F with
  | leaf => intro p k _ y hy; cases hy
  | inner n dd u l r ihl ihr =>
    intro p k hw y hy
    have hde : dpF (.inner n dd u l r) = max (if dd.1 < 5 then 0 else 1 + dpF l) (dpF r) := rfl
    rw [kdL_inner] at hy
    rcases List.mem_cons.mp hy with z | z
    · rw [z]
      show dpF l ≤ _
      by_cases h5 : dd.1 < 5
      · have e0 : dpF l = 0 := by rw [hw.2.2.1 h5]; rfl
        omega
      · rw [if_neg h5] at hde; omega
    · have := ihr _ _ hw.2.2.2.2.2 y z
      omega
theorem kdS_ok {q : Nk} {t : Nd} (h : NV xs q) (hd : dpF q.2.2.2.1 ≤ 40) : ∀ y ∈ kdS q, NVn xs (y :: q :: t) := fun y hy => ⟨y, q :: t, rfl, kdS_nv h y hy, Nat.le_trans (kdL_dp _ _ _ h.2.2.2.2.2.1 y hy) hd⟩
def EOk (xs : List Int) (x : EV (List Nd)) : Prop := ∀ w ys w', x w = some (ys, w') → ∀ n ∈ ys, NVn xs n
theorem EOk.nil : EOk xs (eR []) := fun w ys w' h n hn => by cases h; cases hn
theorem EOk.ret {ys : List Nd} (h : ∀ n ∈ ys, NVn xs n) : EOk xs (eR ys) := fun w ys w' e n hn => by cases e; exact h n hn
theorem EOk.b {α : Type} {x : EV α} {k : α → EV (List Nd)} (h : ∀ a w w', x w = some (a, w') → EOk xs (k a)) : EOk xs (eB x k) := by
  intro w ys w' e
  cases hE : x w with
  | none => rw [eB_none hE] at e; cases e
  | some z =>
    obtain ⟨a, w1⟩ := z
    rw [eB_some hE] at e
    exact h a w w1 hE w1 ys w' e
theorem EOk.one {x : Nd} (h : NVn xs x) : EOk xs (eA x) := EOk.b fun _ _ _ _ => EOk.ret fun n hn => by rw [List.mem_singleton.mp hn]; exact h
theorem EOk.app {x g : EV (List Nd)} (hx : EOk xs x) (hg : EOk xs g) : EOk xs (eB x fun a => eB g fun b => eR (a ++ b)) := EOk.b fun a w w' e => EOk.b fun b w2 w3 e2 => EOk.ret fun n hn => by
  rcases List.mem_append.mp hn with z | z
  · exact hx w a w' e n z
  · exact hg w2 b w3 e2 n z
theorem EOk.l {α : Type} {f : α → EV (List Nd)} : ∀ {zs : List α}, (∀ z ∈ zs, EOk xs (f z)) → EOk xs (eL f zs) := by
  intro zs
  induction zs with
  | nil => intro _; exact EOk.nil
  | cons z zs ih => intro h; exact EOk.app (h z (List.mem_cons_self)) (ih fun y hy => h y (List.mem_cons_of_mem _ hy))
theorem EOk.f {f : Nd → EV Bool} {x : Nd} : ∀ {cs : List Nk}, (∀ c ∈ cs, NVn xs (c :: x)) → EOk xs (eF f x cs) := by
  intro cs
  induction cs with
  | nil => intro _; exact EOk.nil
  | cons c cs ih =>
    intro h
    refine EOk.b fun _ _ _ _ => EOk.b fun b _ _ _ => EOk.app ?_ (ih fun y hy => h y (List.mem_cons_of_mem _ hy))
    cases b
    · exact EOk.nil
    · exact EOk.one (h c (List.mem_cons_self))
theorem EOk.i {c : Nk} {x : Nd} {i : Int} (h : ∀ y ∈ kdS c, NVn xs (y :: c :: x)) : EOk xs (evI c x i) := by
  unfold evI
  split
  · exact EOk.nil
  · split
    · exact EOk.nil
    · rename_i y hy
      exact EOk.one (h y (List.mem_of_getElem? hy))
theorem kdN_mem {nm : List Int} : ∀ {cs : List Nk} {y : Nk}, kdN nm cs = some y → y ∈ cs := by
  intro cs
  induction cs with
  | nil => intro y h; cases h
  | cons c cs ih =>
    intro y h
    unfold kdN at h
    split at h
    · cases h; exact List.mem_cons_self
    · exact List.mem_cons_of_mem _ (ih h)
theorem EOk.s1 {d : ND} {x : Nd} (hx : NVn xs x) : EOk xs (sel1 d x) := by
  obtain ⟨q, t, rfl, hN, hdp⟩ := hx
  have hk := kdS_ok (t := t) hN hdp
  unfold sel1
  dsimp only
  split
  · split
    · split
      · exact EOk.nil
      · rename_i y hy
        exact EOk.one (hk y (kdN_mem hy))
    · exact EOk.nil
  · split
    · exact EOk.l fun z hz => by
        obtain ⟨y, hy, rfl⟩ := List.mem_map.mp hz
        exact EOk.one (hk y hy)
    · split
      · split
        · exact EOk.i hk
        · exact EOk.nil
      · split
        · split
          · exact EOk.l fun z _ => EOk.i hk
          · exact EOk.nil
        · exact EOk.nil
end
