/-! what is read is a query as it should be: tools -/
set_option maxRecDepth 100000
set_option maxHeartbeats 4000000
/-- what is read, if it is: its class, how many, how deep -/
def QG (cls : Nat) (c : Nat → Prop) (B : Nat) (x : QR) : Prop := ∀ F j, x = some (.inr (F, j)) → okF cls F ∧ c (cntF F) ∧ hQ F ≤ B
section
variable {cls B : Nat} {c : Nat → Prop}
theorem QG.no : QG cls c B none := fun F j h => by cases h
theorem QG.e {p : Int} : QG cls c B (qE p) := fun F j h => by cases h
theorem QG.ret {F : Fo} {j : Int} (h : okF cls F) (h1 : c (cntF F)) (h2 : hQ F ≤ B) : QG cls c B (some (.inr (F, j))) := fun F' j' e => by cases e; exact ⟨h, h1, h2⟩
theorem QG.bnd {cls' B' : Nat} {c' : Nat → Prop} {x : QR} {f : Fo → Int → QR} (hx : QG cls' c' B' x) (h : ∀ F j, okF cls' F → c' (cntF F) → hQ F ≤ B' → QG cls c B (f F j)) : QG cls c B (bnd x f) := by
  intro F j e
  cases hE : x with
  | none => rw [hE] at e; cases e
  | some y =>
    rw [hE] at e
    rcases y with p | ⟨X, k⟩
    · cases e
    · obtain ⟨a, b, d⟩ := hx X k hE
      exact h X k a b d F j e
theorem QG.n {k : Nat} {v j : Int} {us : List Int} {l : Fo} (h0 : cK k = cls) (h1 : cN k (cntF l)) (h2 : ¬ (k = 3 ∨ k = 33 ∨ k = 40 ∨ k = 20 ∨ k = 21)) (h3 : k ≠ 4) (h4 : okF (cB k) l) (h5 : c 1) (h6 : hQ l + (if k = 21 ∨ k = 46 then 70 else 5) ≤ B) : QG cls c B (qN k v us l j) := QG.ret ⟨h0, h1, fun q => absurd q h2, fun q => absurd q h3, h4, trivial⟩ h5 (by show max (hQ l + if k = 21 ∨ k = 46 then 70 else 5) 0 ≤ B; omega)
theorem okF_1 {k : Nat} {v : Int} {us : List Int} {l : Fo} (h0 : cK k = cls) (h1 : cN k (cntF l)) (h2 : ¬ (k = 3 ∨ k = 33 ∨ k = 40 ∨ k = 20 ∨ k = 21)) (h3 : k ≠ 4) (h4 : okF (cB k) l) : okF cls (foC (k, v, us, []) l foN) := ⟨h0, h1, fun q => absurd q h2, fun q => absurd q h3, h4, trivial⟩
theorem hQ_1 {k : Nat} {v : Int} {us : List Int} {l : Fo} : hQ (foC (k, v, us, []) l foN) = hQ l + if k = 21 ∨ k = 46 then 70 else 5 := by
  show max (hQ l + if k = 21 ∨ k = 46 then 70 else 5) 0 = _
  omega
theorem QG.n3 {v j : Int} {l : Fo} (hv : 0 ≤ v ∧ v ≤ 5) (h1 : cntF l = 2) (h4 : okF 4 l) (h5 : c 1) (h6 : hQ l + 5 ≤ B) : QG 3 c B (qN 33 v [] l j) := QG.ret ⟨rfl, h1, fun _ => ⟨by show -9007199254740992 < v; omega, by show v < 9007199254740992; omega, fun _ => hv, fun q => absurd (show (33 : Nat) = 20 ∨ (33 : Nat) = 21 from q) (by decide)⟩, fun q => absurd (show (33 : Nat) = 4 from q) (by decide), h4, trivial⟩ h5 (by show max (hQ l + 5) 0 ≤ B; omega)
theorem QG.n21 {v j : Int} {l : Fo} (hv : v = 0 ∨ v = 1) (h4 : okF 1 l) (h5 : c 1) (h6 : hQ l + 70 ≤ B) : QG 2 c B (qN 21 v [] l j) := QG.ret ⟨rfl, trivial, fun _ => ⟨by show -9007199254740992 < v; omega, by show v < 9007199254740992; omega, fun q => absurd (show (21 : Nat) = 33 from q) (by decide), fun _ => hv⟩, fun q => absurd (show (21 : Nat) = 4 from q) (by decide), h4, trivial⟩ h5 (by show max (hQ l + 70) 0 ≤ B; omega)
theorem sOp_o {t : Int → Int} {e i o k : Int} (h : sOp t e i = .inr (o, k)) : 0 ≤ o ∧ o ≤ 5 := by
  unfold sOp at h
  split at h
  · split at h
    · cases h; decide
    · cases h
  · split at h
    · split at h
      · cases h; decide
      · cases h
    · split at h
      · split at h <;> cases h <;> decide
      · split at h
        · split at h <;> cases h <;> decide
        · cases h
end
