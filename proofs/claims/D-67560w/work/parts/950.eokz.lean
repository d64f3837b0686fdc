/-! what is read is a query as it should be: all -/
set_option maxRecDepth 100000
set_option maxHeartbeats 4000000
theorem QG.mono {cls B B' : Nat} {c : Nat → Prop} {x : QR} (h : QG cls c B x) (hB : B ≤ B') : QG cls c B' x := fun F j e => ⟨(h F j e).1, (h F j e).2.1, Nat.le_trans (h F j e).2.2 hB⟩
section
variable {t : Int → Int} {e : Int}
def AllO (t : Int → Int) (e : Int) (n : Nat) : Prop := ∀ (op : Nat) (sg : Bool) (i : Int), op ≤ 16 → QG 2 (fun _ => True) (100 * (17 - op)) (sQ t e n 0 op sg i) ∧ QG 2 (· = 1) (100 * (17 - op)) (sQ t e n 1 op sg i) ∧ QG 1 (1 ≤ ·) (100 * (17 - op) - 70) (sQ t e n 2 op sg i) ∧ QG 1 (1 ≤ ·) (100 * (17 - op) + 30) (sQ t e n 3 op sg i) ∧ QG 1 (· = 1) (100 * (17 - op) + 30) (sQ t e n 4 op sg i) ∧ QG 3 (1 ≤ ·) (100 * (17 - op) + 20) (sQ t e n 5 op sg i) ∧ QG 3 (1 ≤ ·) (100 * (17 - op) + 15) (sQ t e n 6 op sg i) ∧ QG 3 (· = 1) (100 * (17 - op) + 15) (sQ t e n 7 op sg i) ∧ QG 3 (· = 1) (100 * (17 - op)) (sQ t e n 8 op sg i) ∧ QG 4 (· = 1) (100 * (17 - op) + 10) (sQ t e n 10 op sg i)
theorem AllO_all : ∀ n, AllO t e n := by
  intro n
  induction n with
  | zero => intro op sg i _; exact ⟨QG.no, QG.no, QG.no, QG.no, QG.no, QG.no, QG.no, QG.no, QG.no, QG.no⟩
  | succ n ih =>
    intro op sg i ho
    have r1 : QG 2 (· = 1) (100 * (17 - op) - 70 + 70) (sQ t e (n + 1) 1 op sg i) := ok_1 (by omega) fun i => (ih op sg i ho).2.2.1
    have r4 : QG 1 (· = 1) (100 * (17 - op) + 20 + 10) (sQ t e (n + 1) 4 op sg i) := ok_4 fun i => (ih op false i ho).2.2.2.2.2.1
    have r5 : QG 3 (1 ≤ ·) (100 * (17 - op) + 15 + 5) (sQ t e (n + 1) 5 op sg i) := ok_5 (fun i => (ih op false i ho).2.2.2.2.2.2.1) fun i => (ih op false i ho).2.2.2.2.2.1
    have r8 : QG 3 (· = 1) (100 * (17 - op) - 80 + 5) (sQ t e (n + 1) 8 op sg i) := ok_8 fun h i => (ih (op + 1) false i (by omega)).2.2.2.2.2.1.mono (by omega)
    exact ⟨ok_0 (fun i => (ih op sg i ho).2.1) fun i => (ih op sg i ho).1, r1.mono (by omega), ok_2 fun h i => (ih (op + 1) sg i (by omega)).2.2.2.1.mono (by omega), ok_3 (fun i => (ih op sg i ho).2.2.2.2.1) fun i => (ih op sg i ho).2.2.2.1, r4, r5, ok_6 (fun i => (ih op false i ho).2.2.2.2.2.2.2.1) fun i => (ih op false i ho).2.2.2.2.2.2.1, ok_7 (fun i => (ih op false i ho).1) (fun i => (ih op false i ho).2.2.2.2.2.2.2.2.1) fun i => (ih op false i ho).2.2.2.2.2.2.2.2.2, r8.mono (by omega), ok_10 (by omega) (fun i => (ih op true i ho).1) (fun h i => (ih (op + 1) false i (by omega)).1.mono (by omega)) fun h i => (ih (op + 1) false i (by omega)).2.2.2.2.2.2.2.2.2.mono (by omega)⟩
/-- a whole query as it is read -/
theorem sQu_ok {n : Nat} {S : Fo} (h : sQu t e n = some (.inr S)) : okF 2 S ∧ hQ S ≤ 1700 := by
  unfold sQu at h
  split at h
  · cases h
  · split at h
    · cases h
    · cases h
    · rename_i S' j hE
      split at h
      · cases h
      · cases h
        have := (AllO_all n 0 false 1 (by omega)).1 _ _ hE
        exact ⟨this.1, this.2.2⟩
end
