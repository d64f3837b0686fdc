/-! the tables hold what the class files say, written by wip/D-67560w/tools/gen_ok.py -/
set_option maxRecDepth 100000
theorem mok_1 : ∀ en, mI 1 = some en → MOK 1 en := by
  intro en h
  cases h
  exact ⟨by decide +kernel, ⟨⟨rfl, rfl, rfl, by decide, (lw_g (lw_at lw_m3 26 rfl) rfl), by decide, by decide⟩, trivial⟩, (lw_g (lw_at lw_m1 0 rfl) rfl), (fun h => absurd h (List.cons_ne_nil _ _)), fun _ => (lw_g (lw_at lw_m3 25 rfl) rfl)⟩
theorem mok_2 : ∀ en, mI 2 = some en → MOK 2 en := by
  intro en h
  cases h
  exact ⟨by decide +kernel, ⟨⟨rfl, rfl, rfl, by decide, (lw_g (lw_at lw_m3 140 rfl) rfl), by decide, by decide⟩, trivial⟩, (lw_g (lw_at lw_m1 0 rfl) rfl), (fun h => absurd h (List.cons_ne_nil _ _)), fun _ => (lw_g (lw_at lw_m3 139 rfl) rfl)⟩
theorem mok_3 : ∀ en, mI 3 = some en → MOK 3 en := by
  intro en h
  cases h
  exact ⟨by decide +kernel, ⟨⟨rfl, rfl, rfl, by decide, (lw_g (lw_at lw_m3 140 rfl) rfl), by decide, by decide⟩, ⟨⟨rfl, rfl, rfl, by decide, (lw_g (lw_at lw_m3 169 rfl) rfl), by decide, by decide⟩, ⟨⟨rfl, rfl, rfl, by decide, (lw_g (lw_at lw_m3 170 rfl) rfl), by decide, by decide⟩, ⟨⟨rfl, rfl, rfl, by decide, (lw_g (lw_at lw_m3 26 rfl) rfl), by decide, by decide⟩, trivial⟩⟩⟩⟩, (lw_g (lw_at lw_m1 0 rfl) rfl), (fun h => absurd h (List.cons_ne_nil _ _)), fun _ => (lw_g (lw_at lw_m3 168 rfl) rfl)⟩
theorem mok_4 : ∀ en, mI 4 = some en → MOK 4 en := by
  intro en h
  cases h
  exact ⟨by decide +kernel, ⟨⟨rfl, rfl, rfl, by decide, (lw_g (lw_at lw_m3 140 rfl) rfl), by decide, by decide⟩, ⟨⟨rfl, rfl, rfl, by decide, (lw_g (lw_at lw_m3 169 rfl) rfl), by decide, by decide⟩, ⟨⟨rfl, rfl, rfl, by decide, (lw_g (lw_at lw_m5 56 rfl) rfl), by decide, by decide⟩, trivial⟩⟩⟩, (lw_g (lw_at lw_m1 0 rfl) rfl), (fun h => absurd h (List.cons_ne_nil _ _)), fun _ => (lw_g (lw_at lw_m5 55 rfl) rfl)⟩
theorem mok_5 : ∀ en, mI 5 = some en → MOK 5 en := by
  intro en h
  cases h
  exact ⟨by decide +kernel, ⟨⟨rfl, rfl, rfl, by decide, (lw_g (lw_at lw_m3 140 rfl) rfl), by decide, by decide⟩, ⟨⟨rfl, rfl, rfl, by decide, (lw_g (lw_at lw_m3 169 rfl) rfl), by decide, by decide⟩, ⟨⟨rfl, rfl, rfl, by decide, (lw_g (lw_at lw_m5 56 rfl) rfl), by decide, by decide⟩, trivial⟩⟩⟩, (lw_g (lw_at lw_m1 0 rfl) rfl), (fun h => absurd h (List.cons_ne_nil _ _)), fun _ => (lw_g (lw_at lw_m5 93 rfl) rfl)⟩
theorem mok_6 : ∀ en, mI 6 = some en → MOK 6 en := by
  intro en h
  cases h
  exact ⟨by decide +kernel, ⟨⟨rfl, rfl, rfl, by decide, (lw_g (lw_at lw_m3 169 rfl) rfl), by decide, by decide⟩, trivial⟩, (lw_g (lw_at lw_m1 0 rfl) rfl), (fun h => absurd h (List.cons_ne_nil _ _)), fun _ => (lw_g (lw_at lw_m5 108 rfl) rfl)⟩
theorem mok_7 : ∀ en, mI 7 = some en → MOK 7 en := by
  intro en h
  cases h
  exact ⟨by decide +kernel, ⟨⟨rfl, rfl, rfl, by decide, (lw_g (lw_at lw_m3 140 rfl) rfl), by decide, by decide⟩, ⟨⟨rfl, rfl, rfl, by decide, (lw_g (lw_at lw_m3 169 rfl) rfl), by decide, by decide⟩, ⟨⟨rfl, rfl, rfl, by decide, (lw_g (lw_at lw_m3 170 rfl) rfl), by decide, by decide⟩, ⟨⟨rfl, rfl, rfl, by decide, (lw_g (lw_at lw_m5 56 rfl) rfl), by decide, by decide⟩, ⟨⟨rfl, rfl, rfl, by decide, (lw_g (lw_at lw_m5 116 rfl) rfl), by decide, by decide⟩, ⟨⟨rfl, rfl, rfl, by decide, (lw_g (lw_at lw_m3 26 rfl) rfl), by decide, by decide⟩, trivial⟩⟩⟩⟩⟩⟩, (lw_g (lw_at lw_m1 0 rfl) rfl), (fun h => absurd h (List.cons_ne_nil _ _)), fun _ => (lw_g (lw_at lw_m5 115 rfl) rfl)⟩
theorem mok_8 : ∀ en, mI 8 = some en → MOK 8 en := by
  intro en h
  cases h
  exact ⟨by decide +kernel, ⟨⟨rfl, rfl, rfl, by decide, (lw_g (lw_at lw_m3 140 rfl) rfl), by decide, by decide⟩, ⟨⟨rfl, rfl, rfl, by decide, (lw_g (lw_at lw_m3 169 rfl) rfl), by decide, by decide⟩, trivial⟩⟩, (lw_g (lw_at lw_m1 0 rfl) rfl), (fun h => absurd h (List.cons_ne_nil _ _)), fun _ => (lw_g (lw_at lw_m6 18 rfl) rfl)⟩
theorem mok_9 : ∀ en, mI 9 = some en → MOK 9 en := by
  intro en h
  cases h
  exact ⟨by decide +kernel, ⟨⟨rfl, rfl, rfl, by decide, (lw_g (lw_at lw_m3 140 rfl) rfl), by decide, by decide⟩, ⟨⟨rfl, rfl, rfl, by decide, (lw_g (lw_at lw_m3 169 rfl) rfl), by decide, by decide⟩, trivial⟩⟩, (lw_g (lw_at lw_m1 0 rfl) rfl), (fun h => absurd h (List.cons_ne_nil _ _)), fun _ => (lw_g (lw_at lw_m6 25 rfl) rfl)⟩
theorem mok_10 : ∀ en, mI 10 = some en → MOK 10 en := by
  intro en h
  cases h
  exact ⟨by decide +kernel, ⟨⟨rfl, rfl, rfl, by decide, (lw_g (lw_at lw_m3 140 rfl) rfl), by decide, by decide⟩, ⟨⟨rfl, rfl, rfl, by decide, (lw_g (lw_at lw_m3 169 rfl) rfl), by decide, by decide⟩, ⟨⟨rfl, rfl, rfl, by decide, (lw_g (lw_at lw_m3 170 rfl) rfl), by decide, by decide⟩, ⟨⟨rfl, rfl, rfl, by decide, (lw_g (lw_at lw_m3 26 rfl) rfl), by decide, by decide⟩, trivial⟩⟩⟩⟩, (lw_g (lw_at lw_m1 0 rfl) rfl), (fun h => absurd h (List.cons_ne_nil _ _)), fun _ => (lw_g (lw_at lw_m6 32 rfl) rfl)⟩
theorem mok_11 : ∀ en, mI 11 = some en → MOK 11 en := by
  intro en h
  cases h
  exact ⟨by decide +kernel, ⟨⟨rfl, rfl, rfl, by decide, (lw_g (lw_at lw_m3 140 rfl) rfl), by decide, by decide⟩, ⟨⟨rfl, rfl, rfl, by decide, (lw_g (lw_at lw_m3 169 rfl) rfl), by decide, by decide⟩, ⟨⟨rfl, rfl, rfl, by decide, (lw_g (lw_at lw_m3 170 rfl) rfl), by decide, by decide⟩, trivial⟩⟩⟩, (lw_g (lw_at lw_m1 0 rfl) rfl), (fun h => absurd h (List.cons_ne_nil _ _)), fun _ => (lw_g (lw_at lw_m8 175 rfl) rfl)⟩
theorem mok_12 : ∀ en, mI 12 = some en → MOK 12 en := by
  intro en h
  cases h
  exact ⟨by decide +kernel, ⟨⟨rfl, rfl, rfl, by decide, (lw_g (lw_at lw_m3 140 rfl) rfl), by decide, by decide⟩, ⟨⟨rfl, rfl, rfl, by decide, (lw_g (lw_at lw_m3 169 rfl) rfl), by decide, by decide⟩, ⟨⟨rfl, rfl, rfl, by decide, (lw_g (lw_at lw_m3 170 rfl) rfl), by decide, by decide⟩, trivial⟩⟩⟩, (lw_g (lw_at lw_m1 0 rfl) rfl), (fun h => absurd h (List.cons_ne_nil _ _)), fun _ => (lw_g (lw_at lw_m8 209 rfl) rfl)⟩
theorem mok_13 : ∀ en, mI 13 = some en → MOK 13 en := by
  intro en h
  cases h
  exact ⟨by decide +kernel, ⟨⟨rfl, rfl, rfl, by decide, (lw_g (lw_at lw_m3 140 rfl) rfl), by decide, by decide⟩, ⟨⟨rfl, rfl, rfl, by decide, (lw_g (lw_at lw_m3 169 rfl) rfl), by decide, by decide⟩, trivial⟩⟩, (lw_g (lw_at lw_m1 0 rfl) rfl), (fun h => absurd h (List.cons_ne_nil _ _)), fun _ => (lw_g (lw_at lw_m9 17 rfl) rfl)⟩
theorem mok_14 : ∀ en, mI 14 = some en → MOK 14 en := by
  intro en h
  cases h
  exact ⟨by decide +kernel, ⟨⟨rfl, rfl, rfl, by decide, (lw_g (lw_at lw_m3 26 rfl) rfl), by decide, by decide⟩, trivial⟩, (lw_g (lw_at lw_m1 0 rfl) rfl), (fun h => absurd h (List.cons_ne_nil _ _)), fun _ => (lw_g (lw_at lw_m9 24 rfl) rfl)⟩
theorem mok_15 : ∀ en, mI 15 = some en → MOK 15 en := by
  intro en h
  cases h
  exact ⟨by decide +kernel, ⟨⟨rfl, rfl, rfl, by decide, (lw_g (lw_at lw_m3 140 rfl) rfl), by decide, by decide⟩, trivial⟩, (lw_g (lw_at lw_m1 0 rfl) rfl), (fun h => absurd h (List.cons_ne_nil _ _)), fun _ => (lw_g (lw_at lw_m9 32 rfl) rfl)⟩
theorem mok_16 : ∀ en, mI 16 = some en → MOK 16 en := by
  intro en h
  cases h
  exact ⟨by decide +kernel, trivial, (lw_g (lw_at lw_m1 1 rfl) rfl), fun _ => (lw_g (lw_at lw_m1 52 rfl) rfl), fun h => absurd rfl h⟩
theorem mok_17 : ∀ en, mI 17 = some en → MOK 17 en := by
  intro en h
  cases h
  exact ⟨by decide +kernel, trivial, (lw_g (lw_at lw_m1 1 rfl) rfl), fun _ => (lw_g (lw_at lw_m2 238 rfl) rfl), fun h => absurd rfl h⟩
theorem mok_18 : ∀ en, mI 18 = some en → MOK 18 en := by
  intro en h
  cases h
  exact ⟨by decide +kernel, trivial, (lw_g (lw_at lw_m1 1 rfl) rfl), fun _ => (lw_g (lw_at lw_m3 108 rfl) rfl), fun h => absurd rfl h⟩
theorem mok_19 : ∀ en, mI 19 = some en → MOK 19 en := by
  intro en h
  cases h
  exact ⟨by decide +kernel, trivial, (lw_g (lw_at lw_m1 1 rfl) rfl), fun _ => (lw_g (lw_at lw_m3 111 rfl) rfl), fun h => absurd rfl h⟩
theorem mok_20 : ∀ en, mI 20 = some en → MOK 20 en := by
  intro en h
  cases h
  exact ⟨by decide +kernel, trivial, (lw_g (lw_at lw_m1 1 rfl) rfl), fun _ => (lw_g (lw_at lw_m3 136 rfl) rfl), fun h => absurd rfl h⟩
theorem mok_21 : ∀ en, mI 21 = some en → MOK 21 en := by
  intro en h
  cases h
  exact ⟨by decide +kernel, trivial, (lw_g (lw_at lw_m1 1 rfl) rfl), fun _ => (lw_g (lw_at lw_m3 144 rfl) rfl), fun h => absurd rfl h⟩
theorem mok_22 : ∀ en, mI 22 = some en → MOK 22 en := by
  intro en h
  cases h
  exact ⟨by decide +kernel, trivial, (lw_g (lw_at lw_m1 1 rfl) rfl), fun _ => (lw_g (lw_at lw_m3 147 rfl) rfl), fun h => absurd rfl h⟩
theorem mok_23 : ∀ en, mI 23 = some en → MOK 23 en := by
  intro en h
  cases h
  exact ⟨by decide +kernel, trivial, (lw_g (lw_at lw_m1 1 rfl) rfl), fun _ => (lw_g (lw_at lw_m3 150 rfl) rfl), fun h => absurd rfl h⟩
theorem mok_24 : ∀ en, mI 24 = some en → MOK 24 en := by
  intro en h
  cases h
  exact ⟨by decide +kernel, trivial, (lw_g (lw_at lw_m1 1 rfl) rfl), fun _ => (lw_g (lw_at lw_m3 174 rfl) rfl), fun h => absurd rfl h⟩
theorem mok_25 : ∀ en, mI 25 = some en → MOK 25 en := by
  intro en h
  cases h
  exact ⟨by decide +kernel, trivial, (lw_g (lw_at lw_m1 1 rfl) rfl), fun _ => (lw_g (lw_at lw_m3 178 rfl) rfl), fun h => absurd rfl h⟩
theorem mok_26 : ∀ en, mI 26 = some en → MOK 26 en := by
  intro en h
  cases h
  exact ⟨by decide +kernel, trivial, (lw_g (lw_at lw_m1 1 rfl) rfl), fun _ => (lw_g (lw_at lw_m3 181 rfl) rfl), fun h => absurd rfl h⟩
theorem mok_27 : ∀ en, mI 27 = some en → MOK 27 en := by
  intro en h
  cases h
  exact ⟨by decide +kernel, ⟨⟨rfl, rfl, rfl, by decide, (lw_g (lw_at lw_m3 201 rfl) rfl), by decide, by decide⟩, trivial⟩, (lw_g (lw_at lw_m1 1 rfl) rfl), (fun h => absurd h (List.cons_ne_nil _ _)), fun _ => (lw_g (lw_at lw_m3 200 rfl) rfl)⟩
theorem mok_28 : ∀ en, mI 28 = some en → MOK 28 en := by
  intro en h
  cases h
  exact ⟨by decide +kernel, trivial, (lw_g (lw_at lw_m1 1 rfl) rfl), fun _ => (lw_g (lw_at lw_m4 209 rfl) rfl), fun h => absurd rfl h⟩
theorem mok_29 : ∀ en, mI 29 = some en → MOK 29 en := by
  intro en h
  cases h
  exact ⟨by decide +kernel, trivial, (lw_g (lw_at lw_m1 1 rfl) rfl), fun _ => (lw_g (lw_at lw_m5 52 rfl) rfl), fun h => absurd rfl h⟩
theorem mok_30 : ∀ en, mI 30 = some en → MOK 30 en := by
  intro en h
  cases h
  exact ⟨by decide +kernel, trivial, (lw_g (lw_at lw_m1 1 rfl) rfl), fun _ => (lw_g (lw_at lw_m5 60 rfl) rfl), fun h => absurd rfl h⟩
theorem mok_31 : ∀ en, mI 31 = some en → MOK 31 en := by
  intro en h
  cases h
  exact ⟨by decide +kernel, trivial, (lw_g (lw_at lw_m1 1 rfl) rfl), fun _ => (lw_g (lw_at lw_m5 64 rfl) rfl), fun h => absurd rfl h⟩
theorem mok_32 : ∀ en, mI 32 = some en → MOK 32 en := by
  intro en h
  cases h
  exact ⟨by decide +kernel, trivial, (lw_g (lw_at lw_m1 1 rfl) rfl), fun _ => (lw_g (lw_at lw_m5 67 rfl) rfl), fun h => absurd rfl h⟩
theorem mok_33 : ∀ en, mI 33 = some en → MOK 33 en := by
  intro en h
  cases h
  exact ⟨by decide +kernel, trivial, (lw_g (lw_at lw_m1 1 rfl) rfl), fun _ => (lw_g (lw_at lw_m5 97 rfl) rfl), fun h => absurd rfl h⟩
theorem mok_34 : ∀ en, mI 34 = some en → MOK 34 en := by
  intro en h
  cases h
  exact ⟨by decide +kernel, trivial, (lw_g (lw_at lw_m1 1 rfl) rfl), fun _ => (lw_g (lw_at lw_m5 112 rfl) rfl), fun h => absurd rfl h⟩
theorem mok_35 : ∀ en, mI 35 = some en → MOK 35 en := by
  intro en h
  cases h
  exact ⟨by decide +kernel, ⟨⟨rfl, rfl, rfl, by decide, (lw_g (lw_at lw_m5 134 rfl) rfl), by decide, by decide⟩, trivial⟩, (lw_g (lw_at lw_m1 1 rfl) rfl), (fun h => absurd h (List.cons_ne_nil _ _)), fun _ => (lw_g (lw_at lw_m5 133 rfl) rfl)⟩
theorem mok_36 : ∀ en, mI 36 = some en → MOK 36 en := by
  intro en h
  cases h
  exact ⟨by decide +kernel, trivial, (lw_g (lw_at lw_m1 1 rfl) rfl), fun _ => (lw_g (lw_at lw_m6 22 rfl) rfl), fun h => absurd rfl h⟩
theorem mok_37 : ∀ en, mI 37 = some en → MOK 37 en := by
  intro en h
  cases h
  exact ⟨by decide +kernel, trivial, (lw_g (lw_at lw_m1 1 rfl) rfl), fun _ => (lw_g (lw_at lw_m6 29 rfl) rfl), fun h => absurd rfl h⟩
theorem mok_38 : ∀ en, mI 38 = some en → MOK 38 en := by
  intro en h
  cases h
  exact ⟨by decide +kernel, trivial, (lw_g (lw_at lw_m1 1 rfl) rfl), fun _ => (lw_g (lw_at lw_m6 36 rfl) rfl), fun h => absurd rfl h⟩
theorem mok_39 : ∀ en, mI 39 = some en → MOK 39 en := by
  intro en h
  cases h
  exact ⟨by decide +kernel, ⟨⟨rfl, rfl, rfl, by decide, (lw_g (lw_at lw_m3 201 rfl) rfl), by decide, by decide⟩, trivial⟩, (lw_g (lw_at lw_m1 1 rfl) rfl), (fun h => absurd h (List.cons_ne_nil _ _)), fun _ => (lw_g (lw_at lw_m6 40 rfl) rfl)⟩
theorem mok_40 : ∀ en, mI 40 = some en → MOK 40 en := by
  intro en h
  cases h
  exact ⟨by decide +kernel, trivial, (lw_g (lw_at lw_m1 1 rfl) rfl), fun _ => (lw_g (lw_at lw_m7 172 rfl) rfl), fun h => absurd rfl h⟩
theorem mok_41 : ∀ en, mI 41 = some en → MOK 41 en := by
  intro en h
  cases h
  exact ⟨by decide +kernel, trivial, (lw_g (lw_at lw_m1 1 rfl) rfl), fun _ => (lw_g (lw_at lw_m7 176 rfl) rfl), fun h => absurd rfl h⟩
theorem mok_42 : ∀ en, mI 42 = some en → MOK 42 en := by
  intro en h
  cases h
  exact ⟨by decide +kernel, trivial, (lw_g (lw_at lw_m1 1 rfl) rfl), fun _ => (lw_g (lw_at lw_m8 172 rfl) rfl), fun h => absurd rfl h⟩
theorem mok_43 : ∀ en, mI 43 = some en → MOK 43 en := by
  intro en h
  cases h
  exact ⟨by decide +kernel, trivial, (lw_g (lw_at lw_m1 1 rfl) rfl), fun _ => (lw_g (lw_at lw_m8 179 rfl) rfl), fun h => absurd rfl h⟩
theorem mok_44 : ∀ en, mI 44 = some en → MOK 44 en := by
  intro en h
  cases h
  exact ⟨by decide +kernel, trivial, (lw_g (lw_at lw_m1 1 rfl) rfl), fun _ => (lw_g (lw_at lw_m8 213 rfl) rfl), fun h => absurd rfl h⟩
theorem mok_45 : ∀ en, mI 45 = some en → MOK 45 en := by
  intro en h
  cases h
  exact ⟨by decide +kernel, trivial, (lw_g (lw_at lw_m1 1 rfl) rfl), fun _ => (lw_g (lw_at lw_m8 217 rfl) rfl), fun h => absurd rfl h⟩
theorem mok_46 : ∀ en, mI 46 = some en → MOK 46 en := by
  intro en h
  cases h
  exact ⟨by decide +kernel, trivial, (lw_g (lw_at lw_m1 1 rfl) rfl), fun _ => (lw_g (lw_at lw_m8 221 rfl) rfl), fun h => absurd rfl h⟩
theorem mok_47 : ∀ en, mI 47 = some en → MOK 47 en := by
  intro en h
  cases h
  exact ⟨by decide +kernel, trivial, (lw_g (lw_at lw_m1 1 rfl) rfl), fun _ => (lw_g (lw_at lw_m9 21 rfl) rfl), fun h => absurd rfl h⟩
theorem mok_48 : ∀ en, mI 48 = some en → MOK 48 en := by
  intro en h
  cases h
  exact ⟨by decide +kernel, trivial, (lw_g (lw_at lw_m1 1 rfl) rfl), fun _ => (lw_g (lw_at lw_m9 28 rfl) rfl), fun h => absurd rfl h⟩
theorem mok_49 : ∀ en, mI 49 = some en → MOK 49 en := by
  intro en h
  cases h
  exact ⟨by decide +kernel, trivial, (lw_g (lw_at lw_m1 1 rfl) rfl), fun _ => (lw_g (lw_at lw_m9 36 rfl) rfl), fun h => absurd rfl h⟩
theorem mok_50 : ∀ en, mI 50 = some en → MOK 50 en := by
  intro en h
  cases h
  exact ⟨by decide +kernel, trivial, (lw_g (lw_at lw_m1 1 rfl) rfl), fun _ => (lw_g (lw_at lw_m9 40 rfl) rfl), fun h => absurd rfl h⟩
theorem mok_51 : ∀ en, mI 51 = some en → MOK 51 en := by
  intro en h
  cases h
  exact ⟨by decide +kernel, trivial, (lw_g (lw_at lw_m1 2 rfl) rfl), fun _ => (lw_g (lw_at lw_m1 61 rfl) rfl), fun h => absurd rfl h⟩
theorem mok_52 : ∀ en, mI 52 = some en → MOK 52 en := by
  intro en h
  cases h
  exact ⟨by decide +kernel, trivial, (lw_g (lw_at lw_m1 2 rfl) rfl), fun _ => (lw_g (lw_at lw_m4 135 rfl) rfl), fun h => absurd rfl h⟩
theorem mok_53 : ∀ en, mI 53 = some en → MOK 53 en := by
  intro en h
  cases h
  exact ⟨by decide +kernel, trivial, (lw_g (lw_at lw_m1 2 rfl) rfl), fun _ => (lw_g (lw_at lw_m4 144 rfl) rfl), fun h => absurd rfl h⟩
theorem mok_54 : ∀ en, mI 54 = some en → MOK 54 en := by
  intro en h
  cases h
  exact ⟨by decide +kernel, trivial, (lw_g (lw_at lw_m1 2 rfl) rfl), fun _ => (lw_g (lw_at lw_m4 150 rfl) rfl), fun h => absurd rfl h⟩
theorem mok_55 : ∀ en, mI 55 = some en → MOK 55 en := by
  intro en h
  cases h
  exact ⟨by decide +kernel, trivial, (lw_g (lw_at lw_m1 2 rfl) rfl), fun _ => (lw_g (lw_at lw_m4 163 rfl) rfl), fun h => absurd rfl h⟩
theorem mok_56 : ∀ en, mI 56 = some en → MOK 56 en := by
  intro en h
  cases h
  exact ⟨by decide +kernel, trivial, (lw_g (lw_at lw_m1 2 rfl) rfl), fun _ => (lw_g (lw_at lw_m4 171 rfl) rfl), fun h => absurd rfl h⟩
theorem mok_57 : ∀ en, mI 57 = some en → MOK 57 en := by
  intro en h
  cases h
  exact ⟨by decide +kernel, trivial, (lw_g (lw_at lw_m1 2 rfl) rfl), fun _ => (lw_g (lw_at lw_m4 178 rfl) rfl), fun h => absurd rfl h⟩
theorem mok_58 : ∀ en, mI 58 = some en → MOK 58 en := by
  intro en h
  cases h
  exact ⟨by decide +kernel, trivial, (lw_g (lw_at lw_m1 2 rfl) rfl), fun _ => (lw_g (lw_at lw_m4 182 rfl) rfl), fun h => absurd rfl h⟩
theorem mok_59 : ∀ en, mI 59 = some en → MOK 59 en := by
  intro en h
  cases h
  exact ⟨by decide +kernel, trivial, (lw_g (lw_at lw_m1 2 rfl) rfl), fun _ => (lw_g (lw_at lw_m4 190 rfl) rfl), fun h => absurd rfl h⟩
theorem mok_60 : ∀ en, mI 60 = some en → MOK 60 en := by
  intro en h
  cases h
  exact ⟨by decide +kernel, trivial, (lw_g (lw_at lw_m1 3 rfl) rfl), fun _ => (lw_g (lw_at lw_m1 81 rfl) rfl), fun h => absurd rfl h⟩
theorem mok_61 : ∀ en, mI 61 = some en → MOK 61 en := by
  intro en h
  cases h
  exact ⟨by decide +kernel, trivial, (lw_g (lw_at lw_m1 3 rfl) rfl), fun _ => (lw_g (lw_at lw_m3 211 rfl) rfl), fun h => absurd rfl h⟩
theorem mok_62 : ∀ en, mI 62 = some en → MOK 62 en := by
  intro en h
  cases h
  exact ⟨by decide +kernel, trivial, (lw_g (lw_at lw_m1 3 rfl) rfl), fun _ => (lw_g (lw_at lw_m3 217 rfl) rfl), fun h => absurd rfl h⟩
theorem mok_63 : ∀ en, mI 63 = some en → MOK 63 en := by
  intro en h
  cases h
  exact ⟨by decide +kernel, trivial, (lw_g (lw_at lw_m1 3 rfl) rfl), fun _ => (lw_g (lw_at lw_m3 223 rfl) rfl), fun h => absurd rfl h⟩
theorem mok_64 : ∀ en, mI 64 = some en → MOK 64 en := by
  intro en h
  cases h
  exact ⟨by decide +kernel, trivial, (lw_g (lw_at lw_m1 3 rfl) rfl), fun _ => (lw_g (lw_at lw_m3 238 rfl) rfl), fun h => absurd rfl h⟩
theorem mok_65 : ∀ en, mI 65 = some en → MOK 65 en := by
  intro en h
  cases h
  exact ⟨by decide +kernel, trivial, (lw_g (lw_at lw_m1 3 rfl) rfl), fun _ => (lw_g (lw_at lw_m4 6 rfl) rfl), fun h => absurd rfl h⟩
theorem mok_66 : ∀ en, mI 66 = some en → MOK 66 en := by
  intro en h
  cases h
  exact ⟨by decide +kernel, trivial, (lw_g (lw_at lw_m1 3 rfl) rfl), fun _ => (lw_g (lw_at lw_m4 12 rfl) rfl), fun h => absurd rfl h⟩
theorem mok_67 : ∀ en, mI 67 = some en → MOK 67 en := by
  intro en h
  cases h
  exact ⟨by decide +kernel, trivial, (lw_g (lw_at lw_m1 3 rfl) rfl), fun _ => (lw_g (lw_at lw_m4 18 rfl) rfl), fun h => absurd rfl h⟩
theorem mok_68 : ∀ en, mI 68 = some en → MOK 68 en := by
  intro en h
  cases h
  exact ⟨by decide +kernel, trivial, (lw_g (lw_at lw_m1 3 rfl) rfl), fun _ => (lw_g (lw_at lw_m4 42 rfl) rfl), fun h => absurd rfl h⟩
theorem mok_69 : ∀ en, mI 69 = some en → MOK 69 en := by
  intro en h
  cases h
  exact ⟨by decide +kernel, trivial, (lw_g (lw_at lw_m1 3 rfl) rfl), fun _ => (lw_g (lw_at lw_m4 47 rfl) rfl), fun h => absurd rfl h⟩
theorem mok_70 : ∀ en, mI 70 = some en → MOK 70 en := by
  intro en h
  cases h
  exact ⟨by decide +kernel, trivial, (lw_g (lw_at lw_m1 3 rfl) rfl), fun _ => (lw_g (lw_at lw_m4 56 rfl) rfl), fun h => absurd rfl h⟩
theorem mok_71 : ∀ en, mI 71 = some en → MOK 71 en := by
  intro en h
  cases h
  exact ⟨by decide +kernel, trivial, (lw_g (lw_at lw_m1 3 rfl) rfl), fun _ => (lw_g (lw_at lw_m4 60 rfl) rfl), fun h => absurd rfl h⟩
theorem mok_72 : ∀ en, mI 72 = some en → MOK 72 en := by
  intro en h
  cases h
  exact ⟨by decide +kernel, trivial, (lw_g (lw_at lw_m1 3 rfl) rfl), fun _ => (lw_g (lw_at lw_m4 63 rfl) rfl), fun h => absurd rfl h⟩
theorem mok_73 : ∀ en, mI 73 = some en → MOK 73 en := by
  intro en h
  cases h
  exact ⟨by decide +kernel, trivial, (lw_g (lw_at lw_m1 3 rfl) rfl), fun _ => (lw_g (lw_at lw_m4 66 rfl) rfl), fun h => absurd rfl h⟩
theorem mok_74 : ∀ en, mI 74 = some en → MOK 74 en := by
  intro en h
  cases h
  exact ⟨by decide +kernel, trivial, (lw_g (lw_at lw_m1 4 rfl) rfl), fun _ => (lw_g (lw_at lw_m1 78 rfl) rfl), fun h => absurd rfl h⟩
theorem mok_75 : ∀ en, mI 75 = some en → MOK 75 en := by
  intro en h
  cases h
  exact ⟨by decide +kernel, trivial, (lw_g (lw_at lw_m1 4 rfl) rfl), fun _ => (lw_g (lw_at lw_m3 205 rfl) rfl), fun h => absurd rfl h⟩
theorem mok_76 : ∀ en, mI 76 = some en → MOK 76 en := by
  intro en h
  cases h
  exact ⟨by decide +kernel, trivial, (lw_g (lw_at lw_m1 4 rfl) rfl), fun _ => (lw_g (lw_at lw_m3 227 rfl) rfl), fun h => absurd rfl h⟩
theorem mok_77 : ∀ en, mI 77 = some en → MOK 77 en := by
  intro en h
  cases h
  exact ⟨by decide +kernel, trivial, (lw_g (lw_at lw_m1 4 rfl) rfl), fun _ => (lw_g (lw_at lw_m4 79 rfl) rfl), fun h => absurd rfl h⟩
theorem mok_78 : ∀ en, mI 78 = some en → MOK 78 en := by
  intro en h
  cases h
  exact ⟨by decide +kernel, trivial, (lw_g (lw_at lw_m1 4 rfl) rfl), fun _ => (lw_g (lw_at lw_m4 87 rfl) rfl), fun h => absurd rfl h⟩
theorem mok_79 : ∀ en, mI 79 = some en → MOK 79 en := by
  intro en h
  cases h
  exact ⟨by decide +kernel, trivial, (lw_g (lw_at lw_m1 4 rfl) rfl), fun _ => (lw_g (lw_at lw_m4 117 rfl) rfl), fun h => absurd rfl h⟩
theorem mok_80 : ∀ en, mI 80 = some en → MOK 80 en := by
  intro en h
  cases h
  exact ⟨by decide +kernel, trivial, (lw_g (lw_at lw_m1 5 rfl) rfl), fun _ => (lw_g (lw_at lw_m1 117 rfl) rfl), fun h => absurd rfl h⟩
theorem mok_81 : ∀ en, mI 81 = some en → MOK 81 en := by
  intro en h
  cases h
  exact ⟨by decide +kernel, trivial, (lw_g (lw_at lw_m1 5 rfl) rfl), fun _ => (lw_g (lw_at lw_m6 44 rfl) rfl), fun h => absurd rfl h⟩
theorem mok_82 : ∀ en, mI 82 = some en → MOK 82 en := by
  intro en h
  cases h
  exact ⟨by decide +kernel, trivial, (lw_g (lw_at lw_m1 5 rfl) rfl), fun _ => (lw_g (lw_at lw_m6 59 rfl) rfl), fun h => absurd rfl h⟩
theorem mok_83 : ∀ en, mI 83 = some en → MOK 83 en := by
  intro en h
  cases h
  exact ⟨by decide +kernel, trivial, (lw_g (lw_at lw_m1 5 rfl) rfl), fun _ => (lw_g (lw_at lw_m6 92 rfl) rfl), fun h => absurd rfl h⟩
theorem mok_84 : ∀ en, mI 84 = some en → MOK 84 en := by
  intro en h
  cases h
  exact ⟨by decide +kernel, trivial, (lw_g (lw_at lw_m1 5 rfl) rfl), fun _ => (lw_g (lw_at lw_m6 120 rfl) rfl), fun h => absurd rfl h⟩
theorem mok_85 : ∀ en, mI 85 = some en → MOK 85 en := by
  intro en h
  cases h
  exact ⟨by decide +kernel, trivial, (lw_g (lw_at lw_m1 5 rfl) rfl), fun _ => (lw_g (lw_at lw_m6 123 rfl) rfl), fun h => absurd rfl h⟩
theorem mok_86 : ∀ en, mI 86 = some en → MOK 86 en := by
  intro en h
  cases h
  exact ⟨by decide +kernel, trivial, (lw_g (lw_at lw_m1 5 rfl) rfl), fun _ => (lw_g (lw_at lw_m6 148 rfl) rfl), fun h => absurd rfl h⟩
theorem mok_87 : ∀ en, mI 87 = some en → MOK 87 en := by
  intro en h
  cases h
  exact ⟨by decide +kernel, trivial, (lw_g (lw_at lw_m1 5 rfl) rfl), fun _ => (lw_g (lw_at lw_m6 152 rfl) rfl), fun h => absurd rfl h⟩
theorem mok_88 : ∀ en, mI 88 = some en → MOK 88 en := by
  intro en h
  cases h
  exact ⟨by decide +kernel, trivial, (lw_g (lw_at lw_m1 5 rfl) rfl), fun _ => (lw_g (lw_at lw_m6 161 rfl) rfl), fun h => absurd rfl h⟩
theorem mok_89 : ∀ en, mI 89 = some en → MOK 89 en := by
  intro en h
  cases h
  exact ⟨by decide +kernel, trivial, (lw_g (lw_at lw_m1 5 rfl) rfl), fun _ => (lw_g (lw_at lw_m6 181 rfl) rfl), fun h => absurd rfl h⟩
theorem mok_90 : ∀ en, mI 90 = some en → MOK 90 en := by
  intro en h
  cases h
  exact ⟨by decide +kernel, trivial, (lw_g (lw_at lw_m1 5 rfl) rfl), fun _ => (lw_g (lw_at lw_m6 188 rfl) rfl), fun h => absurd rfl h⟩
theorem mok_91 : ∀ en, mI 91 = some en → MOK 91 en := by
  intro en h
  cases h
  exact ⟨by decide +kernel, trivial, (lw_g (lw_at lw_m1 5 rfl) rfl), fun _ => (lw_g (lw_at lw_m6 192 rfl) rfl), fun h => absurd rfl h⟩
theorem mok_92 : ∀ en, mI 92 = some en → MOK 92 en := by
  intro en h
  cases h
  exact ⟨by decide +kernel, trivial, (lw_g (lw_at lw_m1 5 rfl) rfl), fun _ => (lw_g (lw_at lw_m6 196 rfl) rfl), fun h => absurd rfl h⟩
theorem mok_93 : ∀ en, mI 93 = some en → MOK 93 en := by
  intro en h
  cases h
  exact ⟨by decide +kernel, trivial, (lw_g (lw_at lw_m1 5 rfl) rfl), fun _ => (lw_g (lw_at lw_m6 209 rfl) rfl), fun h => absurd rfl h⟩
theorem mok_94 : ∀ en, mI 94 = some en → MOK 94 en := by
  intro en h
  cases h
  exact ⟨by decide +kernel, trivial, (lw_g (lw_at lw_m1 5 rfl) rfl), fun _ => (lw_g (lw_at lw_m6 213 rfl) rfl), fun h => absurd rfl h⟩
theorem mok_95 : ∀ en, mI 95 = some en → MOK 95 en := by
  intro en h
  cases h
  exact ⟨by decide +kernel, trivial, (lw_g (lw_at lw_m1 5 rfl) rfl), fun _ => (lw_g (lw_at lw_m6 217 rfl) rfl), fun h => absurd rfl h⟩
theorem mok_96 : ∀ en, mI 96 = some en → MOK 96 en := by
  intro en h
  cases h
  exact ⟨by decide +kernel, trivial, (lw_g (lw_at lw_m1 5 rfl) rfl), fun _ => (lw_g (lw_at lw_m6 223 rfl) rfl), fun h => absurd rfl h⟩
theorem mok_97 : ∀ en, mI 97 = some en → MOK 97 en := by
  intro en h
  cases h
  exact ⟨by decide +kernel, trivial, (lw_g (lw_at lw_m1 5 rfl) rfl), fun _ => (lw_g (lw_at lw_m6 235 rfl) rfl), fun h => absurd rfl h⟩
theorem mok_98 : ∀ en, mI 98 = some en → MOK 98 en := by
  intro en h
  cases h
  exact ⟨by decide +kernel, trivial, (lw_g (lw_at lw_m1 5 rfl) rfl), fun _ => (lw_g (lw_at lw_m7 9 rfl) rfl), fun h => absurd rfl h⟩
theorem mok_99 : ∀ en, mI 99 = some en → MOK 99 en := by
  intro en h
  cases h
  exact ⟨by decide +kernel, trivial, (lw_g (lw_at lw_m1 5 rfl) rfl), fun _ => (lw_g (lw_at lw_m7 46 rfl) rfl), fun h => absurd rfl h⟩
theorem mok_100 : ∀ en, mI 100 = some en → MOK 100 en := by
  intro en h
  cases h
  exact ⟨by decide +kernel, trivial, (lw_g (lw_at lw_m1 5 rfl) rfl), fun _ => (lw_g (lw_at lw_m7 63 rfl) rfl), fun h => absurd rfl h⟩
theorem mok_101 : ∀ en, mI 101 = some en → MOK 101 en := by
  intro en h
  cases h
  exact ⟨by decide +kernel, trivial, (lw_g (lw_at lw_m1 5 rfl) rfl), fun _ => (lw_g (lw_at lw_m7 67 rfl) rfl), fun h => absurd rfl h⟩
theorem mok_102 : ∀ en, mI 102 = some en → MOK 102 en := by
  intro en h
  cases h
  exact ⟨by decide +kernel, trivial, (lw_g (lw_at lw_m1 5 rfl) rfl), fun _ => (lw_g (lw_at lw_m7 142 rfl) rfl), fun h => absurd rfl h⟩
theorem mok_103 : ∀ en, mI 103 = some en → MOK 103 en := by
  intro en h
  cases h
  exact ⟨by decide +kernel, trivial, (lw_g (lw_at lw_m1 6 rfl) rfl), fun _ => (lw_g (lw_at lw_m1 134 rfl) rfl), fun h => absurd rfl h⟩
theorem mok_104 : ∀ en, mI 104 = some en → MOK 104 en := by
  intro en h
  cases h
  exact ⟨by decide +kernel, trivial, (lw_g (lw_at lw_m1 6 rfl) rfl), fun _ => (lw_g (lw_at lw_m7 190 rfl) rfl), fun h => absurd rfl h⟩
theorem mok_105 : ∀ en, mI 105 = some en → MOK 105 en := by
  intro en h
  cases h
  exact ⟨by decide +kernel, trivial, (lw_g (lw_at lw_m1 6 rfl) rfl), fun _ => (lw_g (lw_at lw_m7 194 rfl) rfl), fun h => absurd rfl h⟩
theorem mok_106 : ∀ en, mI 106 = some en → MOK 106 en := by
  intro en h
  cases h
  exact ⟨by decide +kernel, trivial, (lw_g (lw_at lw_m1 6 rfl) rfl), fun _ => (lw_g (lw_at lw_m7 198 rfl) rfl), fun h => absurd rfl h⟩
theorem mok_107 : ∀ en, mI 107 = some en → MOK 107 en := by
  intro en h
  cases h
  exact ⟨by decide +kernel, trivial, (lw_g (lw_at lw_m1 6 rfl) rfl), fun _ => (lw_g (lw_at lw_m7 202 rfl) rfl), fun h => absurd rfl h⟩
theorem mok_108 : ∀ en, mI 108 = some en → MOK 108 en := by
  intro en h
  cases h
  exact ⟨by decide +kernel, trivial, (lw_g (lw_at lw_m1 6 rfl) rfl), fun _ => (lw_g (lw_at lw_m7 209 rfl) rfl), fun h => absurd rfl h⟩
theorem mok_109 : ∀ en, mI 109 = some en → MOK 109 en := by
  intro en h
  cases h
  exact ⟨by decide +kernel, trivial, (lw_g (lw_at lw_m1 6 rfl) rfl), fun _ => (lw_g (lw_at lw_m7 213 rfl) rfl), fun h => absurd rfl h⟩
theorem mok_110 : ∀ en, mI 110 = some en → MOK 110 en := by
  intro en h
  cases h
  exact ⟨by decide +kernel, trivial, (lw_g (lw_at lw_m1 6 rfl) rfl), fun _ => (lw_g (lw_at lw_m8 164 rfl) rfl), fun h => absurd rfl h⟩
theorem mok_111 : ∀ en, mI 111 = some en → MOK 111 en := by
  intro en h
  cases h
  exact ⟨by decide +kernel, trivial, (lw_g (lw_at lw_m1 7 rfl) rfl), fun _ => (lw_g (lw_at lw_m1 169 rfl) rfl), fun h => absurd rfl h⟩
theorem mok_112 : ∀ en, mI 112 = some en → MOK 112 en := by
  intro en h
  cases h
  exact ⟨by decide +kernel, trivial, (lw_g (lw_at lw_m1 7 rfl) rfl), fun _ => (lw_g (lw_at lw_m1 199 rfl) rfl), fun h => absurd rfl h⟩
theorem mok_113 : ∀ en, mI 113 = some en → MOK 113 en := by
  intro en h
  cases h
  exact ⟨by decide +kernel, trivial, (lw_g (lw_at lw_m1 7 rfl) rfl), fun _ => (lw_g (lw_at lw_m5 143 rfl) rfl), fun h => absurd rfl h⟩
theorem mok_114 : ∀ en, mI 114 = some en → MOK 114 en := by
  intro en h
  cases h
  exact ⟨by decide +kernel, trivial, (lw_g (lw_at lw_m1 7 rfl) rfl), fun _ => (lw_g (lw_at lw_m5 148 rfl) rfl), fun h => absurd rfl h⟩
theorem mok_115 : ∀ en, mI 115 = some en → MOK 115 en := by
  intro en h
  cases h
  exact ⟨by decide +kernel, trivial, (lw_g (lw_at lw_m1 7 rfl) rfl), fun _ => (lw_g (lw_at lw_m5 152 rfl) rfl), fun h => absurd rfl h⟩
theorem mok_116 : ∀ en, mI 116 = some en → MOK 116 en := by
  intro en h
  cases h
  exact ⟨by decide +kernel, trivial, (lw_g (lw_at lw_m1 7 rfl) rfl), fun _ => (lw_g (lw_at lw_m5 158 rfl) rfl), fun h => absurd rfl h⟩
theorem mok_117 : ∀ en, mI 117 = some en → MOK 117 en := by
  intro en h
  cases h
  exact ⟨by decide +kernel, trivial, (lw_g (lw_at lw_m1 7 rfl) rfl), fun _ => (lw_g (lw_at lw_m5 170 rfl) rfl), fun h => absurd rfl h⟩
theorem mok_118 : ∀ en, mI 118 = some en → MOK 118 en := by
  intro en h
  cases h
  exact ⟨by decide +kernel, trivial, (lw_g (lw_at lw_m1 7 rfl) rfl), fun _ => (lw_g (lw_at lw_m5 175 rfl) rfl), fun h => absurd rfl h⟩
theorem mok_119 : ∀ en, mI 119 = some en → MOK 119 en := by
  intro en h
  cases h
  exact ⟨by decide +kernel, trivial, (lw_g (lw_at lw_m1 7 rfl) rfl), fun _ => (lw_g (lw_at lw_m5 179 rfl) rfl), fun h => absurd rfl h⟩
theorem mok_120 : ∀ en, mI 120 = some en → MOK 120 en := by
  intro en h
  cases h
  exact ⟨by decide +kernel, trivial, (lw_g (lw_at lw_m1 7 rfl) rfl), fun _ => (lw_g (lw_at lw_m5 184 rfl) rfl), fun h => absurd rfl h⟩
theorem mok_121 : ∀ en, mI 121 = some en → MOK 121 en := by
  intro en h
  cases h
  exact ⟨by decide +kernel, trivial, (lw_g (lw_at lw_m1 7 rfl) rfl), fun _ => (lw_g (lw_at lw_m5 189 rfl) rfl), fun h => absurd rfl h⟩
theorem mok_122 : ∀ en, mI 122 = some en → MOK 122 en := by
  intro en h
  cases h
  exact ⟨by decide +kernel, trivial, (lw_g (lw_at lw_m1 7 rfl) rfl), fun _ => (lw_g (lw_at lw_m5 193 rfl) rfl), fun h => absurd rfl h⟩
theorem mok_123 : ∀ en, mI 123 = some en → MOK 123 en := by
  intro en h
  cases h
  exact ⟨by decide +kernel, trivial, (lw_g (lw_at lw_m1 7 rfl) rfl), fun _ => (lw_g (lw_at lw_m5 197 rfl) rfl), fun h => absurd rfl h⟩
theorem mok_124 : ∀ en, mI 124 = some en → MOK 124 en := by
  intro en h
  cases h
  exact ⟨by decide +kernel, trivial, (lw_g (lw_at lw_m1 7 rfl) rfl), fun _ => (lw_g (lw_at lw_m5 205 rfl) rfl), fun h => absurd rfl h⟩
theorem mok_125 : ∀ en, mI 125 = some en → MOK 125 en := by
  intro en h
  cases h
  exact ⟨by decide +kernel, trivial, (lw_g (lw_at lw_m1 7 rfl) rfl), fun _ => (lw_g (lw_at lw_m5 217 rfl) rfl), fun h => absurd rfl h⟩
theorem mok_126 : ∀ en, mI 126 = some en → MOK 126 en := by
  intro en h
  cases h
  exact ⟨by decide +kernel, trivial, (lw_g (lw_at lw_m1 7 rfl) rfl), fun _ => (lw_g (lw_at lw_m5 222 rfl) rfl), fun h => absurd rfl h⟩
theorem mok_127 : ∀ en, mI 127 = some en → MOK 127 en := by
  intro en h
  cases h
  exact ⟨by decide +kernel, trivial, (lw_g (lw_at lw_m1 7 rfl) rfl), fun _ => (lw_g (lw_at lw_m6 2 rfl) rfl), fun h => absurd rfl h⟩
theorem mok_128 : ∀ en, mI 128 = some en → MOK 128 en := by
  intro en h
  cases h
  exact ⟨by decide +kernel, trivial, (lw_g (lw_at lw_m1 7 rfl) rfl), fun _ => (lw_g (lw_at lw_m6 14 rfl) rfl), fun h => absurd rfl h⟩
theorem mok_129 : ∀ en, mI 129 = some en → MOK 129 en := by
  intro en h
  cases h
  exact ⟨by decide +kernel, trivial, (lw_g (lw_at lw_m1 8 rfl) rfl), fun _ => (lw_g (lw_at lw_m1 175 rfl) rfl), fun h => absurd rfl h⟩
theorem mok_130 : ∀ en, mI 130 = some en → MOK 130 en := by
  intro en h
  cases h
  exact ⟨by decide +kernel, trivial, (lw_g (lw_at lw_m1 8 rfl) rfl), fun _ => (lw_g (lw_at lw_m1 203 rfl) rfl), fun h => absurd rfl h⟩
theorem mok_131 : ∀ en, mI 131 = some en → MOK 131 en := by
  intro en h
  cases h
  exact ⟨by decide +kernel, trivial, (lw_g (lw_at lw_m1 8 rfl) rfl), fun _ => (lw_g (lw_at lw_m1 207 rfl) rfl), fun h => absurd rfl h⟩
theorem mok_132 : ∀ en, mI 132 = some en → MOK 132 en := by
  intro en h
  cases h
  exact ⟨by decide +kernel, trivial, (lw_g (lw_at lw_m1 8 rfl) rfl), fun _ => (lw_g (lw_at lw_m4 51 rfl) rfl), fun h => absurd rfl h⟩
theorem mok_133 : ∀ en, mI 133 = some en → MOK 133 en := by
  intro en h
  cases h
  exact ⟨by decide +kernel, trivial, (lw_g (lw_at lw_m1 8 rfl) rfl), fun _ => (lw_g (lw_at lw_m4 75 rfl) rfl), fun h => absurd rfl h⟩
theorem mok_134 : ∀ en, mI 134 = some en → MOK 134 en := by
  intro en h
  cases h
  exact ⟨by decide +kernel, trivial, (lw_g (lw_at lw_m1 8 rfl) rfl), fun _ => (lw_g (lw_at lw_m4 91 rfl) rfl), fun h => absurd rfl h⟩
theorem mok_135 : ∀ en, mI 135 = some en → MOK 135 en := by
  intro en h
  cases h
  exact ⟨by decide +kernel, trivial, (lw_g (lw_at lw_m1 8 rfl) rfl), fun _ => (lw_g (lw_at lw_m4 95 rfl) rfl), fun h => absurd rfl h⟩
theorem mok_136 : ∀ en, mI 136 = some en → MOK 136 en := by
  intro en h
  cases h
  exact ⟨by decide +kernel, trivial, (lw_g (lw_at lw_m1 8 rfl) rfl), fun _ => (lw_g (lw_at lw_m4 103 rfl) rfl), fun h => absurd rfl h⟩
theorem mok_137 : ∀ en, mI 137 = some en → MOK 137 en := by
  intro en h
  cases h
  exact ⟨by decide +kernel, trivial, (lw_g (lw_at lw_m1 8 rfl) rfl), fun _ => (lw_g (lw_at lw_m4 108 rfl) rfl), fun h => absurd rfl h⟩
theorem mok_138 : ∀ en, mI 138 = some en → MOK 138 en := by
  intro en h
  cases h
  exact ⟨by decide +kernel, trivial, (lw_g (lw_at lw_m1 8 rfl) rfl), fun _ => (lw_g (lw_at lw_m4 130 rfl) rfl), fun h => absurd rfl h⟩
theorem mok_139 : ∀ en, mI 139 = some en → MOK 139 en := by
  intro en h
  cases h
  exact ⟨by decide +kernel, trivial, (lw_g (lw_at lw_m1 8 rfl) rfl), fun _ => (lw_g (lw_at lw_m4 139 rfl) rfl), fun h => absurd rfl h⟩
theorem mok_140 : ∀ en, mI 140 = some en → MOK 140 en := by
  intro en h
  cases h
  exact ⟨by decide +kernel, trivial, (lw_g (lw_at lw_m1 8 rfl) rfl), fun _ => (lw_g (lw_at lw_m4 158 rfl) rfl), fun h => absurd rfl h⟩
theorem mok_141 : ∀ en, mI 141 = some en → MOK 141 en := by
  intro en h
  cases h
  exact ⟨by decide +kernel, trivial, (lw_g (lw_at lw_m1 8 rfl) rfl), fun _ => (lw_g (lw_at lw_m4 175 rfl) rfl), fun h => absurd rfl h⟩
theorem mok_142 : ∀ en, mI 142 = some en → MOK 142 en := by
  intro en h
  cases h
  exact ⟨by decide +kernel, trivial, (lw_g (lw_at lw_m1 8 rfl) rfl), fun _ => (lw_g (lw_at lw_m4 186 rfl) rfl), fun h => absurd rfl h⟩
theorem mok_143 : ∀ en, mI 143 = some en → MOK 143 en := by
  intro en h
  cases h
  exact ⟨by decide +kernel, trivial, (lw_g (lw_at lw_m1 8 rfl) rfl), fun _ => (lw_g (lw_at lw_m5 90 rfl) rfl), fun h => absurd rfl h⟩
theorem mok_144 : ∀ en, mI 144 = some en → MOK 144 en := by
  intro en h
  cases h
  exact ⟨by decide +kernel, trivial, (lw_g (lw_at lw_m1 8 rfl) rfl), fun _ => (lw_g (lw_at lw_m5 162 rfl) rfl), fun h => absurd rfl h⟩
theorem mok_145 : ∀ en, mI 145 = some en → MOK 145 en := by
  intro en h
  cases h
  exact ⟨by decide +kernel, trivial, (lw_g (lw_at lw_m1 8 rfl) rfl), fun _ => (lw_g (lw_at lw_m5 201 rfl) rfl), fun h => absurd rfl h⟩
theorem mok_146 : ∀ en, mI 146 = some en → MOK 146 en := by
  intro en h
  cases h
  exact ⟨by decide +kernel, trivial, (lw_g (lw_at lw_m1 8 rfl) rfl), fun _ => (lw_g (lw_at lw_m5 213 rfl) rfl), fun h => absurd rfl h⟩
theorem mok_147 : ∀ en, mI 147 = some en → MOK 147 en := by
  intro en h
  cases h
  exact ⟨by decide +kernel, trivial, (lw_g (lw_at lw_m1 8 rfl) rfl), fun _ => (lw_g (lw_at lw_m5 228 rfl) rfl), fun h => absurd rfl h⟩
theorem mok_148 : ∀ en, mI 148 = some en → MOK 148 en := by
  intro en h
  cases h
  exact ⟨by decide +kernel, trivial, (lw_g (lw_at lw_m1 8 rfl) rfl), fun _ => (lw_g (lw_at lw_m5 234 rfl) rfl), fun h => absurd rfl h⟩
theorem mok_149 : ∀ en, mI 149 = some en → MOK 149 en := by
  intro en h
  cases h
  exact ⟨by decide +kernel, trivial, (lw_g (lw_at lw_m1 8 rfl) rfl), fun _ => (lw_g (lw_at lw_m6 7 rfl) rfl), fun h => absurd rfl h⟩
theorem mok_150 : ∀ en, mI 150 = some en → MOK 150 en := by
  intro en h
  cases h
  exact ⟨by decide +kernel, trivial, (lw_g (lw_at lw_m1 8 rfl) rfl), fun _ => (lw_g (lw_at lw_m7 229 rfl) rfl), fun h => absurd rfl h⟩
theorem mok_151 : ∀ en, mI 151 = some en → MOK 151 en := by
  intro en h
  cases h
  exact ⟨by decide +kernel, trivial, (lw_g (lw_at lw_m1 8 rfl) rfl), fun _ => (lw_g (lw_at lw_m7 234 rfl) rfl), fun h => absurd rfl h⟩
theorem mok_152 : ∀ en, mI 152 = some en → MOK 152 en := by
  intro en h
  cases h
  exact ⟨by decide +kernel, trivial, (lw_g (lw_at lw_m1 15 rfl) rfl), fun _ => (lw_g (lw_at lw_m2 83 rfl) rfl), fun h => absurd rfl h⟩
theorem mok_153 : ∀ en, mI 153 = some en → MOK 153 en := by
  intro en h
  cases h
  exact ⟨by decide +kernel, trivial, (lw_g (lw_at lw_m1 15 rfl) rfl), fun _ => (lw_g (lw_at lw_m2 145 rfl) rfl), fun h => absurd rfl h⟩
theorem mok_154 : ∀ en, mI 154 = some en → MOK 154 en := by
  intro en h
  cases h
  exact ⟨by decide +kernel, trivial, (lw_g (lw_at lw_m1 15 rfl) rfl), fun _ => (lw_g (lw_at lw_m2 149 rfl) rfl), fun h => absurd rfl h⟩
theorem mok_155 : ∀ en, mI 155 = some en → MOK 155 en := by
  intro en h
  cases h
  exact ⟨by decide +kernel, trivial, (lw_g (lw_at lw_m1 15 rfl) rfl), fun _ => (lw_g (lw_at lw_m2 154 rfl) rfl), fun h => absurd rfl h⟩
theorem mok_156 : ∀ en, mI 156 = some en → MOK 156 en := by
  intro en h
  cases h
  exact ⟨by decide +kernel, trivial, (lw_g (lw_at lw_m1 15 rfl) rfl), fun _ => (lw_g (lw_at lw_m2 158 rfl) rfl), fun h => absurd rfl h⟩
theorem mok_157 : ∀ en, mI 157 = some en → MOK 157 en := by
  intro en h
  cases h
  exact ⟨by decide +kernel, trivial, (lw_g (lw_at lw_m1 15 rfl) rfl), fun _ => (lw_g (lw_at lw_m2 161 rfl) rfl), fun h => absurd rfl h⟩
theorem mok_158 : ∀ en, mI 158 = some en → MOK 158 en := by
  intro en h
  cases h
  exact ⟨by decide +kernel, trivial, (lw_g (lw_at lw_m1 15 rfl) rfl), fun _ => (lw_g (lw_at lw_m2 164 rfl) rfl), fun h => absurd rfl h⟩
theorem mok_159 : ∀ en, mI 159 = some en → MOK 159 en := by
  intro en h
  cases h
  exact ⟨by decide +kernel, trivial, (lw_g (lw_at lw_m1 15 rfl) rfl), fun _ => (lw_g (lw_at lw_m3 2 rfl) rfl), fun h => absurd rfl h⟩
theorem mok_160 : ∀ en, mI 160 = some en → MOK 160 en := by
  intro en h
  cases h
  exact ⟨by decide +kernel, trivial, (lw_g (lw_at lw_m1 15 rfl) rfl), fun _ => (lw_g (lw_at lw_m3 6 rfl) rfl), fun h => absurd rfl h⟩
theorem mok_161 : ∀ en, mI 161 = some en → MOK 161 en := by
  intro en h
  cases h
  exact ⟨by decide +kernel, trivial, (lw_g (lw_at lw_m1 15 rfl) rfl), fun _ => (lw_g (lw_at lw_m3 10 rfl) rfl), fun h => absurd rfl h⟩
theorem mok_162 : ∀ en, mI 162 = some en → MOK 162 en := by
  intro en h
  cases h
  exact ⟨by decide +kernel, trivial, (lw_g (lw_at lw_m1 15 rfl) rfl), fun _ => (lw_g (lw_at lw_m3 14 rfl) rfl), fun h => absurd rfl h⟩
theorem mok_163 : ∀ en, mI 163 = some en → MOK 163 en := by
  intro en h
  cases h
  exact ⟨by decide +kernel, trivial, (lw_g (lw_at lw_m1 15 rfl) rfl), fun _ => (lw_g (lw_at lw_m3 18 rfl) rfl), fun h => absurd rfl h⟩
theorem mok_164 : ∀ en, mI 164 = some en → MOK 164 en := by
  intro en h
  cases h
  exact ⟨by decide +kernel, trivial, (lw_g (lw_at lw_m1 15 rfl) rfl), fun _ => (lw_g (lw_at lw_m3 22 rfl) rfl), fun h => absurd rfl h⟩
theorem mok_165 : ∀ en, mI 165 = some en → MOK 165 en := by
  intro en h
  cases h
  exact ⟨by decide +kernel, trivial, (lw_g (lw_at lw_m1 15 rfl) rfl), fun _ => (lw_g (lw_at lw_m4 197 rfl) rfl), fun h => absurd rfl h⟩
theorem mok_166 : ∀ en, mI 166 = some en → MOK 166 en := by
  intro en h
  cases h
  exact ⟨by decide +kernel, trivial, (lw_g (lw_at lw_m1 15 rfl) rfl), fun _ => (lw_g (lw_at lw_m4 201 rfl) rfl), fun h => absurd rfl h⟩
theorem mok_167 : ∀ en, mI 167 = some en → MOK 167 en := by
  intro en h
  cases h
  exact ⟨by decide +kernel, trivial, (lw_g (lw_at lw_m1 15 rfl) rfl), fun _ => (lw_g (lw_at lw_m4 205 rfl) rfl), fun h => absurd rfl h⟩
theorem mok_168 : ∀ en, mI 168 = some en → MOK 168 en := by
  intro en h
  cases h
  exact ⟨by decide +kernel, trivial, (lw_g (lw_at lw_m1 15 rfl) rfl), fun _ => (lw_g (lw_at lw_m4 213 rfl) rfl), fun h => absurd rfl h⟩
theorem mok_169 : ∀ en, mI 169 = some en → MOK 169 en := by
  intro en h
  cases h
  exact ⟨by decide +kernel, trivial, (lw_g (lw_at lw_m1 15 rfl) rfl), fun _ => (lw_g (lw_at lw_m4 218 rfl) rfl), fun h => absurd rfl h⟩
theorem mok_170 : ∀ en, mI 170 = some en → MOK 170 en := by
  intro en h
  cases h
  exact ⟨by decide +kernel, trivial, (lw_g (lw_at lw_m1 15 rfl) rfl), fun _ => (lw_g (lw_at lw_m4 222 rfl) rfl), fun h => absurd rfl h⟩
theorem mok_171 : ∀ en, mI 171 = some en → MOK 171 en := by
  intro en h
  cases h
  exact ⟨by decide +kernel, trivial, (lw_g (lw_at lw_m1 15 rfl) rfl), fun _ => (lw_g (lw_at lw_m4 226 rfl) rfl), fun h => absurd rfl h⟩
theorem mok_172 : ∀ en, mI 172 = some en → MOK 172 en := by
  intro en h
  cases h
  exact ⟨by decide +kernel, trivial, (lw_g (lw_at lw_m1 15 rfl) rfl), fun _ => (lw_g (lw_at lw_m4 230 rfl) rfl), fun h => absurd rfl h⟩
theorem mok_173 : ∀ en, mI 173 = some en → MOK 173 en := by
  intro en h
  cases h
  exact ⟨by decide +kernel, trivial, (lw_g (lw_at lw_m1 15 rfl) rfl), fun _ => (lw_g (lw_at lw_m5 20 rfl) rfl), fun h => absurd rfl h⟩
theorem mok_174 : ∀ en, mI 174 = some en → MOK 174 en := by
  intro en h
  cases h
  exact ⟨by decide +kernel, trivial, (lw_g (lw_at lw_m1 15 rfl) rfl), fun _ => (lw_g (lw_at lw_m5 24 rfl) rfl), fun h => absurd rfl h⟩
theorem mok_175 : ∀ en, mI 175 = some en → MOK 175 en := by
  intro en h
  cases h
  exact ⟨by decide +kernel, trivial, (lw_g (lw_at lw_m1 15 rfl) rfl), fun _ => (lw_g (lw_at lw_m5 40 rfl) rfl), fun h => absurd rfl h⟩
theorem mok_176 : ∀ en, mI 176 = some en → MOK 176 en := by
  intro en h
  cases h
  exact ⟨by decide +kernel, trivial, (lw_g (lw_at lw_m1 15 rfl) rfl), fun _ => (lw_g (lw_at lw_m5 44 rfl) rfl), fun h => absurd rfl h⟩
theorem mok_177 : ∀ en, mI 177 = some en → MOK 177 en := by
  intro en h
  cases h
  exact ⟨by decide +kernel, trivial, (lw_g (lw_at lw_m1 15 rfl) rfl), fun _ => (lw_g (lw_at lw_m5 48 rfl) rfl), fun h => absurd rfl h⟩
theorem mok_178 : ∀ en, mI 178 = some en → MOK 178 en := by
  intro en h
  cases h
  exact ⟨by decide +kernel, trivial, (lw_g (lw_at lw_m1 15 rfl) rfl), fun _ => (lw_g (lw_at lw_m5 86 rfl) rfl), fun h => absurd rfl h⟩
theorem mok_179 : ∀ en, mI 179 = some en → MOK 179 en := by
  intro en h
  cases h
  exact ⟨by decide +kernel, trivial, (lw_g (lw_at lw_m1 15 rfl) rfl), fun _ => (lw_g (lw_at lw_m5 101 rfl) rfl), fun h => absurd rfl h⟩
theorem mok_180 : ∀ en, mI 180 = some en → MOK 180 en := by
  intro en h
  cases h
  exact ⟨by decide +kernel, trivial, (lw_g (lw_at lw_m1 15 rfl) rfl), fun _ => (lw_g (lw_at lw_m5 105 rfl) rfl), fun h => absurd rfl h⟩
theorem mok_181 : ∀ en, mI 181 = some en → MOK 181 en := by
  intro en h
  cases h
  exact ⟨by decide +kernel, trivial, (lw_g (lw_at lw_m1 15 rfl) rfl), fun _ => (lw_g (lw_at lw_m7 180 rfl) rfl), fun h => absurd rfl h⟩
theorem mok_182 : ∀ en, mI 182 = some en → MOK 182 en := by
  intro en h
  cases h
  exact ⟨by decide +kernel, trivial, (lw_g (lw_at lw_m1 15 rfl) rfl), fun _ => (lw_g (lw_at lw_m7 184 rfl) rfl), fun h => absurd rfl h⟩
theorem mok_183 : ∀ en, mI 183 = some en → MOK 183 en := by
  intro en h
  cases h
  exact ⟨by decide +kernel, trivial, (lw_g (lw_at lw_m1 15 rfl) rfl), fun _ => (lw_g (lw_at lw_m9 44 rfl) rfl), fun h => absurd rfl h⟩
theorem mok_184 : ∀ en, mI 184 = some en → MOK 184 en := by
  intro en h
  cases h
  exact ⟨by decide +kernel, trivial, (lw_g (lw_at lw_m1 16 rfl) rfl), fun _ => (lw_g (lw_at lw_m2 124 rfl) rfl), fun h => absurd rfl h⟩
theorem mok_185 : ∀ en, mI 185 = some en → MOK 185 en := by
  intro en h
  cases h
  exact ⟨by decide +kernel, trivial, (lw_g (lw_at lw_m1 17 rfl) rfl), fun _ => (lw_g (lw_at lw_m9 51 rfl) rfl), fun h => absurd rfl h⟩
theorem mok_186 : ∀ en, mI 186 = some en → MOK 186 en := by
  intro en h
  cases h
  exact ⟨by decide +kernel, trivial, (lw_g (lw_at lw_m1 17 rfl) rfl), fun _ => (lw_g (lw_at lw_m10 22 rfl) rfl), fun h => absurd rfl h⟩
theorem mok_187 : ∀ en, mI 187 = some en → MOK 187 en := by
  intro en h
  cases h
  exact ⟨by decide +kernel, trivial, (lw_g (lw_at lw_m1 17 rfl) rfl), fun _ => (lw_g (lw_at lw_m10 26 rfl) rfl), fun h => absurd rfl h⟩
theorem mok_188 : ∀ en, mI 188 = some en → MOK 188 en := by
  intro en h
  cases h
  exact ⟨by decide +kernel, trivial, (lw_g (lw_at lw_m1 17 rfl) rfl), fun _ => (lw_g (lw_at lw_m10 30 rfl) rfl), fun h => absurd rfl h⟩
theorem mok_189 : ∀ en, mI 189 = some en → MOK 189 en := by
  intro en h
  cases h
  exact ⟨by decide +kernel, trivial, (lw_g (lw_at lw_m1 17 rfl) rfl), fun _ => (lw_g (lw_at lw_m10 34 rfl) rfl), fun h => absurd rfl h⟩
theorem mok_190 : ∀ en, mI 190 = some en → MOK 190 en := by
  intro en h
  cases h
  exact ⟨by decide +kernel, trivial, (lw_g (lw_at lw_m1 17 rfl) rfl), fun _ => (lw_g (lw_at lw_m10 38 rfl) rfl), fun h => absurd rfl h⟩
theorem mok_191 : ∀ en, mI 191 = some en → MOK 191 en := by
  intro en h
  cases h
  exact ⟨by decide +kernel, trivial, (lw_g (lw_at lw_m1 17 rfl) rfl), fun _ => (lw_g (lw_at lw_m10 42 rfl) rfl), fun h => absurd rfl h⟩
theorem mok_192 : ∀ en, mI 192 = some en → MOK 192 en := by
  intro en h
  cases h
  exact ⟨by decide +kernel, trivial, (lw_g (lw_at lw_m1 17 rfl) rfl), fun _ => (lw_g (lw_at lw_m10 47 rfl) rfl), fun h => absurd rfl h⟩
theorem mok_193 : ∀ en, mI 193 = some en → MOK 193 en := by
  intro en h
  cases h
  exact ⟨by decide +kernel, trivial, (lw_g (lw_at lw_m1 17 rfl) rfl), fun _ => (lw_g (lw_at lw_m10 51 rfl) rfl), fun h => absurd rfl h⟩
theorem mok_194 : ∀ en, mI 194 = some en → MOK 194 en := by
  intro en h
  cases h
  exact ⟨by decide +kernel, trivial, (lw_g (lw_at lw_m1 17 rfl) rfl), fun _ => (lw_g (lw_at lw_m10 54 rfl) rfl), fun h => absurd rfl h⟩
theorem mok_195 : ∀ en, mI 195 = some en → MOK 195 en := by
  intro en h
  cases h
  exact ⟨by decide +kernel, trivial, (lw_g (lw_at lw_m1 17 rfl) rfl), fun _ => (lw_g (lw_at lw_m10 58 rfl) rfl), fun h => absurd rfl h⟩
theorem mok_196 : ∀ en, mI 196 = some en → MOK 196 en := by
  intro en h
  cases h
  exact ⟨by decide +kernel, trivial, (lw_g (lw_at lw_m1 17 rfl) rfl), fun _ => (lw_g (lw_at lw_m10 62 rfl) rfl), fun h => absurd rfl h⟩
theorem mok_197 : ∀ en, mI 197 = some en → MOK 197 en := by
  intro en h
  cases h
  exact ⟨by decide +kernel, trivial, (lw_g (lw_at lw_m1 17 rfl) rfl), fun _ => (lw_g (lw_at lw_m10 70 rfl) rfl), fun h => absurd rfl h⟩
theorem mok_198 : ∀ en, mI 198 = some en → MOK 198 en := by
  intro en h
  cases h
  exact ⟨by decide +kernel, trivial, (lw_g (lw_at lw_m1 17 rfl) rfl), fun _ => (lw_g (lw_at lw_m10 74 rfl) rfl), fun h => absurd rfl h⟩
theorem mok_199 : ∀ en, mI 199 = some en → MOK 199 en := by
  intro en h
  cases h
  exact ⟨by decide +kernel, trivial, (lw_g (lw_at lw_m1 17 rfl) rfl), fun _ => (lw_g (lw_at lw_m10 78 rfl) rfl), fun h => absurd rfl h⟩
theorem mok_200 : ∀ en, mI 200 = some en → MOK 200 en := by
  intro en h
  cases h
  exact ⟨by decide +kernel, trivial, (lw_g (lw_at lw_m1 17 rfl) rfl), fun _ => (lw_g (lw_at lw_m10 85 rfl) rfl), fun h => absurd rfl h⟩
theorem mok_201 : ∀ en, mI 201 = some en → MOK 201 en := by
  intro en h
  cases h
  exact ⟨by decide +kernel, trivial, (lw_g (lw_at lw_m1 17 rfl) rfl), fun _ => (lw_g (lw_at lw_m10 91 rfl) rfl), fun h => absurd rfl h⟩
theorem mok_202 : ∀ en, mI 202 = some en → MOK 202 en := by
  intro en h
  cases h
  exact ⟨by decide +kernel, trivial, (lw_g (lw_at lw_m1 17 rfl) rfl), fun _ => (lw_g (lw_at lw_m10 95 rfl) rfl), fun h => absurd rfl h⟩
theorem mok_203 : ∀ en, mI 203 = some en → MOK 203 en := by
  intro en h
  cases h
  exact ⟨by decide +kernel, trivial, (lw_g (lw_at lw_m1 17 rfl) rfl), fun _ => (lw_g (lw_at lw_m10 106 rfl) rfl), fun h => absurd rfl h⟩
theorem mok_204 : ∀ en, mI 204 = some en → MOK 204 en := by
  intro en h
  cases h
  exact ⟨by decide +kernel, trivial, (lw_g (lw_at lw_m1 17 rfl) rfl), fun _ => (lw_g (lw_at lw_m10 114 rfl) rfl), fun h => absurd rfl h⟩
theorem mok_205 : ∀ en, mI 205 = some en → MOK 205 en := by
  intro en h
  cases h
  exact ⟨by decide +kernel, trivial, (lw_g (lw_at lw_m1 17 rfl) rfl), fun _ => (lw_g (lw_at lw_m10 173 rfl) rfl), fun h => absurd rfl h⟩
theorem mok_206 : ∀ en, mI 206 = some en → MOK 206 en := by
  intro en h
  cases h
  exact ⟨by decide +kernel, trivial, (lw_g (lw_at lw_m1 17 rfl) rfl), fun _ => (lw_g (lw_at lw_m10 176 rfl) rfl), fun h => absurd rfl h⟩
theorem mok_207 : ∀ en, mI 207 = some en → MOK 207 en := by
  intro en h
  cases h
  exact ⟨by decide +kernel, trivial, (lw_g (lw_at lw_m1 17 rfl) rfl), fun _ => (lw_g (lw_at lw_m10 184 rfl) rfl), fun h => absurd rfl h⟩
theorem mok_208 : ∀ en, mI 208 = some en → MOK 208 en := by
  intro en h
  cases h
  exact ⟨by decide +kernel, trivial, (lw_g (lw_at lw_m1 17 rfl) rfl), fun _ => (lw_g (lw_at lw_m10 191 rfl) rfl), fun h => absurd rfl h⟩
theorem mok_209 : ∀ en, mI 209 = some en → MOK 209 en := by
  intro en h
  cases h
  exact ⟨by decide +kernel, trivial, (lw_g (lw_at lw_m1 17 rfl) rfl), fun _ => (lw_g (lw_at lw_m10 207 rfl) rfl), fun h => absurd rfl h⟩
theorem mok_210 : ∀ en, mI 210 = some en → MOK 210 en := by
  intro en h
  cases h
  exact ⟨by decide +kernel, trivial, (lw_g (lw_at lw_m1 17 rfl) rfl), fun _ => (lw_g (lw_at lw_m10 211 rfl) rfl), fun h => absurd rfl h⟩
theorem mok_211 : ∀ en, mI 211 = some en → MOK 211 en := by
  intro en h
  cases h
  exact ⟨by decide +kernel, trivial, (lw_g (lw_at lw_m1 17 rfl) rfl), fun _ => (lw_g (lw_at lw_m10 215 rfl) rfl), fun h => absurd rfl h⟩
theorem mok_212 : ∀ en, mI 212 = some en → MOK 212 en := by
  intro en h
  cases h
  exact ⟨by decide +kernel, trivial, (lw_g (lw_at lw_m1 17 rfl) rfl), fun _ => (lw_g (lw_at lw_m10 219 rfl) rfl), fun h => absurd rfl h⟩
theorem mok_213 : ∀ en, mI 213 = some en → MOK 213 en := by
  intro en h
  cases h
  exact ⟨by decide +kernel, trivial, (lw_g (lw_at lw_m1 17 rfl) rfl), fun _ => (lw_g (lw_at lw_m10 223 rfl) rfl), fun h => absurd rfl h⟩
theorem mok_214 : ∀ en, mI 214 = some en → MOK 214 en := by
  intro en h
  cases h
  exact ⟨by decide +kernel, trivial, (lw_g (lw_at lw_m1 17 rfl) rfl), fun _ => (lw_g (lw_at lw_m10 228 rfl) rfl), fun h => absurd rfl h⟩
theorem mok_215 : ∀ en, mI 215 = some en → MOK 215 en := by
  intro en h
  cases h
  exact ⟨by decide +kernel, trivial, (lw_g (lw_at lw_m1 17 rfl) rfl), fun _ => (lw_g (lw_at lw_m10 239 rfl) rfl), fun h => absurd rfl h⟩
theorem mok_216 : ∀ en, mI 216 = some en → MOK 216 en := by
  intro en h
  cases h
  exact ⟨by decide +kernel, trivial, (lw_g (lw_at lw_m1 17 rfl) rfl), fun _ => (lw_g (lw_at lw_m11 12 rfl) rfl), fun h => absurd rfl h⟩
theorem mok_217 : ∀ en, mI 217 = some en → MOK 217 en := by
  intro en h
  cases h
  exact ⟨by decide +kernel, trivial, (lw_g (lw_at lw_m1 17 rfl) rfl), fun _ => (lw_g (lw_at lw_m11 16 rfl) rfl), fun h => absurd rfl h⟩
theorem mok_218 : ∀ en, mI 218 = some en → MOK 218 en := by
  intro en h
  cases h
  exact ⟨by decide +kernel, trivial, (lw_g (lw_at lw_m1 17 rfl) rfl), fun _ => (lw_g (lw_at lw_m11 20 rfl) rfl), fun h => absurd rfl h⟩
theorem mok_219 : ∀ en, mI 219 = some en → MOK 219 en := by
  intro en h
  cases h
  exact ⟨by decide +kernel, trivial, (lw_g (lw_at lw_m1 17 rfl) rfl), fun _ => (lw_g (lw_at lw_m11 24 rfl) rfl), fun h => absurd rfl h⟩
theorem mok_220 : ∀ en, mI 220 = some en → MOK 220 en := by
  intro en h
  cases h
  exact ⟨by decide +kernel, trivial, (lw_g (lw_at lw_m1 17 rfl) rfl), fun _ => (lw_g (lw_at lw_m11 28 rfl) rfl), fun h => absurd rfl h⟩
theorem mok_221 : ∀ en, mI 221 = some en → MOK 221 en := by
  intro en h
  cases h
  exact ⟨by decide +kernel, trivial, (lw_g (lw_at lw_m1 17 rfl) rfl), fun _ => (lw_g (lw_at lw_m11 36 rfl) rfl), fun h => absurd rfl h⟩
theorem mok_222 : ∀ en, mI 222 = some en → MOK 222 en := by
  intro en h
  cases h
  exact ⟨by decide +kernel, trivial, (lw_g (lw_at lw_m1 17 rfl) rfl), fun _ => (lw_g (lw_at lw_m11 40 rfl) rfl), fun h => absurd rfl h⟩
theorem mok_223 : ∀ en, mI 223 = some en → MOK 223 en := by
  intro en h
  cases h
  exact ⟨by decide +kernel, trivial, (lw_g (lw_at lw_m1 17 rfl) rfl), fun _ => (lw_g (lw_at lw_m11 48 rfl) rfl), fun h => absurd rfl h⟩
theorem mok_224 : ∀ en, mI 224 = some en → MOK 224 en := by
  intro en h
  cases h
  exact ⟨by decide +kernel, trivial, (lw_g (lw_at lw_m1 17 rfl) rfl), fun _ => (lw_g (lw_at lw_m11 52 rfl) rfl), fun h => absurd rfl h⟩
theorem mok_225 : ∀ en, mI 225 = some en → MOK 225 en := by
  intro en h
  cases h
  exact ⟨by decide +kernel, trivial, (lw_g (lw_at lw_m1 17 rfl) rfl), fun _ => (lw_g (lw_at lw_m11 56 rfl) rfl), fun h => absurd rfl h⟩
theorem mok_226 : ∀ en, mI 226 = some en → MOK 226 en := by
  intro en h
  cases h
  exact ⟨by decide +kernel, trivial, (lw_g (lw_at lw_m1 17 rfl) rfl), fun _ => (lw_g (lw_at lw_m11 60 rfl) rfl), fun h => absurd rfl h⟩
theorem mok_227 : ∀ en, mI 227 = some en → MOK 227 en := by
  intro en h
  cases h
  exact ⟨by decide +kernel, trivial, (lw_g (lw_at lw_m1 17 rfl) rfl), fun _ => (lw_g (lw_at lw_m11 64 rfl) rfl), fun h => absurd rfl h⟩
theorem mok_228 : ∀ en, mI 228 = some en → MOK 228 en := by
  intro en h
  cases h
  exact ⟨by decide +kernel, trivial, (lw_g (lw_at lw_m1 17 rfl) rfl), fun _ => (lw_g (lw_at lw_m11 69 rfl) rfl), fun h => absurd rfl h⟩
theorem mok_229 : ∀ en, mI 229 = some en → MOK 229 en := by
  intro en h
  cases h
  exact ⟨by decide +kernel, trivial, (lw_g (lw_at lw_m1 17 rfl) rfl), fun _ => (lw_g (lw_at lw_m11 73 rfl) rfl), fun h => absurd rfl h⟩
theorem mok_230 : ∀ en, mI 230 = some en → MOK 230 en := by
  intro en h
  cases h
  exact ⟨by decide +kernel, trivial, (lw_g (lw_at lw_m1 17 rfl) rfl), fun _ => (lw_g (lw_at lw_m11 78 rfl) rfl), fun h => absurd rfl h⟩
theorem mok_231 : ∀ en, mI 231 = some en → MOK 231 en := by
  intro en h
  cases h
  exact ⟨by decide +kernel, trivial, (lw_g (lw_at lw_m1 17 rfl) rfl), fun _ => (lw_g (lw_at lw_m11 83 rfl) rfl), fun h => absurd rfl h⟩
theorem mok_232 : ∀ en, mI 232 = some en → MOK 232 en := by
  intro en h
  cases h
  exact ⟨by decide +kernel, trivial, (lw_g (lw_at lw_m1 17 rfl) rfl), fun _ => (lw_g (lw_at lw_m11 91 rfl) rfl), fun h => absurd rfl h⟩
theorem mok_233 : ∀ en, mI 233 = some en → MOK 233 en := by
  intro en h
  cases h
  exact ⟨by decide +kernel, trivial, (lw_g (lw_at lw_m1 17 rfl) rfl), fun _ => (lw_g (lw_at lw_m11 95 rfl) rfl), fun h => absurd rfl h⟩
theorem mok_234 : ∀ en, mI 234 = some en → MOK 234 en := by
  intro en h
  cases h
  exact ⟨by decide +kernel, trivial, (lw_g (lw_at lw_m1 17 rfl) rfl), fun _ => (lw_g (lw_at lw_m11 100 rfl) rfl), fun h => absurd rfl h⟩
theorem mok_235 : ∀ en, mI 235 = some en → MOK 235 en := by
  intro en h
  cases h
  exact ⟨by decide +kernel, trivial, (lw_g (lw_at lw_m1 17 rfl) rfl), fun _ => (lw_g (lw_at lw_m11 103 rfl) rfl), fun h => absurd rfl h⟩
theorem mok_236 : ∀ en, mI 236 = some en → MOK 236 en := by
  intro en h
  cases h
  exact ⟨by decide +kernel, trivial, (lw_g (lw_at lw_m1 17 rfl) rfl), fun _ => (lw_g (lw_at lw_m11 106 rfl) rfl), fun h => absurd rfl h⟩
theorem mok_237 : ∀ en, mI 237 = some en → MOK 237 en := by
  intro en h
  cases h
  exact ⟨by decide +kernel, trivial, (lw_g (lw_at lw_m1 17 rfl) rfl), fun _ => (lw_g (lw_at lw_m11 109 rfl) rfl), fun h => absurd rfl h⟩
theorem mok_238 : ∀ en, mI 238 = some en → MOK 238 en := by
  intro en h
  cases h
  exact ⟨by decide +kernel, trivial, (lw_g (lw_at lw_m1 17 rfl) rfl), fun _ => (lw_g (lw_at lw_m11 131 rfl) rfl), fun h => absurd rfl h⟩
theorem mok_239 : ∀ en, mI 239 = some en → MOK 239 en := by
  intro en h
  cases h
  exact ⟨by decide +kernel, trivial, (lw_g (lw_at lw_m1 17 rfl) rfl), fun _ => (lw_g (lw_at lw_m11 136 rfl) rfl), fun h => absurd rfl h⟩
theorem mok_240 : ∀ en, mI 240 = some en → MOK 240 en := by
  intro en h
  cases h
  exact ⟨by decide +kernel, trivial, (lw_g (lw_at lw_m1 17 rfl) rfl), fun _ => (lw_g (lw_at lw_m11 151 rfl) rfl), fun h => absurd rfl h⟩
theorem mok_241 : ∀ en, mI 241 = some en → MOK 241 en := by
  intro en h
  cases h
  exact ⟨by decide +kernel, trivial, (lw_g (lw_at lw_m1 17 rfl) rfl), fun _ => (lw_g (lw_at lw_m11 155 rfl) rfl), fun h => absurd rfl h⟩
theorem mok_242 : ∀ en, mI 242 = some en → MOK 242 en := by
  intro en h
  cases h
  exact ⟨by decide +kernel, trivial, (lw_g (lw_at lw_m1 17 rfl) rfl), fun _ => (lw_g (lw_at lw_m11 164 rfl) rfl), fun h => absurd rfl h⟩
theorem mok_243 : ∀ en, mI 243 = some en → MOK 243 en := by
  intro en h
  cases h
  exact ⟨by decide +kernel, trivial, (lw_g (lw_at lw_m1 17 rfl) rfl), fun _ => (lw_g (lw_at lw_m11 168 rfl) rfl), fun h => absurd rfl h⟩
theorem mok_244 : ∀ en, mI 244 = some en → MOK 244 en := by
  intro en h
  cases h
  exact ⟨by decide +kernel, trivial, (lw_g (lw_at lw_m1 17 rfl) rfl), fun _ => (lw_g (lw_at lw_m11 172 rfl) rfl), fun h => absurd rfl h⟩
theorem mok_245 : ∀ en, mI 245 = some en → MOK 245 en := by
  intro en h
  cases h
  exact ⟨by decide +kernel, trivial, (lw_g (lw_at lw_m1 17 rfl) rfl), fun _ => (lw_g (lw_at lw_m11 176 rfl) rfl), fun h => absurd rfl h⟩
theorem mok_246 : ∀ en, mI 246 = some en → MOK 246 en := by
  intro en h
  cases h
  exact ⟨by decide +kernel, trivial, (lw_g (lw_at lw_m1 17 rfl) rfl), fun _ => (lw_g (lw_at lw_m11 180 rfl) rfl), fun h => absurd rfl h⟩
theorem mok_247 : ∀ en, mI 247 = some en → MOK 247 en := by
  intro en h
  cases h
  exact ⟨by decide +kernel, trivial, (lw_g (lw_at lw_m1 17 rfl) rfl), fun _ => (lw_g (lw_at lw_m11 184 rfl) rfl), fun h => absurd rfl h⟩
theorem mok_248 : ∀ en, mI 248 = some en → MOK 248 en := by
  intro en h
  cases h
  exact ⟨by decide +kernel, trivial, (lw_g (lw_at lw_m1 17 rfl) rfl), fun _ => (lw_g (lw_at lw_m11 188 rfl) rfl), fun h => absurd rfl h⟩
theorem mok_249 : ∀ en, mI 249 = some en → MOK 249 en := by
  intro en h
  cases h
  exact ⟨by decide +kernel, trivial, (lw_g (lw_at lw_m1 17 rfl) rfl), fun _ => (lw_g (lw_at lw_m11 192 rfl) rfl), fun h => absurd rfl h⟩
theorem mok_250 : ∀ en, mI 250 = some en → MOK 250 en := by
  intro en h
  cases h
  exact ⟨by decide +kernel, trivial, (lw_g (lw_at lw_m1 17 rfl) rfl), fun _ => (lw_g (lw_at lw_m11 196 rfl) rfl), fun h => absurd rfl h⟩
theorem mok_251 : ∀ en, mI 251 = some en → MOK 251 en := by
  intro en h
  cases h
  exact ⟨by decide +kernel, trivial, (lw_g (lw_at lw_m1 17 rfl) rfl), fun _ => (lw_g (lw_at lw_m11 200 rfl) rfl), fun h => absurd rfl h⟩
theorem mok_252 : ∀ en, mI 252 = some en → MOK 252 en := by
  intro en h
  cases h
  exact ⟨by decide +kernel, trivial, (lw_g (lw_at lw_m1 17 rfl) rfl), fun _ => (lw_g (lw_at lw_m11 204 rfl) rfl), fun h => absurd rfl h⟩
theorem mok_253 : ∀ en, mI 253 = some en → MOK 253 en := by
  intro en h
  cases h
  exact ⟨by decide +kernel, trivial, (lw_g (lw_at lw_m1 17 rfl) rfl), fun _ => (lw_g (lw_at lw_m11 208 rfl) rfl), fun h => absurd rfl h⟩
theorem mok_254 : ∀ en, mI 254 = some en → MOK 254 en := by
  intro en h
  cases h
  exact ⟨by decide +kernel, trivial, (lw_g (lw_at lw_m1 17 rfl) rfl), fun _ => (lw_g (lw_at lw_m11 212 rfl) rfl), fun h => absurd rfl h⟩
theorem mok_255 : ∀ en, mI 255 = some en → MOK 255 en := by
  intro en h
  cases h
  exact ⟨by decide +kernel, trivial, (lw_g (lw_at lw_m1 17 rfl) rfl), fun _ => (lw_g (lw_at lw_m11 216 rfl) rfl), fun h => absurd rfl h⟩
theorem mok_256 : ∀ en, mI 256 = some en → MOK 256 en := by
  intro en h
  cases h
  exact ⟨by decide +kernel, trivial, (lw_g (lw_at lw_m1 17 rfl) rfl), fun _ => (lw_g (lw_at lw_m11 220 rfl) rfl), fun h => absurd rfl h⟩
theorem mok_257 : ∀ en, mI 257 = some en → MOK 257 en := by
  intro en h
  cases h
  exact ⟨by decide +kernel, trivial, (lw_g (lw_at lw_m1 17 rfl) rfl), fun _ => (lw_g (lw_at lw_m11 224 rfl) rfl), fun h => absurd rfl h⟩
theorem mok_258 : ∀ en, mI 258 = some en → MOK 258 en := by
  intro en h
  cases h
  exact ⟨by decide +kernel, trivial, (lw_g (lw_at lw_m1 17 rfl) rfl), fun _ => (lw_g (lw_at lw_m11 230 rfl) rfl), fun h => absurd rfl h⟩
theorem mok_259 : ∀ en, mI 259 = some en → MOK 259 en := by
  intro en h
  cases h
  exact ⟨by decide +kernel, trivial, (lw_g (lw_at lw_m1 17 rfl) rfl), fun _ => (lw_g (lw_at lw_m11 234 rfl) rfl), fun h => absurd rfl h⟩
theorem mok_260 : ∀ en, mI 260 = some en → MOK 260 en := by
  intro en h
  cases h
  exact ⟨by decide +kernel, trivial, (lw_g (lw_at lw_m1 17 rfl) rfl), fun _ => (lw_g (lw_at lw_m12 0 rfl) rfl), fun h => absurd rfl h⟩
theorem mok_261 : ∀ en, mI 261 = some en → MOK 261 en := by
  intro en h
  cases h
  exact ⟨by decide +kernel, trivial, (lw_g (lw_at lw_m1 17 rfl) rfl), fun _ => (lw_g (lw_at lw_m12 5 rfl) rfl), fun h => absurd rfl h⟩
theorem mok_262 : ∀ en, mI 262 = some en → MOK 262 en := by
  intro en h
  cases h
  exact ⟨by decide +kernel, trivial, (lw_g (lw_at lw_m1 17 rfl) rfl), fun _ => (lw_g (lw_at lw_m12 9 rfl) rfl), fun h => absurd rfl h⟩
theorem mok_263 : ∀ en, mI 263 = some en → MOK 263 en := by
  intro en h
  cases h
  exact ⟨by decide +kernel, trivial, (lw_g (lw_at lw_m1 17 rfl) rfl), fun _ => (lw_g (lw_at lw_m12 13 rfl) rfl), fun h => absurd rfl h⟩
theorem mok_264 : ∀ en, mI 264 = some en → MOK 264 en := by
  intro en h
  cases h
  exact ⟨by decide +kernel, trivial, (lw_g (lw_at lw_m1 17 rfl) rfl), fun _ => (lw_g (lw_at lw_m12 17 rfl) rfl), fun h => absurd rfl h⟩
theorem mok_265 : ∀ en, mI 265 = some en → MOK 265 en := by
  intro en h
  cases h
  exact ⟨by decide +kernel, trivial, (lw_g (lw_at lw_m1 17 rfl) rfl), fun _ => (lw_g (lw_at lw_m12 21 rfl) rfl), fun h => absurd rfl h⟩
theorem mok_266 : ∀ en, mI 266 = some en → MOK 266 en := by
  intro en h
  cases h
  exact ⟨by decide +kernel, trivial, (lw_g (lw_at lw_m1 17 rfl) rfl), fun _ => (lw_g (lw_at lw_m12 25 rfl) rfl), fun h => absurd rfl h⟩
theorem mok_267 : ∀ en, mI 267 = some en → MOK 267 en := by
  intro en h
  cases h
  exact ⟨by decide +kernel, trivial, (lw_g (lw_at lw_m1 17 rfl) rfl), fun _ => (lw_g (lw_at lw_m12 29 rfl) rfl), fun h => absurd rfl h⟩
theorem mok_268 : ∀ en, mI 268 = some en → MOK 268 en := by
  intro en h
  cases h
  exact ⟨by decide +kernel, trivial, (lw_g (lw_at lw_m1 17 rfl) rfl), fun _ => (lw_g (lw_at lw_m12 33 rfl) rfl), fun h => absurd rfl h⟩
theorem mok_269 : ∀ en, mI 269 = some en → MOK 269 en := by
  intro en h
  cases h
  exact ⟨by decide +kernel, trivial, (lw_g (lw_at lw_m1 17 rfl) rfl), fun _ => (lw_g (lw_at lw_m12 37 rfl) rfl), fun h => absurd rfl h⟩
theorem mok_270 : ∀ en, mI 270 = some en → MOK 270 en := by
  intro en h
  cases h
  exact ⟨by decide +kernel, trivial, (lw_g (lw_at lw_m1 17 rfl) rfl), fun _ => (lw_g (lw_at lw_m12 41 rfl) rfl), fun h => absurd rfl h⟩
theorem mok_271 : ∀ en, mI 271 = some en → MOK 271 en := by
  intro en h
  cases h
  exact ⟨by decide +kernel, trivial, (lw_g (lw_at lw_m1 17 rfl) rfl), fun _ => (lw_g (lw_at lw_m12 45 rfl) rfl), fun h => absurd rfl h⟩
theorem mok_272 : ∀ en, mI 272 = some en → MOK 272 en := by
  intro en h
  cases h
  exact ⟨by decide +kernel, trivial, (lw_g (lw_at lw_m1 17 rfl) rfl), fun _ => (lw_g (lw_at lw_m12 49 rfl) rfl), fun h => absurd rfl h⟩
theorem mok_273 : ∀ en, mI 273 = some en → MOK 273 en := by
  intro en h
  cases h
  exact ⟨by decide +kernel, trivial, (lw_g (lw_at lw_m1 17 rfl) rfl), fun _ => (lw_g (lw_at lw_m12 53 rfl) rfl), fun h => absurd rfl h⟩
theorem mok_274 : ∀ en, mI 274 = some en → MOK 274 en := by
  intro en h
  cases h
  exact ⟨by decide +kernel, trivial, (lw_g (lw_at lw_m1 17 rfl) rfl), fun _ => (lw_g (lw_at lw_m12 57 rfl) rfl), fun h => absurd rfl h⟩
theorem mok_275 : ∀ en, mI 275 = some en → MOK 275 en := by
  intro en h
  cases h
  exact ⟨by decide +kernel, trivial, (lw_g (lw_at lw_m1 17 rfl) rfl), fun _ => (lw_g (lw_at lw_m12 61 rfl) rfl), fun h => absurd rfl h⟩
theorem mok_276 : ∀ en, mI 276 = some en → MOK 276 en := by
  intro en h
  cases h
  exact ⟨by decide +kernel, trivial, (lw_g (lw_at lw_m1 17 rfl) rfl), fun _ => (lw_g (lw_at lw_m12 65 rfl) rfl), fun h => absurd rfl h⟩
theorem mok_277 : ∀ en, mI 277 = some en → MOK 277 en := by
  intro en h
  cases h
  exact ⟨by decide +kernel, trivial, (lw_g (lw_at lw_m1 18 rfl) rfl), fun _ => (lw_g (lw_at lw_m9 58 rfl) rfl), fun h => absurd rfl h⟩
theorem mok_278 : ∀ en, mI 278 = some en → MOK 278 en := by
  intro en h
  cases h
  exact ⟨by decide +kernel, trivial, (lw_g (lw_at lw_m1 18 rfl) rfl), fun _ => (lw_g (lw_at lw_m10 235 rfl) rfl), fun h => absurd rfl h⟩
theorem mok_279 : ∀ en, mI 279 = some en → MOK 279 en := by
  intro en h
  cases h
  exact ⟨by decide +kernel, trivial, (lw_g (lw_at lw_m1 18 rfl) rfl), fun _ => (lw_g (lw_at lw_m11 3 rfl) rfl), fun h => absurd rfl h⟩
theorem mok_280 : ∀ en, mI 280 = some en → MOK 280 en := by
  intro en h
  cases h
  exact ⟨by decide +kernel, trivial, (lw_g (lw_at lw_m1 18 rfl) rfl), fun _ => (lw_g (lw_at lw_m11 8 rfl) rfl), fun h => absurd rfl h⟩
theorem mok_281 : ∀ en, mI 281 = some en → MOK 281 en := by
  intro en h
  cases h
  exact ⟨by decide +kernel, trivial, (lw_g (lw_at lw_m1 18 rfl) rfl), fun _ => (lw_g (lw_at lw_m11 32 rfl) rfl), fun h => absurd rfl h⟩
theorem mok_282 : ∀ en, mI 282 = some en → MOK 282 en := by
  intro en h
  cases h
  exact ⟨by decide +kernel, trivial, (lw_g (lw_at lw_m1 18 rfl) rfl), fun _ => (lw_g (lw_at lw_m11 44 rfl) rfl), fun h => absurd rfl h⟩
theorem mok_283 : ∀ en, mI 283 = some en → MOK 283 en := by
  intro en h
  cases h
  exact ⟨by decide +kernel, trivial, (lw_g (lw_at lw_m1 19 rfl) rfl), fun _ => (lw_g (lw_at lw_m9 89 rfl) rfl), fun h => absurd rfl h⟩
theorem mok_284 : ∀ en, mI 284 = some en → MOK 284 en := by
  intro en h
  cases h
  exact ⟨by decide +kernel, trivial, (lw_g (lw_at lw_m1 19 rfl) rfl), fun _ => (lw_g (lw_at lw_m10 66 rfl) rfl), fun h => absurd rfl h⟩
theorem mok_285 : ∀ en, mI 285 = some en → MOK 285 en := by
  intro en h
  cases h
  exact ⟨by decide +kernel, trivial, (lw_g (lw_at lw_m1 19 rfl) rfl), fun _ => (lw_g (lw_at lw_m10 99 rfl) rfl), fun h => absurd rfl h⟩
theorem mok_286 : ∀ en, mI 286 = some en → MOK 286 en := by
  intro en h
  cases h
  exact ⟨by decide +kernel, trivial, (lw_g (lw_at lw_m1 19 rfl) rfl), fun _ => (lw_g (lw_at lw_m10 102 rfl) rfl), fun h => absurd rfl h⟩
theorem mok_287 : ∀ en, mI 287 = some en → MOK 287 en := by
  intro en h
  cases h
  exact ⟨by decide +kernel, trivial, (lw_g (lw_at lw_m1 19 rfl) rfl), fun _ => (lw_g (lw_at lw_m10 110 rfl) rfl), fun h => absurd rfl h⟩
theorem mok_288 : ∀ en, mI 288 = some en → MOK 288 en := by
  intro en h
  cases h
  exact ⟨by decide +kernel, trivial, (lw_g (lw_at lw_m1 19 rfl) rfl), fun _ => (lw_g (lw_at lw_m10 195 rfl) rfl), fun h => absurd rfl h⟩
theorem mok_289 : ∀ en, mI 289 = some en → MOK 289 en := by
  intro en h
  cases h
  exact ⟨by decide +kernel, trivial, (lw_g (lw_at lw_m1 19 rfl) rfl), fun _ => (lw_g (lw_at lw_m10 199 rfl) rfl), fun h => absurd rfl h⟩
theorem mok_290 : ∀ en, mI 290 = some en → MOK 290 en := by
  intro en h
  cases h
  exact ⟨by decide +kernel, trivial, (lw_g (lw_at lw_m1 19 rfl) rfl), fun _ => (lw_g (lw_at lw_m10 203 rfl) rfl), fun h => absurd rfl h⟩
theorem mok_291 : ∀ en, mI 291 = some en → MOK 291 en := by
  intro en h
  cases h
  exact ⟨by decide +kernel, trivial, (lw_g (lw_at lw_m1 19 rfl) rfl), fun _ => (lw_g (lw_at lw_m11 115 rfl) rfl), fun h => absurd rfl h⟩
theorem mok_292 : ∀ en, mI 292 = some en → MOK 292 en := by
  intro en h
  cases h
  exact ⟨by decide +kernel, trivial, (lw_g (lw_at lw_m1 19 rfl) rfl), fun _ => (lw_g (lw_at lw_m11 119 rfl) rfl), fun h => absurd rfl h⟩
theorem mok_293 : ∀ en, mI 293 = some en → MOK 293 en := by
  intro en h
  cases h
  exact ⟨by decide +kernel, trivial, (lw_g (lw_at lw_m1 19 rfl) rfl), fun _ => (lw_g (lw_at lw_m11 126 rfl) rfl), fun h => absurd rfl h⟩
theorem mok_294 : ∀ en, mI 294 = some en → MOK 294 en := by
  intro en h
  cases h
  exact ⟨by decide +kernel, trivial, (lw_g (lw_at lw_m1 19 rfl) rfl), fun _ => (lw_g (lw_at lw_m11 140 rfl) rfl), fun h => absurd rfl h⟩
theorem mok_295 : ∀ en, mI 295 = some en → MOK 295 en := by
  intro en h
  cases h
  exact ⟨by decide +kernel, trivial, (lw_g (lw_at lw_m1 19 rfl) rfl), fun _ => (lw_g (lw_at lw_m11 144 rfl) rfl), fun h => absurd rfl h⟩
theorem mok_296 : ∀ en, mI 296 = some en → MOK 296 en := by
  intro en h
  cases h
  exact ⟨by decide +kernel, trivial, (lw_g (lw_at lw_m1 19 rfl) rfl), fun _ => (lw_g (lw_at lw_m11 159 rfl) rfl), fun h => absurd rfl h⟩
theorem mok_297 : ∀ en, mI 297 = some en → MOK 297 en := by
  intro en h
  cases h
  exact ⟨by decide +kernel, trivial, (lw_g (lw_at lw_m1 28 rfl) rfl), fun _ => (lw_g (lw_at lw_m4 234 rfl) rfl), fun h => absurd rfl h⟩
theorem mok_298 : ∀ en, mI 298 = some en → MOK 298 en := by
  intro en h
  cases h
  exact ⟨by decide +kernel, trivial, (lw_g (lw_at lw_m1 28 rfl) rfl), fun _ => (lw_g (lw_at lw_m5 16 rfl) rfl), fun h => absurd rfl h⟩
theorem mok_299 : ∀ en, mI 299 = some en → MOK 299 en := by
  intro en h
  cases h
  exact ⟨by decide +kernel, trivial, (lw_g (lw_at lw_m1 28 rfl) rfl), fun _ => (lw_g (lw_at lw_m5 28 rfl) rfl), fun h => absurd rfl h⟩
theorem mok_300 : ∀ en, mI 300 = some en → MOK 300 en := by
  intro en h
  cases h
  exact ⟨by decide +kernel, trivial, (lw_g (lw_at lw_m1 28 rfl) rfl), fun _ => (lw_g (lw_at lw_m5 32 rfl) rfl), fun h => absurd rfl h⟩
theorem mok_301 : ∀ en, mI 301 = some en → MOK 301 en := by
  intro en h
  cases h
  exact ⟨by decide +kernel, trivial, (lw_g (lw_at lw_m1 28 rfl) rfl), fun _ => (lw_g (lw_at lw_m5 36 rfl) rfl), fun h => absurd rfl h⟩
theorem mok_302 : ∀ en, mI 302 = some en → MOK 302 en := by
  intro en h
  cases h
  exact ⟨by decide +kernel, trivial, (lw_g (lw_at lw_m1 32 rfl) rfl), fun _ => (lw_g (lw_at lw_m6 64 rfl) rfl), fun h => absurd rfl h⟩
theorem mok_303 : ∀ en, mI 303 = some en → MOK 303 en := by
  intro en h
  cases h
  exact ⟨by decide +kernel, trivial, (lw_g (lw_at lw_m1 32 rfl) rfl), fun _ => (lw_g (lw_at lw_m7 168 rfl) rfl), fun h => absurd rfl h⟩
theorem mok_304 : ∀ en, mI 304 = some en → MOK 304 en := by
  intro en h
  cases h
  exact ⟨by decide +kernel, trivial, (lw_g (lw_at lw_m1 33 rfl) rfl), fun _ => (lw_g (lw_at lw_m6 97 rfl) rfl), fun h => absurd rfl h⟩
theorem mok_305 : ∀ en, mI 305 = some en → MOK 305 en := by
  intro en h
  cases h
  exact ⟨by decide +kernel, trivial, (lw_g (lw_at lw_m1 33 rfl) rfl), fun _ => (lw_g (lw_at lw_m6 144 rfl) rfl), fun h => absurd rfl h⟩
theorem mok_306 : ∀ en, mI 306 = some en → MOK 306 en := by
  intro en h
  cases h
  exact ⟨by decide +kernel, trivial, (lw_g (lw_at lw_m1 34 rfl) rfl), fun _ => (lw_g (lw_at lw_m6 132 rfl) rfl), fun h => absurd rfl h⟩
theorem mok_307 : ∀ en, mI 307 = some en → MOK 307 en := by
  intro en h
  cases h
  exact ⟨by decide +kernel, trivial, (lw_g (lw_at lw_m1 34 rfl) rfl), fun _ => (lw_g (lw_at lw_m8 132 rfl) rfl), fun h => absurd rfl h⟩
theorem mok_308 : ∀ en, mI 308 = some en → MOK 308 en := by
  intro en h
  cases h
  exact ⟨by decide +kernel, trivial, (lw_g (lw_at lw_m1 35 rfl) rfl), fun _ => (lw_g (lw_at lw_m6 172 rfl) rfl), fun h => absurd rfl h⟩
theorem mok_309 : ∀ en, mI 309 = some en → MOK 309 en := by
  intro en h
  cases h
  exact ⟨by decide +kernel, trivial, (lw_g (lw_at lw_m1 35 rfl) rfl), fun _ => (lw_g (lw_at lw_m8 122 rfl) rfl), fun h => absurd rfl h⟩
theorem mok_310 : ∀ en, mI 310 = some en → MOK 310 en := by
  intro en h
  cases h
  exact ⟨by decide +kernel, trivial, (lw_g (lw_at lw_m1 36 rfl) rfl), fun _ => (lw_g (lw_at lw_m6 201 rfl) rfl), fun h => absurd rfl h⟩
theorem mok_311 : ∀ en, mI 311 = some en → MOK 311 en := by
  intro en h
  cases h
  exact ⟨by decide +kernel, trivial, (lw_g (lw_at lw_m1 36 rfl) rfl), fun _ => (lw_g (lw_at lw_m7 223 rfl) rfl), fun h => absurd rfl h⟩
theorem mok_312 : ∀ en, mI 312 = some en → MOK 312 en := by
  intro en h
  cases h
  exact ⟨by decide +kernel, trivial, (lw_g (lw_at lw_m1 37 rfl) rfl), fun _ => (lw_g (lw_at lw_m7 133 rfl) rfl), fun h => absurd rfl h⟩
theorem mok_313 : ∀ en, mI 313 = some en → MOK 313 en := by
  intro en h
  cases h
  exact ⟨by decide +kernel, trivial, (lw_g (lw_at lw_m1 37 rfl) rfl), fun _ => (lw_g (lw_at lw_m8 0 rfl) rfl), fun h => absurd rfl h⟩
theorem mok_314 : ∀ en, mI 314 = some en → MOK 314 en := by
  intro en h
  cases h
  exact ⟨by decide +kernel, trivial, (lw_g (lw_at lw_m1 38 rfl) rfl), fun _ => (lw_g (lw_at lw_m6 226 rfl) rfl), fun h => absurd rfl h⟩
theorem mok_315 : ∀ en, mI 315 = some en → MOK 315 en := by
  intro en h
  cases h
  exact ⟨by decide +kernel, trivial, (lw_g (lw_at lw_m1 38 rfl) rfl), fun _ => (lw_g (lw_at lw_m8 112 rfl) rfl), fun h => absurd rfl h⟩
theorem mok_316 : ∀ en, mI 316 = some en → MOK 316 en := by
  intro en h
  cases h
  exact ⟨by decide +kernel, trivial, (lw_g (lw_at lw_m1 39 rfl) rfl), fun _ => (lw_g (lw_at lw_m7 0 rfl) rfl), fun h => absurd rfl h⟩
theorem mok_317 : ∀ en, mI 317 = some en → MOK 317 en := by
  intro en h
  cases h
  exact ⟨by decide +kernel, trivial, (lw_g (lw_at lw_m1 39 rfl) rfl), fun _ => (lw_g (lw_at lw_m8 97 rfl) rfl), fun h => absurd rfl h⟩
theorem mok_318 : ∀ en, mI 318 = some en → MOK 318 en := by
  intro en h
  cases h
  exact ⟨by decide +kernel, trivial, (lw_g (lw_at lw_m1 40 rfl) rfl), fun _ => (lw_g (lw_at lw_m7 14 rfl) rfl), fun h => absurd rfl h⟩
theorem mok_319 : ∀ en, mI 319 = some en → MOK 319 en := by
  intro en h
  cases h
  exact ⟨by decide +kernel, trivial, (lw_g (lw_at lw_m1 40 rfl) rfl), fun _ => (lw_g (lw_at lw_m8 42 rfl) rfl), fun h => absurd rfl h⟩
theorem mok_320 : ∀ en, mI 320 = some en → MOK 320 en := by
  intro en h
  cases h
  exact ⟨by decide +kernel, trivial, (lw_g (lw_at lw_m1 41 rfl) rfl), fun _ => (lw_g (lw_at lw_m7 27 rfl) rfl), fun h => absurd rfl h⟩
theorem mok_321 : ∀ en, mI 321 = some en → MOK 321 en := by
  intro en h
  cases h
  exact ⟨by decide +kernel, trivial, (lw_g (lw_at lw_m1 41 rfl) rfl), fun _ => (lw_g (lw_at lw_m8 32 rfl) rfl), fun h => absurd rfl h⟩
theorem mok_322 : ∀ en, mI 322 = some en → MOK 322 en := by
  intro en h
  cases h
  exact ⟨by decide +kernel, trivial, (lw_g (lw_at lw_m1 42 rfl) rfl), fun _ => (lw_g (lw_at lw_m7 51 rfl) rfl), fun h => absurd rfl h⟩
theorem mok_323 : ∀ en, mI 323 = some en → MOK 323 en := by
  intro en h
  cases h
  exact ⟨by decide +kernel, trivial, (lw_g (lw_at lw_m1 42 rfl) rfl), fun _ => (lw_g (lw_at lw_m8 24 rfl) rfl), fun h => absurd rfl h⟩
theorem mok_324 : ∀ en, mI 324 = some en → MOK 324 en := by
  intro en h
  cases h
  exact ⟨by decide +kernel, trivial, (lw_g (lw_at lw_m1 43 rfl) rfl), fun _ => (lw_g (lw_at lw_m7 72 rfl) rfl), fun h => absurd rfl h⟩
theorem mok_325 : ∀ en, mI 325 = some en → MOK 325 en := by
  intro en h
  cases h
  exact ⟨by decide +kernel, trivial, (lw_g (lw_at lw_m1 43 rfl) rfl), fun _ => (lw_g (lw_at lw_m8 14 rfl) rfl), fun h => absurd rfl h⟩
theorem mok_326 : ∀ en, mI 326 = some en → MOK 326 en := by
  intro en h
  cases h
  exact ⟨by decide +kernel, trivial, (lw_g (lw_at lw_m1 44 rfl) rfl), fun _ => (lw_g (lw_at lw_m7 78 rfl) rfl), fun h => absurd rfl h⟩
theorem mok_327 : ∀ en, mI 327 = some en → MOK 327 en := by
  intro en h
  cases h
  exact ⟨by decide +kernel, trivial, (lw_g (lw_at lw_m1 44 rfl) rfl), fun _ => (lw_g (lw_at lw_m8 36 rfl) rfl), fun h => absurd rfl h⟩
theorem mok_328 : ∀ en, mI 328 = some en → MOK 328 en := by
  intro en h
  cases h
  exact ⟨by decide +kernel, trivial, (lw_g (lw_at lw_m1 44 rfl) rfl), fun _ => (lw_g (lw_at lw_m8 47 rfl) rfl), fun h => absurd rfl h⟩
theorem mok_329 : ∀ en, mI 329 = some en → MOK 329 en := by
  intro en h
  cases h
  exact ⟨by decide +kernel, trivial, (lw_g (lw_at lw_m1 44 rfl) rfl), fun _ => (lw_g (lw_at lw_m8 52 rfl) rfl), fun h => absurd rfl h⟩
theorem mok_330 : ∀ en, mI 330 = some en → MOK 330 en := by
  intro en h
  cases h
  exact ⟨by decide +kernel, trivial, (lw_g (lw_at lw_m1 44 rfl) rfl), fun _ => (lw_g (lw_at lw_m8 56 rfl) rfl), fun h => absurd rfl h⟩
theorem mok_331 : ∀ en, mI 331 = some en → MOK 331 en := by
  intro en h
  cases h
  exact ⟨by decide +kernel, trivial, (lw_g (lw_at lw_m1 44 rfl) rfl), fun _ => (lw_g (lw_at lw_m8 64 rfl) rfl), fun h => absurd rfl h⟩
theorem mok_332 : ∀ en, mI 332 = some en → MOK 332 en := by
  intro en h
  cases h
  exact ⟨by decide +kernel, trivial, (lw_g (lw_at lw_m1 44 rfl) rfl), fun _ => (lw_g (lw_at lw_m8 72 rfl) rfl), fun h => absurd rfl h⟩
theorem mok_333 : ∀ en, mI 333 = some en → MOK 333 en := by
  intro en h
  cases h
  exact ⟨by decide +kernel, trivial, (lw_g (lw_at lw_m1 44 rfl) rfl), fun _ => (lw_g (lw_at lw_m8 76 rfl) rfl), fun h => absurd rfl h⟩
theorem mok_334 : ∀ en, mI 334 = some en → MOK 334 en := by
  intro en h
  cases h
  exact ⟨by decide +kernel, trivial, (lw_g (lw_at lw_m1 44 rfl) rfl), fun _ => (lw_g (lw_at lw_m8 80 rfl) rfl), fun h => absurd rfl h⟩
theorem mok_335 : ∀ en, mI 335 = some en → MOK 335 en := by
  intro en h
  cases h
  exact ⟨by decide +kernel, trivial, (lw_g (lw_at lw_m1 44 rfl) rfl), fun _ => (lw_g (lw_at lw_m8 86 rfl) rfl), fun h => absurd rfl h⟩
theorem mok_336 : ∀ en, mI 336 = some en → MOK 336 en := by
  intro en h
  cases h
  exact ⟨by decide +kernel, trivial, (lw_g (lw_at lw_m1 44 rfl) rfl), fun _ => (lw_g (lw_at lw_m8 89 rfl) rfl), fun h => absurd rfl h⟩
theorem mok_337 : ∀ en, mI 337 = some en → MOK 337 en := by
  intro en h
  cases h
  exact ⟨by decide +kernel, trivial, (lw_g (lw_at lw_m1 45 rfl) rfl), fun _ => (lw_g (lw_at lw_m7 113 rfl) rfl), fun h => absurd rfl h⟩
theorem mok_338 : ∀ en, mI 338 = some en → MOK 338 en := by
  intro en h
  cases h
  exact ⟨by decide +kernel, trivial, (lw_g (lw_at lw_m1 45 rfl) rfl), fun _ => (lw_g (lw_at lw_m7 130 rfl) rfl), fun h => absurd rfl h⟩
theorem mok_339 : ∀ en, mI 339 = some en → MOK 339 en := by
  intro en h
  cases h
  exact ⟨by decide +kernel, trivial, (lw_g (lw_at lw_m1 45 rfl) rfl), fun _ => (lw_g (lw_at lw_m8 104 rfl) rfl), fun h => absurd rfl h⟩
theorem mok_340 : ∀ en, mI 340 = some en → MOK 340 en := by
  intro en h
  cases h
  exact ⟨by decide +kernel, trivial, (lw_g (lw_at lw_m1 46 rfl) rfl), fun _ => (lw_g (lw_at lw_m7 147 rfl) rfl), fun h => absurd rfl h⟩
theorem mok_341 : ∀ en, mI 341 = some en → MOK 341 en := by
  intro en h
  cases h
  exact ⟨by decide +kernel, trivial, (lw_g (lw_at lw_m1 46 rfl) rfl), fun _ => (lw_g (lw_at lw_m8 142 rfl) rfl), fun h => absurd rfl h⟩
theorem mok_342 : ∀ en, mI 342 = some en → MOK 342 en := by
  intro en h
  cases h
  exact ⟨by decide +kernel, trivial, (lw_g (lw_at lw_m1 46 rfl) rfl), fun _ => (lw_g (lw_at lw_m8 147 rfl) rfl), fun h => absurd rfl h⟩
theorem mok_343 : ∀ en, mI 343 = some en → MOK 343 en := by
  intro en h
  cases h
  exact ⟨by decide +kernel, trivial, (lw_g (lw_at lw_m1 47 rfl) rfl), fun _ => (lw_g (lw_at lw_m8 183 rfl) rfl), fun h => absurd rfl h⟩
theorem mok_344 : ∀ en, mI 344 = some en → MOK 344 en := by
  intro en h
  cases h
  exact ⟨by decide +kernel, trivial, (lw_g (lw_at lw_m1 47 rfl) rfl), fun _ => (lw_g (lw_at lw_m8 224 rfl) rfl), fun h => absurd rfl h⟩
theorem mok_345 : ∀ en, mI 345 = some en → MOK 345 en := by
  intro en h
  cases h
  exact ⟨by decide +kernel, trivial, (lw_g (lw_at lw_m1 47 rfl) rfl), fun _ => (lw_g (lw_at lw_m8 233 rfl) rfl), fun h => absurd rfl h⟩
theorem mok_346 : ∀ en, mI 346 = some en → MOK 346 en := by
  intro en h
  cases h
  exact ⟨by decide +kernel, trivial, (lw_g (lw_at lw_m1 47 rfl) rfl), fun _ => (lw_g (lw_at lw_m8 237 rfl) rfl), fun h => absurd rfl h⟩
theorem mok_347 : ∀ en, mI 347 = some en → MOK 347 en := by
  intro en h
  cases h
  exact ⟨by decide +kernel, trivial, (lw_g (lw_at lw_m1 47 rfl) rfl), fun _ => (lw_g (lw_at lw_m9 9 rfl) rfl), fun h => absurd rfl h⟩
theorem mok_348 : ∀ en, mI 348 = some en → MOK 348 en := by
  intro en h
  cases h
  exact ⟨by decide +kernel, trivial, (lw_g (lw_at lw_m1 47 rfl) rfl), fun _ => (lw_g (lw_at lw_m9 13 rfl) rfl), fun h => absurd rfl h⟩
theorem mok_349 : ∀ en, mI 349 = some en → MOK 349 en := by
  intro en h
  cases h
  exact ⟨by decide +kernel, trivial, (lw_g (lw_at lw_m1 11 rfl) rfl), fun _ => (lw_g (lw_at lw_m1 217 rfl) rfl), fun h => absurd rfl h⟩
theorem mok_350 : ∀ en, mI 350 = some en → MOK 350 en := by
  intro en h
  cases h
  exact ⟨by decide +kernel, trivial, (lw_g (lw_at lw_m1 11 rfl) rfl), fun _ => (lw_g (lw_at lw_m1 221 rfl) rfl), fun h => absurd rfl h⟩
theorem mok_351 : ∀ en, mI 351 = some en → MOK 351 en := by
  intro en h
  cases h
  exact ⟨by decide +kernel, trivial, (lw_g (lw_at lw_m1 11 rfl) rfl), fun _ => (lw_g (lw_at lw_m1 227 rfl) rfl), fun h => absurd rfl h⟩
theorem mok_352 : ∀ en, mI 352 = some en → MOK 352 en := by
  intro en h
  cases h
  exact ⟨by decide +kernel, trivial, (lw_g (lw_at lw_m1 11 rfl) rfl), fun _ => (lw_g (lw_at lw_m1 231 rfl) rfl), fun h => absurd rfl h⟩
theorem mok_353 : ∀ en, mI 353 = some en → MOK 353 en := by
  intro en h
  cases h
  exact ⟨by decide +kernel, trivial, (lw_g (lw_at lw_m1 11 rfl) rfl), fun _ => (lw_g (lw_at lw_m1 237 rfl) rfl), fun h => absurd rfl h⟩
theorem mok_354 : ∀ en, mI 354 = some en → MOK 354 en := by
  intro en h
  cases h
  exact ⟨by decide +kernel, trivial, (lw_g (lw_at lw_m1 11 rfl) rfl), fun _ => (lw_g (lw_at lw_m10 119 rfl) rfl), fun h => absurd rfl h⟩
theorem mok_355 : ∀ en, mI 355 = some en → MOK 355 en := by
  intro en h
  cases h
  exact ⟨by decide +kernel, trivial, (lw_g (lw_at lw_m1 11 rfl) rfl), fun _ => (lw_g (lw_at lw_m10 123 rfl) rfl), fun h => absurd rfl h⟩
theorem mok_356 : ∀ en, mI 356 = some en → MOK 356 en := by
  intro en h
  cases h
  exact ⟨by decide +kernel, trivial, (lw_g (lw_at lw_m1 11 rfl) rfl), fun _ => (lw_g (lw_at lw_m10 150 rfl) rfl), fun h => absurd rfl h⟩
theorem mok_357 : ∀ en, mI 357 = some en → MOK 357 en := by
  intro en h
  cases h
  exact ⟨by decide +kernel, trivial, (lw_g (lw_at lw_m1 12 rfl) rfl), fun _ => (lw_g (lw_at lw_m1 234 rfl) rfl), fun h => absurd rfl h⟩
theorem mok_358 : ∀ en, mI 358 = some en → MOK 358 en := by
  intro en h
  cases h
  exact ⟨by decide +kernel, trivial, (lw_g (lw_at lw_m1 12 rfl) rfl), fun _ => (lw_g (lw_at lw_m10 127 rfl) rfl), fun h => absurd rfl h⟩
theorem mok_359 : ∀ en, mI 359 = some en → MOK 359 en := by
  intro en h
  cases h
  exact ⟨by decide +kernel, trivial, (lw_g (lw_at lw_m1 12 rfl) rfl), fun _ => (lw_g (lw_at lw_m10 130 rfl) rfl), fun h => absurd rfl h⟩
theorem mok_360 : ∀ en, mI 360 = some en → MOK 360 en := by
  intro en h
  cases h
  exact ⟨by decide +kernel, trivial, (lw_g (lw_at lw_m1 12 rfl) rfl), fun _ => (lw_g (lw_at lw_m10 135 rfl) rfl), fun h => absurd rfl h⟩
theorem mok_361 : ∀ en, mI 361 = some en → MOK 361 en := by
  intro en h
  cases h
  exact ⟨by decide +kernel, trivial, (lw_g (lw_at lw_m1 13 rfl) rfl), fun _ => (lw_g (lw_at lw_m2 2 rfl) rfl), fun h => absurd rfl h⟩
theorem mok_362 : ∀ en, mI 362 = some en → MOK 362 en := by
  intro en h
  cases h
  exact ⟨by decide +kernel, trivial, (lw_g (lw_at lw_m1 13 rfl) rfl), fun _ => (lw_g (lw_at lw_m10 153 rfl) rfl), fun h => absurd rfl h⟩
theorem mokB_0 : ∀ k, 1 ≤ k → k < 25 → ∀ en, mI k = some en → MOK k en := by
  intro k h1 h2
  have : k = 1 ∨ k = 2 ∨ k = 3 ∨ k = 4 ∨ k = 5 ∨ k = 6 ∨ k = 7 ∨ k = 8 ∨ k = 9 ∨ k = 10 ∨ k = 11 ∨ k = 12 ∨ k = 13 ∨ k = 14 ∨ k = 15 ∨ k = 16 ∨ k = 17 ∨ k = 18 ∨ k = 19 ∨ k = 20 ∨ k = 21 ∨ k = 22 ∨ k = 23 ∨ k = 24 := by omega
  rcases this with rfl | rfl | rfl | rfl | rfl | rfl | rfl | rfl | rfl | rfl | rfl | rfl | rfl | rfl | rfl | rfl | rfl | rfl | rfl | rfl | rfl | rfl | rfl | rfl
  · exact mok_1
  · exact mok_2
  · exact mok_3
  · exact mok_4
  · exact mok_5
  · exact mok_6
  · exact mok_7
  · exact mok_8
  · exact mok_9
  · exact mok_10
  · exact mok_11
  · exact mok_12
  · exact mok_13
  · exact mok_14
  · exact mok_15
  · exact mok_16
  · exact mok_17
  · exact mok_18
  · exact mok_19
  · exact mok_20
  · exact mok_21
  · exact mok_22
  · exact mok_23
  · exact mok_24
theorem mokB_1 : ∀ k, 25 ≤ k → k < 50 → ∀ en, mI k = some en → MOK k en := by
  intro k h1 h2
  have : k = 25 ∨ k = 26 ∨ k = 27 ∨ k = 28 ∨ k = 29 ∨ k = 30 ∨ k = 31 ∨ k = 32 ∨ k = 33 ∨ k = 34 ∨ k = 35 ∨ k = 36 ∨ k = 37 ∨ k = 38 ∨ k = 39 ∨ k = 40 ∨ k = 41 ∨ k = 42 ∨ k = 43 ∨ k = 44 ∨ k = 45 ∨ k = 46 ∨ k = 47 ∨ k = 48 ∨ k = 49 := by omega
  rcases this with rfl | rfl | rfl | rfl | rfl | rfl | rfl | rfl | rfl | rfl | rfl | rfl | rfl | rfl | rfl | rfl | rfl | rfl | rfl | rfl | rfl | rfl | rfl | rfl | rfl
  · exact mok_25
  · exact mok_26
  · exact mok_27
  · exact mok_28
  · exact mok_29
  · exact mok_30
  · exact mok_31
  · exact mok_32
  · exact mok_33
  · exact mok_34
  · exact mok_35
  · exact mok_36
  · exact mok_37
  · exact mok_38
  · exact mok_39
  · exact mok_40
  · exact mok_41
  · exact mok_42
  · exact mok_43
  · exact mok_44
  · exact mok_45
  · exact mok_46
  · exact mok_47
  · exact mok_48
  · exact mok_49
theorem mokB_2 : ∀ k, 50 ≤ k → k < 75 → ∀ en, mI k = some en → MOK k en := by
  intro k h1 h2
  have : k = 50 ∨ k = 51 ∨ k = 52 ∨ k = 53 ∨ k = 54 ∨ k = 55 ∨ k = 56 ∨ k = 57 ∨ k = 58 ∨ k = 59 ∨ k = 60 ∨ k = 61 ∨ k = 62 ∨ k = 63 ∨ k = 64 ∨ k = 65 ∨ k = 66 ∨ k = 67 ∨ k = 68 ∨ k = 69 ∨ k = 70 ∨ k = 71 ∨ k = 72 ∨ k = 73 ∨ k = 74 := by omega
  rcases this with rfl | rfl | rfl | rfl | rfl | rfl | rfl | rfl | rfl | rfl | rfl | rfl | rfl | rfl | rfl | rfl | rfl | rfl | rfl | rfl | rfl | rfl | rfl | rfl | rfl
  · exact mok_50
  · exact mok_51
  · exact mok_52
  · exact mok_53
  · exact mok_54
  · exact mok_55
  · exact mok_56
  · exact mok_57
  · exact mok_58
  · exact mok_59
  · exact mok_60
  · exact mok_61
  · exact mok_62
  · exact mok_63
  · exact mok_64
  · exact mok_65
  · exact mok_66
  · exact mok_67
  · exact mok_68
  · exact mok_69
  · exact mok_70
  · exact mok_71
  · exact mok_72
  · exact mok_73
  · exact mok_74
theorem mokB_3 : ∀ k, 75 ≤ k → k < 100 → ∀ en, mI k = some en → MOK k en := by
  intro k h1 h2
  have : k = 75 ∨ k = 76 ∨ k = 77 ∨ k = 78 ∨ k = 79 ∨ k = 80 ∨ k = 81 ∨ k = 82 ∨ k = 83 ∨ k = 84 ∨ k = 85 ∨ k = 86 ∨ k = 87 ∨ k = 88 ∨ k = 89 ∨ k = 90 ∨ k = 91 ∨ k = 92 ∨ k = 93 ∨ k = 94 ∨ k = 95 ∨ k = 96 ∨ k = 97 ∨ k = 98 ∨ k = 99 := by omega
  rcases this with rfl | rfl | rfl | rfl | rfl | rfl | rfl | rfl | rfl | rfl | rfl | rfl | rfl | rfl | rfl | rfl | rfl | rfl | rfl | rfl | rfl | rfl | rfl | rfl | rfl
  · exact mok_75
  · exact mok_76
  · exact mok_77
  · exact mok_78
  · exact mok_79
  · exact mok_80
  · exact mok_81
  · exact mok_82
  · exact mok_83
  · exact mok_84
  · exact mok_85
  · exact mok_86
  · exact mok_87
  · exact mok_88
  · exact mok_89
  · exact mok_90
  · exact mok_91
  · exact mok_92
  · exact mok_93
  · exact mok_94
  · exact mok_95
  · exact mok_96
  · exact mok_97
  · exact mok_98
  · exact mok_99
theorem mokB_4 : ∀ k, 100 ≤ k → k < 125 → ∀ en, mI k = some en → MOK k en := by
  intro k h1 h2
  have : k = 100 ∨ k = 101 ∨ k = 102 ∨ k = 103 ∨ k = 104 ∨ k = 105 ∨ k = 106 ∨ k = 107 ∨ k = 108 ∨ k = 109 ∨ k = 110 ∨ k = 111 ∨ k = 112 ∨ k = 113 ∨ k = 114 ∨ k = 115 ∨ k = 116 ∨ k = 117 ∨ k = 118 ∨ k = 119 ∨ k = 120 ∨ k = 121 ∨ k = 122 ∨ k = 123 ∨ k = 124 := by omega
  rcases this with rfl | rfl | rfl | rfl | rfl | rfl | rfl | rfl | rfl | rfl | rfl | rfl | rfl | rfl | rfl | rfl | rfl | rfl | rfl | rfl | rfl | rfl | rfl | rfl | rfl
  · exact mok_100
  · exact mok_101
  · exact mok_102
  · exact mok_103
  · exact mok_104
  · exact mok_105
  · exact mok_106
  · exact mok_107
  · exact mok_108
  · exact mok_109
  · exact mok_110
  · exact mok_111
  · exact mok_112
  · exact mok_113
  · exact mok_114
  · exact mok_115
  · exact mok_116
  · exact mok_117
  · exact mok_118
  · exact mok_119
  · exact mok_120
  · exact mok_121
  · exact mok_122
  · exact mok_123
  · exact mok_124
theorem mokB_5 : ∀ k, 125 ≤ k → k < 150 → ∀ en, mI k = some en → MOK k en := by
  intro k h1 h2
  have : k = 125 ∨ k = 126 ∨ k = 127 ∨ k = 128 ∨ k = 129 ∨ k = 130 ∨ k = 131 ∨ k = 132 ∨ k = 133 ∨ k = 134 ∨ k = 135 ∨ k = 136 ∨ k = 137 ∨ k = 138 ∨ k = 139 ∨ k = 140 ∨ k = 141 ∨ k = 142 ∨ k = 143 ∨ k = 144 ∨ k = 145 ∨ k = 146 ∨ k = 147 ∨ k = 148 ∨ k = 149 := by omega
  rcases this with rfl | rfl | rfl | rfl | rfl | rfl | rfl | rfl | rfl | rfl | rfl | rfl | rfl | rfl | rfl | rfl | rfl | rfl | rfl | rfl | rfl | rfl | rfl | rfl | rfl
  · exact mok_125
  · exact mok_126
  · exact mok_127
  · exact mok_128
  · exact mok_129
  · exact mok_130
  · exact mok_131
  · exact mok_132
  · exact mok_133
  · exact mok_134
  · exact mok_135
  · exact mok_136
  · exact mok_137
  · exact mok_138
  · exact mok_139
  · exact mok_140
  · exact mok_141
  · exact mok_142
  · exact mok_143
  · exact mok_144
  · exact mok_145
  · exact mok_146
  · exact mok_147
  · exact mok_148
  · exact mok_149
theorem mokB_6 : ∀ k, 150 ≤ k → k < 175 → ∀ en, mI k = some en → MOK k en := by
  intro k h1 h2
  have : k = 150 ∨ k = 151 ∨ k = 152 ∨ k = 153 ∨ k = 154 ∨ k = 155 ∨ k = 156 ∨ k = 157 ∨ k = 158 ∨ k = 159 ∨ k = 160 ∨ k = 161 ∨ k = 162 ∨ k = 163 ∨ k = 164 ∨ k = 165 ∨ k = 166 ∨ k = 167 ∨ k = 168 ∨ k = 169 ∨ k = 170 ∨ k = 171 ∨ k = 172 ∨ k = 173 ∨ k = 174 := by omega
  rcases this with rfl | rfl | rfl | rfl | rfl | rfl | rfl | rfl | rfl | rfl | rfl | rfl | rfl | rfl | rfl | rfl | rfl | rfl | rfl | rfl | rfl | rfl | rfl | rfl | rfl
  · exact mok_150
  · exact mok_151
  · exact mok_152
  · exact mok_153
  · exact mok_154
  · exact mok_155
  · exact mok_156
  · exact mok_157
  · exact mok_158
  · exact mok_159
  · exact mok_160
  · exact mok_161
  · exact mok_162
  · exact mok_163
  · exact mok_164
  · exact mok_165
  · exact mok_166
  · exact mok_167
  · exact mok_168
  · exact mok_169
  · exact mok_170
  · exact mok_171
  · exact mok_172
  · exact mok_173
  · exact mok_174
theorem mokB_7 : ∀ k, 175 ≤ k → k < 200 → ∀ en, mI k = some en → MOK k en := by
  intro k h1 h2
  have : k = 175 ∨ k = 176 ∨ k = 177 ∨ k = 178 ∨ k = 179 ∨ k = 180 ∨ k = 181 ∨ k = 182 ∨ k = 183 ∨ k = 184 ∨ k = 185 ∨ k = 186 ∨ k = 187 ∨ k = 188 ∨ k = 189 ∨ k = 190 ∨ k = 191 ∨ k = 192 ∨ k = 193 ∨ k = 194 ∨ k = 195 ∨ k = 196 ∨ k = 197 ∨ k = 198 ∨ k = 199 := by omega
  rcases this with rfl | rfl | rfl | rfl | rfl | rfl | rfl | rfl | rfl | rfl | rfl | rfl | rfl | rfl | rfl | rfl | rfl | rfl | rfl | rfl | rfl | rfl | rfl | rfl | rfl
  · exact mok_175
  · exact mok_176
  · exact mok_177
  · exact mok_178
  · exact mok_179
  · exact mok_180
  · exact mok_181
  · exact mok_182
  · exact mok_183
  · exact mok_184
  · exact mok_185
  · exact mok_186
  · exact mok_187
  · exact mok_188
  · exact mok_189
  · exact mok_190
  · exact mok_191
  · exact mok_192
  · exact mok_193
  · exact mok_194
  · exact mok_195
  · exact mok_196
  · exact mok_197
  · exact mok_198
  · exact mok_199
theorem mokB_8 : ∀ k, 200 ≤ k → k < 225 → ∀ en, mI k = some en → MOK k en := by
  intro k h1 h2
  have : k = 200 ∨ k = 201 ∨ k = 202 ∨ k = 203 ∨ k = 204 ∨ k = 205 ∨ k = 206 ∨ k = 207 ∨ k = 208 ∨ k = 209 ∨ k = 210 ∨ k = 211 ∨ k = 212 ∨ k = 213 ∨ k = 214 ∨ k = 215 ∨ k = 216 ∨ k = 217 ∨ k = 218 ∨ k = 219 ∨ k = 220 ∨ k = 221 ∨ k = 222 ∨ k = 223 ∨ k = 224 := by omega
  rcases this with rfl | rfl | rfl | rfl | rfl | rfl | rfl | rfl | rfl | rfl | rfl | rfl | rfl | rfl | rfl | rfl | rfl | rfl | rfl | rfl | rfl | rfl | rfl | rfl | rfl
  · exact mok_200
  · exact mok_201
  · exact mok_202
  · exact mok_203
  · exact mok_204
  · exact mok_205
  · exact mok_206
  · exact mok_207
  · exact mok_208
  · exact mok_209
  · exact mok_210
  · exact mok_211
  · exact mok_212
  · exact mok_213
  · exact mok_214
  · exact mok_215
  · exact mok_216
  · exact mok_217
  · exact mok_218
  · exact mok_219
  · exact mok_220
  · exact mok_221
  · exact mok_222
  · exact mok_223
  · exact mok_224
theorem mokB_9 : ∀ k, 225 ≤ k → k < 250 → ∀ en, mI k = some en → MOK k en := by
  intro k h1 h2
  have : k = 225 ∨ k = 226 ∨ k = 227 ∨ k = 228 ∨ k = 229 ∨ k = 230 ∨ k = 231 ∨ k = 232 ∨ k = 233 ∨ k = 234 ∨ k = 235 ∨ k = 236 ∨ k = 237 ∨ k = 238 ∨ k = 239 ∨ k = 240 ∨ k = 241 ∨ k = 242 ∨ k = 243 ∨ k = 244 ∨ k = 245 ∨ k = 246 ∨ k = 247 ∨ k = 248 ∨ k = 249 := by omega
  rcases this with rfl | rfl | rfl | rfl | rfl | rfl | rfl | rfl | rfl | rfl | rfl | rfl | rfl | rfl | rfl | rfl | rfl | rfl | rfl | rfl | rfl | rfl | rfl | rfl | rfl
  · exact mok_225
  · exact mok_226
  · exact mok_227
  · exact mok_228
  · exact mok_229
  · exact mok_230
  · exact mok_231
  · exact mok_232
  · exact mok_233
  · exact mok_234
  · exact mok_235
  · exact mok_236
  · exact mok_237
  · exact mok_238
  · exact mok_239
  · exact mok_240
  · exact mok_241
  · exact mok_242
  · exact mok_243
  · exact mok_244
  · exact mok_245
  · exact mok_246
  · exact mok_247
  · exact mok_248
  · exact mok_249
theorem mokB_10 : ∀ k, 250 ≤ k → k < 275 → ∀ en, mI k = some en → MOK k en := by
  intro k h1 h2
  have : k = 250 ∨ k = 251 ∨ k = 252 ∨ k = 253 ∨ k = 254 ∨ k = 255 ∨ k = 256 ∨ k = 257 ∨ k = 258 ∨ k = 259 ∨ k = 260 ∨ k = 261 ∨ k = 262 ∨ k = 263 ∨ k = 264 ∨ k = 265 ∨ k = 266 ∨ k = 267 ∨ k = 268 ∨ k = 269 ∨ k = 270 ∨ k = 271 ∨ k = 272 ∨ k = 273 ∨ k = 274 := by omega
  rcases this with rfl | rfl | rfl | rfl | rfl | rfl | rfl | rfl | rfl | rfl | rfl | rfl | rfl | rfl | rfl | rfl | rfl | rfl | rfl | rfl | rfl | rfl | rfl | rfl | rfl
  · exact mok_250
  · exact mok_251
  · exact mok_252
  · exact mok_253
  · exact mok_254
  · exact mok_255
  · exact mok_256
  · exact mok_257
  · exact mok_258
  · exact mok_259
  · exact mok_260
  · exact mok_261
  · exact mok_262
  · exact mok_263
  · exact mok_264
  · exact mok_265
  · exact mok_266
  · exact mok_267
  · exact mok_268
  · exact mok_269
  · exact mok_270
  · exact mok_271
  · exact mok_272
  · exact mok_273
  · exact mok_274
theorem mokB_11 : ∀ k, 275 ≤ k → k < 300 → ∀ en, mI k = some en → MOK k en := by
  intro k h1 h2
  have : k = 275 ∨ k = 276 ∨ k = 277 ∨ k = 278 ∨ k = 279 ∨ k = 280 ∨ k = 281 ∨ k = 282 ∨ k = 283 ∨ k = 284 ∨ k = 285 ∨ k = 286 ∨ k = 287 ∨ k = 288 ∨ k = 289 ∨ k = 290 ∨ k = 291 ∨ k = 292 ∨ k = 293 ∨ k = 294 ∨ k = 295 ∨ k = 296 ∨ k = 297 ∨ k = 298 ∨ k = 299 := by omega
  rcases this with rfl | rfl | rfl | rfl | rfl | rfl | rfl | rfl | rfl | rfl | rfl | rfl | rfl | rfl | rfl | rfl | rfl | rfl | rfl | rfl | rfl | rfl | rfl | rfl | rfl
  · exact mok_275
  · exact mok_276
  · exact mok_277
  · exact mok_278
  · exact mok_279
  · exact mok_280
  · exact mok_281
  · exact mok_282
  · exact mok_283
  · exact mok_284
  · exact mok_285
  · exact mok_286
  · exact mok_287
  · exact mok_288
  · exact mok_289
  · exact mok_290
  · exact mok_291
  · exact mok_292
  · exact mok_293
  · exact mok_294
  · exact mok_295
  · exact mok_296
  · exact mok_297
  · exact mok_298
  · exact mok_299
theorem mokB_12 : ∀ k, 300 ≤ k → k < 325 → ∀ en, mI k = some en → MOK k en := by
  intro k h1 h2
  have : k = 300 ∨ k = 301 ∨ k = 302 ∨ k = 303 ∨ k = 304 ∨ k = 305 ∨ k = 306 ∨ k = 307 ∨ k = 308 ∨ k = 309 ∨ k = 310 ∨ k = 311 ∨ k = 312 ∨ k = 313 ∨ k = 314 ∨ k = 315 ∨ k = 316 ∨ k = 317 ∨ k = 318 ∨ k = 319 ∨ k = 320 ∨ k = 321 ∨ k = 322 ∨ k = 323 ∨ k = 324 := by omega
  rcases this with rfl | rfl | rfl | rfl | rfl | rfl | rfl | rfl | rfl | rfl | rfl | rfl | rfl | rfl | rfl | rfl | rfl | rfl | rfl | rfl | rfl | rfl | rfl | rfl | rfl
  · exact mok_300
  · exact mok_301
  · exact mok_302
  · exact mok_303
  · exact mok_304
  · exact mok_305
  · exact mok_306
  · exact mok_307
  · exact mok_308
  · exact mok_309
  · exact mok_310
  · exact mok_311
  · exact mok_312
  · exact mok_313
  · exact mok_314
  · exact mok_315
  · exact mok_316
  · exact mok_317
  · exact mok_318
  · exact mok_319
  · exact mok_320
  · exact mok_321
  · exact mok_322
  · exact mok_323
  · exact mok_324
theorem mokB_13 : ∀ k, 325 ≤ k → k < 350 → ∀ en, mI k = some en → MOK k en := by
  intro k h1 h2
  have : k = 325 ∨ k = 326 ∨ k = 327 ∨ k = 328 ∨ k = 329 ∨ k = 330 ∨ k = 331 ∨ k = 332 ∨ k = 333 ∨ k = 334 ∨ k = 335 ∨ k = 336 ∨ k = 337 ∨ k = 338 ∨ k = 339 ∨ k = 340 ∨ k = 341 ∨ k = 342 ∨ k = 343 ∨ k = 344 ∨ k = 345 ∨ k = 346 ∨ k = 347 ∨ k = 348 ∨ k = 349 := by omega
  rcases this with rfl | rfl | rfl | rfl | rfl | rfl | rfl | rfl | rfl | rfl | rfl | rfl | rfl | rfl | rfl | rfl | rfl | rfl | rfl | rfl | rfl | rfl | rfl | rfl | rfl
  · exact mok_325
  · exact mok_326
  · exact mok_327
  · exact mok_328
  · exact mok_329
  · exact mok_330
  · exact mok_331
  · exact mok_332
  · exact mok_333
  · exact mok_334
  · exact mok_335
  · exact mok_336
  · exact mok_337
  · exact mok_338
  · exact mok_339
  · exact mok_340
  · exact mok_341
  · exact mok_342
  · exact mok_343
  · exact mok_344
  · exact mok_345
  · exact mok_346
  · exact mok_347
  · exact mok_348
  · exact mok_349
theorem mokB_14 : ∀ k, 350 ≤ k → k < 363 → ∀ en, mI k = some en → MOK k en := by
  intro k h1 h2
  have : k = 350 ∨ k = 351 ∨ k = 352 ∨ k = 353 ∨ k = 354 ∨ k = 355 ∨ k = 356 ∨ k = 357 ∨ k = 358 ∨ k = 359 ∨ k = 360 ∨ k = 361 ∨ k = 362 := by omega
  rcases this with rfl | rfl | rfl | rfl | rfl | rfl | rfl | rfl | rfl | rfl | rfl | rfl | rfl
  · exact mok_350
  · exact mok_351
  · exact mok_352
  · exact mok_353
  · exact mok_354
  · exact mok_355
  · exact mok_356
  · exact mok_357
  · exact mok_358
  · exact mok_359
  · exact mok_360
  · exact mok_361
  · exact mok_362
theorem mok_all : ∀ k, 1 ≤ k → ∀ en, mI k = some en → MOK k en := by
  intro k h1 en h
  have hk : k < 363 := by
    apply Classical.byContradiction
    intro hn
    have : mI k = none := by
      unfold mI
      by_cases h9 : k / 25 < 15
      · have e : k / 25 = 14 := by omega
        rw [e]
        show MT14[k % 25]? = none
        exact List.getElem?_eq_none (by show 13 ≤ _; omega)
      · rw [List.getElem?_eq_none (by show 15 ≤ _; omega)]; rfl
    rw [this] at h; cases h
  by_cases c0 : k < 25
  · exact mokB_0 k (by omega) c0 en h
  by_cases c1 : k < 50
  · exact mokB_1 k (by omega) c1 en h
  by_cases c2 : k < 75
  · exact mokB_2 k (by omega) c2 en h
  by_cases c3 : k < 100
  · exact mokB_3 k (by omega) c3 en h
  by_cases c4 : k < 125
  · exact mokB_4 k (by omega) c4 en h
  by_cases c5 : k < 150
  · exact mokB_5 k (by omega) c5 en h
  by_cases c6 : k < 175
  · exact mokB_6 k (by omega) c6 en h
  by_cases c7 : k < 200
  · exact mokB_7 k (by omega) c7 en h
  by_cases c8 : k < 225
  · exact mokB_8 k (by omega) c8 en h
  by_cases c9 : k < 250
  · exact mokB_9 k (by omega) c9 en h
  by_cases c10 : k < 275
  · exact mokB_10 k (by omega) c10 en h
  by_cases c11 : k < 300
  · exact mokB_11 k (by omega) c11 en h
  by_cases c12 : k < 325
  · exact mokB_12 k (by omega) c12 en h
  by_cases c13 : k < 350
  · exact mokB_13 k (by omega) c13 en h
  by_cases c14 : k < 363
  · exact mokB_14 k (by omega) c14 en h
  all_goals omega
