/-! the tables hold what the class files say, written by wip/D-67560w/tools/gen_ok.py -/
set_option maxRecDepth 100000
theorem thr_fm {L : List Cond} (w : Cond) (h1 : w ∈ L) (h2 : vx_no w = true) (h : ∀ w ∈ L, vx_no w = true → wP w ∧ vx_ot w = true) : wP w ∧ vx_ot w = true := h w h1 h2
theorem thr_top : ∀ w ∈ Bundle.throwableAtoms, vx_no w = true → wP w ∧ vx_ot w = true := List.forall_mem_cons.mpr ⟨(fun _ => ⟨Or.inl (lw_g (lw_at lw_m1 20 rfl) rfl), rfl⟩), List.forall_mem_cons.mpr ⟨(fun _ => ⟨Or.inl (lw_g (lw_at lw_m3 97 rfl) rfl), rfl⟩), List.forall_mem_cons.mpr ⟨(fun _ => ⟨Or.inl (lw_g (lw_at lw_m3 48 rfl) rfl), rfl⟩), List.forall_mem_cons.mpr ⟨(fun _ => ⟨Or.inl (lw_g (lw_at lw_m3 57 rfl) rfl), rfl⟩), List.forall_mem_cons.mpr ⟨(fun _ => ⟨Or.inl (lw_g (lw_at lw_m3 60 rfl) rfl), rfl⟩), List.forall_mem_cons.mpr ⟨(fun _ => ⟨Or.inl (lw_g (lw_at lw_m3 62 rfl) rfl), rfl⟩), List.forall_mem_cons.mpr ⟨(fun _ => ⟨Or.inl (lw_g (lw_at lw_m3 98 rfl) rfl), rfl⟩), List.forall_mem_cons.mpr ⟨(fun _ => ⟨Or.inl (lw_g (lw_at lw_m3 99 rfl) rfl), rfl⟩), List.forall_mem_cons.mpr ⟨(fun _ => ⟨Or.inl (lw_g (lw_at lw_m1 54 rfl) rfl), rfl⟩), List.forall_mem_cons.mpr ⟨(fun _ => ⟨Or.inl (lw_g (lw_at lw_m1 55 rfl) rfl), rfl⟩), List.forall_mem_cons.mpr ⟨(fun _ => ⟨Or.inl (lw_g (lw_at lw_m3 42 rfl) rfl), rfl⟩), List.forall_mem_cons.mpr ⟨(fun _ => ⟨Or.inl (lw_g (lw_at lw_m3 47 rfl) rfl), rfl⟩), List.forall_mem_cons.mpr ⟨(fun _ => ⟨Or.inl (lw_g (lw_at lw_m3 58 rfl) rfl), rfl⟩), List.forall_mem_cons.mpr ⟨(fun _ => ⟨Or.inl (lw_g (lw_at lw_m3 65 rfl) rfl), rfl⟩), List.forall_mem_cons.mpr ⟨(fun _ => ⟨Or.inl (lw_g (lw_at lw_m3 91 rfl) rfl), rfl⟩), List.forall_mem_cons.mpr ⟨(fun _ => ⟨Or.inl (lw_g (lw_at lw_m3 66 rfl) rfl), rfl⟩), List.forall_mem_cons.mpr ⟨(fun _ => ⟨Or.inl (lw_g (lw_at lw_m3 92 rfl) rfl), rfl⟩), List.forall_mem_cons.mpr ⟨(fun _ => ⟨Or.inl (lw_g (lw_at lw_m3 67 rfl) rfl), rfl⟩), List.forall_mem_cons.mpr ⟨(fun _ => ⟨Or.inl (lw_g (lw_at lw_m3 93 rfl) rfl), rfl⟩), List.forall_mem_cons.mpr ⟨(fun _ => ⟨Or.inl (lw_g (lw_at lw_m3 43 rfl) rfl), rfl⟩), List.forall_mem_cons.mpr ⟨(fun h => absurd h (by decide)), List.forall_mem_cons.mpr ⟨(fun _ => ⟨Or.inl (lw_g (lw_at lw_m3 45 rfl) rfl), rfl⟩), List.forall_mem_cons.mpr ⟨(fun h => absurd h (by decide)), List.forall_mem_cons.mpr ⟨(fun _ => ⟨Or.inl (lw_g (lw_at lw_m3 94 rfl) rfl), rfl⟩), (fun _ h => nomatch h)⟩⟩⟩⟩⟩⟩⟩⟩⟩⟩⟩⟩⟩⟩⟩⟩⟩⟩⟩⟩⟩⟩⟩⟩
theorem thr_mid : ∀ w ∈ Bundle.chain0Atoms "java/lang/RuntimeException" ["java/lang/Exception"], vx_no w = true → wP w ∧ vx_ot w = true := List.forall_mem_cons.mpr ⟨(fun _ => ⟨Or.inl (lw_g (lw_at lw_m3 125 rfl) rfl), rfl⟩), List.forall_mem_cons.mpr ⟨(fun _ => ⟨Or.inl (lw_g (lw_at lw_m3 126 rfl) rfl), rfl⟩), List.forall_mem_cons.mpr ⟨(fun _ => ⟨Or.inl (lw_g (lw_at lw_m3 127 rfl) rfl), rfl⟩), List.forall_mem_cons.mpr ⟨(fun _ => ⟨Or.inl (lw_g (lw_at lw_m3 128 rfl) rfl), rfl⟩), List.forall_mem_cons.mpr ⟨(fun _ => ⟨Or.inr ⟨lw_at lw_m3 86 rfl, Or.inr ⟨_, rfl⟩⟩, rfl⟩), List.forall_mem_cons.mpr ⟨(fun _ => ⟨Or.inl (lw_g (lw_at lw_m3 128 rfl) rfl), rfl⟩), List.forall_mem_cons.mpr ⟨(fun _ => ⟨Or.inl (lw_g (lw_at lw_m3 129 rfl) rfl), rfl⟩), List.forall_mem_cons.mpr ⟨(fun _ => ⟨Or.inl (lw_g (lw_at lw_m3 130 rfl) rfl), rfl⟩), List.forall_mem_cons.mpr ⟨(fun _ => ⟨Or.inl (lw_g (lw_at lw_m3 98 rfl) rfl), rfl⟩), List.forall_mem_cons.mpr ⟨(fun _ => ⟨Or.inr ⟨lw_at lw_m3 88 rfl, Or.inr ⟨_, rfl⟩⟩, rfl⟩), (fun _ h => nomatch h)⟩⟩⟩⟩⟩⟩⟩⟩⟩⟩
theorem thr_x201 : ∀ w ∈ Bundle.passAtoms "java/lang/IndexOutOfBoundsException" "java/lang/RuntimeException" 1 Bundle.five, vx_no w = true → wP w ∧ vx_ot w = true := List.forall_mem_cons.mpr ⟨(fun _ => ⟨Or.inl (lw_g (lw_at lw_m3 122 rfl) rfl), rfl⟩), List.forall_mem_cons.mpr ⟨(fun _ => ⟨Or.inl (lw_g (lw_at lw_m3 123 rfl) rfl), rfl⟩), List.forall_mem_cons.mpr ⟨(fun _ => ⟨Or.inl (lw_g (lw_at lw_m3 124 rfl) rfl), rfl⟩), List.forall_mem_cons.mpr ⟨(fun _ => ⟨Or.inl (lw_g (lw_at lw_m3 125 rfl) rfl), rfl⟩), List.forall_mem_cons.mpr ⟨(fun _ => ⟨Or.inr ⟨lw_at lw_m3 84 rfl, Or.inr ⟨_, rfl⟩⟩, rfl⟩), (fun _ h => nomatch h)⟩⟩⟩⟩⟩
theorem thr_x202 : ∀ w ∈ Bundle.passAtoms "java/lang/IllegalArgumentException" "java/lang/RuntimeException" 1 Bundle.five, vx_no w = true → wP w ∧ vx_ot w = true := List.forall_mem_cons.mpr ⟨(fun _ => ⟨Or.inl (lw_g (lw_at lw_m3 161 rfl) rfl), rfl⟩), List.forall_mem_cons.mpr ⟨(fun _ => ⟨Or.inl (lw_g (lw_at lw_m3 162 rfl) rfl), rfl⟩), List.forall_mem_cons.mpr ⟨(fun _ => ⟨Or.inl (lw_g (lw_at lw_m3 163 rfl) rfl), rfl⟩), List.forall_mem_cons.mpr ⟨(fun _ => ⟨Or.inl (lw_g (lw_at lw_m3 125 rfl) rfl), rfl⟩), List.forall_mem_cons.mpr ⟨(fun _ => ⟨Or.inr ⟨lw_at lw_m3 84 rfl, Or.inr ⟨_, rfl⟩⟩, rfl⟩), (fun _ h => nomatch h)⟩⟩⟩⟩⟩
theorem thr_x203 : ∀ w ∈ Bundle.passAtoms "java/lang/IllegalStateException" "java/lang/RuntimeException" 1 Bundle.five, vx_no w = true → wP w ∧ vx_ot w = true := List.forall_mem_cons.mpr ⟨(fun _ => ⟨Or.inl (lw_g (lw_at lw_m3 192 rfl) rfl), rfl⟩), List.forall_mem_cons.mpr ⟨(fun _ => ⟨Or.inl (lw_g (lw_at lw_m3 193 rfl) rfl), rfl⟩), List.forall_mem_cons.mpr ⟨(fun _ => ⟨Or.inl (lw_g (lw_at lw_m3 194 rfl) rfl), rfl⟩), List.forall_mem_cons.mpr ⟨(fun _ => ⟨Or.inl (lw_g (lw_at lw_m3 125 rfl) rfl), rfl⟩), List.forall_mem_cons.mpr ⟨(fun _ => ⟨Or.inr ⟨lw_at lw_m3 84 rfl, Or.inr ⟨_, rfl⟩⟩, rfl⟩), (fun _ h => nomatch h)⟩⟩⟩⟩⟩
theorem thr_x204 : ∀ w ∈ Bundle.passAtoms "java/lang/UnsupportedOperationException" "java/lang/RuntimeException" 1 Bundle.five, vx_no w = true → wP w ∧ vx_ot w = true := List.forall_mem_cons.mpr ⟨(fun _ => ⟨Or.inl (lw_g (lw_at lw_m4 29 rfl) rfl), rfl⟩), List.forall_mem_cons.mpr ⟨(fun _ => ⟨Or.inl (lw_g (lw_at lw_m4 30 rfl) rfl), rfl⟩), List.forall_mem_cons.mpr ⟨(fun _ => ⟨Or.inl (lw_g (lw_at lw_m4 31 rfl) rfl), rfl⟩), List.forall_mem_cons.mpr ⟨(fun _ => ⟨Or.inl (lw_g (lw_at lw_m3 125 rfl) rfl), rfl⟩), List.forall_mem_cons.mpr ⟨(fun _ => ⟨Or.inr ⟨lw_at lw_m3 84 rfl, Or.inr ⟨_, rfl⟩⟩, rfl⟩), (fun _ h => nomatch h)⟩⟩⟩⟩⟩
theorem thr_x205 : ∀ w ∈ Bundle.passAtoms "java/util/NoSuchElementException" "java/lang/RuntimeException" 1 Bundle.five, vx_no w = true → wP w ∧ vx_ot w = true := List.forall_mem_cons.mpr ⟨(fun _ => ⟨Or.inl (lw_g (lw_at lw_m5 78 rfl) rfl), rfl⟩), List.forall_mem_cons.mpr ⟨(fun _ => ⟨Or.inl (lw_g (lw_at lw_m5 79 rfl) rfl), rfl⟩), List.forall_mem_cons.mpr ⟨(fun _ => ⟨Or.inl (lw_g (lw_at lw_m5 80 rfl) rfl), rfl⟩), List.forall_mem_cons.mpr ⟨(fun _ => ⟨Or.inl (lw_g (lw_at lw_m3 125 rfl) rfl), rfl⟩), List.forall_mem_cons.mpr ⟨(fun _ => ⟨Or.inr ⟨lw_at lw_m3 84 rfl, Or.inr ⟨_, rfl⟩⟩, rfl⟩), (fun _ h => nomatch h)⟩⟩⟩⟩⟩
theorem thr_x206 : ∀ w ∈ Bundle.passAtoms "java/lang/ArithmeticException" "java/lang/RuntimeException" 1 Bundle.five, vx_no w = true → wP w ∧ vx_ot w = true := List.forall_mem_cons.mpr ⟨(fun _ => ⟨Or.inl (lw_g (lw_at lw_m5 137 rfl) rfl), rfl⟩), List.forall_mem_cons.mpr ⟨(fun _ => ⟨Or.inl (lw_g (lw_at lw_m5 138 rfl) rfl), rfl⟩), List.forall_mem_cons.mpr ⟨(fun _ => ⟨Or.inl (lw_g (lw_at lw_m5 139 rfl) rfl), rfl⟩), List.forall_mem_cons.mpr ⟨(fun _ => ⟨Or.inl (lw_g (lw_at lw_m3 125 rfl) rfl), rfl⟩), List.forall_mem_cons.mpr ⟨(fun _ => ⟨Or.inr ⟨lw_at lw_m3 84 rfl, Or.inr ⟨_, rfl⟩⟩, rfl⟩), (fun _ h => nomatch h)⟩⟩⟩⟩⟩
theorem thr_19_4 : XOK 19 4 201 := by
  refine ⟨_, 124, 126, rfl, by decide +kernel, by decide +kernel, by decide +kernel, by decide +kernel, ?_, by decide +kernel, (lw_g (lw_at lw_m1 23 rfl) rfl)⟩
  intro w hw
  obtain ⟨h1, h2⟩ := List.mem_filter.mp hw
  rcases List.mem_append.mp h1 with h1 | h1
  · rcases List.mem_append.mp h1 with h1 | h1
    · exact thr_top w h1 h2
    · rcases List.mem_append.mp h1 with h1 | h1
      · exact thr_x201 w h1 h2
      · exact thr_mid w h1 h2
  · refine thr_fm w h1 h2 ?_
    exact List.forall_mem_cons.mpr ⟨(fun _ => ⟨Or.inl (lw_g (lw_at lw_m3 121 rfl) rfl), rfl⟩), List.forall_mem_cons.mpr ⟨(fun _ => ⟨Or.inl (lw_g (lw_at lw_m3 113 rfl) rfl), rfl⟩), List.forall_mem_cons.mpr ⟨(fun _ => ⟨Or.inr ⟨lw_at lw_m3 114 rfl, Or.inl ⟨_, _, rfl⟩⟩, rfl⟩), List.forall_mem_cons.mpr ⟨(fun _ => ⟨Or.inl (lw_g (lw_at lw_m3 115 rfl) rfl), rfl⟩), List.forall_mem_cons.mpr ⟨(fun _ => ⟨Or.inl (lw_g (lw_at lw_m3 54 rfl) rfl), rfl⟩), List.forall_mem_cons.mpr ⟨(fun _ => ⟨Or.inl (lw_g (lw_at lw_m3 116 rfl) rfl), rfl⟩), List.forall_mem_cons.mpr ⟨(fun _ => ⟨Or.inl (lw_g (lw_at lw_m3 117 rfl) rfl), rfl⟩), List.forall_mem_cons.mpr ⟨(fun _ => ⟨Or.inl (lw_g (lw_at lw_m3 118 rfl) rfl), rfl⟩), List.forall_mem_cons.mpr ⟨(fun _ => ⟨Or.inl (lw_g (lw_at lw_m3 119 rfl) rfl), rfl⟩), List.forall_mem_cons.mpr ⟨(fun h => absurd h (by decide)), List.forall_mem_cons.mpr ⟨(fun h => absurd h (by decide)), List.forall_mem_cons.mpr ⟨(fun _ => ⟨Or.inl (lw_g (lw_at lw_m3 96 rfl) rfl), rfl⟩), List.forall_mem_cons.mpr ⟨(fun _ => ⟨Or.inl (lw_g (lw_at lw_m3 95 rfl) rfl), rfl⟩), List.forall_mem_cons.mpr ⟨(fun _ => ⟨Or.inl (lw_g (lw_at lw_m3 120 rfl) rfl), rfl⟩), (fun _ h => nomatch h)⟩⟩⟩⟩⟩⟩⟩⟩⟩⟩⟩⟩⟩⟩
theorem thrK_19 : ∀ q ∈ rXt 19, XOK 19 q.1 q.2 := List.forall_mem_cons.mpr ⟨thr_19_4, (fun _ h => nomatch h)⟩
theorem thr_23_4 : XOK 23 4 202 := by
  refine ⟨_, 115, 117, rfl, by decide +kernel, by decide +kernel, by decide +kernel, by decide +kernel, ?_, by decide +kernel, (lw_g (lw_at lw_m1 25 rfl) rfl)⟩
  intro w hw
  obtain ⟨h1, h2⟩ := List.mem_filter.mp hw
  rcases List.mem_append.mp h1 with h1 | h1
  · rcases List.mem_append.mp h1 with h1 | h1
    · exact thr_top w h1 h2
    · rcases List.mem_append.mp h1 with h1 | h1
      · exact thr_x202 w h1 h2
      · exact thr_mid w h1 h2
  · refine thr_fm w h1 h2 ?_
    exact List.forall_mem_cons.mpr ⟨(fun _ => ⟨Or.inl (lw_g (lw_at lw_m3 160 rfl) rfl), rfl⟩), List.forall_mem_cons.mpr ⟨(fun _ => ⟨Or.inl (lw_g (lw_at lw_m3 152 rfl) rfl), rfl⟩), List.forall_mem_cons.mpr ⟨(fun _ => ⟨Or.inr ⟨lw_at lw_m3 153 rfl, Or.inl ⟨_, _, rfl⟩⟩, rfl⟩), List.forall_mem_cons.mpr ⟨(fun _ => ⟨Or.inl (lw_g (lw_at lw_m3 154 rfl) rfl), rfl⟩), List.forall_mem_cons.mpr ⟨(fun _ => ⟨Or.inl (lw_g (lw_at lw_m3 52 rfl) rfl), rfl⟩), List.forall_mem_cons.mpr ⟨(fun _ => ⟨Or.inl (lw_g (lw_at lw_m3 155 rfl) rfl), rfl⟩), List.forall_mem_cons.mpr ⟨(fun _ => ⟨Or.inl (lw_g (lw_at lw_m3 156 rfl) rfl), rfl⟩), List.forall_mem_cons.mpr ⟨(fun _ => ⟨Or.inl (lw_g (lw_at lw_m3 157 rfl) rfl), rfl⟩), List.forall_mem_cons.mpr ⟨(fun _ => ⟨Or.inl (lw_g (lw_at lw_m3 158 rfl) rfl), rfl⟩), List.forall_mem_cons.mpr ⟨(fun h => absurd h (by decide)), List.forall_mem_cons.mpr ⟨(fun h => absurd h (by decide)), List.forall_mem_cons.mpr ⟨(fun _ => ⟨Or.inl (lw_g (lw_at lw_m3 96 rfl) rfl), rfl⟩), List.forall_mem_cons.mpr ⟨(fun _ => ⟨Or.inl (lw_g (lw_at lw_m3 95 rfl) rfl), rfl⟩), List.forall_mem_cons.mpr ⟨(fun _ => ⟨Or.inl (lw_g (lw_at lw_m3 159 rfl) rfl), rfl⟩), (fun _ h => nomatch h)⟩⟩⟩⟩⟩⟩⟩⟩⟩⟩⟩⟩⟩⟩
theorem thrK_23 : ∀ q ∈ rXt 23, XOK 23 q.1 q.2 := List.forall_mem_cons.mpr ⟨thr_23_4, (fun _ h => nomatch h)⟩
theorem thr_26_4 : XOK 26 4 203 := by
  refine ⟨_, 118, 120, rfl, by decide +kernel, by decide +kernel, by decide +kernel, by decide +kernel, ?_, by decide +kernel, (lw_g (lw_at lw_m1 26 rfl) rfl)⟩
  intro w hw
  obtain ⟨h1, h2⟩ := List.mem_filter.mp hw
  rcases List.mem_append.mp h1 with h1 | h1
  · rcases List.mem_append.mp h1 with h1 | h1
    · exact thr_top w h1 h2
    · rcases List.mem_append.mp h1 with h1 | h1
      · exact thr_x203 w h1 h2
      · exact thr_mid w h1 h2
  · refine thr_fm w h1 h2 ?_
    exact List.forall_mem_cons.mpr ⟨(fun _ => ⟨Or.inl (lw_g (lw_at lw_m3 191 rfl) rfl), rfl⟩), List.forall_mem_cons.mpr ⟨(fun _ => ⟨Or.inl (lw_g (lw_at lw_m3 183 rfl) rfl), rfl⟩), List.forall_mem_cons.mpr ⟨(fun _ => ⟨Or.inr ⟨lw_at lw_m3 184 rfl, Or.inl ⟨_, _, rfl⟩⟩, rfl⟩), List.forall_mem_cons.mpr ⟨(fun _ => ⟨Or.inl (lw_g (lw_at lw_m3 185 rfl) rfl), rfl⟩), List.forall_mem_cons.mpr ⟨(fun _ => ⟨Or.inl (lw_g (lw_at lw_m3 53 rfl) rfl), rfl⟩), List.forall_mem_cons.mpr ⟨(fun _ => ⟨Or.inl (lw_g (lw_at lw_m3 186 rfl) rfl), rfl⟩), List.forall_mem_cons.mpr ⟨(fun _ => ⟨Or.inl (lw_g (lw_at lw_m3 187 rfl) rfl), rfl⟩), List.forall_mem_cons.mpr ⟨(fun _ => ⟨Or.inl (lw_g (lw_at lw_m3 188 rfl) rfl), rfl⟩), List.forall_mem_cons.mpr ⟨(fun _ => ⟨Or.inl (lw_g (lw_at lw_m3 189 rfl) rfl), rfl⟩), List.forall_mem_cons.mpr ⟨(fun h => absurd h (by decide)), List.forall_mem_cons.mpr ⟨(fun h => absurd h (by decide)), List.forall_mem_cons.mpr ⟨(fun _ => ⟨Or.inl (lw_g (lw_at lw_m3 96 rfl) rfl), rfl⟩), List.forall_mem_cons.mpr ⟨(fun _ => ⟨Or.inl (lw_g (lw_at lw_m3 95 rfl) rfl), rfl⟩), List.forall_mem_cons.mpr ⟨(fun _ => ⟨Or.inl (lw_g (lw_at lw_m3 190 rfl) rfl), rfl⟩), (fun _ h => nomatch h)⟩⟩⟩⟩⟩⟩⟩⟩⟩⟩⟩⟩⟩⟩
theorem thrK_26 : ∀ q ∈ rXt 26, XOK 26 q.1 q.2 := List.forall_mem_cons.mpr ⟨thr_26_4, (fun _ h => nomatch h)⟩
theorem thr_27_44 : XOK 27 44 204 := by
  refine ⟨_, 160, 163, rfl, by decide +kernel, by decide +kernel, by decide +kernel, by decide +kernel, ?_, by decide +kernel, (lw_g (lw_at lw_m1 27 rfl) rfl)⟩
  intro w hw
  obtain ⟨h1, h2⟩ := List.mem_filter.mp hw
  rcases List.mem_append.mp h1 with h1 | h1
  · rcases List.mem_append.mp h1 with h1 | h1
    · exact thr_top w h1 h2
    · rcases List.mem_append.mp h1 with h1 | h1
      · exact thr_x204 w h1 h2
      · exact thr_mid w h1 h2
  · refine thr_fm w h1 h2 ?_
    exact List.forall_mem_cons.mpr ⟨(fun _ => ⟨Or.inl (lw_g (lw_at lw_m4 131 rfl) rfl), rfl⟩), List.forall_mem_cons.mpr ⟨(fun _ => ⟨Or.inl (lw_g (lw_at lw_m4 20 rfl) rfl), rfl⟩), List.forall_mem_cons.mpr ⟨(fun _ => ⟨Or.inr ⟨lw_at lw_m4 21 rfl, Or.inl ⟨_, _, rfl⟩⟩, rfl⟩), List.forall_mem_cons.mpr ⟨(fun _ => ⟨Or.inl (lw_g (lw_at lw_m4 22 rfl) rfl), rfl⟩), List.forall_mem_cons.mpr ⟨(fun _ => ⟨Or.inl (lw_g (lw_at lw_m3 55 rfl) rfl), rfl⟩), List.forall_mem_cons.mpr ⟨(fun _ => ⟨Or.inl (lw_g (lw_at lw_m4 23 rfl) rfl), rfl⟩), List.forall_mem_cons.mpr ⟨(fun _ => ⟨Or.inl (lw_g (lw_at lw_m4 24 rfl) rfl), rfl⟩), List.forall_mem_cons.mpr ⟨(fun _ => ⟨Or.inl (lw_g (lw_at lw_m4 25 rfl) rfl), rfl⟩), List.forall_mem_cons.mpr ⟨(fun _ => ⟨Or.inl (lw_g (lw_at lw_m4 26 rfl) rfl), rfl⟩), List.forall_mem_cons.mpr ⟨(fun h => absurd h (by decide)), List.forall_mem_cons.mpr ⟨(fun h => absurd h (by decide)), List.forall_mem_cons.mpr ⟨(fun _ => ⟨Or.inl (lw_g (lw_at lw_m3 96 rfl) rfl), rfl⟩), List.forall_mem_cons.mpr ⟨(fun _ => ⟨Or.inl (lw_g (lw_at lw_m3 95 rfl) rfl), rfl⟩), List.forall_mem_cons.mpr ⟨(fun _ => ⟨Or.inl (lw_g (lw_at lw_m4 27 rfl) rfl), rfl⟩), (fun _ h => nomatch h)⟩⟩⟩⟩⟩⟩⟩⟩⟩⟩⟩⟩⟩⟩
theorem thrK_27 : ∀ q ∈ rXt 27, XOK 27 q.1 q.2 := List.forall_mem_cons.mpr ⟨thr_27_44, (fun _ h => nomatch h)⟩
theorem thr_29_137 : XOK 29 137 203 := by
  refine ⟨_, 118, 120, rfl, by decide +kernel, by decide +kernel, by decide +kernel, by decide +kernel, ?_, by decide +kernel, (lw_g (lw_at lw_m1 26 rfl) rfl)⟩
  intro w hw
  obtain ⟨h1, h2⟩ := List.mem_filter.mp hw
  rcases List.mem_append.mp h1 with h1 | h1
  · rcases List.mem_append.mp h1 with h1 | h1
    · exact thr_top w h1 h2
    · rcases List.mem_append.mp h1 with h1 | h1
      · exact thr_x203 w h1 h2
      · exact thr_mid w h1 h2
  · refine thr_fm w h1 h2 ?_
    exact List.forall_mem_cons.mpr ⟨(fun _ => ⟨Or.inl (lw_g (lw_at lw_m3 191 rfl) rfl), rfl⟩), List.forall_mem_cons.mpr ⟨(fun _ => ⟨Or.inl (lw_g (lw_at lw_m3 183 rfl) rfl), rfl⟩), List.forall_mem_cons.mpr ⟨(fun _ => ⟨Or.inr ⟨lw_at lw_m3 184 rfl, Or.inl ⟨_, _, rfl⟩⟩, rfl⟩), List.forall_mem_cons.mpr ⟨(fun _ => ⟨Or.inl (lw_g (lw_at lw_m3 185 rfl) rfl), rfl⟩), List.forall_mem_cons.mpr ⟨(fun _ => ⟨Or.inl (lw_g (lw_at lw_m3 53 rfl) rfl), rfl⟩), List.forall_mem_cons.mpr ⟨(fun _ => ⟨Or.inl (lw_g (lw_at lw_m3 186 rfl) rfl), rfl⟩), List.forall_mem_cons.mpr ⟨(fun _ => ⟨Or.inl (lw_g (lw_at lw_m3 187 rfl) rfl), rfl⟩), List.forall_mem_cons.mpr ⟨(fun _ => ⟨Or.inl (lw_g (lw_at lw_m3 188 rfl) rfl), rfl⟩), List.forall_mem_cons.mpr ⟨(fun _ => ⟨Or.inl (lw_g (lw_at lw_m3 189 rfl) rfl), rfl⟩), List.forall_mem_cons.mpr ⟨(fun h => absurd h (by decide)), List.forall_mem_cons.mpr ⟨(fun h => absurd h (by decide)), List.forall_mem_cons.mpr ⟨(fun _ => ⟨Or.inl (lw_g (lw_at lw_m3 96 rfl) rfl), rfl⟩), List.forall_mem_cons.mpr ⟨(fun _ => ⟨Or.inl (lw_g (lw_at lw_m3 95 rfl) rfl), rfl⟩), List.forall_mem_cons.mpr ⟨(fun _ => ⟨Or.inl (lw_g (lw_at lw_m3 190 rfl) rfl), rfl⟩), (fun _ h => nomatch h)⟩⟩⟩⟩⟩⟩⟩⟩⟩⟩⟩⟩⟩⟩
theorem thrK_29 : ∀ q ∈ rXt 29, XOK 29 q.1 q.2 := List.forall_mem_cons.mpr ⟨thr_29_137, (fun _ h => nomatch h)⟩
theorem thr_32_4 : XOK 32 4 205 := by
  refine ⟨_, 121, 123, rfl, by decide +kernel, by decide +kernel, by decide +kernel, by decide +kernel, ?_, by decide +kernel, (lw_g (lw_at lw_m1 30 rfl) rfl)⟩
  intro w hw
  obtain ⟨h1, h2⟩ := List.mem_filter.mp hw
  rcases List.mem_append.mp h1 with h1 | h1
  · rcases List.mem_append.mp h1 with h1 | h1
    · exact thr_top w h1 h2
    · rcases List.mem_append.mp h1 with h1 | h1
      · exact thr_x205 w h1 h2
      · exact thr_mid w h1 h2
  · refine thr_fm w h1 h2 ?_
    exact List.forall_mem_cons.mpr ⟨(fun _ => ⟨Or.inl (lw_g (lw_at lw_m5 77 rfl) rfl), rfl⟩), List.forall_mem_cons.mpr ⟨(fun _ => ⟨Or.inl (lw_g (lw_at lw_m5 69 rfl) rfl), rfl⟩), List.forall_mem_cons.mpr ⟨(fun _ => ⟨Or.inr ⟨lw_at lw_m5 70 rfl, Or.inl ⟨_, _, rfl⟩⟩, rfl⟩), List.forall_mem_cons.mpr ⟨(fun _ => ⟨Or.inl (lw_g (lw_at lw_m5 71 rfl) rfl), rfl⟩), List.forall_mem_cons.mpr ⟨(fun _ => ⟨Or.inl (lw_g (lw_at lw_m3 56 rfl) rfl), rfl⟩), List.forall_mem_cons.mpr ⟨(fun _ => ⟨Or.inl (lw_g (lw_at lw_m5 72 rfl) rfl), rfl⟩), List.forall_mem_cons.mpr ⟨(fun _ => ⟨Or.inl (lw_g (lw_at lw_m5 73 rfl) rfl), rfl⟩), List.forall_mem_cons.mpr ⟨(fun _ => ⟨Or.inl (lw_g (lw_at lw_m5 74 rfl) rfl), rfl⟩), List.forall_mem_cons.mpr ⟨(fun _ => ⟨Or.inl (lw_g (lw_at lw_m5 75 rfl) rfl), rfl⟩), List.forall_mem_cons.mpr ⟨(fun h => absurd h (by decide)), List.forall_mem_cons.mpr ⟨(fun h => absurd h (by decide)), List.forall_mem_cons.mpr ⟨(fun _ => ⟨Or.inl (lw_g (lw_at lw_m3 96 rfl) rfl), rfl⟩), List.forall_mem_cons.mpr ⟨(fun _ => ⟨Or.inl (lw_g (lw_at lw_m3 95 rfl) rfl), rfl⟩), List.forall_mem_cons.mpr ⟨(fun _ => ⟨Or.inl (lw_g (lw_at lw_m5 76 rfl) rfl), rfl⟩), (fun _ h => nomatch h)⟩⟩⟩⟩⟩⟩⟩⟩⟩⟩⟩⟩⟩⟩
theorem thrK_32 : ∀ q ∈ rXt 32, XOK 32 q.1 q.2 := List.forall_mem_cons.mpr ⟨thr_32_4, (fun _ h => nomatch h)⟩
theorem thr_35_60 : XOK 35 60 206 := by
  refine ⟨_, 229, 231, rfl, by decide +kernel, by decide +kernel, by decide +kernel, by decide +kernel, ?_, by decide +kernel, (lw_g (lw_at lw_m1 31 rfl) rfl)⟩
  intro w hw
  obtain ⟨h1, h2⟩ := List.mem_filter.mp hw
  rcases List.mem_append.mp h1 with h1 | h1
  · rcases List.mem_append.mp h1 with h1 | h1
    · exact thr_top w h1 h2
    · rcases List.mem_append.mp h1 with h1 | h1
      · exact thr_x206 w h1 h2
      · exact thr_mid w h1 h2
  · refine thr_fm w h1 h2 ?_
    exact List.forall_mem_cons.mpr ⟨(fun _ => ⟨Or.inl (lw_g (lw_at lw_m5 136 rfl) rfl), rfl⟩), List.forall_mem_cons.mpr ⟨(fun _ => ⟨Or.inl (lw_g (lw_at lw_m5 117 rfl) rfl), rfl⟩), List.forall_mem_cons.mpr ⟨(fun _ => ⟨Or.inr ⟨lw_at lw_m5 128 rfl, Or.inl ⟨_, _, rfl⟩⟩, rfl⟩), List.forall_mem_cons.mpr ⟨(fun _ => ⟨Or.inl (lw_g (lw_at lw_m5 129 rfl) rfl), rfl⟩), List.forall_mem_cons.mpr ⟨(fun _ => ⟨Or.inl (lw_g (lw_at lw_m3 50 rfl) rfl), rfl⟩), List.forall_mem_cons.mpr ⟨(fun _ => ⟨Or.inl (lw_g (lw_at lw_m5 123 rfl) rfl), rfl⟩), List.forall_mem_cons.mpr ⟨(fun _ => ⟨Or.inl (lw_g (lw_at lw_m5 124 rfl) rfl), rfl⟩), List.forall_mem_cons.mpr ⟨(fun _ => ⟨Or.inl (lw_g (lw_at lw_m5 126 rfl) rfl), rfl⟩), List.forall_mem_cons.mpr ⟨(fun _ => ⟨Or.inl (lw_g (lw_at lw_m5 122 rfl) rfl), rfl⟩), List.forall_mem_cons.mpr ⟨(fun h => absurd h (by decide)), List.forall_mem_cons.mpr ⟨(fun h => absurd h (by decide)), List.forall_mem_cons.mpr ⟨(fun _ => ⟨Or.inl (lw_g (lw_at lw_m3 96 rfl) rfl), rfl⟩), List.forall_mem_cons.mpr ⟨(fun _ => ⟨Or.inl (lw_g (lw_at lw_m3 95 rfl) rfl), rfl⟩), List.forall_mem_cons.mpr ⟨(fun _ => ⟨Or.inl (lw_g (lw_at lw_m5 121 rfl) rfl), rfl⟩), (fun _ h => nomatch h)⟩⟩⟩⟩⟩⟩⟩⟩⟩⟩⟩⟩⟩⟩
theorem thr_35_113 : XOK 35 113 206 := by
  refine ⟨_, 229, 231, rfl, by decide +kernel, by decide +kernel, by decide +kernel, by decide +kernel, ?_, by decide +kernel, (lw_g (lw_at lw_m1 31 rfl) rfl)⟩
  intro w hw
  obtain ⟨h1, h2⟩ := List.mem_filter.mp hw
  rcases List.mem_append.mp h1 with h1 | h1
  · rcases List.mem_append.mp h1 with h1 | h1
    · exact thr_top w h1 h2
    · rcases List.mem_append.mp h1 with h1 | h1
      · exact thr_x206 w h1 h2
      · exact thr_mid w h1 h2
  · refine thr_fm w h1 h2 ?_
    exact List.forall_mem_cons.mpr ⟨(fun _ => ⟨Or.inl (lw_g (lw_at lw_m5 136 rfl) rfl), rfl⟩), List.forall_mem_cons.mpr ⟨(fun _ => ⟨Or.inl (lw_g (lw_at lw_m5 117 rfl) rfl), rfl⟩), List.forall_mem_cons.mpr ⟨(fun _ => ⟨Or.inr ⟨lw_at lw_m5 128 rfl, Or.inl ⟨_, _, rfl⟩⟩, rfl⟩), List.forall_mem_cons.mpr ⟨(fun _ => ⟨Or.inl (lw_g (lw_at lw_m5 129 rfl) rfl), rfl⟩), List.forall_mem_cons.mpr ⟨(fun _ => ⟨Or.inl (lw_g (lw_at lw_m3 50 rfl) rfl), rfl⟩), List.forall_mem_cons.mpr ⟨(fun _ => ⟨Or.inl (lw_g (lw_at lw_m5 123 rfl) rfl), rfl⟩), List.forall_mem_cons.mpr ⟨(fun _ => ⟨Or.inl (lw_g (lw_at lw_m5 124 rfl) rfl), rfl⟩), List.forall_mem_cons.mpr ⟨(fun _ => ⟨Or.inl (lw_g (lw_at lw_m5 126 rfl) rfl), rfl⟩), List.forall_mem_cons.mpr ⟨(fun _ => ⟨Or.inl (lw_g (lw_at lw_m5 122 rfl) rfl), rfl⟩), List.forall_mem_cons.mpr ⟨(fun h => absurd h (by decide)), List.forall_mem_cons.mpr ⟨(fun h => absurd h (by decide)), List.forall_mem_cons.mpr ⟨(fun _ => ⟨Or.inl (lw_g (lw_at lw_m3 96 rfl) rfl), rfl⟩), List.forall_mem_cons.mpr ⟨(fun _ => ⟨Or.inl (lw_g (lw_at lw_m3 95 rfl) rfl), rfl⟩), List.forall_mem_cons.mpr ⟨(fun _ => ⟨Or.inl (lw_g (lw_at lw_m5 121 rfl) rfl), rfl⟩), (fun _ h => nomatch h)⟩⟩⟩⟩⟩⟩⟩⟩⟩⟩⟩⟩⟩⟩
theorem thrK_35 : ∀ q ∈ rXt 35, XOK 35 q.1 q.2 := List.forall_mem_cons.mpr ⟨thr_35_60, List.forall_mem_cons.mpr ⟨thr_35_113, (fun _ h => nomatch h)⟩⟩
theorem thr_39_30 : XOK 39 30 204 := by
  refine ⟨_, 160, 163, rfl, by decide +kernel, by decide +kernel, by decide +kernel, by decide +kernel, ?_, by decide +kernel, (lw_g (lw_at lw_m1 27 rfl) rfl)⟩
  intro w hw
  obtain ⟨h1, h2⟩ := List.mem_filter.mp hw
  rcases List.mem_append.mp h1 with h1 | h1
  · rcases List.mem_append.mp h1 with h1 | h1
    · exact thr_top w h1 h2
    · rcases List.mem_append.mp h1 with h1 | h1
      · exact thr_x204 w h1 h2
      · exact thr_mid w h1 h2
  · refine thr_fm w h1 h2 ?_
    exact List.forall_mem_cons.mpr ⟨(fun _ => ⟨Or.inl (lw_g (lw_at lw_m4 131 rfl) rfl), rfl⟩), List.forall_mem_cons.mpr ⟨(fun _ => ⟨Or.inl (lw_g (lw_at lw_m4 20 rfl) rfl), rfl⟩), List.forall_mem_cons.mpr ⟨(fun _ => ⟨Or.inr ⟨lw_at lw_m4 21 rfl, Or.inl ⟨_, _, rfl⟩⟩, rfl⟩), List.forall_mem_cons.mpr ⟨(fun _ => ⟨Or.inl (lw_g (lw_at lw_m4 22 rfl) rfl), rfl⟩), List.forall_mem_cons.mpr ⟨(fun _ => ⟨Or.inl (lw_g (lw_at lw_m3 55 rfl) rfl), rfl⟩), List.forall_mem_cons.mpr ⟨(fun _ => ⟨Or.inl (lw_g (lw_at lw_m4 23 rfl) rfl), rfl⟩), List.forall_mem_cons.mpr ⟨(fun _ => ⟨Or.inl (lw_g (lw_at lw_m4 24 rfl) rfl), rfl⟩), List.forall_mem_cons.mpr ⟨(fun _ => ⟨Or.inl (lw_g (lw_at lw_m4 25 rfl) rfl), rfl⟩), List.forall_mem_cons.mpr ⟨(fun _ => ⟨Or.inl (lw_g (lw_at lw_m4 26 rfl) rfl), rfl⟩), List.forall_mem_cons.mpr ⟨(fun h => absurd h (by decide)), List.forall_mem_cons.mpr ⟨(fun h => absurd h (by decide)), List.forall_mem_cons.mpr ⟨(fun _ => ⟨Or.inl (lw_g (lw_at lw_m3 96 rfl) rfl), rfl⟩), List.forall_mem_cons.mpr ⟨(fun _ => ⟨Or.inl (lw_g (lw_at lw_m3 95 rfl) rfl), rfl⟩), List.forall_mem_cons.mpr ⟨(fun _ => ⟨Or.inl (lw_g (lw_at lw_m4 27 rfl) rfl), rfl⟩), (fun _ h => nomatch h)⟩⟩⟩⟩⟩⟩⟩⟩⟩⟩⟩⟩⟩⟩
theorem thrK_39 : ∀ q ∈ rXt 39, XOK 39 q.1 q.2 := List.forall_mem_cons.mpr ⟨thr_39_30, (fun _ h => nomatch h)⟩
theorem thr_43_31 : XOK 43 31 204 := by
  refine ⟨_, 160, 163, rfl, by decide +kernel, by decide +kernel, by decide +kernel, by decide +kernel, ?_, by decide +kernel, (lw_g (lw_at lw_m1 27 rfl) rfl)⟩
  intro w hw
  obtain ⟨h1, h2⟩ := List.mem_filter.mp hw
  rcases List.mem_append.mp h1 with h1 | h1
  · rcases List.mem_append.mp h1 with h1 | h1
    · exact thr_top w h1 h2
    · rcases List.mem_append.mp h1 with h1 | h1
      · exact thr_x204 w h1 h2
      · exact thr_mid w h1 h2
  · refine thr_fm w h1 h2 ?_
    exact List.forall_mem_cons.mpr ⟨(fun _ => ⟨Or.inl (lw_g (lw_at lw_m4 131 rfl) rfl), rfl⟩), List.forall_mem_cons.mpr ⟨(fun _ => ⟨Or.inl (lw_g (lw_at lw_m4 20 rfl) rfl), rfl⟩), List.forall_mem_cons.mpr ⟨(fun _ => ⟨Or.inr ⟨lw_at lw_m4 21 rfl, Or.inl ⟨_, _, rfl⟩⟩, rfl⟩), List.forall_mem_cons.mpr ⟨(fun _ => ⟨Or.inl (lw_g (lw_at lw_m4 22 rfl) rfl), rfl⟩), List.forall_mem_cons.mpr ⟨(fun _ => ⟨Or.inl (lw_g (lw_at lw_m3 55 rfl) rfl), rfl⟩), List.forall_mem_cons.mpr ⟨(fun _ => ⟨Or.inl (lw_g (lw_at lw_m4 23 rfl) rfl), rfl⟩), List.forall_mem_cons.mpr ⟨(fun _ => ⟨Or.inl (lw_g (lw_at lw_m4 24 rfl) rfl), rfl⟩), List.forall_mem_cons.mpr ⟨(fun _ => ⟨Or.inl (lw_g (lw_at lw_m4 25 rfl) rfl), rfl⟩), List.forall_mem_cons.mpr ⟨(fun _ => ⟨Or.inl (lw_g (lw_at lw_m4 26 rfl) rfl), rfl⟩), List.forall_mem_cons.mpr ⟨(fun h => absurd h (by decide)), List.forall_mem_cons.mpr ⟨(fun h => absurd h (by decide)), List.forall_mem_cons.mpr ⟨(fun _ => ⟨Or.inl (lw_g (lw_at lw_m3 96 rfl) rfl), rfl⟩), List.forall_mem_cons.mpr ⟨(fun _ => ⟨Or.inl (lw_g (lw_at lw_m3 95 rfl) rfl), rfl⟩), List.forall_mem_cons.mpr ⟨(fun _ => ⟨Or.inl (lw_g (lw_at lw_m4 27 rfl) rfl), rfl⟩), (fun _ h => nomatch h)⟩⟩⟩⟩⟩⟩⟩⟩⟩⟩⟩⟩⟩⟩
theorem thrK_43 : ∀ q ∈ rXt 43, XOK 43 q.1 q.2 := List.forall_mem_cons.mpr ⟨thr_43_31, (fun _ h => nomatch h)⟩
theorem thr_54_12 : XOK 54 12 201 := by
  refine ⟨_, 19, 21, rfl, by decide +kernel, by decide +kernel, by decide +kernel, by decide +kernel, ?_, by decide +kernel, (lw_g (lw_at lw_m1 23 rfl) rfl)⟩
  intro w hw
  obtain ⟨h1, h2⟩ := List.mem_filter.mp hw
  rcases List.mem_append.mp h1 with h1 | h1
  · rcases List.mem_append.mp h1 with h1 | h1
    · exact thr_top w h1 h2
    · rcases List.mem_append.mp h1 with h1 | h1
      · exact thr_x201 w h1 h2
      · exact thr_mid w h1 h2
  · refine thr_fm w h1 h2 ?_
    exact List.forall_mem_cons.mpr ⟨(fun _ => ⟨Or.inl (lw_g (lw_at lw_m4 152 rfl) rfl), rfl⟩), List.forall_mem_cons.mpr ⟨(fun _ => ⟨Or.inl (lw_g (lw_at lw_m3 113 rfl) rfl), rfl⟩), List.forall_mem_cons.mpr ⟨(fun _ => ⟨Or.inr ⟨lw_at lw_m3 114 rfl, Or.inl ⟨_, _, rfl⟩⟩, rfl⟩), List.forall_mem_cons.mpr ⟨(fun _ => ⟨Or.inl (lw_g (lw_at lw_m3 115 rfl) rfl), rfl⟩), List.forall_mem_cons.mpr ⟨(fun _ => ⟨Or.inl (lw_g (lw_at lw_m3 54 rfl) rfl), rfl⟩), List.forall_mem_cons.mpr ⟨(fun _ => ⟨Or.inl (lw_g (lw_at lw_m3 116 rfl) rfl), rfl⟩), List.forall_mem_cons.mpr ⟨(fun _ => ⟨Or.inl (lw_g (lw_at lw_m3 117 rfl) rfl), rfl⟩), List.forall_mem_cons.mpr ⟨(fun _ => ⟨Or.inl (lw_g (lw_at lw_m3 118 rfl) rfl), rfl⟩), List.forall_mem_cons.mpr ⟨(fun _ => ⟨Or.inl (lw_g (lw_at lw_m3 119 rfl) rfl), rfl⟩), List.forall_mem_cons.mpr ⟨(fun h => absurd h (by decide)), List.forall_mem_cons.mpr ⟨(fun h => absurd h (by decide)), List.forall_mem_cons.mpr ⟨(fun _ => ⟨Or.inl (lw_g (lw_at lw_m3 96 rfl) rfl), rfl⟩), List.forall_mem_cons.mpr ⟨(fun _ => ⟨Or.inl (lw_g (lw_at lw_m3 95 rfl) rfl), rfl⟩), List.forall_mem_cons.mpr ⟨(fun _ => ⟨Or.inl (lw_g (lw_at lw_m3 120 rfl) rfl), rfl⟩), (fun _ h => nomatch h)⟩⟩⟩⟩⟩⟩⟩⟩⟩⟩⟩⟩⟩⟩
theorem thrK_54 : ∀ q ∈ rXt 54, XOK 54 q.1 q.2 := List.forall_mem_cons.mpr ⟨thr_54_12, (fun _ h => nomatch h)⟩
theorem thr_67_5 : XOK 67 5 204 := by
  refine ⟨_, 23, 25, rfl, by decide +kernel, by decide +kernel, by decide +kernel, by decide +kernel, ?_, by decide +kernel, (lw_g (lw_at lw_m1 27 rfl) rfl)⟩
  intro w hw
  obtain ⟨h1, h2⟩ := List.mem_filter.mp hw
  rcases List.mem_append.mp h1 with h1 | h1
  · rcases List.mem_append.mp h1 with h1 | h1
    · exact thr_top w h1 h2
    · rcases List.mem_append.mp h1 with h1 | h1
      · exact thr_x204 w h1 h2
      · exact thr_mid w h1 h2
  · refine thr_fm w h1 h2 ?_
    exact List.forall_mem_cons.mpr ⟨(fun _ => ⟨Or.inl (lw_g (lw_at lw_m4 28 rfl) rfl), rfl⟩), List.forall_mem_cons.mpr ⟨(fun _ => ⟨Or.inl (lw_g (lw_at lw_m4 20 rfl) rfl), rfl⟩), List.forall_mem_cons.mpr ⟨(fun _ => ⟨Or.inr ⟨lw_at lw_m4 21 rfl, Or.inl ⟨_, _, rfl⟩⟩, rfl⟩), List.forall_mem_cons.mpr ⟨(fun _ => ⟨Or.inl (lw_g (lw_at lw_m4 22 rfl) rfl), rfl⟩), List.forall_mem_cons.mpr ⟨(fun _ => ⟨Or.inl (lw_g (lw_at lw_m3 55 rfl) rfl), rfl⟩), List.forall_mem_cons.mpr ⟨(fun _ => ⟨Or.inl (lw_g (lw_at lw_m4 23 rfl) rfl), rfl⟩), List.forall_mem_cons.mpr ⟨(fun _ => ⟨Or.inl (lw_g (lw_at lw_m4 24 rfl) rfl), rfl⟩), List.forall_mem_cons.mpr ⟨(fun _ => ⟨Or.inl (lw_g (lw_at lw_m4 25 rfl) rfl), rfl⟩), List.forall_mem_cons.mpr ⟨(fun _ => ⟨Or.inl (lw_g (lw_at lw_m4 26 rfl) rfl), rfl⟩), List.forall_mem_cons.mpr ⟨(fun h => absurd h (by decide)), List.forall_mem_cons.mpr ⟨(fun h => absurd h (by decide)), List.forall_mem_cons.mpr ⟨(fun _ => ⟨Or.inl (lw_g (lw_at lw_m3 96 rfl) rfl), rfl⟩), List.forall_mem_cons.mpr ⟨(fun _ => ⟨Or.inl (lw_g (lw_at lw_m3 95 rfl) rfl), rfl⟩), List.forall_mem_cons.mpr ⟨(fun _ => ⟨Or.inl (lw_g (lw_at lw_m4 27 rfl) rfl), rfl⟩), (fun _ h => nomatch h)⟩⟩⟩⟩⟩⟩⟩⟩⟩⟩⟩⟩⟩⟩
theorem thrK_67 : ∀ q ∈ rXt 67, XOK 67 q.1 q.2 := List.forall_mem_cons.mpr ⟨thr_67_5, (fun _ h => nomatch h)⟩
theorem thr_107_17 : XOK 107 17 201 := by
  refine ⟨_, 29, 31, rfl, by decide +kernel, by decide +kernel, by decide +kernel, by decide +kernel, ?_, by decide +kernel, (lw_g (lw_at lw_m1 23 rfl) rfl)⟩
  intro w hw
  obtain ⟨h1, h2⟩ := List.mem_filter.mp hw
  rcases List.mem_append.mp h1 with h1 | h1
  · rcases List.mem_append.mp h1 with h1 | h1
    · exact thr_top w h1 h2
    · rcases List.mem_append.mp h1 with h1 | h1
      · exact thr_x201 w h1 h2
      · exact thr_mid w h1 h2
  · refine thr_fm w h1 h2 ?_
    exact List.forall_mem_cons.mpr ⟨(fun _ => ⟨Or.inl (lw_g (lw_at lw_m7 204 rfl) rfl), rfl⟩), List.forall_mem_cons.mpr ⟨(fun _ => ⟨Or.inl (lw_g (lw_at lw_m3 113 rfl) rfl), rfl⟩), List.forall_mem_cons.mpr ⟨(fun _ => ⟨Or.inr ⟨lw_at lw_m3 114 rfl, Or.inl ⟨_, _, rfl⟩⟩, rfl⟩), List.forall_mem_cons.mpr ⟨(fun _ => ⟨Or.inl (lw_g (lw_at lw_m3 115 rfl) rfl), rfl⟩), List.forall_mem_cons.mpr ⟨(fun _ => ⟨Or.inl (lw_g (lw_at lw_m3 54 rfl) rfl), rfl⟩), List.forall_mem_cons.mpr ⟨(fun _ => ⟨Or.inl (lw_g (lw_at lw_m3 116 rfl) rfl), rfl⟩), List.forall_mem_cons.mpr ⟨(fun _ => ⟨Or.inl (lw_g (lw_at lw_m3 117 rfl) rfl), rfl⟩), List.forall_mem_cons.mpr ⟨(fun _ => ⟨Or.inl (lw_g (lw_at lw_m3 118 rfl) rfl), rfl⟩), List.forall_mem_cons.mpr ⟨(fun _ => ⟨Or.inl (lw_g (lw_at lw_m3 119 rfl) rfl), rfl⟩), List.forall_mem_cons.mpr ⟨(fun h => absurd h (by decide)), List.forall_mem_cons.mpr ⟨(fun h => absurd h (by decide)), List.forall_mem_cons.mpr ⟨(fun _ => ⟨Or.inl (lw_g (lw_at lw_m3 96 rfl) rfl), rfl⟩), List.forall_mem_cons.mpr ⟨(fun _ => ⟨Or.inl (lw_g (lw_at lw_m3 95 rfl) rfl), rfl⟩), List.forall_mem_cons.mpr ⟨(fun _ => ⟨Or.inl (lw_g (lw_at lw_m3 120 rfl) rfl), rfl⟩), (fun _ h => nomatch h)⟩⟩⟩⟩⟩⟩⟩⟩⟩⟩⟩⟩⟩⟩
theorem thrK_107 : ∀ q ∈ rXt 107, XOK 107 q.1 q.2 := List.forall_mem_cons.mpr ⟨thr_107_17, (fun _ h => nomatch h)⟩
theorem thr_113_42 : XOK 113 42 201 := by
  refine ⟨_, 211, 213, rfl, by decide +kernel, by decide +kernel, by decide +kernel, by decide +kernel, ?_, by decide +kernel, (lw_g (lw_at lw_m1 23 rfl) rfl)⟩
  intro w hw
  obtain ⟨h1, h2⟩ := List.mem_filter.mp hw
  rcases List.mem_append.mp h1 with h1 | h1
  · rcases List.mem_append.mp h1 with h1 | h1
    · exact thr_top w h1 h2
    · rcases List.mem_append.mp h1 with h1 | h1
      · exact thr_x201 w h1 h2
      · exact thr_mid w h1 h2
  · refine thr_fm w h1 h2 ?_
    exact List.forall_mem_cons.mpr ⟨(fun _ => ⟨Or.inl (lw_g (lw_at lw_m6 10 rfl) rfl), rfl⟩), List.forall_mem_cons.mpr ⟨(fun _ => ⟨Or.inl (lw_g (lw_at lw_m3 113 rfl) rfl), rfl⟩), List.forall_mem_cons.mpr ⟨(fun _ => ⟨Or.inr ⟨lw_at lw_m3 114 rfl, Or.inl ⟨_, _, rfl⟩⟩, rfl⟩), List.forall_mem_cons.mpr ⟨(fun _ => ⟨Or.inl (lw_g (lw_at lw_m3 115 rfl) rfl), rfl⟩), List.forall_mem_cons.mpr ⟨(fun _ => ⟨Or.inl (lw_g (lw_at lw_m3 54 rfl) rfl), rfl⟩), List.forall_mem_cons.mpr ⟨(fun _ => ⟨Or.inl (lw_g (lw_at lw_m3 116 rfl) rfl), rfl⟩), List.forall_mem_cons.mpr ⟨(fun _ => ⟨Or.inl (lw_g (lw_at lw_m3 117 rfl) rfl), rfl⟩), List.forall_mem_cons.mpr ⟨(fun _ => ⟨Or.inl (lw_g (lw_at lw_m3 118 rfl) rfl), rfl⟩), List.forall_mem_cons.mpr ⟨(fun _ => ⟨Or.inl (lw_g (lw_at lw_m3 119 rfl) rfl), rfl⟩), List.forall_mem_cons.mpr ⟨(fun h => absurd h (by decide)), List.forall_mem_cons.mpr ⟨(fun h => absurd h (by decide)), List.forall_mem_cons.mpr ⟨(fun _ => ⟨Or.inl (lw_g (lw_at lw_m3 96 rfl) rfl), rfl⟩), List.forall_mem_cons.mpr ⟨(fun _ => ⟨Or.inl (lw_g (lw_at lw_m3 95 rfl) rfl), rfl⟩), List.forall_mem_cons.mpr ⟨(fun _ => ⟨Or.inl (lw_g (lw_at lw_m3 120 rfl) rfl), rfl⟩), (fun _ h => nomatch h)⟩⟩⟩⟩⟩⟩⟩⟩⟩⟩⟩⟩⟩⟩
theorem thrK_113 : ∀ q ∈ rXt 113, XOK 113 q.1 q.2 := List.forall_mem_cons.mpr ⟨thr_113_42, (fun _ h => nomatch h)⟩
theorem thr_115_4 : XOK 115 4 206 := by
  refine ⟨_, 86, 88, rfl, by decide +kernel, by decide +kernel, by decide +kernel, by decide +kernel, ?_, by decide +kernel, (lw_g (lw_at lw_m1 31 rfl) rfl)⟩
  intro w hw
  obtain ⟨h1, h2⟩ := List.mem_filter.mp hw
  rcases List.mem_append.mp h1 with h1 | h1
  · rcases List.mem_append.mp h1 with h1 | h1
    · exact thr_top w h1 h2
    · rcases List.mem_append.mp h1 with h1 | h1
      · exact thr_x206 w h1 h2
      · exact thr_mid w h1 h2
  · refine thr_fm w h1 h2 ?_
    exact List.forall_mem_cons.mpr ⟨(fun _ => ⟨Or.inl (lw_g (lw_at lw_m5 154 rfl) rfl), rfl⟩), List.forall_mem_cons.mpr ⟨(fun _ => ⟨Or.inl (lw_g (lw_at lw_m5 117 rfl) rfl), rfl⟩), List.forall_mem_cons.mpr ⟨(fun _ => ⟨Or.inr ⟨lw_at lw_m5 128 rfl, Or.inl ⟨_, _, rfl⟩⟩, rfl⟩), List.forall_mem_cons.mpr ⟨(fun _ => ⟨Or.inl (lw_g (lw_at lw_m5 129 rfl) rfl), rfl⟩), List.forall_mem_cons.mpr ⟨(fun _ => ⟨Or.inl (lw_g (lw_at lw_m3 50 rfl) rfl), rfl⟩), List.forall_mem_cons.mpr ⟨(fun _ => ⟨Or.inl (lw_g (lw_at lw_m5 123 rfl) rfl), rfl⟩), List.forall_mem_cons.mpr ⟨(fun _ => ⟨Or.inl (lw_g (lw_at lw_m5 124 rfl) rfl), rfl⟩), List.forall_mem_cons.mpr ⟨(fun _ => ⟨Or.inl (lw_g (lw_at lw_m5 126 rfl) rfl), rfl⟩), List.forall_mem_cons.mpr ⟨(fun _ => ⟨Or.inl (lw_g (lw_at lw_m5 122 rfl) rfl), rfl⟩), List.forall_mem_cons.mpr ⟨(fun h => absurd h (by decide)), List.forall_mem_cons.mpr ⟨(fun h => absurd h (by decide)), List.forall_mem_cons.mpr ⟨(fun _ => ⟨Or.inl (lw_g (lw_at lw_m3 96 rfl) rfl), rfl⟩), List.forall_mem_cons.mpr ⟨(fun _ => ⟨Or.inl (lw_g (lw_at lw_m3 95 rfl) rfl), rfl⟩), List.forall_mem_cons.mpr ⟨(fun _ => ⟨Or.inl (lw_g (lw_at lw_m5 121 rfl) rfl), rfl⟩), (fun _ h => nomatch h)⟩⟩⟩⟩⟩⟩⟩⟩⟩⟩⟩⟩⟩⟩
theorem thrK_115 : ∀ q ∈ rXt 115, XOK 115 q.1 q.2 := List.forall_mem_cons.mpr ⟨thr_115_4, (fun _ h => nomatch h)⟩
theorem thr_ok : ∀ k, ∀ q ∈ rXt k, XOK k q.1 q.2 := by
  intro k
  unfold rXt
  split
  · exact thrK_19
  · exact thrK_23
  · exact thrK_26
  · exact thrK_27
  · exact thrK_29
  · exact thrK_32
  · exact thrK_35
  · exact thrK_39
  · exact thrK_43
  · exact thrK_54
  · exact thrK_67
  · exact thrK_107
  · exact thrK_113
  · exact thrK_115
  · exact fun _ h => nomatch h
