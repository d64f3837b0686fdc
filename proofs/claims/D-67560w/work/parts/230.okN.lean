/-! the tables hold what the class files say, written by wip/D-67560w/tools/gen_ok.py -/
set_option maxRecDepth 100000
theorem rNt_0_8 : NOK 0 8 (0, 1, 23) := ⟨rfl, ⟨by decide, by decide⟩, rfl, (lw_g (lw_at lw_m1 48 rfl) rfl), (lw_g (lw_at lw_m1 49 rfl) rfl), (lw_g (lw_at lw_m1 1 rfl) rfl)⟩
theorem rNt_0_73 : NOK 0 73 (0, 11, 38) := ⟨rfl, ⟨by decide, by decide⟩, rfl, (lw_g (lw_at lw_m9 47 rfl) rfl), (lw_g (lw_at lw_m9 48 rfl) rfl), (lw_g (lw_at lw_m1 17 rfl) rfl)⟩
theorem rNt_0 : ∀ q ∈ rNt 0, NOK 0 q.1 q.2 := List.forall_mem_cons.mpr ⟨rNt_0_8, List.forall_mem_cons.mpr ⟨rNt_0_73, (fun _ h => nomatch h)⟩⟩
theorem rNt_1_13 : NOK 1 13 (0, 2, 2) := ⟨rfl, ⟨by decide, by decide⟩, rfl, (lw_g (lw_at lw_m1 56 rfl) rfl), (lw_g (lw_at lw_m1 57 rfl) rfl), (lw_g (lw_at lw_m1 2 rfl) rfl)⟩
theorem rNt_1_29 : NOK 1 29 (0, 4, 5) := ⟨rfl, ⟨by decide, by decide⟩, rfl, (lw_g (lw_at lw_m1 74 rfl) rfl), (lw_g (lw_at lw_m1 75 rfl) rfl), (lw_g (lw_at lw_m1 4 rfl) rfl)⟩
theorem rNt_1_36 : NOK 1 36 (0, 5, 6) := ⟨rfl, ⟨by decide, by decide⟩, rfl, (lw_g (lw_at lw_m1 113 rfl) rfl), (lw_g (lw_at lw_m1 114 rfl) rfl), (lw_g (lw_at lw_m1 5 rfl) rfl)⟩
theorem rNt_1_43 : NOK 1 43 (0, 6, 5) := ⟨rfl, ⟨by decide, by decide⟩, rfl, (lw_g (lw_at lw_m1 130 rfl) rfl), (lw_g (lw_at lw_m1 131 rfl) rfl), (lw_g (lw_at lw_m1 6 rfl) rfl)⟩
theorem rNt_1_50 : NOK 1 50 (0, 7, 17) := ⟨rfl, ⟨by decide, by decide⟩, rfl, (lw_g (lw_at lw_m1 165 rfl) rfl), (lw_g (lw_at lw_m1 166 rfl) rfl), (lw_g (lw_at lw_m1 7 rfl) rfl)⟩
theorem rNt_1_57 : NOK 1 57 (0, 9, 9) := ⟨rfl, ⟨by decide, by decide⟩, rfl, (lw_g (lw_at lw_m2 79 rfl) rfl), (lw_g (lw_at lw_m2 80 rfl) rfl), (lw_g (lw_at lw_m1 15 rfl) rfl)⟩
theorem rNt_1_64 : NOK 1 64 (0, 8, 2) := ⟨rfl, ⟨by decide, by decide⟩, rfl, (lw_g (lw_at lw_m2 118 rfl) rfl), (lw_g (lw_at lw_m1 172 rfl) rfl), (lw_g (lw_at lw_m1 8 rfl) rfl)⟩
theorem rNt_1_74 : NOK 1 74 (0, 10, 4) := ⟨rfl, ⟨by decide, by decide⟩, rfl, (lw_g (lw_at lw_m2 120 rfl) rfl), (lw_g (lw_at lw_m2 121 rfl) rfl), (lw_g (lw_at lw_m1 16 rfl) rfl)⟩
theorem rNt_1_85 : NOK 1 85 (0, 30, 5) := ⟨rfl, ⟨by decide, by decide⟩, rfl, (lw_g (lw_at lw_m2 140 rfl) rfl), (lw_g (lw_at lw_m8 180 rfl) rfl), (lw_g (lw_at lw_m1 47 rfl) rfl)⟩
theorem rNt_1_115 : NOK 1 115 (1, 202, 6) := ⟨rfl, (lw_g (lw_at lw_m3 151 rfl) rfl), ⟨by decide, by decide⟩⟩
theorem rNt_1_118 : NOK 1 118 (1, 203, 6) := ⟨rfl, (lw_g (lw_at lw_m3 182 rfl) rfl), ⟨by decide, by decide⟩⟩
theorem rNt_1_121 : NOK 1 121 (1, 205, 6) := ⟨rfl, (lw_g (lw_at lw_m5 68 rfl) rfl), ⟨by decide, by decide⟩⟩
theorem rNt_1_124 : NOK 1 124 (1, 201, 6) := ⟨rfl, (lw_g (lw_at lw_m3 112 rfl) rfl), ⟨by decide, by decide⟩⟩
theorem rNt_1_160 : NOK 1 160 (1, 204, 6) := ⟨rfl, (lw_g (lw_at lw_m3 201 rfl) rfl), ⟨by decide, by decide⟩⟩
theorem rNt_1_229 : NOK 1 229 (1, 206, 6) := ⟨rfl, (lw_g (lw_at lw_m5 134 rfl) rfl), ⟨by decide, by decide⟩⟩
theorem rNt_1 : ∀ q ∈ rNt 1, NOK 1 q.1 q.2 := List.forall_mem_cons.mpr ⟨rNt_1_13, List.forall_mem_cons.mpr ⟨rNt_1_29, List.forall_mem_cons.mpr ⟨rNt_1_36, List.forall_mem_cons.mpr ⟨rNt_1_43, List.forall_mem_cons.mpr ⟨rNt_1_50, List.forall_mem_cons.mpr ⟨rNt_1_57, List.forall_mem_cons.mpr ⟨rNt_1_64, List.forall_mem_cons.mpr ⟨rNt_1_74, List.forall_mem_cons.mpr ⟨rNt_1_85, List.forall_mem_cons.mpr ⟨rNt_1_115, List.forall_mem_cons.mpr ⟨rNt_1_118, List.forall_mem_cons.mpr ⟨rNt_1_121, List.forall_mem_cons.mpr ⟨rNt_1_124, List.forall_mem_cons.mpr ⟨rNt_1_160, List.forall_mem_cons.mpr ⟨rNt_1_229, (fun _ h => nomatch h)⟩⟩⟩⟩⟩⟩⟩⟩⟩⟩⟩⟩⟩⟩⟩
theorem rNt_2_19 : NOK 2 19 (1, 201, 6) := ⟨rfl, (lw_g (lw_at lw_m4 151 rfl) rfl), ⟨by decide, by decide⟩⟩
theorem rNt_2 : ∀ q ∈ rNt 2, NOK 2 q.1 q.2 := List.forall_mem_cons.mpr ⟨rNt_2_19, (fun _ h => nomatch h)⟩
theorem rNt_3_23 : NOK 3 23 (1, 204, 6) := ⟨rfl, (lw_g (lw_at lw_m4 19 rfl) rfl), ⟨by decide, by decide⟩⟩
theorem rNt_3 : ∀ q ∈ rNt 3, NOK 3 q.1 q.2 := List.forall_mem_cons.mpr ⟨rNt_3_23, (fun _ h => nomatch h)⟩
theorem rNt_5_15 : NOK 5 15 (0, 8, 2) := ⟨rfl, ⟨by decide, by decide⟩, rfl, (lw_g (lw_at lw_m6 48 rfl) rfl), (lw_g (lw_at lw_m1 172 rfl) rfl), (lw_g (lw_at lw_m1 8 rfl) rfl)⟩
theorem rNt_5_55 : NOK 5 55 (0, 15, 4) := ⟨rfl, ⟨by decide, by decide⟩, rfl, (lw_g (lw_at lw_m6 60 rfl) rfl), (lw_g (lw_at lw_m6 61 rfl) rfl), (lw_g (lw_at lw_m1 32 rfl) rfl)⟩
theorem rNt_5_71 : NOK 5 71 (0, 16, 3) := ⟨rfl, ⟨by decide, by decide⟩, rfl, (lw_g (lw_at lw_m6 93 rfl) rfl), (lw_g (lw_at lw_m6 94 rfl) rfl), (lw_g (lw_at lw_m1 33 rfl) rfl)⟩
theorem rNt_5_77 : NOK 5 77 (0, 19, 0) := ⟨rfl, ⟨by decide, by decide⟩, rfl, (lw_g (lw_at lw_m6 197 rfl) rfl), (lw_g (lw_at lw_m6 198 rfl) rfl), (lw_g (lw_at lw_m1 36 rfl) rfl)⟩
theorem rNt_5_97 : NOK 5 97 (0, 17, 2) := ⟨rfl, ⟨by decide, by decide⟩, rfl, (lw_g (lw_at lw_m6 128 rfl) rfl), (lw_g (lw_at lw_m6 129 rfl) rfl), (lw_g (lw_at lw_m1 34 rfl) rfl)⟩
theorem rNt_5_99 : NOK 5 99 (0, 18, 1) := ⟨rfl, ⟨by decide, by decide⟩, rfl, (lw_g (lw_at lw_m6 156 rfl) rfl), (lw_g (lw_at lw_m6 157 rfl) rfl), (lw_g (lw_at lw_m1 35 rfl) rfl)⟩
theorem rNt_5_149 : NOK 5 149 (0, 20, 1) := ⟨rfl, ⟨by decide, by decide⟩, rfl, (lw_g (lw_at lw_m6 204 rfl) rfl), (lw_g (lw_at lw_m6 205 rfl) rfl), (lw_g (lw_at lw_m1 37 rfl) rfl)⟩
theorem rNt_5_162 : NOK 5 162 (0, 29, 5) := ⟨rfl, ⟨by decide, by decide⟩, rfl, (lw_g (lw_at lw_m7 143 rfl) rfl), (lw_g (lw_at lw_m7 144 rfl) rfl), (lw_g (lw_at lw_m1 46 rfl) rfl)⟩
theorem rNt_5_188 : NOK 5 188 (0, 28, 3) := ⟨rfl, ⟨by decide, by decide⟩, rfl, (lw_g (lw_at lw_m7 109 rfl) rfl), (lw_g (lw_at lw_m7 110 rfl) rfl), (lw_g (lw_at lw_m1 45 rfl) rfl)⟩
theorem rNt_5_193 : NOK 5 193 (0, 21, 1) := ⟨rfl, ⟨by decide, by decide⟩, rfl, (lw_g (lw_at lw_m6 218 rfl) rfl), (lw_g (lw_at lw_m6 219 rfl) rfl), (lw_g (lw_at lw_m1 38 rfl) rfl)⟩
theorem rNt_5_202 : NOK 5 202 (0, 22, 1) := ⟨rfl, ⟨by decide, by decide⟩, rfl, (lw_g (lw_at lw_m6 236 rfl) rfl), (lw_g (lw_at lw_m6 237 rfl) rfl), (lw_g (lw_at lw_m1 39 rfl) rfl)⟩
theorem rNt_5_215 : NOK 5 215 (0, 23, 2) := ⟨rfl, ⟨by decide, by decide⟩, rfl, (lw_g (lw_at lw_m7 10 rfl) rfl), (lw_g (lw_at lw_m7 11 rfl) rfl), (lw_g (lw_at lw_m1 40 rfl) rfl)⟩
theorem rNt_5_223 : NOK 5 223 (0, 26, 5) := ⟨rfl, ⟨by decide, by decide⟩, rfl, (lw_g (lw_at lw_m7 68 rfl) rfl), (lw_g (lw_at lw_m7 69 rfl) rfl), (lw_g (lw_at lw_m1 43 rfl) rfl)⟩
theorem rNt_5_228 : NOK 5 228 (0, 24, 2) := ⟨rfl, ⟨by decide, by decide⟩, rfl, (lw_g (lw_at lw_m7 23 rfl) rfl), (lw_g (lw_at lw_m7 24 rfl) rfl), (lw_g (lw_at lw_m1 41 rfl) rfl)⟩
theorem rNt_5_253 : NOK 5 253 (0, 25, 1) := ⟨rfl, ⟨by decide, by decide⟩, rfl, (lw_g (lw_at lw_m7 47 rfl) rfl), (lw_g (lw_at lw_m7 48 rfl) rfl), (lw_g (lw_at lw_m1 42 rfl) rfl)⟩
theorem rNt_5 : ∀ q ∈ rNt 5, NOK 5 q.1 q.2 := List.forall_mem_cons.mpr ⟨rNt_5_15, List.forall_mem_cons.mpr ⟨rNt_5_55, List.forall_mem_cons.mpr ⟨rNt_5_71, List.forall_mem_cons.mpr ⟨rNt_5_77, List.forall_mem_cons.mpr ⟨rNt_5_97, List.forall_mem_cons.mpr ⟨rNt_5_99, List.forall_mem_cons.mpr ⟨rNt_5_149, List.forall_mem_cons.mpr ⟨rNt_5_162, List.forall_mem_cons.mpr ⟨rNt_5_188, List.forall_mem_cons.mpr ⟨rNt_5_193, List.forall_mem_cons.mpr ⟨rNt_5_202, List.forall_mem_cons.mpr ⟨rNt_5_215, List.forall_mem_cons.mpr ⟨rNt_5_223, List.forall_mem_cons.mpr ⟨rNt_5_228, List.forall_mem_cons.mpr ⟨rNt_5_253, (fun _ h => nomatch h)⟩⟩⟩⟩⟩⟩⟩⟩⟩⟩⟩⟩⟩⟩⟩
theorem rNt_6_29 : NOK 6 29 (1, 201, 6) := ⟨rfl, (lw_g (lw_at lw_m7 203 rfl) rfl), ⟨by decide, by decide⟩⟩
theorem rNt_6 : ∀ q ∈ rNt 6, NOK 6 q.1 q.2 := List.forall_mem_cons.mpr ⟨rNt_6_29, (fun _ h => nomatch h)⟩
theorem rNt_7_9 : NOK 7 9 (0, 8, 2) := ⟨rfl, ⟨by decide, by decide⟩, rfl, (lw_g (lw_at lw_m1 171 rfl) rfl), (lw_g (lw_at lw_m1 172 rfl) rfl), (lw_g (lw_at lw_m1 8 rfl) rfl)⟩
theorem rNt_7_42 : NOK 7 42 (0, 2, 2) := ⟨rfl, ⟨by decide, by decide⟩, rfl, (lw_g (lw_at lw_m1 193 rfl) rfl), (lw_g (lw_at lw_m1 57 rfl) rfl), (lw_g (lw_at lw_m1 2 rfl) rfl)⟩
theorem rNt_7_86 : NOK 7 86 (1, 206, 6) := ⟨rfl, (lw_g (lw_at lw_m5 153 rfl) rfl), ⟨by decide, by decide⟩⟩
theorem rNt_7_211 : NOK 7 211 (1, 201, 6) := ⟨rfl, (lw_g (lw_at lw_m6 9 rfl) rfl), ⟨by decide, by decide⟩⟩
theorem rNt_7 : ∀ q ∈ rNt 7, NOK 7 q.1 q.2 := List.forall_mem_cons.mpr ⟨rNt_7_9, List.forall_mem_cons.mpr ⟨rNt_7_42, List.forall_mem_cons.mpr ⟨rNt_7_86, List.forall_mem_cons.mpr ⟨rNt_7_211, (fun _ h => nomatch h)⟩⟩⟩⟩
theorem rNt_9_29 : NOK 9 29 (0, 14, 4) := ⟨rfl, ⟨by decide, by decide⟩, rfl, (lw_g (lw_at lw_m2 87 rfl) rfl), (lw_g (lw_at lw_m4 231 rfl) rfl), (lw_g (lw_at lw_m1 28 rfl) rfl)⟩
theorem rNt_9 : ∀ q ∈ rNt 9, NOK 9 q.1 q.2 := List.forall_mem_cons.mpr ⟨rNt_9_29, (fun _ h => nomatch h)⟩
theorem rNt_11_2 : NOK 11 2 (0, 13, 13) := ⟨rfl, ⟨by decide, by decide⟩, rfl, (lw_g (lw_at lw_m9 85 rfl) rfl), (lw_g (lw_at lw_m9 86 rfl) rfl), (lw_g (lw_at lw_m1 19 rfl) rfl)⟩
theorem rNt_11_81 : NOK 11 81 (0, 12, 5) := ⟨rfl, ⟨by decide, by decide⟩, rfl, (lw_g (lw_at lw_m9 54 rfl) rfl), (lw_g (lw_at lw_m9 55 rfl) rfl), (lw_g (lw_at lw_m1 18 rfl) rfl)⟩
theorem rNt_11 : ∀ q ∈ rNt 11, NOK 11 q.1 q.2 := List.forall_mem_cons.mpr ⟨rNt_11_2, List.forall_mem_cons.mpr ⟨rNt_11_81, (fun _ h => nomatch h)⟩⟩
theorem rNt_26_7 : NOK 26 7 (0, 27, 4) := ⟨rfl, ⟨by decide, by decide⟩, rfl, (lw_g (lw_at lw_m7 74 rfl) rfl), (lw_g (lw_at lw_m7 75 rfl) rfl), (lw_g (lw_at lw_m1 44 rfl) rfl)⟩
theorem rNt_26 : ∀ q ∈ rNt 26, NOK 26 q.1 q.2 := List.forall_mem_cons.mpr ⟨rNt_26_7, (fun _ h => nomatch h)⟩
theorem rNt_ok : ∀ c, ∀ q ∈ rNt c, NOK c q.1 q.2 := by
  intro c
  unfold rNt
  split
  · exact rNt_0
  · exact rNt_1
  · exact rNt_2
  · exact rNt_3
  · exact rNt_5
  · exact rNt_6
  · exact rNt_7
  · exact rNt_9
  · exact rNt_11
  · exact rNt_26
  · exact fun _ h => nomatch h
theorem rAt_1_74 : AOK 1 74 115 := ⟨⟨by decide, by decide⟩, (lw_g (lw_at lw_m2 120 rfl) rfl), (lw_at lw_m2 139 rfl)⟩
theorem rAt_1_85 : AOK 1 85 116 := ⟨⟨by decide, by decide⟩, (lw_g (lw_at lw_m2 140 rfl) rfl), (lw_at lw_m2 141 rfl)⟩
theorem rAt_1 : ∀ q ∈ rAt 1, AOK 1 q.1 q.2 := List.forall_mem_cons.mpr ⟨rAt_1_74, List.forall_mem_cons.mpr ⟨rAt_1_85, (fun _ h => nomatch h)⟩⟩
theorem rAt_9_29 : AOK 9 29 114 := ⟨⟨by decide, by decide⟩, (lw_g (lw_at lw_m2 87 rfl) rfl), (lw_at lw_m2 88 rfl)⟩
theorem rAt_9 : ∀ q ∈ rAt 9, AOK 9 q.1 q.2 := List.forall_mem_cons.mpr ⟨rAt_9_29, (fun _ h => nomatch h)⟩
theorem rAt_11_81 : AOK 11 81 117 := ⟨⟨by decide, by decide⟩, (lw_g (lw_at lw_m9 54 rfl) rfl), (lw_at lw_m9 82 rfl)⟩
theorem rAt_11_92 : AOK 11 92 118 := ⟨⟨by decide, by decide⟩, (lw_g (lw_at lw_m9 83 rfl) rfl), (lw_at lw_m9 61 rfl)⟩
theorem rAt_11 : ∀ q ∈ rAt 11, AOK 11 q.1 q.2 := List.forall_mem_cons.mpr ⟨rAt_11_81, List.forall_mem_cons.mpr ⟨rAt_11_92, (fun _ h => nomatch h)⟩⟩
theorem rAt_15_13 : AOK 15 13 113 := ⟨⟨by decide, by decide⟩, (lw_g (lw_at lw_m6 66 rfl) rfl), (lw_at lw_m6 67 rfl)⟩
theorem rAt_15 : ∀ q ∈ rAt 15, AOK 15 q.1 q.2 := List.forall_mem_cons.mpr ⟨rAt_15_13, (fun _ h => nomatch h)⟩
theorem rAt_16_7 : AOK 16 7 111 := ⟨⟨by decide, by decide⟩, (lw_g (lw_at lw_m6 99 rfl) rfl), (lw_at lw_m6 100 rfl)⟩
theorem rAt_16 : ∀ q ∈ rAt 16, AOK 16 q.1 q.2 := List.forall_mem_cons.mpr ⟨rAt_16_7, (fun _ h => nomatch h)⟩
theorem rAt_28_7 : AOK 28 7 112 := ⟨⟨by decide, by decide⟩, (lw_g (lw_at lw_m7 115 rfl) rfl), (lw_at lw_m7 116 rfl)⟩
theorem rAt_28 : ∀ q ∈ rAt 28, AOK 28 q.1 q.2 := List.forall_mem_cons.mpr ⟨rAt_28_7, (fun _ h => nomatch h)⟩
theorem rAt_ok : ∀ c, ∀ q ∈ rAt c, AOK c q.1 q.2 := by
  intro c
  unfold rAt
  split
  · exact rAt_1
  · exact rAt_9
  · exact rAt_11
  · exact rAt_15
  · exact rAt_16
  · exact rAt_28
  · exact fun _ h => nomatch h
theorem rCt_1_15 : KOK 1 15 (0, 32768) := (lw_g (lw_at lw_m1 58 rfl) rfl)
theorem rCt_1 : ∀ q ∈ rCt 1, KOK 1 q.1 q.2 := List.forall_mem_cons.mpr ⟨rCt_1_15, (fun _ h => nomatch h)⟩
theorem rCt_2_60 : KOK 2 60 (1, 16) := ⟨by decide, by decide⟩
theorem rCt_2_66 : KOK 2 66 (1, 18) := ⟨by decide, by decide⟩
theorem rCt_2_68 : KOK 2 68 (1, 20) := ⟨by decide, by decide⟩
theorem rCt_2 : ∀ q ∈ rCt 2, KOK 2 q.1 q.2 := List.forall_mem_cons.mpr ⟨rCt_2_60, List.forall_mem_cons.mpr ⟨rCt_2_66, List.forall_mem_cons.mpr ⟨rCt_2_68, (fun _ h => nomatch h)⟩⟩⟩
theorem rCt_3_70 : KOK 3 70 (0, 56320) := (lw_g (lw_at lw_m4 67 rfl) rfl)
theorem rCt_3_71 : KOK 3 71 (0, 57344) := (lw_g (lw_at lw_m4 68 rfl) rfl)
theorem rCt_3_72 : KOK 3 72 (0, 55296) := (lw_g (lw_at lw_m4 69 rfl) rfl)
theorem rCt_3_73 : KOK 3 73 (0, 56319) := (lw_g (lw_at lw_m4 70 rfl) rfl)
theorem rCt_3_74 : KOK 3 74 (0, 57343) := (lw_g (lw_at lw_m4 71 rfl) rfl)
theorem rCt_3 : ∀ q ∈ rCt 3, KOK 3 q.1 q.2 := List.forall_mem_cons.mpr ⟨rCt_3_70, List.forall_mem_cons.mpr ⟨rCt_3_71, List.forall_mem_cons.mpr ⟨rCt_3_72, List.forall_mem_cons.mpr ⟨rCt_3_73, List.forall_mem_cons.mpr ⟨rCt_3_74, (fun _ h => nomatch h)⟩⟩⟩⟩⟩
theorem rCt_4_40 : KOK 4 40 (1, 10) := ⟨by decide, by decide⟩
theorem rCt_4_52 : KOK 4 52 (1, 12) := ⟨by decide, by decide⟩
theorem rCt_4_54 : KOK 4 54 (1, 14) := ⟨by decide, by decide⟩
theorem rCt_4 : ∀ q ∈ rCt 4, KOK 4 q.1 q.2 := List.forall_mem_cons.mpr ⟨rCt_4_40, List.forall_mem_cons.mpr ⟨rCt_4_52, List.forall_mem_cons.mpr ⟨rCt_4_54, (fun _ h => nomatch h)⟩⟩⟩
theorem rCt_5_231 : KOK 5 231 (1, 34) := ⟨by decide, by decide⟩
theorem rCt_5_237 : KOK 5 237 (1, 36) := ⟨by decide, by decide⟩
theorem rCt_5_239 : KOK 5 239 (1, 38) := ⟨by decide, by decide⟩
theorem rCt_5_241 : KOK 5 241 (1, 40) := ⟨by decide, by decide⟩
theorem rCt_5_247 : KOK 5 247 (1, 42) := ⟨by decide, by decide⟩
theorem rCt_5_249 : KOK 5 249 (1, 44) := ⟨by decide, by decide⟩
theorem rCt_5 : ∀ q ∈ rCt 5, KOK 5 q.1 q.2 := List.forall_mem_cons.mpr ⟨rCt_5_231, List.forall_mem_cons.mpr ⟨rCt_5_237, List.forall_mem_cons.mpr ⟨rCt_5_239, List.forall_mem_cons.mpr ⟨rCt_5_241, List.forall_mem_cons.mpr ⟨rCt_5_247, List.forall_mem_cons.mpr ⟨rCt_5_249, (fun _ h => nomatch h)⟩⟩⟩⟩⟩⟩
theorem rCt_7_49 : KOK 7 49 (1, 2) := ⟨by decide, by decide⟩
theorem rCt_7_58 : KOK 7 58 (1, 4) := ⟨by decide, by decide⟩
theorem rCt_7_62 : KOK 7 62 (1, 6) := ⟨by decide, by decide⟩
theorem rCt_7_66 : KOK 7 66 (1, 8) := ⟨by decide, by decide⟩
theorem rCt_7_110 : KOK 7 110 (0, 100000) := (lw_g (lw_at lw_m5 206 rfl) rfl)
theorem rCt_7_159 : KOK 7 159 (1, 22) := ⟨by decide, by decide⟩
theorem rCt_7_178 : KOK 7 178 (1, 24) := ⟨by decide, by decide⟩
theorem rCt_7_182 : KOK 7 182 (1, 26) := ⟨by decide, by decide⟩
theorem rCt_7_184 : KOK 7 184 (1, 28) := ⟨by decide, by decide⟩
theorem rCt_7_190 : KOK 7 190 (1, 30) := ⟨by decide, by decide⟩
theorem rCt_7_192 : KOK 7 192 (1, 32) := ⟨by decide, by decide⟩
theorem rCt_7 : ∀ q ∈ rCt 7, KOK 7 q.1 q.2 := List.forall_mem_cons.mpr ⟨rCt_7_49, List.forall_mem_cons.mpr ⟨rCt_7_58, List.forall_mem_cons.mpr ⟨rCt_7_62, List.forall_mem_cons.mpr ⟨rCt_7_66, List.forall_mem_cons.mpr ⟨rCt_7_110, List.forall_mem_cons.mpr ⟨rCt_7_159, List.forall_mem_cons.mpr ⟨rCt_7_178, List.forall_mem_cons.mpr ⟨rCt_7_182, List.forall_mem_cons.mpr ⟨rCt_7_184, List.forall_mem_cons.mpr ⟨rCt_7_190, List.forall_mem_cons.mpr ⟨rCt_7_192, (fun _ h => nomatch h)⟩⟩⟩⟩⟩⟩⟩⟩⟩⟩⟩
theorem rCt_9_9 : KOK 9 9 (0, 1177600) := (lw_g (lw_at lw_m2 85 rfl) rfl)
theorem rCt_9_17 : KOK 9 17 (0, 47104) := (lw_g (lw_at lw_m2 86 rfl) rfl)
theorem rCt_9 : ∀ q ∈ rCt 9, KOK 9 q.1 q.2 := List.forall_mem_cons.mpr ⟨rCt_9_9, List.forall_mem_cons.mpr ⟨rCt_9_17, (fun _ h => nomatch h)⟩⟩
theorem rCt_11_41 : KOK 11 41 (0, 55296) := (lw_g (lw_at lw_m10 179 rfl) rfl)
theorem rCt_11_42 : KOK 11 42 (0, 56319) := (lw_g (lw_at lw_m10 180 rfl) rfl)
theorem rCt_11_43 : KOK 11 43 (0, 65536) := (lw_g (lw_at lw_m11 110 rfl) rfl)
theorem rCt_11_44 : KOK 11 44 (0, 56320) := (lw_g (lw_at lw_m10 177 rfl) rfl)
theorem rCt_11_59 : KOK 11 59 (0, 65535) := (lw_g (lw_at lw_m11 111 rfl) rfl)
theorem rCt_11_70 : KOK 11 70 (0, 32768) := (lw_g (lw_at lw_m9 53 rfl) rfl)
theorem rCt_11_97 : KOK 11 97 (0, 32776) := (lw_g (lw_at lw_m9 84 rfl) rfl)
theorem rCt_11_189 : KOK 11 189 (1, 52) := ⟨by decide, by decide⟩
theorem rCt_11_203 : KOK 11 203 (0, 57343) := (lw_g (lw_at lw_m10 178 rfl) rfl)
theorem rCt_11_207 : KOK 11 207 (1, 46) := ⟨by decide, by decide⟩
theorem rCt_11_209 : KOK 11 209 (1, 48) := ⟨by decide, by decide⟩
theorem rCt_11_211 : KOK 11 211 (1, 50) := ⟨by decide, by decide⟩
theorem rCt_11_264 : KOK 11 264 (1, 54) := ⟨by decide, by decide⟩
theorem rCt_11_266 : KOK 11 266 (1, 56) := ⟨by decide, by decide⟩
theorem rCt_11_271 : KOK 11 271 (1, 58) := ⟨by decide, by decide⟩
theorem rCt_11_373 : KOK 11 373 (1, 60) := ⟨by decide, by decide⟩
theorem rCt_11_377 : KOK 11 377 (1, 62) := ⟨by decide, by decide⟩
theorem rCt_11_382 : KOK 11 382 (1, 64) := ⟨by decide, by decide⟩
theorem rCt_11_387 : KOK 11 387 (1, 66) := ⟨by decide, by decide⟩
theorem rCt_11_389 : KOK 11 389 (1, 68) := ⟨by decide, by decide⟩
theorem rCt_11_391 : KOK 11 391 (1, 70) := ⟨by decide, by decide⟩
theorem rCt_11_393 : KOK 11 393 (1, 72) := ⟨by decide, by decide⟩
theorem rCt_11_399 : KOK 11 399 (1, 74) := ⟨by decide, by decide⟩
theorem rCt_11_400 : KOK 11 400 (1, 76) := ⟨by decide, by decide⟩
theorem rCt_11_401 : KOK 11 401 (1, 78) := ⟨by decide, by decide⟩
theorem rCt_11_464 : KOK 11 464 (1, 90) := ⟨by decide, by decide⟩
theorem rCt_11_469 : KOK 11 469 (1, 88) := ⟨by decide, by decide⟩
theorem rCt_11_487 : KOK 11 487 (1, 80) := ⟨by decide, by decide⟩
theorem rCt_11_489 : KOK 11 489 (1, 82) := ⟨by decide, by decide⟩
theorem rCt_11_491 : KOK 11 491 (1, 84) := ⟨by decide, by decide⟩
theorem rCt_11_492 : KOK 11 492 (1, 86) := ⟨by decide, by decide⟩
theorem rCt_11 : ∀ q ∈ rCt 11, KOK 11 q.1 q.2 := List.forall_mem_cons.mpr ⟨rCt_11_41, List.forall_mem_cons.mpr ⟨rCt_11_42, List.forall_mem_cons.mpr ⟨rCt_11_43, List.forall_mem_cons.mpr ⟨rCt_11_44, List.forall_mem_cons.mpr ⟨rCt_11_59, List.forall_mem_cons.mpr ⟨rCt_11_70, List.forall_mem_cons.mpr ⟨rCt_11_97, List.forall_mem_cons.mpr ⟨rCt_11_189, List.forall_mem_cons.mpr ⟨rCt_11_203, List.forall_mem_cons.mpr ⟨rCt_11_207, List.forall_mem_cons.mpr ⟨rCt_11_209, List.forall_mem_cons.mpr ⟨rCt_11_211, List.forall_mem_cons.mpr ⟨rCt_11_264, List.forall_mem_cons.mpr ⟨rCt_11_266, List.forall_mem_cons.mpr ⟨rCt_11_271, List.forall_mem_cons.mpr ⟨rCt_11_373, List.forall_mem_cons.mpr ⟨rCt_11_377, List.forall_mem_cons.mpr ⟨rCt_11_382, List.forall_mem_cons.mpr ⟨rCt_11_387, List.forall_mem_cons.mpr ⟨rCt_11_389, List.forall_mem_cons.mpr ⟨rCt_11_391, List.forall_mem_cons.mpr ⟨rCt_11_393, List.forall_mem_cons.mpr ⟨rCt_11_399, List.forall_mem_cons.mpr ⟨rCt_11_400, List.forall_mem_cons.mpr ⟨rCt_11_401, List.forall_mem_cons.mpr ⟨rCt_11_464, List.forall_mem_cons.mpr ⟨rCt_11_469, List.forall_mem_cons.mpr ⟨rCt_11_487, List.forall_mem_cons.mpr ⟨rCt_11_489, List.forall_mem_cons.mpr ⟨rCt_11_491, List.forall_mem_cons.mpr ⟨rCt_11_492, (fun _ h => nomatch h)⟩⟩⟩⟩⟩⟩⟩⟩⟩⟩⟩⟩⟩⟩⟩⟩⟩⟩⟩⟩⟩⟩⟩⟩⟩⟩⟩⟩⟩⟩⟩
theorem rCt_27_61 : KOK 27 61 (0, 55296) := (lw_g (lw_at lw_m8 66 rfl) rfl)
theorem rCt_27_62 : KOK 27 62 (0, 56319) := (lw_g (lw_at lw_m8 67 rfl) rfl)
theorem rCt_27_63 : KOK 27 63 (0, 65536) := (lw_g (lw_at lw_m8 90 rfl) rfl)
theorem rCt_27_64 : KOK 27 64 (0, 56320) := (lw_g (lw_at lw_m8 91 rfl) rfl)
theorem rCt_27 : ∀ q ∈ rCt 27, KOK 27 q.1 q.2 := List.forall_mem_cons.mpr ⟨rCt_27_61, List.forall_mem_cons.mpr ⟨rCt_27_62, List.forall_mem_cons.mpr ⟨rCt_27_63, List.forall_mem_cons.mpr ⟨rCt_27_64, (fun _ h => nomatch h)⟩⟩⟩⟩
theorem rCt_ok : ∀ c, ∀ q ∈ rCt c, KOK c q.1 q.2 := by
  intro c
  unfold rCt
  split
  · exact rCt_1
  · exact rCt_2
  · exact rCt_3
  · exact rCt_4
  · exact rCt_5
  · exact rCt_7
  · exact rCt_9
  · exact rCt_11
  · exact rCt_27
  · exact fun _ h => nomatch h
theorem rLt_1_345 : LOK 1 345 (255) := (lw_g (lw_at lw_m9 29 rfl) rfl)
theorem rLt_1 : ∀ q ∈ rLt 1, LOK 1 q.1 q.2 := List.forall_mem_cons.mpr ⟨rLt_1_345, (fun _ h => nomatch h)⟩
theorem rLt_2_36 : LOK 2 36 (9) := (lw_g (lw_at lw_m4 164 rfl) rfl)
theorem rLt_2_38 : LOK 2 38 (10) := (lw_g (lw_at lw_m4 165 rfl) rfl)
theorem rLt_2_40 : LOK 2 40 (48) := (lw_g (lw_at lw_m4 166 rfl) rfl)
theorem rLt_2 : ∀ q ∈ rLt 2, LOK 2 q.1 q.2 := List.forall_mem_cons.mpr ⟨rLt_2_36, List.forall_mem_cons.mpr ⟨rLt_2_38, List.forall_mem_cons.mpr ⟨rLt_2_40, (fun _ h => nomatch h)⟩⟩⟩
theorem rLt_4_70 : LOK 4 70 (10) := (lw_g (lw_at lw_m4 120 rfl) rfl)
theorem rLt_4_72 : LOK 4 72 (48) := (lw_g (lw_at lw_m4 121 rfl) rfl)
theorem rLt_4_74 : LOK 4 74 (9007199254740992) := (lw_g (lw_at lw_m4 122 rfl) rfl)
theorem rLt_4_82 : LOK 4 82 (9007199254740991) := (lw_g (lw_at lw_m4 126 rfl) rfl)
theorem rLt_4 : ∀ q ∈ rLt 4, LOK 4 q.1 q.2 := List.forall_mem_cons.mpr ⟨rLt_4_70, List.forall_mem_cons.mpr ⟨rLt_4_72, List.forall_mem_cons.mpr ⟨rLt_4_74, List.forall_mem_cons.mpr ⟨rLt_4_82, (fun _ h => nomatch h)⟩⟩⟩⟩
theorem rLt_5_167 : LOK 5 167 (10) := (lw_g (lw_at lw_m6 162 rfl) rfl)
theorem rLt_5_169 : LOK 5 169 (48) := (lw_g (lw_at lw_m6 163 rfl) rfl)
theorem rLt_5_171 : LOK 5 171 (9007199254740992) := (lw_g (lw_at lw_m6 164 rfl) rfl)
theorem rLt_5_179 : LOK 5 179 (9007199254740991) := (lw_g (lw_at lw_m6 166 rfl) rfl)
theorem rLt_5 : ∀ q ∈ rLt 5, LOK 5 q.1 q.2 := List.forall_mem_cons.mpr ⟨rLt_5_167, List.forall_mem_cons.mpr ⟨rLt_5_169, List.forall_mem_cons.mpr ⟨rLt_5_171, List.forall_mem_cons.mpr ⟨rLt_5_179, (fun _ h => nomatch h)⟩⟩⟩⟩
theorem rLt_8_38 : LOK 8 38 (127) := (lw_g (lw_at lw_m4 159 rfl) rfl)
theorem rLt_8 : ∀ q ∈ rLt 8, LOK 8 q.1 q.2 := List.forall_mem_cons.mpr ⟨rLt_8_38, (fun _ h => nomatch h)⟩
theorem rLt_11_153 : LOK 11 153 (255) := (lw_g (lw_at lw_m10 43 rfl) rfl)
theorem rLt_11_235 : LOK 11 235 (9007199254740991) := (lw_g (lw_at lw_m10 185 rfl) rfl)
theorem rLt_11_237 : LOK 11 237 (10) := (lw_g (lw_at lw_m10 186 rfl) rfl)
theorem rLt_11_239 : LOK 11 239 (48) := (lw_g (lw_at lw_m10 187 rfl) rfl)
theorem rLt_11_262 : LOK 11 262 (-10) := (lw_g (lw_at lw_m10 224 rfl) rfl)
theorem rLt_11_337 : LOK 11 337 (-1) := (lw_g (lw_at lw_m11 96 rfl) rfl)
theorem rLt_11 : ∀ q ∈ rLt 11, LOK 11 q.1 q.2 := List.forall_mem_cons.mpr ⟨rLt_11_153, List.forall_mem_cons.mpr ⟨rLt_11_235, List.forall_mem_cons.mpr ⟨rLt_11_237, List.forall_mem_cons.mpr ⟨rLt_11_239, List.forall_mem_cons.mpr ⟨rLt_11_262, List.forall_mem_cons.mpr ⟨rLt_11_337, (fun _ h => nomatch h)⟩⟩⟩⟩⟩⟩
theorem rLt_29_64 : LOK 29 64 (-1) := (lw_g (lw_at lw_m8 154 rfl) rfl)
theorem rLt_29 : ∀ q ∈ rLt 29, LOK 29 q.1 q.2 := List.forall_mem_cons.mpr ⟨rLt_29_64, (fun _ h => nomatch h)⟩
theorem rLt_30_33 : LOK 30 33 (31) := (lw_g (lw_at lw_m8 226 rfl) rfl)
theorem rLt_30_39 : LOK 30 39 (3) := (lw_g (lw_at lw_m8 228 rfl) rfl)
theorem rLt_30_44 : LOK 30 44 (7) := (lw_g (lw_at lw_m8 230 rfl) rfl)
theorem rLt_30_54 : LOK 30 54 (131) := (lw_g (lw_at lw_m8 234 rfl) rfl)
theorem rLt_30_60 : LOK 30 60 (11) := (lw_g (lw_at lw_m8 238 rfl) rfl)
theorem rLt_30_62 : LOK 30 62 (13) := (lw_g (lw_at lw_m8 239 rfl) rfl)
theorem rLt_30_70 : LOK 30 70 (17) := (lw_g (lw_at lw_m9 2 rfl) rfl)
theorem rLt_30_72 : LOK 30 72 (2) := (lw_g (lw_at lw_m9 3 rfl) rfl)
theorem rLt_30_77 : LOK 30 77 (37) := (lw_g (lw_at lw_m9 5 rfl) rfl)
theorem rLt_30 : ∀ q ∈ rLt 30, LOK 30 q.1 q.2 := List.forall_mem_cons.mpr ⟨rLt_30_33, List.forall_mem_cons.mpr ⟨rLt_30_39, List.forall_mem_cons.mpr ⟨rLt_30_44, List.forall_mem_cons.mpr ⟨rLt_30_54, List.forall_mem_cons.mpr ⟨rLt_30_60, List.forall_mem_cons.mpr ⟨rLt_30_62, List.forall_mem_cons.mpr ⟨rLt_30_70, List.forall_mem_cons.mpr ⟨rLt_30_72, List.forall_mem_cons.mpr ⟨rLt_30_77, (fun _ h => nomatch h)⟩⟩⟩⟩⟩⟩⟩⟩⟩
theorem rLt_ok : ∀ c, ∀ q ∈ rLt c, LOK c q.1 q.2 := by
  intro c
  unfold rLt
  split
  · exact rLt_1
  · exact rLt_2
  · exact rLt_4
  · exact rLt_5
  · exact rLt_8
  · exact rLt_11
  · exact rLt_29
  · exact rLt_30
  · exact fun _ h => nomatch h
theorem rOt_5_97 : OOK 5 97 17 := ⟨Or.inl rfl, (lw_g (lw_at lw_m6 128 rfl) rfl)⟩
theorem rOt_5_99 : OOK 5 99 18 := ⟨Or.inr rfl, (lw_g (lw_at lw_m6 156 rfl) rfl)⟩
theorem rOt_5 : ∀ q ∈ rOt 5, OOK 5 q.1 q.2 := List.forall_mem_cons.mpr ⟨rOt_5_97, List.forall_mem_cons.mpr ⟨rOt_5_99, (fun _ h => nomatch h)⟩⟩
theorem rOt_ok : ∀ c, ∀ q ∈ rOt c, OOK c q.1 q.2 := by
  intro c
  unfold rOt
  split
  · exact rOt_5
  · exact fun _ h => nomatch h
