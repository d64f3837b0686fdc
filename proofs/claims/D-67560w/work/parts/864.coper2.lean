/-! queries read by the component: an operand -/
set_option maxRecDepth 100000
set_option maxHeartbeats 4000000
section
variable {T tp e N : Int} {t : Int → Int}
theorem cls10 {k : Int} (h : k = 23 ∨ k = 24 ∨ k = 25) : cls 10 k := by
  unfold cls; rwa [if_neg (by decide), if_neg (by decide), if_neg (by decide), if_pos rfl]
/-- a string -/
theorem c98_q {d op : Nat} {m : Mem} {i c : Int} {xs : List Int} (hd : 9 ≤ d) (h : CS m T tp e i t op N xs c) (hL : (xs.length : Int) + 3 * (e - i) ≤ 5900) (hq : pk t e i = 39 ∨ pk t e i = 34) :
    CR 10 T tp e t op N m i c xs (nm (vl m T 4) fun v36 => gd (tg m v36 = 8) <| bV (cl d 130 [pR v36, pI 4] m) fun m26 => bI (cl d 63 [pR T] m26) fun v27 m27 => bV (cl d 68 [pR T, pR (vl m26 T 4), pI v27] m27) fun m28 => nw (nx m28) (mal m28 24 2) fun o29 m29 => bV (cl d 320 [pR o29, pR (vl m29 T 4), pI xs.length] m29) fun m30 => some (.inl (some (pR o29)), m30)) (match sS t e (pk t e i) (i + 1) with
        | .inl p => qE p
        | .inr (us, j) => qN 41 0 us foN j) 16 := by
  have hr := h.rng
  have hz := h.1.1
  have hT := h.2.2.1
  have v4 := h.2.2.2.2.1
  have hR := h.2.2.2.2.2.2.1
  have hlt : i < e := pkf_lt (t := t) (by omega)
  obtain ⟨m1, c1, e1, g1⟩ := c130 (d := d) (b := 4) (by omega) h.1 h.2.1 hR (by omega)
  have f1 := cl_FRM e1
  have n1 := (NG.refl h).fr f1 (by rfl) (by rfl) ⟨by rfl, by rfl⟩
  have hX1 := h.2.2.2.1.fr f1 hz (by rfl)
  have e63 := c63 (d := d) n1.1.1 hX1
  have v41 : vl m1 T 4 = N := by rw [n1.2.2.2.2.1]; exact v4
  have w4 : w8 4 = 4 := rfl
  rw [w4] at g1
  obtain ⟨s1, s2⟩ := c68 (d := d) (q := pk t e i) (by omega) (by omega) n1.1 g1.2.1.1 hX1 rfl g1.1 (by simp <;> omega)
  cases hE : sS t e (pk t e i) (i + 1) with
  | inl p =>
    obtain ⟨m2, e2, hb⟩ := s2 p hE
    have ce := BR.ce h n1 g1 hb (cl_FRM e2) (by rfl) (by simp <;> omega)
    refine CR.inl (m' := m2) ?_ (ce.weak (by omega))
    rw [nm_eq, v4, gd_of hR.1, bV_eq e1, bI_eq e63, v41, bV_xq e2]
  | inr x =>
    obtain ⟨us, j⟩ := x
    obtain ⟨b1, b2, b3, b4, m2, c2, e2, b5, b6⟩ := s1 us j hE
    have f2 := cl_FRM e2
    have n2 := n1.fr f2 (by rfl) (by rfl) ⟨by rfl, by rfl⟩
    have hsur := sS_sur (by omega) hE
    have gg := g1.trans b6 (by simp)
    rw [List.append_assoc] at gg
    have hn : nx m ≤ nx m2 := by have := f1.1.2.1; have := f2.1.2.1; omega
    obtain ⟨e320, t24, hj, co⟩ := CO.lit (d := d) (v := 0) (us := us) (k := 41) h hL n2 b5 gg (by omega) rfl ⟨⟨show (4 : Nat) ≤ 6 by decide, show (-9007199254740992 : Int) < 0 by decide, show (0 : Int) < 9007199254740992 by decide, b1, fun u hu => (by cases hu)⟩, hsur, fun _ => rfl, fun z => (by cases z), trivial, trivial⟩ (by simp [nmB, l2_len]; omega) (by omega) hn
    have hTn : T ≠ nx m2 := by have := tz_lt n2.1.1 (x := T) (by rw [n2.2.2.2.1]; decide); omega
    have v43 : vl (mal m2 24 2) T 4 = N := by rw [vl_mal, if_neg hTn, n2.2.2.2.2.1]; exact v4
    refine CR.inr (j' := j) (o := (nx m2)) (m' := mst (mst (mal m2 24 2) (nx m2) 0 N) (nx m2) 1 xs.length) ?_ (cls10 (by omega)) (plc_ex hj) ?_ rfl
    · rw [nm_eq, v4, gd_of hR.1, bV_eq e1, bI_eq e63, v41, bV_eq e2, nw_eq, v43, bV_eq e320]
    · rw [wrQ10]; exact co
/-- a number -/
theorem c98_n {d op : Nat} {m : Mem} {i c : Int} {xs : List Int} (hd : 9 ≤ d) (h : CS m T tp e i t op N xs c) (hL : (xs.length : Int) + 3 * (e - i) ≤ 5900) :
    CR 10 T tp e t op N m i c xs (bL (cl d 88 [pR T] m) fun v3 m3 => nm (vl m3 T 4) fun v40 => gd (tg m3 v40 = 8) <| bV (cl d 130 [pR v40, pI 3] m3) fun m4 => nm (vl m4 T 4) fun v41 => gd (tg m4 v41 = 8) <| bV (cl d 138 [pR v41, pL v3] m4) fun m5 => nw (nx m5) (mal m5 24 2) fun o6 m6 => bV (cl d 320 [pR o6, pR (vl m6 T 4), pI xs.length] m6) fun m7 => some (.inl (some (pR o6)), m7)) (match sIn t e i with
        | .inl p => qE p
        | .inr (v, j) => qN 40 v [] foN j) 16 := by
  have hr := h.rng
  have hz := h.1.1
  have hT := h.2.2.1
  have v4 := h.2.2.2.2.1
  have hR := h.2.2.2.2.2.2.1
  obtain ⟨s1, s2⟩ := c88 (d := d) (by omega) h
  cases hE : sIn t e i with
  | inl p =>
    obtain ⟨k, k0, k1, e88⟩ := s2 p hE
    exact CR.inl (by rw [bL_xq e88]) (h.bad (j := k) (by omega))
  | inr x =>
    obtain ⟨v, j⟩ := x
    have e88 := s1 v j hE
    have rj := sIn_rng hE
    have hlen := sIn_len hE
    have h1 := h.at (j := j) (by omega) rj.2.1
    have n1 : NG T m (mst m T 2 j) := (NG.refl h).at
    have r1 : RG N m c xs (mst m T 2 j) c := RG.atR hR (Or.inr hT) h.2.1
    have v41 : vl (mst m T 2 j) T 4 = N := h1.2.2.2.2.1
    obtain ⟨m2, c2, e2, g2⟩ := c130 (d := d) (b := 3) (by omega) h1.1 h1.2.1 h1.2.2.2.2.2.2.1 (by omega)
    have f2 := cl_FRM e2
    have n2 := n1.fr f2 (by rfl) (by rfl) ⟨by rfl, by rfl⟩
    have hX2 := h1.2.2.2.1.fr f2 h1.1.1 (by rfl)
    have v42 : vl m2 T 4 = N := by rw [n2.2.2.2.2.1]; exact v4
    have w3 : w8 3 = 3 := rfl
    rw [w3] at g2
    obtain ⟨m3, c3, e3, g3⟩ := c138 (d := d) (b := v) (by omega) n2.1 g2.2.1.1 g2.1 (by omega) (by omega) (by simp <;> omega)
    have f3 := cl_FRM e3
    have n3 := n2.fr f3 (by rfl) (by rfl) ⟨by rfl, by rfl⟩
    have hX3 := hX2.fr f3 n2.1.1 (by rfl)
    have gg := (r1.trans g2 (by simp)).trans g3 (by simp)
    rw [List.append_assoc] at gg
    have hn : nx m ≤ nx m3 := by have := f2.1.2.1; have := f3.1.2.1; have : nx (mst m T 2 j) = nx m := rfl; omega
    obtain ⟨e320, t24, hj, co⟩ := CO.lit (d := d) (v := v) (us := []) (k := 40) h hL n3 hX3 gg (by omega) rfl ⟨⟨by show (3 : Nat) ≤ 6; omega, rj.2.2.1, rj.2.2.2, fun u hu => (by cases hu), fun u hu => (by cases hu)⟩, trivial, fun _ => rfl, fun z => (by cases z), trivial, trivial⟩ (by simp; omega) (by omega) hn
    have hTn : T ≠ nx m3 := by have := tz_lt n3.1.1 (x := T) (by rw [n3.2.2.2.1]; decide); omega
    have v43 : vl (mal m3 24 2) T 4 = N := by rw [vl_mal, if_neg hTn, n3.2.2.2.2.1]; exact v4
    refine CR.inr (j' := j) (o := (nx m3)) (m' := mst (mst (mal m3 24 2) (nx m3) 0 N) (nx m3) 1 xs.length) ?_ (cls10 (by omega)) (plc_ex hj) ?_ rfl
    · rw [bL_eq e88, nm_eq, v41, gd_of h1.2.2.2.2.2.2.1.1, bV_eq e2, nm_eq, v42, gd_of g2.1.1, bV_eq e3, nw_eq, v43, bV_eq e320]
    · rw [wrQ10]; exact co
/-- a word and what stands in parentheses -/
theorem c98_f {n d op : Nat} {m : Mem} {i c ch a : Int} {cs xs : List Int} (HQ : QQ false T tp e t N n) (H10 : QH T tp e t N n 10 9 (fun d m => cl d 98 [pR T] m)) (h : CS m T tp e i t op N xs c) (hL : (xs.length : Int) + 3 * (e - i) ≤ 5900) (ho : op ≤ 16) (hd : dpn op 8 ≤ d) (hch : ch = 108 ∨ ch = 99 ∨ ch = 118) (hS : SC m a cs) (hcs : 1 ≤ cs.length) :
    CR 10 T tp e t op N m i c xs (bV (cl d 64 [pR T, pR a] m) fun m18 => bR (cl d 99 [pR T, pI ch] m18) fun v19 m19 => some (.inl (some (pR v19)), m19)) (sWo t e cs i fun j => (if pk t e j = 40 ∧ op < 16 then (if ch = 108 then bnd (sQ t e n 10 (op + 1) false (sB t e (j + 1))) fun X k => (if pk t e (sB t e k) = 41 then qN 46 0 [] X (sB t e k + 1) else qE (sB t e k)) else (if qb (pk t e (sB t e (j + 1))) then bnd (sQ t e n 0 (op + 1) false (sB t e (j + 1) + 1)) fun S k => (if pk t e (sB t e k) = 41 then qN (if ch = 99 then 47 else 48) 0 [] (foC (20, rot (pk t e (sB t e (j + 1))), [], []) S foN) (sB t e k + 1) else qE (sB t e k)) else qE (sB t e (j + 1)))) else qE j)) 16 := by
  have hd' := hd
  unfold dpn at hd
  have hr := h.rng
  have hz := h.1.1
  obtain ⟨s1, s2⟩ := c64 (d := d) (by omega) hz h.2.2.2.1 hS
  unfold sWo
  cases hE : sW t e cs i with
  | inl p =>
    obtain ⟨j, j0, j1, e1⟩ := s2 p hE
    exact CR.inl (by rw [bV_xq e1]) (h.bad (j := j) (by omega))
  | inr j =>
    obtain ⟨b1, b2, b3, e1⟩ := s1 j hE
    have h1 := h.at (j := j) (by omega) b2
    have g1 := CPg.at0 (s := 40) h (j := j) b1 (by omega)
    have key := c99 (d := d) (ch := ch) HQ H10 h1 (by omega) ho hd' hch
    refine ⟨fun F k z => ?_, fun p z => ?_⟩
    · obtain ⟨m', x, j', e2, k1, k2, k3, k4⟩ := key.1 F k z
      exact ⟨m', x, j', by rw [bV_eq e1, bR_eq e2], k1, k2, (CO.pre g1 k3).weak (by omega), k4⟩
    · obtain ⟨m', e2, ce⟩ := key.2 p z
      exact ⟨m', by rw [bV_eq e1, bR_xq e2], ce.pre g1 (by omega)⟩
/-- an operand -/
theorem c98 {n : Nat} (HQ : QQ false T tp e t N n) (HQ1 : QQ true T tp e t N n) (H10 : QH T tp e t N n 10 9 (fun d m => cl d 98 [pR T] m)) : QH T tp e t N (n + 1) 10 9 (fun d m => cl d 98 [pR T] m) := by
  intro d op m i c xs h hL ho hd _ _
  have hd' := hd
  unfold dpn at hd
  have hr := h.rng
  have hz := h.1.1
  have hT := h.2.2.1
  have v4 := h.2.2.2.2.1
  have hR := h.2.2.2.2.2.2.1
  have hC := h.2.2.2.2.2.2.2
  have e63 := c63 (d := d - 1) hz h.2.2.2.1
  have e97 := c97 (d := d - 1) (by omega) h
  rw [if_pos rfl]
  show CR 10 T tp e t op N m i c xs (cl d 98 [pR T] m) (sQ t e (n + 1) 10 op false i) 16
  unfold sQ
  rw [if_neg (by decide : ¬ (10 : Nat) = 0), if_neg (by decide : ¬ (10 : Nat) = 1), if_neg (by decide : ¬ (10 : Nat) = 2), if_neg (by decide : ¬ (10 : Nat) = 3), if_neg (by decide : ¬ (10 : Nat) = 4), if_neg (by decide : ¬ (10 : Nat) = 5), if_neg (by decide : ¬ (10 : Nat) = 6), if_neg (by decide : ¬ (10 : Nat) = 7), if_neg (by decide : ¬ (10 : Nat) = 8)]
  have go : ∀ {Q : RM} {x : QR}, CR 10 T tp e t op N m i c xs Q x 16 → (∀ z, Q = some z → cl d 98 [pR T] m = some z) → CR 10 T tp e t op N m i c xs (cl d 98 [pR T] m) x 16 := fun hk hQ => hk.to (fun k z => z) (fun j j' z => z) (fun F => rfl) hQ (Int.le_refl _)
  by_cases hb : qb (pk t e i)
  · rw [if_pos hb]
    rw [if_pos hb] at e97
    have hn := h.new (q := 23) (n := 2) (by omega)
    have gn := (CPg.refl h).new (q := 23) (n := 2) h (by omega) (by omega)
    have key := HQ1 (d - 1) op _ _ _ _ hn hL ho (by unfold dpn; omega) hb
    have st : ∀ Q, (bR (cl (d - 1) 82 [pR T, pI 1] (mal m 23 2)) fun v32 m32 => bV (cl (d - 1) 318 [pR (nx m), pR v32, pI 0] m32) fun m33 => some (.inl (some (pR (nx m))), m33)) = some Q → cl d 98 [pR T] m = some Q := by
      intro Q hQ
      refine q98 (by omega) hz _ ?_
      rw [gd_of hT, bI_eq e97, if_neg (by decide), nw_eq]; exact hQ
    cases hE : sQ t e n 0 op true (i + 1) with
    | none => exact CR.no
    | some yy =>
      rw [hE] at key
      rcases yy with p | ⟨S, j'⟩
      · obtain ⟨m', e1, ce⟩ := key.2 p rfl
        exact CR.inl (st _ (by rw [bR_xq (show cl (d - 1) 82 [pR T, pI 1] _ = some (Sum.inr 204, m') from e1)])) (ce.pre gn (by omega))
      · obtain ⟨m', x, e1, tc, co⟩ := key.1 S j' rfl
        have e1' : cl (d - 1) 82 [pR T, pI 1] (mal m 23 2) = some (Sum.inl (some (pR x)), m') := e1
        have hz' : TZ m' := by obtain ⟨c', xs', a1, -⟩ := co; exact a1.1.1
        have hj : j' ≤ e := by obtain ⟨c', xs', a1, -⟩ := co; exact a1.rng.2.1
        obtain ⟨ck, tk, tm, -⟩ := CO.kid (kd := 45) (v := 0) hz h (CPg.refl h) (by omega) (by omega) co (by omega) (fun M N xs ht hv => by rw [CB_45 (Or.inl rfl)]; exact ⟨ht, hv⟩)
        have e318 : cl (d - 1) 318 [pR (nx m), pR x, pI 0] m' = some (.inl none, mst (mst m' (nx m) 0 x) (nx m) 1 0) := by
          refine q318 hz' _ ?_
          rw [gd_of tm, gd_of (Or.inl rfl)]
        refine CR.inr (st _ (by rw [bR_eq e1', bV_eq e318])) (cls10 (Or.inl tk)) (plc_ex hj) ?_ rfl
        rw [wrQ10]; exact ck.weak (by omega)
  rw [if_neg hb]
  rw [if_neg hb] at e97
  have sz := hR.2.2.2.1
  by_cases qq : pk t e i = 39 ∨ pk t e i = 34
  · rw [if_pos qq]
    refine go (c98_q (d := d - 1) (by omega) h hL qq) (fun z hz' => q98 (by omega) hz _ ?_)
    rw [gd_of hT, bI_eq e97, if_pos rfl, nm_eq, v4, gd_of hR.1, nm_eq, sz, bI_eq e63, if_pos (by omega)]
    exact hz'
  rw [if_neg qq]
  by_cases q1 : pk t e i = 116
  · rw [if_pos q1]
    refine go (lit_w (d := d - 1) (k := 42) (b := 2) (by omega) h hL hC.1 (by decide) (by omega) rfl ⟨⟨by decide, by decide, by decide, fun u hu => (by cases hu), fun u hu => (by cases hu)⟩, trivial, fun _ => rfl, fun z => (by cases z), trivial, trivial⟩) (fun z hz' => q98 (by omega) hz _ ?_)
    rw [gd_of hT, bI_eq e97, if_pos rfl, nm_eq, v4, gd_of hR.1, nm_eq, sz, bI_eq e63, if_neg (by omega), if_neg (by omega), if_neg (by omega), if_neg (by omega), if_neg (by omega), if_pos q1]
    exact hz'
  rw [if_neg q1]
  by_cases q2 : pk t e i = 102
  · rw [if_pos q2]
    refine go (lit_w (d := d - 1) (k := 43) (b := 1) (by omega) h hL hC.2.1 (by decide) (by omega) rfl ⟨⟨by decide, by decide, by decide, fun u hu => (by cases hu), fun u hu => (by cases hu)⟩, trivial, fun _ => rfl, fun z => (by cases z), trivial, trivial⟩) (fun z hz' => q98 (by omega) hz _ ?_)
    rw [gd_of hT, bI_eq e97, if_pos rfl, nm_eq, v4, gd_of hR.1, nm_eq, sz, bI_eq e63, if_neg (by omega), if_neg (by omega), if_pos q2]
    exact hz'
  rw [if_neg q2]
  by_cases q3 : pk t e i = 110
  · rw [if_pos q3]
    refine go (lit_w (d := d - 1) (k := 44) (b := 0) (by omega) h hL hC.2.2.1 (by decide) (by omega) rfl ⟨⟨by decide, by decide, by decide, fun u hu => (by cases hu), fun u hu => (by cases hu)⟩, trivial, fun _ => rfl, fun z => (by cases z), trivial, trivial⟩) (fun z hz' => q98 (by omega) hz _ ?_)
    rw [gd_of hT, bI_eq e97, if_pos rfl, nm_eq, v4, gd_of hR.1, nm_eq, sz, bI_eq e63, if_neg (by omega), if_neg (by omega), if_neg (by omega), if_neg (by omega), if_pos q3]
    exact hz'
  rw [if_neg q3]
  by_cases q4 : pk t e i = 108
  · rw [if_pos q4]
    have key := c98_f (d := d - 1) (ch := 108) HQ H10 h hL ho (by unfold dpn; omega) (Or.inl rfl) hC.2.2.2.1 (by decide)
    simp only [if_true] at key
    refine go key (fun z hz' => q98 (by omega) hz _ ?_)
    rw [gd_of hT, bI_eq e97, if_pos rfl, nm_eq, v4, gd_of hR.1, nm_eq, sz, bI_eq e63, if_neg (by omega), if_neg (by omega), if_neg (by omega), if_pos q4]
    exact hz'
  rw [if_neg q4]
  by_cases q5 : pk t e i = 99 ∨ pk t e i = 118
  · rw [if_pos q5]
    by_cases q6 : pk t e i = 99
    · rw [if_pos q6]
      have key := c98_f (d := d - 1) (ch := 99) HQ H10 h hL ho (by unfold dpn; omega) (Or.inr (Or.inl rfl)) hC.2.2.2.2.1 (by decide)
      rw [if_pos q6]
      refine go key (fun z hz' => q98 (by omega) hz _ ?_)
      rw [gd_of hT, bI_eq e97, if_pos rfl, nm_eq, v4, gd_of hR.1, nm_eq, sz, bI_eq e63, if_neg (by omega), if_pos q6]
      exact hz'
    · rw [if_neg q6]
      have q7 : pk t e i = 118 := by omega
      have key := c98_f (d := d - 1) (ch := 118) HQ H10 h hL ho (by unfold dpn; omega) (Or.inr (Or.inr rfl)) hC.2.2.2.2.2 (by decide)
      rw [if_neg q6]
      refine go key (fun z hz' => q98 (by omega) hz _ ?_)
      rw [gd_of hT, bI_eq e97, if_pos rfl, nm_eq, v4, gd_of hR.1, nm_eq, sz, bI_eq e63, if_neg (by omega), if_neg q6, if_neg (by omega), if_neg (by omega), if_neg (by omega), if_neg (by omega), if_pos q7]
      exact hz'
  rw [if_neg q5]
  refine go (c98_n (d := d - 1) (by omega) h hL) (fun z hz' => q98 (by omega) hz _ ?_)
  rw [gd_of hT, bI_eq e97, if_pos rfl, nm_eq, v4, gd_of hR.1, nm_eq, sz, bI_eq e63, if_neg (by omega), if_neg (by omega), if_neg (by omega), if_neg (by omega), if_neg (by omega), if_neg (by omega), if_neg (by omega)]
  exact hz'
end
