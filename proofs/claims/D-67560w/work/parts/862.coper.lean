/-! queries read by the component: operands -/
set_option maxRecDepth 100000
set_option maxHeartbeats 4000000
section
variable {d op : Nat} {T tp e i N c : Int} {t : Int → Int} {m m2 : Mem} {xs : List Int}
theorem sIn_len {v j : Int} (h : sIn t e i = .inr (v, j)) : 1 + ((nuB v).length : Int) ≤ 3 * (j - i) := by
  have hge : i ≤ nI0 t e i := by unfold nI0; split <;> omega
  unfold sIn at h
  by_cases q1 : ¬ dg (pk t e (nI0 t e i)) ∨ (pk t e i = 45 ∧ pk t e (nI0 t e i) = 48)
  · rw [if_pos q1] at h; cases h
  rw [if_neg q1] at h
  have hg : dg (pk t e (nI0 t e i)) := Classical.byContradiction fun z => q1 (Or.inl z)
  obtain ⟨r1, r2, r3, r4, r5, r6⟩ := nDV_rng hg
  by_cases q2 : 9007199254740991 < (nDV t e (nI0 t e i)).1
  · rw [if_pos q2] at h; cases h
  rw [if_neg q2] at h
  by_cases q3 : pk t e i = 45
  · rw [if_pos q3] at h; cases h; omega
  · rw [if_neg q3] at h; cases h; omega
/-- a literal's object, its value lies in the row -/
theorem CO.lit {c2 j v : Int} {k : Nat} {us ys : List Int} (h : CS m T tp e i t op N xs c) (hL : (xs.length : Int) + 3 * (e - i) ≤ 5900) (g : NG T m m2) (hX : TX m2 T tp e j t) (hg : RG N m c (xs ++ ys) m2 c2) (hk : 40 ≤ k ∧ k ≤ 44) (hy : ys = enV (litN (k, v, us, [])) foN) (hw : wfF (foC (litN (k, v, us, [])) foN foN)) (hl : (ys.length : Int) ≤ 3 * (j - i)) (hij : i < j) (hn : nx m ≤ nx m2) :
    cl d 320 [pR (nx m2), pR N, pI xs.length] (mal m2 24 2) = some (.inl none, mst (mst (mal m2 24 2) (nx m2) 0 N) (nx m2) 1 xs.length) ∧ tg (mst (mst (mal m2 24 2) (nx m2) 0 N) (nx m2) 1 xs.length) (nx m2) = 24 ∧ j ≤ e ∧ CO T tp e t op N m i c xs (mst (mst (mal m2 24 2) (nx m2) 0 N) (nx m2) 1 xs.length) j 20 (nx m2) (foC (k, v, us, []) foN foN) := by
  obtain ⟨h1, p1⟩ := NG.cs (s := 40) h g hX hg hl hL (by omega) (by omega) hn
  have h2 := h1.new (q := 24) (n := 2) (by omega)
  have p2 := p1.new (q := 24) (n := 2) h1 (by omega) (by omega)
  have hm0 : tg m (nx m2) = 0 := h.1.1 _ hn
  have t0 : tg (mal m2 24 2) (nx m2) = 24 := new_tg.1
  have h3 := h2.obj (o := nx m2) (f := 0) (v := N) (by omega)
  have p3 := p2.obj (o := nx m2) (f := 0) (v := N) h2 (by omega) hm0
  have t1 : tg (mst (mal m2 24 2) (nx m2) 0 N) (nx m2) = 24 := t0
  have h4 := h3.obj (o := nx m2) (f := 1) (v := xs.length) (by omega)
  have p4 := p3.obj (o := nx m2) (f := 1) (v := xs.length) h3 (by omega) hm0
  have t2 : tg (mst (mst (mal m2 24 2) (nx m2) 0 N) (nx m2) 1 xs.length) (nx m2) = 24 := t0
  have np : nwP m (mst (mst (mal m2 24 2) (nx m2) 0 N) (nx m2) 1 xs.length) (nx m2) := ⟨hm0, by rw [t2]; decide⟩
  refine ⟨?_, t2, hX.2.2.2.2.2.1.2.1, (CO.leaf h4 p4 np (Or.inr hk.1) ?_).weak (by omega)⟩
  · refine q320 (NG_new h1.1).1 _ ?_
    rw [gd_of t0]
  · rw [CB_40 hk]
    refine ⟨hk, t2, ?_, ?_, hw⟩
    · rw [vl_mst, if_neg (by omega), vl_mst, if_pos ⟨rfl, rfl⟩]
    · rw [vl_mst, if_pos ⟨rfl, rfl⟩, ← hy]; exact At.end
/-- broken in a row that has grown -/
theorem BR.ce {m1 m' : Mem} {c1 p : Int} {ys : List Int} {q : Nat} (h : CS m T tp e i t op N xs c) (g : NG T m m1) (hg : RG N m c (xs ++ ys) m1 c1) (hb : BR T N m1 c1 p m') (hf : FRM (eM q) m1 m') (h1 : qkN (eM q) = true) (hl : (xs.length : Int) + ys.length ≤ 6000) : CEr T N m i c e m' p 6 := by
  obtain ⟨zs, c', g1, g2, g3, g4, g5⟩ := hb
  obtain ⟨n1, n2, n3, n4, n5, n6⟩ := g
  obtain ⟨r1, r2, r3, r4⟩ := hg
  obtain ⟨w1, w2, w3⟩ := r3
  have hr := h.rng
  rw [List.length_append] at r4
  exact ⟨g5, n2.trans (QKp.fr hf n1.1 h1), r2.trans g2, n1.fr hf, by rw [tg_of hf n1.1 (by omega)]; exact n4, zs, c', g1, ⟨by omega, by omega⟩, ⟨by omega, by omega⟩⟩
end
section
variable {T tp e N : Int} {t : Int → Int}
/-- a word and its literal -/
theorem lit_w {d op : Nat} {m : Mem} {i c : Int} {xs : List Int} {a : Int} {cs : List Int} {k : Nat} {b : Int} (hd : 6 ≤ d) (h : CS m T tp e i t op N xs c) (hL : (xs.length : Int) + 3 * (e - i) ≤ 5900) (hS : SC m a cs) (hcs : 0 < cs.length) (hk : 40 ≤ k ∧ k ≤ 44) (hy : [w8 b] = enV (litN (k, 0, [], [])) foN) (hw : wfF (foC (litN (k, 0, [], [])) foN foN)) :
    CR 10 T tp e t op N m i c xs (bV (cl d 64 [pR T, pR a] m) fun m10 => nm (vl m10 T 4) fun v39 => gd (tg m10 v39 = 8) <| bV (cl d 130 [pR v39, pI b] m10) fun m11 => nw (nx m11) (mal m11 24 2) fun o12 m12 => bV (cl d 320 [pR o12, pR (vl m12 T 4), pI xs.length] m12) fun m13 => some (.inl (some (pR o12)), m13)) (sWo t e cs i fun j => qN k 0 [] foN j) 16 := by
  have hr := h.rng
  have hz := h.1.1
  have hT := h.2.2.1
  obtain ⟨s1, s2⟩ := c64 (d := d) (by omega) hz h.2.2.2.1 hS
  unfold sWo
  cases hE : sW t e cs i with
  | inl p =>
    obtain ⟨j, j0, j1, e1⟩ := s2 p hE
    exact CR.inl (by rw [bV_xq e1]) (h.bad (j := j) (by omega))
  | inr j =>
    obtain ⟨b1, b2, b3, e1⟩ := s1 j hE
    have h1 := h.at (j := j) (by omega) b2
    have n1 : NG T m (mst m T 2 j) := (NG.refl h).at
    have hR := h.2.2.2.2.2.2.1
    have r1 : RG N m c xs (mst m T 2 j) c := RG.atR hR (Or.inr hT) h.2.1
    obtain ⟨m2, c2, e2, g2⟩ := c130 (d := d) (b := b) (by omega) h1.1 h1.2.1 h1.2.2.2.2.2.2.1 (by omega)
    have f2 := cl_FRM e2
    have n2 := n1.fr f2 (by rfl) (by rfl) ⟨by rfl, by rfl⟩
    have hX2 := h1.2.2.2.1.fr f2 h1.1.1 (by rfl)
    have hn2 : nx m ≤ nx m2 := f2.1.2.1
    obtain ⟨e320, t24, hj, co⟩ := CO.lit (d := d) (v := 0) (us := []) h hL n2 hX2 (r1.trans g2 (by simp)) hk hy hw (by simp <;> omega) (by omega) hn2
    have v41 : vl (mst m T 2 j) T 4 = N := h1.2.2.2.2.1
    have hTn : T ≠ nx m2 := by have := tz_lt n2.1.1 (x := T) (by rw [n2.2.2.2.1]; decide); omega
    have v43 : vl (mal m2 24 2) T 4 = N := by rw [vl_mal, if_neg hTn, n2.2.2.2.2.1]; exact h.2.2.2.2.1
    refine CR.inr (j' := j) (o := (nx m2)) (m' := mst (mst (mal m2 24 2) (nx m2) 0 N) (nx m2) 1 xs.length) ?_ ?_ (plc_ex hj) ?_ rfl
    · rw [bV_eq e1, nm_eq, v41, gd_of h1.2.2.2.2.2.2.1.1, bV_eq e2, nw_eq, v43, bV_eq e320]
    · unfold cls; rw [if_neg (by decide), if_neg (by decide), if_neg (by decide), if_pos rfl]; omega
    · rw [wrQ10]; exact co
/-- length, count, value from the bracket on -/
theorem c99 {n d op : Nat} {m : Mem} {i c ch : Int} {xs : List Int} (HQ : QQ false T tp e t N n) (H10 : QH T tp e t N n 10 9 (fun d m => cl d 98 [pR T] m)) (h : CS m T tp e i t op N xs c) (hL : (xs.length : Int) + 3 * (e - i) ≤ 5900) (ho : op ≤ 16) (hd : dpn op 8 ≤ d) (hch : ch = 108 ∨ ch = 99 ∨ ch = 118) :
    CR 10 T tp e t op N m i c xs (cl d 99 [pR T, pI ch] m) (if pk t e i = 40 ∧ op < 16 then (if ch = 108 then bnd (sQ t e n 10 (op + 1) false (sB t e (i + 1))) fun X k => (if pk t e (sB t e k) = 41 then qN 46 0 [] X (sB t e k + 1) else qE (sB t e k)) else (if qb (pk t e (sB t e (i + 1))) then bnd (sQ t e n 0 (op + 1) false (sB t e (i + 1) + 1)) fun S k => (if pk t e (sB t e k) = 41 then qN (if ch = 99 then 47 else 48) 0 [] (foC (20, rot (pk t e (sB t e (i + 1))), [], []) S foN) (sB t e k + 1) else qE (sB t e k)) else qE (sB t e (i + 1)))) else qE i) 40 := by
  unfold dpn at hd
  have hr := h.rng
  have hz := h.1.1
  have hT := h.2.2.1
  have e63 := c63 (d := d - 1) hz h.2.2.2.1
  by_cases q40 : pk t e i = 40
  · have hlt : i < e := pkf_lt (t := t) (by omega)
    have e66 := c66_1 (d := d - 1) (m := m) (T := T) (by omega) hz
    have stA : ∀ Q, (bV (cl (d - 1) 86 [pR T] m) fun m2 => bV (cl (d - 1) 62 [pR T] m2) fun m3 => if ch = 108 then (nw (nx m3) (mal m3 25 1) fun o10 m10 => bR (cl (d - 1) 98 [pR T] m10) fun v11 m11 => bV (cl (d - 1) 322 [pR o10, pR v11] m11) fun m12 => rn d 99 79 [pR T, pI ch, pR o10] [] m12) else bI (cl (d - 1) 97 [pR T] m3) fun v4 m4 => bV (cl (d - 1) 66 [pR T, pI v4] m4) fun m5 => nw (nx m5) (mal m5 23 2) fun o6 m6 => bR (cl (d - 1) 82 [pR T, pI 0] m6) fun v7 m7 => if ch = 99 then (bV (cl (d - 1) 318 [pR o6, pR v7, pI 1] m7) fun m9 => rn d 99 79 [pR T, pI ch, pR o6] [] m9) else bV (cl (d - 1) 318 [pR o6, pR v7, pI 0] m7) fun m8 => rn d 99 79 [pR T, pI ch, pR o6] [] m8) = some Q → cl d 99 [pR T, pI ch] m = some Q := by
      intro Q hQ
      refine q99 (by omega) hz _ ?_
      rw [gd_of hT, bI_eq e63, if_pos q40]
      refine q99_15 (by omega) hz _ ?_
      rw [gd_of hT, bV_eq e66, gd_of hT]
      exact hQ
    by_cases h16 : op < 16
    · rw [if_pos ⟨q40, h16⟩]
      have e86 := c86_1 (d := d - 1) (by omega) h hlt h16
      have h1 := h.opn (op' := op + 1) (v := (op : Int) + 1) (by push_cast; rfl)
      have h2 := h1.at (j := i + 1) (by omega) (by omega)
      have rb := sB_rng t (e := e) (i := i + 1) (by omega)
      have e62 := c62 (d := d - 1) (by omega) h2.1.1 h2.2.2.2.1
      have h3 := h2.sb
      rw [mst_mst] at h3 e62
      have g3 := ((CPg.refl h).opn h (v := (op : Int) + 1)).at (k := sB t e (i + 1)) (s' := 40) h1 (by omega) (by omega)
      have e97 := c97 (d := d - 1) (by omega) h3
      generalize hM3 : mst (mst m T 5 ((op : Int) + 1)) T 2 (sB t e (i + 1)) = M3 at *
      have clo : ∀ (j s o : Int) (m1 : Mem) (F : Fo) (Q0 : RM), CO T tp e t (op + 1) N m i c xs m1 j s o F → 20 ≤ s → cntF F = 1 → (tg m1 o = 23 ∨ tg m1 o = 25) → (∀ Q, rn d 99 79 [pR T, pI ch, pR o] [] m1 = some Q → Q0 = some Q) → (∀ k v, F = foC (k, v, [], []) foN foN → True) → CR 10 T tp e t op N m i c xs Q0 (if pk t e (sB t e j) = 41 then some (.inr (F, sB t e j + 1)) else qE (sB t e j)) 40 := by
        intro j s o m1 F Q0 co hs hF ht hQ0 _
        have hz1 : TZ m1 := by obtain ⟨cc, xx, a1, -⟩ := co; exact a1.1.1
        have hT1 : tg m1 T = 5 := by obtain ⟨cc, xx, a1, -⟩ := co; exact a1.2.2.1
        by_cases q41 : pk t e (sB t e j) = 41
        · rw [if_pos q41]
          obtain ⟨k1, k2⟩ := CO.close (d := d - 1) (ch := 41) (f := fun m2 => some (.inl (some (pR o)), m2)) (by omega) (by omega) co q41 (by decide)
          have hj : sB t e j + 1 ≤ e := by obtain ⟨cc, xx, a1, -⟩ := k2; exact a1.rng.2.1
          refine CR.inr (o := o) (m' := mst (mst m1 T 2 (sB t e j + 1)) T 5 op) (hQ0 _ (q99_79 (by omega) hz1 _ ?_)) ?_ (plc_ex hj) ?_ (by rw [wrQ10]; exact hF)
          · rw [gd_of hT1]; exact k1
          · unfold cls; rw [if_neg (by decide), if_neg (by decide), if_neg (by decide), if_pos rfl]
            show tg m1 o = 23 ∨ tg m1 o = 24 ∨ tg m1 o = 25
            omega
          · rw [wrQ10]; exact k2.weak hs
        · rw [if_neg q41]
          obtain ⟨m9, k1, k2⟩ := CO.opn (d := d - 1) (ch := 41) (f := fun m2 => some (.inl (some (pR o)), m2)) (by omega) co q41 (by omega)
          refine CR.inl (hQ0 _ (q99_79 (by omega) hz1 _ ?_)) (k2.weak (by omega))
          rw [gd_of hT1]; exact k1
      by_cases q108 : ch = 108
      · rw [if_pos q108]
        have hn := h3.new (q := 25) (n := 1) (by omega)
        have gn := g3.new (q := 25) (n := 1) h3 (by omega) (by omega)
        have key := H10 (d - 1) (op + 1) _ _ _ _ hn (by omega) (by omega) (by unfold dpn; omega) (fun q => by omega) (fun q => by omega)
        have st : ∀ Q, (bR (cl (d - 1) 98 [pR T] (mal M3 25 1)) fun v11 m11 => bV (cl (d - 1) 322 [pR (nx M3), pR v11] m11) fun m12 => rn d 99 79 [pR T, pI ch, pR (nx M3)] [] m12) = some Q → cl d 99 [pR T, pI ch] m = some Q := by
          intro Q hQ
          refine stA Q ?_
          rw [bV_eq e86, bV_eq e62, if_pos q108, nw_eq]; exact hQ
        cases hE : sQ t e n 10 (op + 1) false (sB t e (i + 1)) with
        | none => exact CR.no
        | some yy =>
          rw [hE] at key
          rcases yy with p | ⟨X, k⟩
          · obtain ⟨m', e1, ce⟩ := key.2 p rfl
            exact CR.inl (st _ (by rw [bR_xq e1])) (ce.pre gn (by rw [if_pos rfl]; omega))
          · obtain ⟨m', x, j', e1, tc, pl, co, hc⟩ := key.1 X k rfl
            rw [plc_eq (by decide)] at pl
            subst pl
            rw [wrQ10] at co
            obtain ⟨ck, tk, tm, -⟩ := CO.kid (kd := 46) (v := vl m' (nx M3) 1) hz h3 g3 (by omega) (by omega) co (by omega) (fun M N xs ht _ => by rw [CB_46 rfl]; exact ht)
            have es : mst (mst m' (nx M3) 0 x) (nx M3) 1 (vl m' (nx M3) 1) = mst m' (nx M3) 0 x := mst_self (by rw [vl_mst, if_neg (by omega)])
            rw [es] at ck tk
            have hz' : TZ m' := by obtain ⟨c', xs', a1, -⟩ := co; exact a1.1.1
            have e322 : cl (d - 1) 322 [pR (nx M3), pR x] m' = some (.inl none, mst m' (nx M3) 0 x) := by
              refine q322 hz' _ ?_
              rw [gd_of tm]
            exact clo j' _ (nx M3) _ _ _ ck (by omega) rfl (by omega) (fun Q hQ => st Q (by rw [bR_eq e1, bV_eq e322]; exact hQ)) (fun _ _ _ => trivial)
      · rw [if_neg q108]
        by_cases hb : qb (pk t e (sB t e (i + 1)))
        · rw [if_pos hb]
          rw [if_pos hb] at e97
          have e66b := c66_1 (d := d - 1) (m := M3) (T := T) (by omega) h3.1.1
          have hn := h3.new (q := 23) (n := 2) (by omega)
          have gn := g3.new (q := 23) (n := 2) h3 (by omega) (by omega)
          have key := HQ (d - 1) (op + 1) _ _ _ _ hn (by omega) (by omega) (by unfold dpn; omega) hb
          have st : ∀ Q, (bR (cl (d - 1) 82 [pR T, pI 0] (mal M3 23 2)) fun v7 m7 => if ch = 99 then (bV (cl (d - 1) 318 [pR (nx M3), pR v7, pI 1] m7) fun m9 => rn d 99 79 [pR T, pI ch, pR (nx M3)] [] m9) else bV (cl (d - 1) 318 [pR (nx M3), pR v7, pI 0] m7) fun m8 => rn d 99 79 [pR T, pI ch, pR (nx M3)] [] m8) = some Q → cl d 99 [pR T, pI ch] m = some Q := by
            intro Q hQ
            refine stA Q ?_
            rw [bV_eq e86, bV_eq e62, if_neg q108, bI_eq e97, bV_eq e66b, nw_eq]; exact hQ
          cases hE : sQ t e n 0 (op + 1) false (sB t e (i + 1) + 1) with
          | none => exact CR.no
          | some yy =>
            rw [hE] at key
            rcases yy with p | ⟨S, j'⟩
            · obtain ⟨m', e1, ce⟩ := key.2 p rfl
              exact CR.inl (st _ (by rw [bR_xq (show cl (d - 1) 82 [pR T, pI 0] _ = some (Sum.inr 204, m') from e1)])) (ce.pre gn (by omega))
            · obtain ⟨m', x, e1, tc, co⟩ := key.1 S j' rfl
              have e1' : cl (d - 1) 82 [pR T, pI 0] (mal M3 23 2) = some (Sum.inl (some (pR x)), m') := e1
              have hz' : TZ m' := by obtain ⟨c', xs', a1, -⟩ := co; exact a1.1.1
              by_cases q99 : ch = 99
              · obtain ⟨ck, tk, tm, -⟩ := CO.kid (kd := 47) (v := 1) hz h3 g3 (by omega) (by omega) co (by omega) (fun M N xs ht hv => by rw [CB_45 (Or.inr (Or.inl rfl))]; exact ⟨ht, hv⟩)
                have e318 : cl (d - 1) 318 [pR (nx M3), pR x, pI 1] m' = some (.inl none, mst (mst m' (nx M3) 0 x) (nx M3) 1 1) := by
                  refine q318 hz' _ ?_
                  rw [gd_of tm, gd_of (Or.inr rfl)]
                have key3 := clo j' _ (nx M3) _ _ _ ck (by omega) rfl (by omega) (fun Q hQ => st Q (by rw [bR_eq e1', if_pos q99, bV_eq e318]; exact hQ)) (fun _ _ _ => trivial)
                rw [if_pos q99]
                exact key3
              · obtain ⟨ck, tk, tm, -⟩ := CO.kid (kd := 48) (v := 0) hz h3 g3 (by omega) (by omega) co (by omega) (fun M N xs ht hv => by rw [CB_45 (Or.inr (Or.inr rfl))]; exact ⟨ht, hv⟩)
                have e318 : cl (d - 1) 318 [pR (nx M3), pR x, pI 0] m' = some (.inl none, mst (mst m' (nx M3) 0 x) (nx M3) 1 0) := by
                  refine q318 hz' _ ?_
                  rw [gd_of tm, gd_of (Or.inl rfl)]
                have key3 := clo j' _ (nx M3) _ _ _ ck (by omega) rfl (by omega) (fun Q hQ => st Q (by rw [bR_eq e1', if_neg q99, bV_eq e318]; exact hQ)) (fun _ _ _ => trivial)
                rw [if_neg q99]
                exact key3
        · rw [if_neg hb]
          rw [if_neg hb] at e97
          have e66b := c66_0 (d := d - 1) (by omega) h3.1.1 h3.2.2.2.1
          refine CR.inl (stA _ ?_) ((h3.bad0 (p := sB t e (i + 1)) (u := 6) (by omega)).pre g3 (by omega))
          rw [bV_eq e86, bV_eq e62, if_neg q108, bI_eq e97, bV_xq e66b]
    · rw [if_neg (fun z => h16 z.2)]
      have e86 := c86_0 (d := d - 1) (by omega) h h16
      exact CR.inl (stA _ (by rw [bV_xq e86])) (h.bad0 (p := i) (by omega))
  · rw [if_neg (fun z => q40 z.1)]
    have e66 := c66_0 (d := d - 1) (by omega) hz h.2.2.2.1
    refine CR.inl (q99 (by omega) hz _ ?_) (h.bad0 (p := i) (by omega))
    rw [gd_of hT, bI_eq e63, if_neg q40]
    refine q99_15 (by omega) hz _ ?_
    rw [gd_of hT, bV_xq e66]
end
