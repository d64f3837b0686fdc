/-! queries read by the component: a test -/
set_option maxRecDepth 100000
set_option maxHeartbeats 4000000
section
variable {T tp e N : Int} {t : Int → Int}
theorem CR.to {mo mo' op : Nat} {m : Mem} {i c u u' : Int} {xs : List Int} {Q Q' : RM} {x : QR} (h : CR mo T tp e t op N m i c xs Q x u) (h1 : ∀ k, cls mo k → cls mo' k) (h2 : ∀ j j', plc mo t e j j' → plc mo' t e j j') (h3 : ∀ F, wrQ mo F = wrQ mo' F) (hQ : ∀ z, Q = some z → Q' = some z) (hu : u ≤ u') : CR mo' T tp e t op N m i c xs Q' x u' := by
  refine ⟨fun F j z => ?_, fun p z => ?_⟩
  · obtain ⟨m', o, j', e1, b1, b2, b3, b4⟩ := h.1 F j z
    exact ⟨m', o, j', hQ _ e1, h1 _ b1, h2 _ _ b2, by rw [← h3]; exact b3, by rw [← h3]; exact b4⟩
  · obtain ⟨m', e1, b1⟩ := h.2 p z
    exact ⟨m', hQ _ e1, b1.weak hu⟩
theorem plc_eq {mo : Nat} {j j' : Int} (hm : mo ≠ 4 ∧ mo ≠ 5 ∧ mo ≠ 6) : plc mo t e j j' = (j' = j) := by unfold plc; rw [if_neg (by omega)]
theorem c95_1 {n d op : Nat} {m : Mem} {i c : Int} {xs : List Int} (HQ : QQ false T tp e t N n) (H8 : QH T tp e t N n 8 10 (fun d m => cl d 96 [pR T] m)) (h : CS m T tp e i t op N xs c) (hL : (xs.length : Int) + 3 * (e - i) ≤ 5900) (ho : op ≤ 16) (hd : dpn op 11 ≤ d) (q33 : pk t e i = 33) : CR 7 T tp e t op N m i c xs (cl d 95 [pR T] m)
        (if pk t e (sB t e (i + 1)) = 40 then bnd (sQ t e n 8 op false (sB t e (i + 1))) fun X j => qN 32 0 [] X j
        else if qb (pk t e (sB t e (i + 1))) then bnd (sQ t e n 0 op false (sB t e (i + 1) + 1)) fun S j => qN 32 0 [] (foC (34, 0, [], []) (foC (20, rot (pk t e (sB t e (i + 1))), [], []) S foN) foN) j
        else qE (sB t e (i + 1))) 30 := by
  unfold dpn at hd
  have hr := h.rng
  have hz := h.1.1
  have hT := h.2.2.1
  have v2 := h.2.2.2.1.2.2.2.1
  have e63 := c63 (d := d - 1) hz h.2.2.2.1
  have hlt : i < e := pkf_lt (t := t) (by omega)
  have h1 := h.at (j := i + 1) (by omega) (by omega)
  have rb := sB_rng t (e := e) (i := i + 1) (by omega)
  have e62 := c62 (d := d - 1) (by omega) h1.1.1 h1.2.2.2.1
  have h2 := h1.sb
  rw [mst_mst] at h2 e62
  have g2 : CPg T N m i c xs (mst m T 2 (sB t e (i + 1))) (sB t e (i + 1)) c xs 40 := CPg.at0 h (by omega) (by omega)
  have e632 := c63 (d := d - 1) h2.1.1 h2.2.2.2.1
  have e97 := c97 (d := d - 1) (by omega) h2
  generalize hM2 : mst m T 2 (sB t e (i + 1)) = M2 at *
  have st : ∀ Q, (if pk t e (sB t e (i + 1)) = 40 then (nw (nx M2) (mal M2 21 1) fun o21 m21 => bR (cl (d - 1) 96 [pR T] m21) fun v22 m22 => bV (cl (d - 1) 314 [pR o21, pR v22] m22) fun m23 => some (.inl (some (pR o21)), m23)) else bV (cl (d - 1) 66 [pR T, pI (if qb (pk t e (sB t e (i + 1))) then 1 else 0)] M2) fun m15 => nw (nx m15) (mal m15 21 1) fun o16 m16 => nw (nx m16) (mal m16 22 1) fun o17 m17 => bR (cl (d - 1) 82 [pR T, pI 0] m17) fun v18 m18 => bV (cl (d - 1) 316 [pR o17, pR v18] m18) fun m19 => bV (cl (d - 1) 314 [pR o16, pR o17] m19) fun m20 => some (.inl (some (pR o16)), m20)) = some Q → cl d 95 [pR T] m = some Q := by
    intro Q hQ
    refine q95 (by omega) hz _ ?_
    rw [gd_of hT, bI_eq e63, if_pos q33, v2, (w32_of (by omega) (by omega) : w32 (i + 1) = i + 1), bV_eq e62, bI_eq e632]
    by_cases y : pk t e (sB t e (i + 1)) = 40
    · rw [if_pos y] at hQ ⊢; exact hQ
    · rw [if_neg y] at hQ ⊢
      rw [bI_eq e97]; exact hQ
  have hn := h2.new (q := 21) (n := 1) (by omega)
  have gn := g2.new (q := 21) (n := 1) h2 (by omega) (by omega)
  by_cases y : pk t e (sB t e (i + 1)) = 40
  · rw [if_pos y]
    rw [if_pos y] at st
    have key := H8 (d - 1) op _ _ _ _ hn (by omega) ho (by unfold dpn; omega) (fun q => by omega) (fun _ => y)
    cases hE : sQ t e n 8 op false (sB t e (i + 1)) with
    | none => exact CR.no
    | some yy =>
      rw [hE] at key
      rcases yy with p | ⟨X, j⟩
      · obtain ⟨m', e1, ce⟩ := key.2 p rfl
        exact CR.inl (st _ (by rw [nw_eq, bR_xq e1])) (ce.pre gn (by rw [if_neg (by decide)]; omega))
      · obtain ⟨m', x, j', e1, tc, pl, co, hc⟩ := key.1 X j rfl
        rw [plc_eq (by decide)] at pl
        subst pl
        rw [wrQ8] at co
        obtain ⟨ck, tk, tm, -⟩ := CO.kid (kd := 32) (v := vl m' (nx M2) 1) hz h2 g2 (by omega) (by omega) co (by omega) (fun M N xs ht _ => by rw [CB_32 rfl]; exact ht)
        have es : mst (mst m' (nx M2) 0 x) (nx M2) 1 (vl m' (nx M2) 1) = mst m' (nx M2) 0 x := mst_self (by rw [vl_mst, if_neg (by omega)])
        rw [es] at ck tk
        have hz' : TZ m' := by obtain ⟨c', xs', a1, -⟩ := co; exact a1.1.1
        have hj : j' ≤ e := by obtain ⟨c', xs', a1, -⟩ := co; exact a1.rng.2.1
        have e314 : cl (d - 1) 314 [pR (nx M2), pR x] m' = some (.inl none, mst m' (nx M2) 0 x) := by
          refine q314 hz' _ ?_
          rw [gd_of tm]
        refine CR.inr (st _ (by rw [nw_eq, bR_eq e1, bV_eq e314])) (mk_cls7 (by omega)) (plc_ex hj) ?_ rfl
        rw [wrQ7]; exact ck.weak (by omega)
  · rw [if_neg y]
    rw [if_neg y] at st
    by_cases hb : qb (pk t e (sB t e (i + 1)))
    · rw [if_pos hb]
      rw [if_pos hb] at st
      have hn2 := hn.new (q := 22) (n := 1) (by omega)
      have gn2 := (CPg.refl hn).new (q := 22) (n := 1) hn (by omega) (by omega)
      have key := HQ (d - 1) op _ _ _ _ hn2 (by omega) ho (by unfold dpn; omega) hb
      cases hE : sQ t e n 0 op false (sB t e (i + 1) + 1) with
      | none => exact CR.no
      | some yy =>
        rw [hE] at key
        have e66 := c66_1 (d := d - 1) (m := M2) (T := T) (by omega) h2.1.1
        rcases yy with p | ⟨S, j'⟩
        · obtain ⟨m', e1, ce⟩ := key.2 p rfl
          refine CR.inl (st _ ?_) ((ce.pre gn2 (u' := 20) (by omega)).pre gn (by omega))
          rw [bV_eq e66, nw_eq, nw_eq]
          exact (by rw [show cl (d - 1) 82 [pR T, pI 0] _ = some (Sum.inr 204, m') from e1]; rfl)
        · obtain ⟨m', x, e1, tc, co⟩ := key.1 S j' rfl
          obtain ⟨ck, tk, tm, -⟩ := CO.kid (m := mal M2 21 1) (kd := 34) (v := vl m' (nx (mal M2 21 1)) 1) hn.1.1 hn (CPg.refl hn) (by omega) (by omega) co (by omega) (fun M N xs ht _ => by rw [CB_34 rfl]; exact ht)
          have es : mst (mst m' (nx (mal M2 21 1)) 0 x) (nx (mal M2 21 1)) 1 (vl m' (nx (mal M2 21 1)) 1) = mst m' (nx (mal M2 21 1)) 0 x := mst_self (by rw [vl_mst, if_neg (by omega)])
          rw [es] at ck tk
          have hz' : TZ m' := by obtain ⟨c', xs', a1, -⟩ := co; exact a1.1.1
          have hj : j' ≤ e := by obtain ⟨c', xs', a1, -⟩ := co; exact a1.rng.2.1
          have e316 : cl (d - 1) 316 [pR (nx (mal M2 21 1)), pR x] m' = some (.inl none, mst m' (nx (mal M2 21 1)) 0 x) := by
            refine q316 hz' _ ?_
            rw [gd_of tm]
          generalize hM3 : mst m' (nx (mal M2 21 1)) 0 x = M3 at *
          obtain ⟨ck2, tk2, tm2, -⟩ := CO.kid (kd := 32) (v := vl M3 (nx M2) 1) hz h2 g2 (by omega) (by omega) ck (by omega) (fun M N xs ht _ => by rw [CB_32 rfl]; exact ht)
          have es2 : mst (mst M3 (nx M2) 0 (nx (mal M2 21 1))) (nx M2) 1 (vl M3 (nx M2) 1) = mst M3 (nx M2) 0 (nx (mal M2 21 1)) := mst_self (by rw [vl_mst, if_neg (by omega)])
          rw [es2] at ck2 tk2
          have hz3 : TZ M3 := by obtain ⟨c', xs', a1, -⟩ := ck; exact a1.1.1
          have e314 : cl (d - 1) 314 [pR (nx M2), pR (nx (mal M2 21 1))] M3 = some (.inl none, mst M3 (nx M2) 0 (nx (mal M2 21 1))) := by
            refine q314 hz3 _ ?_
            rw [gd_of tm2]
          refine CR.inr (o := nx M2) (m' := mst M3 (nx M2) 0 (nx (mal M2 21 1))) (st _ ?_) (mk_cls7 (by omega)) (plc_ex hj) ?_ rfl
          · rw [bV_eq e66, nw_eq, nw_eq, bR_eq (show cl (d - 1) 82 [pR T, pI 0] _ = some (Sum.inl (some (pR x)), m') from e1), bV_eq e316, bV_eq e314]
          · rw [wrQ7]; exact ck2.weak (by omega)
    · rw [if_neg hb]
      rw [if_neg hb] at st
      have e66 := c66_0 (d := d - 1) (by omega) h2.1.1 h2.2.2.2.1
      exact CR.inl (st _ (by rw [bV_xq e66])) ((h2.bad0 (p := sB t e (i + 1)) (u := 6) (by omega)).pre g2 (by omega))
/-- a test -/
theorem c95 {n : Nat} (HQ : QQ false T tp e t N n) (H8 : QH T tp e t N n 8 10 (fun d m => cl d 96 [pR T] m)) (H10 : QH T tp e t N n 10 9 (fun d m => cl d 98 [pR T] m)) : QH T tp e t N (n + 1) 7 11 (fun d m => cl d 95 [pR T] m) := by
  intro d op m i c xs h hL ho hd _ _
  have hd' := hd
  unfold dpn at hd
  have hr := h.rng
  have hz := h.1.1
  have hT := h.2.2.1
  have e63 := c63 (d := d - 1) hz h.2.2.2.1
  have e97 := c97 (d := d - 1) (by omega) h
  show CR 7 T tp e t op N m i c xs (cl d 95 [pR T] m) (sQ t e (n + 1) 7 op false i) 30
  unfold sQ
  rw [if_neg (by decide : ¬ (7 : Nat) = 0), if_neg (by decide : ¬ (7 : Nat) = 1), if_neg (by decide : ¬ (7 : Nat) = 2), if_neg (by decide : ¬ (7 : Nat) = 3), if_neg (by decide : ¬ (7 : Nat) = 4), if_neg (by decide : ¬ (7 : Nat) = 5), if_neg (by decide : ¬ (7 : Nat) = 6), if_pos (rfl : (7 : Nat) = 7)]
  by_cases q33 : pk t e i = 33
  · rw [if_pos q33]
    exact c95_1 HQ H8 h hL ho hd' q33
  rw [if_neg q33]
  by_cases q40 : pk t e i = 40
  · rw [if_pos q40]
    have key := H8 (d - 1) op _ _ _ _ h hL ho (by unfold dpn; omega) (fun q => by omega) (fun _ => q40)
    rw [if_neg (by decide : ¬ (8 : Nat) = 10)] at key
    have st : ∀ Q, (bR (cl (d - 1) 96 [pR T] m) fun v11 m11 => some (.inl (some (pR v11)), m11)) = some Q → cl d 95 [pR T] m = some Q := by
      intro Q hQ
      refine q95 (by omega) hz _ ?_
      rw [gd_of hT, bI_eq e63, if_neg q33, bI_eq e63, if_pos q40]
      exact hQ
    refine ⟨fun F j z => ?_, fun p z => ?_⟩
    · obtain ⟨m', x, j', e1, tc, pl, co, hc⟩ := key.1 F j z
      rw [wrQ8] at co hc
      rw [plc_eq (by decide)] at pl
      exact ⟨m', x, j', st _ (by rw [bR_eq e1]), cls_any tc (by omega) (by omega), by rw [plc_eq (by decide)]; exact pl, by rw [wrQ7]; exact co, by rw [wrQ7]; exact hc⟩
    · obtain ⟨m', e1, ce⟩ := key.2 p z
      exact ⟨m', st _ (by rw [bR_xq e1]), ce⟩
  rw [if_neg q40]
  have st0 : ∀ Q, (if (if qb (pk t e i) then (1 : Int) else 0) = 0 then (bR (cl (d - 1) 98 [pR T] m) fun v9 m9 => bR (cl (d - 1) 100 [pR T, pR v9] m9) fun v10 m10 => some (.inl (some (pR v10)), m10)) else bR (cl (d - 1) 82 [pR T, pI 0] m) fun v4 m4 => nm (vl m4 T 2) fun v24 => bV (cl (d - 1) 62 [pR T] m4) fun m5 => bI (cl (d - 1) 63 [pR T] m5) fun v6 m6 => if v6 = 61 then (rn d 95 160 [pR T, pR v4, pI v24, pI v6] [] m6) else if v6 = 33 then (rn d 95 160 [pR T, pR v4, pI v24, pI v6] [] m6) else if v6 = 60 then (rn d 95 160 [pR T, pR v4, pI v24, pI v6] [] m6) else if v6 = 62 then (rn d 95 160 [pR T, pR v4, pI v24, pI v6] [] m6) else nw (nx (mst m6 T 2 v24)) (mal (mst m6 T 2 v24) 22 1) fun o7 m7 => bV (cl (d - 1) 316 [pR o7, pR v4] m7) fun m8 => some (.inl (some (pR o7)), m8)) = some Q → cl d 95 [pR T] m = some Q := by
    intro Q hQ
    refine q95 (by omega) hz _ ?_
    rw [gd_of hT, bI_eq e63, if_neg q33, bI_eq e63, if_neg q40, bI_eq e97]
    exact hQ
  by_cases hb : qb (pk t e i)
  · rw [if_pos hb]
    rw [if_pos hb, if_neg (by decide)] at st0
    have key := HQ (d - 1) op _ _ _ _ h hL ho (by unfold dpn; omega) hb
    cases hE : sQ t e n 0 op false (i + 1) with
    | none => exact CR.no
    | some yy =>
      rw [hE] at key
      rcases yy with p | ⟨S, j'⟩
      · obtain ⟨m', e1, ce⟩ := key.2 p rfl
        exact CR.inl (st0 _ (by rw [bR_xq (show cl (d - 1) 82 [pR T, pI 0] m = some (Sum.inr 204, m') from e1)])) (ce.weak (by omega))
      · obtain ⟨m4, x, e1, tc, co⟩ := key.1 S j' rfl
        have co0 := co
        obtain ⟨c', xs', a1, a2, a3, a4⟩ := co
        have ra := a1.rng
        have rj := sB_rng t (e := e) (i := j') ra.2.1
        have e62 := c62 (d := d - 1) (by omega) a1.1.1 a1.2.2.2.1
        have h5 := a1.sb
        have e635 := c63 (d := d - 1) h5.1.1 h5.2.2.2.1
        have v24 : vl m4 T 2 = j' := a1.2.2.2.1.2.2.2.1
        have tx : tg m4 x = 15 := tc
        have vx : vl m4 x 1 = b2i (sgF S) := by
          obtain ⟨⟨b1, -⟩, -⟩ := a3
          rw [CB_20 rfl] at b1
          exact b1.2.2.1
        have xT : x ≠ T := by intro z; rw [z, a1.2.2.1] at tx; cases tx
        show CR 7 T tp e t op N m i c xs _ (if cmp (pk t e (sB t e j')) then (if sgF S = true then (match sOp t e (sB t e j') with
            | .inl p => qE p
            | .inr (o, k) => bnd (sQ t e n 10 op false (sB t e k)) fun R q => qN 33 o [] (foC (45, 0, [], []) (foC (20, rot (pk t e i), [], []) S foN) R) q) else qE (sB t e j'))
          else qN 34 0 [] (foC (20, rot (pk t e i), [], []) S foN) j') 30
        by_cases hcm : cmp (pk t e (sB t e j'))
        · rw [if_pos hcm]
          have st1 : ∀ Q, rn d 95 160 [pR T, pR x, pI j', pI (pk t e (sB t e j'))] [] (mst m4 T 2 (sB t e j')) = some Q → cl d 95 [pR T] m = some Q := by
            intro Q hQ
            refine st0 Q ?_
            rw [bR_eq (show cl (d - 1) 82 [pR T, pI 0] m = some (Sum.inl (some (pR x)), m4) from e1), nm_eq, v24, bV_eq e62, bI_eq e635]
            by_cases k1 : pk t e (sB t e j') = 61
            · rw [if_pos k1]; exact hQ
            · rw [if_neg k1]
              by_cases k2 : pk t e (sB t e j') = 33
              · rw [if_pos k2]; exact hQ
              · rw [if_neg k2]
                by_cases k3 : pk t e (sB t e j') = 60
                · rw [if_pos k3]; exact hQ
                · rw [if_neg k3, if_pos (by omega)]; exact hQ
          have vx5 : vl (mst m4 T 2 (sB t e j')) x 1 = b2i (sgF S) := by rw [vl_mst, if_neg (fun z => xT z.1)]; exact vx
          by_cases hs : sgF S = true
          · rw [if_pos hs]
            have e66 := c66_1 (d := d - 1) (m := mst m4 T 2 (sB t e j')) (T := T) (by omega) h5.1.1
            have cob := co0.at rj.1 rj.2
            have ck := CO.wrap (q := 23) (n := 2) (kd := 45) (v := 0) cob hz (by omega) (by omega) (by omega) (fun M N xs ht hv => by rw [CB_45 (Or.inl rfl)]; exact ⟨ht, hv⟩)
            have e318 : cl (d - 1) 318 [pR (nx (mst m4 T 2 (sB t e j'))), pR x, pI 0] (mal (mst m4 T 2 (sB t e j')) 23 2) = some (.inl none, mst (mst (mal (mst m4 T 2 (sB t e j')) 23 2) (nx (mst m4 T 2 (sB t e j'))) 0 x) (nx (mst m4 T 2 (sB t e j'))) 1 0) := by
              refine q318 (NG_new h5.1).1 _ ?_
              rw [gd_of new_tg.1, gd_of (Or.inl rfl)]
            have key2 := c100 (d := d - 1) H10 (by unfold dpn; omega) ho hz ck rfl (by omega) hL
            rw [sB_idem] at key2
            have st2 : ∀ Q, (bR (cl (d - 1) 100 [pR T, pR (nx (mst m4 T 2 (sB t e j')))] (mst (mst (mal (mst m4 T 2 (sB t e j')) 23 2) (nx (mst m4 T 2 (sB t e j'))) 0 x) (nx (mst m4 T 2 (sB t e j'))) 1 0)) fun v4 m4 => some (.inl (some (pR v4)), m4)) = some Q → cl d 95 [pR T] m = some Q := by
              intro Q hQ
              refine st1 Q (q95_160 (by omega) h5.1.1 _ ?_)
              rw [gd_of (show tg (mst m4 T 2 (sB t e j')) x = 15 from tx), gd_of h5.2.2.1, vx5, hs, b2i_t, bV_eq e66, nw_eq, bV_eq e318]
              exact hQ
            have key3 : CR 7 T tp e t op N m i c xs (cl d 95 [pR T] m) (match sOp t e (sB t e j') with
                | .inl p => qE p
                | .inr (o, k) => bnd (sQ t e n 10 op false (sB t e k)) fun R q => qN 33 o [] (fapp (foC (45, 0, [], []) (foC (20, rot (pk t e i), [], []) S foN) foN) R) q) 30 := by
              refine ⟨fun F j z => ?_, fun p z => ?_⟩
              · obtain ⟨m', x', j'', e1, b⟩ := key2.1 F j z
                exact ⟨m', x', j'', st2 _ (by rw [bR_eq e1]), b⟩
              · obtain ⟨m', e1, ce⟩ := key2.2 p z
                exact ⟨m', st2 _ (by rw [bR_xq e1]), ce⟩
            exact key3
          · rw [if_neg hs]
            have hs' : sgF S = false := by simpa using hs
            have e66 := c66_0 (d := d - 1) (by omega) h5.1.1 h5.2.2.2.1
            have g5 := a2.at (k := sB t e j') (s' := 20) a1 rj.1 (by omega)
            refine CR.inl (st1 _ (q95_160 (by omega) h5.1.1 _ ?_)) ((h5.bad0 (p := sB t e j') (u := 6) (by omega)).pre g5 (by omega))
            rw [gd_of (show tg (mst m4 T 2 (sB t e j')) x = 15 from tx), gd_of h5.2.2.1, vx5, hs', b2i_f, bV_xq e66]
        · rw [if_neg hcm]
          have ck := CO.wrap (q := 22) (n := 1) (kd := 34) (v := 0) co0 hz (by omega) (by omega) (by omega) (fun M N xs ht _ => by rw [CB_34 rfl]; exact ht)
          have t0 : tg (mal m4 22 1) (nx m4) = 22 := new_tg.1
          have es : mst (mst (mal m4 22 1) (nx m4) 0 x) (nx m4) 1 0 = mst (mal m4 22 1) (nx m4) 0 x := mst_self (by rw [vl_mst, if_neg (by omega)]; exact new_tg.2 1)
          rw [es] at ck
          have e316 : cl (d - 1) 316 [pR (nx m4), pR x] (mal m4 22 1) = some (.inl none, mst (mal m4 22 1) (nx m4) 0 x) := by
            refine q316 (NG_new a1.1).1 _ ?_
            rw [gd_of t0]
          refine CR.inr (o := nx m4) (m' := mst (mal m4 22 1) (nx m4) 0 x) (st0 _ ?_) (mk_cls7 (Or.inr (Or.inl t0))) (plc_ex ra.2.1) ?_ rfl
          · rw [bR_eq (show cl (d - 1) 82 [pR T, pI 0] m = some (Sum.inl (some (pR x)), m4) from e1), nm_eq, v24, bV_eq e62, bI_eq e635, if_neg (by omega), if_neg (by omega), if_neg (by omega), if_neg (by omega), mst_mst, mst_self v24, nw_eq, bV_eq e316]
          · rw [wrQ7]; exact ck.weak (by omega)
  · rw [if_neg hb]
    rw [if_neg hb, if_pos rfl] at st0
    have key := H10 (d - 1) op _ _ _ _ h hL ho (by unfold dpn; omega) (fun q => by omega) (fun q => by omega)
    cases hE : sQ t e n 10 op false i with
    | none => exact CR.no
    | some yy =>
      rw [hE] at key
      rcases yy with p | ⟨L, j⟩
      · obtain ⟨m', e1, ce⟩ := key.2 p rfl
        exact CR.inl (st0 _ (by rw [bR_xq e1])) (ce.weak (by rw [if_pos rfl]; omega))
      · obtain ⟨m9, x, j', e1, tc, pl, co, hc⟩ := key.1 L j rfl
        rw [plc_eq (by decide)] at pl
        subst pl
        rw [wrQ10] at co hc
        have key2 := c100 (d := d - 1) H10 (by unfold dpn; omega) ho hz co hc (by omega) hL
        show CR 7 T tp e t op N m i c xs (cl d 95 [pR T] m) (match sOp t e (sB t e j') with
                | .inl p => qE p
                | .inr (o, k) => bnd (sQ t e n 10 op false (sB t e k)) fun R q => qN 33 o [] (fapp L R) q) 30
        refine ⟨fun F j z => ?_, fun p z => ?_⟩
        · obtain ⟨m', x', j'', e2, b⟩ := key2.1 F j z
          exact ⟨m', x', j'', st0 _ (by rw [bR_eq e1, bR_eq e2]), b⟩
        · obtain ⟨m', e2, ce⟩ := key2.2 p z
          exact ⟨m', st0 _ (by rw [bR_eq e1, bR_xq e2]), ce⟩
end
