/-! evaluation by the component: a filter, any and all -/
set_option maxRecDepth 100000
set_option maxHeartbeats 4000000
theorem eB_eR {α : Type} {g : EV α} : eB g (fun e => eR e) = g := by
  funext w
  cases hE : g w with
  | none => rw [eB_none hE]
  | some z => obtain ⟨a, w'⟩ := z; rw [eB_some hE]; rfl
section
variable {P : Int → Prop} {d : Nat} {m m0 : Mem} {R rw c rt w cap a0 t0 : Int} {xs stk : List Int} {x : Nk} {y : Nd} {f : Nd → EV Bool}
theorem c313_32 (hd : 3 ≤ d) (hx : xs.length < 60000) (hN : NV xs x) (h5 : ¬ x.2.2.1.1 < 5) (ht0 : tg m0 a0 = 20 ∧ vl m0 a0 0 = t0) (htp : 0 < tg m0 t0) (H : ∀ (m1 : Mem) (stk1 : List Int) (w1 cap1 : Int) (q : Nk), q ∈ kdS x → w1 ≤ 10000 → EC m1 R rw xs c rt stk1 w1 cap1 → EK P m0 m1 → EVb P m1 R rw xs c rt stk1 cap1 (ci (d - 1) 302 (tg m0 t0) [pR t0, pR R, pI q.1] m1) (f (q :: x :: y) w1)) : ∀ (F : Fo) (p : Int) (k : Nat) (m : Mem) (stk : List Int) (w cap : Int), At xs p (enF (x.2.2.1.1 == 6) F) → p + (enF (x.2.2.1.1 == 6) F).length = x.1 + (enV x.2.2.1 x.2.2.2.1).length → wfF F → (∀ q ∈ kdL (x.2.2.1.1 == 6) F p k, q ∈ kdS x) → EC m R rw xs c rt stk w cap → EK P m0 m → w ≤ 10000 → EVs P m R rw xs c rt stk cap (rn d 313 32 [pR a0, pR R, pI x.1, pI (x.1 + (enV x.2.2.1 x.2.2.2.1).length), pI (nxK (x.2.2.1.1 == 6) F p)] [] m) (eF f (x :: y) (kdL (x.2.2.1.1 == 6) F p k) w) := by
  intro F
  induction F with
  | leaf =>
    intro p k m stk w cap hp he hw hsub h hk hw1
    refine EVs.nil h hw1 (q313_32 (by omega) h.1.1 _ ?_)
    rw [enF_leaf] at he
    rw [if_neg (by show ¬ p < _; simp at he; omega)]
  | inner n dd u l r ihl ihr =>
    intro p k m stk w cap hp he hw hsub h hk hw1
    rw [enF_inner] at hp he
    obtain ⟨b1, b2⟩ := hp.app
    obtain ⟨b3, b4⟩ := b2.app
    simp only [List.length_append] at he
    have hpos := enV_pos dd l
    rw [kdL_inner] at hsub ⊢
    show EVs P m R rw xs c rt stk cap (rn d 313 32 [pR a0, pR R, pI x.1, pI (x.1 + (enV x.2.2.1 x.2.2.2.1).length), pI (p + ((if (x.2.2.1.1 == 6) = true then nmB dd.2.2.2 else []).length : Int))] [] m) (eB eT (fun _ => eB (f (_ :: x :: y)) fun b => eB (if b then eA (_ :: x :: y) else eR []) fun a => eB (eF f (x :: y) (kdL (x.2.2.1.1 == 6) r _ (k + 1))) fun e => eR (a ++ e)) w)
    generalize hq : p + ((if (x.2.2.1.1 == 6) = true then nmB dd.2.2.2 else []).length : Int) = q at *
    have hlt : q < x.1 + (enV x.2.2.1 x.2.2.2.1).length := by push_cast at he; omega
    refine EVs.tick (d := d - 1) (Q2 := fun m1 => gd (tg m1 a0 = 20) <| nm (vl m1 a0 0) fun v6 => gd (0 < tg m1 v6) <| bI (ci (d - 1) 302 (tg m1 v6) [pR v6, pR R, pI q] m1) fun v2 m2 => if v2 = 0 then (nm (vl m2 R 0) fun v7 => gd (tg m2 v7 = 8) <| bI (cl (d - 1) 151 [pR v7, pI x.1, pI q] m2) fun v3 m3 => rn d 313 32 [pR a0, pR R, pI x.1, pI (x.1 + (enV x.2.2.1 x.2.2.2.1).length), pI v3] [] m3) else bV (cl (d - 1) 106 [pR R, pI q] m2) fun m4 => nm (vl m4 R 0) fun v8 => gd (tg m4 v8 = 8) <| bI (cl (d - 1) 151 [pR v8, pI x.1, pI q] m4) fun v5 m5 => rn d 313 32 [pR a0, pR R, pI x.1, pI (x.1 + (enV x.2.2.1 x.2.2.2.1).length), pI v5] [] m5) h hw1 (fun e1 Z hZ => q313_32 (by omega) h.1.1 _ ?_) (fun m' e1 => q313_32 (by omega) h.1.1 _ ?_) (fun hw2 h1 k1 => ?_)
    · rw [if_pos hlt, gd_of h.2.1, bV_eq e1]; exact hZ
    · rw [if_pos hlt, gd_of h.2.1, bV_xq e1]
    generalize hm1 : mst m R 4 (w + 1) = m1 at *
    have k01 := hk.trans k1
    have ta : tg m1 a0 = 20 := by rw [(k01.1 a0 (by omega)).1]; exact ht0.1
    have va : vl m1 a0 0 = t0 := by rw [k01.2 a0 0 (by omega) (by omega) (by omega) (by omega) (fun z => by omega)]; exact ht0.2
    have tt : tg m1 t0 = tg m0 t0 := (k01.1 t0 (by omega)).1
    have key := H m1 stk (w + 1) cap (q, n, dd, l, k) (hsub _ (List.mem_cons_self)) hw2 h1 k01
    -- to the next kid
    have nxt : ∀ (m4 : Mem) (stk4 : List Int) (w4 cap4 : Int), EC m4 R rw xs c rt stk4 w4 cap4 → EK P m0 m4 → w4 ≤ 10000 → EVs P m4 R rw xs c rt stk4 cap4 (nm (vl m4 R 0) fun v8 => gd (tg m4 v8 = 8) <| bI (cl (d - 1) 151 [pR v8, pI x.1, pI q] m4) fun v5 m5 => rn d 313 32 [pR a0, pR R, pI x.1, pI (x.1 + (enV x.2.2.1 x.2.2.2.1).length), pI v5] [] m5) (eF f (x :: y) (kdL (x.2.2.1.1 == 6) r (q + (enV dd l).length) (k + 1)) w4) := by
      intro m4 stk4 w4 cap4 h4 k4 hw4
      have e151 := c151 (d := d - 1) (F := r) (by omega) h4.tz h4.row hN.1 hN.2 h5 hx b3 hw.1 b4 (by push_cast at he; omega)
      refine (ihr (q + (enV dd l).length) (k + 1) m4 stk4 w4 cap4 b4 (by push_cast at he; omega) hw.2.2.2.2.2 (fun q' hq' => hsub q' (List.mem_cons_of_mem _ hq')) h4 k4 hw4).of (fun Z hZ => ?_)
      rw [nm_eq, h4.v0, gd_of h4.t0, bI_eq e151]
      exact hZ
    have st : ∀ Z, (bI (ci (d - 1) 302 (tg m0 t0) [pR t0, pR R, pI q] m1) fun v2 m2 => if v2 = 0 then (nm (vl m2 R 0) fun v7 => gd (tg m2 v7 = 8) <| bI (cl (d - 1) 151 [pR v7, pI x.1, pI q] m2) fun v3 m3 => rn d 313 32 [pR a0, pR R, pI x.1, pI (x.1 + (enV x.2.2.1 x.2.2.2.1).length), pI v3] [] m3) else bV (cl (d - 1) 106 [pR R, pI q] m2) fun m4 => nm (vl m4 R 0) fun v8 => gd (tg m4 v8 = 8) <| bI (cl (d - 1) 151 [pR v8, pI x.1, pI q] m4) fun v5 m5 => rn d 313 32 [pR a0, pR R, pI x.1, pI (x.1 + (enV x.2.2.1 x.2.2.2.1).length), pI v5] [] m5) = some Z → (gd (tg m1 a0 = 20) <| nm (vl m1 a0 0) fun v6 => gd (0 < tg m1 v6) <| bI (ci (d - 1) 302 (tg m1 v6) [pR v6, pR R, pI q] m1) fun v2 m2 => if v2 = 0 then (nm (vl m2 R 0) fun v7 => gd (tg m2 v7 = 8) <| bI (cl (d - 1) 151 [pR v7, pI x.1, pI q] m2) fun v3 m3 => rn d 313 32 [pR a0, pR R, pI x.1, pI (x.1 + (enV x.2.2.1 x.2.2.2.1).length), pI v3] [] m3) else bV (cl (d - 1) 106 [pR R, pI q] m2) fun m4 => nm (vl m4 R 0) fun v8 => gd (tg m4 v8 = 8) <| bI (cl (d - 1) 151 [pR v8, pI x.1, pI q] m4) fun v5 m5 => rn d 313 32 [pR a0, pR R, pI x.1, pI (x.1 + (enV x.2.2.1 x.2.2.2.1).length), pI v5] [] m5) = some Z := by
      intro Z hZ
      rw [gd_of ta, nm_eq, va, gd_of (by rw [tt]; exact htp), tt]; exact hZ
    refine EVs.of ?_ st
    cases hE : f ((q, n, dd, l, k) :: x :: y) (w + 1) with
    | none =>
      rw [eB_none hE]
      obtain ⟨m', e1, z⟩ := key.2 hE
      exact ⟨fun ys w' z => (by cases z), fun _ => ⟨m', by rw [bI_xq e1], z⟩⟩
    | some bb =>
      obtain ⟨b, w2⟩ := bb
      rw [eB_some hE]
      obtain ⟨g0, m2, cap2, r2, zs2, g1, g2, g3, g4, rfl, rfl⟩ := key.1 b w2 hE
      rw [List.append_nil] at g2
      cases b with
      | true =>
        rw [if_pos rfl]
        refine EVs.pre ?_ g3 g4
        refine EVs.seq (Q2 := fun m4 => nm (vl m4 R 0) fun v8 => gd (tg m4 v8 = 8) <| bI (cl (d - 1) 151 [pR v8, pI x.1, pI q] m4) fun v5 m5 => rn d 313 32 [pR a0, pR R, pI x.1, pI (x.1 + (enV x.2.2.1 x.2.2.2.1).length), pI v5] [] m5) (c106 (d := d - 1) (a := q) (by omega) g2 g0 rfl) (fun m' e1 Z hZ => ?_) (fun m' e1 => ?_) (fun m' ys w' cap' hw' h' k' => nxt m' _ w' cap' h' ((k01.trans g3).trans k') hw')
        · rw [bI_eq g1, if_neg (by decide), bV_eq e1]; exact hZ
        · rw [bI_eq g1, if_neg (by decide), bV_xq e1]
      | false =>
        rw [if_neg (by decide)]
        have e9 : (eB (eR ([] : List Nd)) fun a => eB (eF f (x :: y) (kdL (x.2.2.1.1 == 6) r (q + (enV dd l).length) (k + 1))) fun e => eR (a ++ e)) w2 = eF f (x :: y) (kdL (x.2.2.1.1 == 6) r (q + (enV dd l).length) (k + 1)) w2 := by
          show (eB (eF f (x :: y) (kdL (x.2.2.1.1 == 6) r (q + (enV dd l).length) (k + 1))) fun e => eR e) w2 = _
          rw [eB_eR]
        rw [e9]
        refine ((nxt m2 stk w2 cap2 g2 (k01.trans g3) g0).pre g3 g4).of (fun Z hZ => ?_)
        rw [bI_eq g1, if_pos (by rfl)]
        exact hZ
/-- the selector that tries each kid -/
theorem c313 {dd : ND} {K : EvT} (hd : 4 ≤ d) (hx : xs.length < 60000) (hN : NV xs x) (h5' : dd.1 = 5) (hf : f = K.tst) (ht0 : tg m a0 = 20 ∧ vl m a0 0 = t0) (htp : 0 < tg m t0) (h : EC m R rw xs c rt stk w cap) (hw : w ≤ 10000) (H : ∀ (m1 : Mem) (stk1 : List Int) (w1 cap1 : Int) (q : Nk), q ∈ kdS x → w1 ≤ 10000 → EC m1 R rw xs c rt stk1 w1 cap1 → EK P m m1 → EVb P m1 R rw xs c rt stk1 cap1 (ci (d - 1) 302 (tg m t0) [pR t0, pR R, pI q.1] m1) (f (q :: x :: y) w1)) : EVs P m R rw xs c rt stk cap (cl d 313 [pR a0, pR R, pI x.1] m) (evS dd K (x :: y) w) := by
  have hlt := hN.lt
  have e139 := c139 (d := d - 1) h.tz h.row hlt.1 hlt.2
  rw [gi_kind hN.1] at e139
  have es : evS dd K (x :: y) w = eF f (x :: y) (kdS x) w := by
    unfold evS; rw [if_pos h5', hf]
  rw [es]
  by_cases h5 : x.2.2.1.1 < 5
  · have ek : kdS x = [] := by unfold kdS; rw [hN.2.2.2.1 h5]; rfl
    rw [ek]
    refine EVs.nil h hw (q313 (by omega) h.tz _ ?_)
    rw [gd_of h.hR, nm_eq, h.v0, gd_of h.t0, bI_eq e139, if_pos (by omega)]
  · obtain ⟨e, hg, hb, hl, -⟩ := enV_many hN.1 h5
    have e137 := c137 (d := d - 1) (by omega) h.tz h.row hN.1 hN.2.1 (by have := hN.1.2.1; have := hN.1.1; omega)
    have e150 := c150 (d := d - 1) (by omega) h.tz h.row hN.1 hN.2 h5 hx
    refine (c313_32 (d := d) (y := y) (by omega) hx hN h5 ht0 htp H x.2.2.2.1 (x.1 + 3) 0 m stk w cap hb (by omega) hN.2.2.2.2.2.1 (fun q hq => hq) h EK.refl hw).of (fun Z hZ => q313 (by omega) h.tz _ ?_)
    rw [gd_of h.hR, nm_eq, h.v0, gd_of h.t0, bI_eq e139, if_neg (by omega), nm_eq, h.v0, gd_of h.t0, bI_eq e137, nm_eq, h.v0, gd_of h.t0, bI_eq e150]
    exact hZ
end
