/-! the twin's texts: values into trees -/
set_option maxRecDepth 100000
set_option maxHeartbeats 4000000
theorem idF_app (A B : Fo) : idF (fapp A B) = idF A ++ idF B := by
  induction A with
  | leaf => rfl
  | inner i d u l r _ ih => simp only [fapp, idF, ih, List.cons_append, List.append_assoc]
theorem lsI_app (k : Nat) (d : ND) (l : Fo) (A : Fo) : ∀ x, lsI x (fapp A (.inner k d () l .leaf)) = k := by
  induction A with
  | leaf => intro x; rfl
  | inner i d' u l' r _ ih => intro x; simp only [fapp, lsI]; exact ih _
/-- nodes of a new value -/
def YV (tr : Int) (m : Mem) (n : Nat) (us : List Int) (C : Int) (k : Int) (nd : ND) (l : Fo) (m' : Mem) : Prop := ∃ (n' : Nat) (us' : List Int) (C' : Int), YT tr n m n us C m' n' us' C' ∧ TN (nv m' tr) us' n' n nd l ∧ (idF l).Nodup ∧ (∀ x, x ∈ idF l → n < x) ∧ (n' : Int) - n ≤ k ∧ (us'.length : Int) - us.length ≤ k ∧ nv m' tr 8 n = -1
/-- whatever was read -/
def YF (tr b : Int) (m : Mem) (n : Nat) (us : List Int) (C : Int) (k : Int) (m' : Mem) : Prop := ∃ (n' : Nat) (us' : List Int) (C' : Int), YT tr b m n us C m' n' us' C' ∧ (n' : Int) - n ≤ k ∧ (us'.length : Int) - us.length ≤ k
def PYv (M tp e tr : Int) (t : Int → Int) (N : Nat) : Prop := ∀ (d dep : Nat) (m : Mem) (i : Int) (n : Nat) (us : List Int) (C : Int) (ob : Bool) (seen : List (List Int)), 10 + 2 * (32 - dep) ≤ d → dep ≤ 32 → YS m M tp e i t → TW m tr n us C → TI m → wfU us → (n : Int) + (e - i) < 20000 → (us.length : Int) + (e - i) ≤ 40000 →
  (∀ F j, sP t e N false dep ob seen (sB t e i) = some (.inr (F, j)) → ∃ nd l, F = foC nd (erF l) foN ∧ i < j ∧ j ≤ e ∧ ∃ m', cl d 197 [pR M, pR tr, pI dep] m = some (.inl (some (pI n)), m') ∧ YX m' M tp e (sB t e j) t ∧ YV tr m n us C (j - i) nd l m') ∧
  (∀ p, sP t e N false dep ob seen (sB t e i) = some (.inl p) → ∃ m', cl d 197 [pR M, pR tr, pI dep] m = some (.inl (some (pI (-1))), m') ∧ vl m' M 14 = p ∧ YF tr n m n us C (e - i) m')
def PYe (M tp e tr : Int) (t : Int → Int) (N : Nat) : Prop := ∀ (d dep : Nat) (m : Mem) (i : Int) (n : Nat) (us : List Int) (C : Int) (p : Nat) (A : Fo) (ob : Bool) (z6 z7 z8 : PV), 11 + 2 * (32 - dep) ≤ d → 1 ≤ dep → dep ≤ 32 → YS m M tp e i t → TW m tr n us C → TI m → wfU us → (n : Int) + (e - i) < 20000 → (us.length : Int) + (e - i) ≤ 40000 → TN (nv m tr) us n p (kdB ob, 0, [], []) A → (idF A).Nodup → (∀ x, x ∈ idF A → p < x) → cat z6 = 1 → cat z7 = 1 → cat z8 = 1 →
  (∀ F j, sP t e N true dep ob (nmsF A) (sB t e i) = some (.inr (F, j)) → i < j ∧ j ≤ e ∧ ∃ FD, F = erF FD ∧ ∃ m', rn d 208 38 [pR M, pR tr, pI p, pI ((dep : Int) - 1), pI (clo ob), pI (lsI (-1) A), z6, z7, z8] [] m = some (.inl (some (pI 1)), m') ∧ YX m' M tp e j t ∧ ∃ (n' : Nat) (us' : List Int) (C' : Int), YT tr p m n us C m' n' us' C' ∧ TN (nv m' tr) us' n' p (kdB ob, 0, [], []) (fapp A FD) ∧ (idF (fapp A FD)).Nodup ∧ (∀ x, x ∈ idF (fapp A FD) → p < x) ∧ (n' : Int) - n ≤ j - i ∧ (us'.length : Int) - us.length ≤ j - i ∧ nv m' tr 8 p = nv m tr 8 p) ∧
  (∀ q, sP t e N true dep ob (nmsF A) (sB t e i) = some (.inl q) → ∃ m', rn d 208 38 [pR M, pR tr, pI p, pI ((dep : Int) - 1), pI (clo ob), pI (lsI (-1) A), z6, z7, z8] [] m = some (.inl (some (pI 0)), m') ∧ vl m' M 14 = q ∧ YF tr p m n us C (e - i) m')
section
variable {d dep N : Nat} {M tp e tr : Int} {t : Int → Int}
/-- the name of a new node -/
theorem c208_nm {m : Mem} {i C a6 a7 a3 a5 : Int} {n n2 p : Nat} {us2 : List Int} {ob : Bool} {nd : ND} {l : Fo} (hN : TN (nv m tr) us2 n2 n nd l) (hn : n ∉ idF l) (h : YS m M tp e i t) (hw : TW m tr n2 us2 C) (hT : TI m) (hU : wfU us2) :
    ∃ m3, (∀ Q, rn d 208 183 [pR M, pR tr, pI p, pI a3, pI (clo ob), pI a5, pI a6, pI a7, pI n] [] m3 = some Q → (if clo ob = 125 then (gd (tg m tr = 13) <| nm (vl m tr 6) fun v2 => gd (tg m v2 = 284101 ∨ tg m v2 = 287101) <| gd ((0 : Int) ≤ n ∧ (n : Int) < ln m v2) <| nm (vl m tr 7) fun v3 => gd (tg m v3 = 284101 ∨ tg m v3 = 287101) <| gd ((0 : Int) ≤ n ∧ (n : Int) < ln m v3) <| rn d 208 183 [pR M, pR tr, pI p, pI a3, pI (clo ob), pI a5, pI a6, pI a7, pI n] [] (mst (mst m v2 n a6) v3 n a7)) else rn d 208 183 [pR M, pR tr, pI p, pI a3, pI (clo ob), pI a5, pI a6, pI a7, pI n] [] m) = some Q) ∧ YS m3 M tp e i t ∧ YT tr n m n2 us2 C m3 n2 us2 C ∧ TN (nv m3 tr) us2 n2 n nd l ∧ (ob = true → nv m3 tr 7 n = a7 ∧ nv m3 tr 6 n = a6) := by
  have hc := hw.2.2.2.2.2.2.1
  have hnl := hN.1
  cases ob with
  | false => exact ⟨m, fun Q hQ => by rw [if_neg (show ¬ clo false = 125 by decide)]; exact hQ, h, ⟨hw, (TU.refl hT).tv hw |>.mono (by omega), GR.refl, by omega, by omega, by omega, ⟨[], by rw [List.append_nil]⟩, hU⟩, hN, fun q => (by cases q)⟩
  | true =>
    have l6 := hw.ld (f := 6) ⟨by decide, by decide⟩ (by decide)
    have l7 := hw.ld (f := 7) ⟨by decide, by decide⟩ (by decide)
    obtain ⟨a1, a2, a3', a4⟩ := hw.put (f := 6) (i := n) (v := a6) (TG.refl hT h.1) ⟨by decide, by decide⟩ rfl
    obtain ⟨b1, b2, b3, b4⟩ := a1.put (f := 7) (i := n) (v := a7) a2 ⟨by decide, by decide⟩ (a4 7).symm
    refine ⟨mst (mst m (vl m tr 6) n a6) (vl m tr 7) n a7, fun Q hQ => ?_, ?_, ?_, ?_, fun _ => ⟨?_, ?_⟩⟩
    · rw [if_pos (show clo true = 125 from rfl), gd_of hw.1, nm_eq, gd_of l6.1, gd_of ⟨by omega, by omega⟩, nm_eq, gd_of l7.1, gd_of ⟨by omega, by omega⟩]; exact hQ
    · exact (h.ta hw (f := 6) ⟨by decide, by decide⟩ rfl).ta a1 (f := 7) ⟨by decide, by decide⟩ (a4 7).symm
    · exact YT.tg b1 b2 (fun f j f0 f1 j0 j1 => by rw [up_ne _ _ _ _ _ _ (by omega), up_ne _ _ _ _ _ _ (by omega)]) (by rw [b3, a3']) rfl rfl hU
    · refine hN.keep0 (fun f j f0 f1 hj => ?_) (fun f f0 f1 => ?_)
      · have hjn : j ≠ n := fun q => hn (q ▸ hj)
        rw [b2.2.2.2 f j f0 f1, up_ne _ _ _ _ _ _ (by omega), up_ne _ _ _ _ _ _ (by omega)]
      · rw [b2.2.2.2 f n f0 (by omega), up_ne _ _ _ _ _ _ (by omega), up_ne _ _ _ _ _ _ (by omega)]
    · rw [b2.2.2.2 7 n (by decide) (by decide), up_eq]
    · rw [b2.2.2.2 6 n (by decide) (by decide), up_ne _ _ _ _ _ _ (by omega), up_eq]
/-- a new node put behind the others -/
theorem c208_ins {m : Mem} {C : Int} {n n2 p : Nat} {us2 : List Int} {ob : Bool} {nd : ND} {nm : List Int} {l A : Fo} {pd : ND} (hob : (pd.1 == 6) = ob) (ok : OK m) (hw : TW m tr n2 us2 C) (hT : TI m) (hU : wfU us2) (hN : TN (nv m tr) us2 n2 n nd l) (nl : (idF l).Nodup) (rl : ∀ x, x ∈ idF l → n < x) (hnm : ob = true → nv m tr 7 n = nm.length ∧ At us2 (nv m tr 6 n) nm) (hP : TN (nv m tr) us2 n2 p pd A) (nA : (idF A).Nodup) (rA : ∀ x, x ∈ idF A → p < x ∧ x < n) (hp : p < n) :
    ∃ m', cl d 290 [pR tr, pI p, pI (lsI (-1) A), pI n] m = some (.inl none, m') ∧ YT tr p m n2 us2 C m' n2 us2 C ∧ TN (nv m' tr) us2 n2 p pd (fapp A (.inner n (nd.1, nd.2.1, nd.2.2.1, nm) () l .leaf)) ∧ (idF (fapp A (.inner n (nd.1, nd.2.1, nd.2.2.1, nm) () l .leaf))).Nodup ∧ (∀ x, x ∈ idF (fapp A (.inner n (nd.1, nd.2.1, nd.2.2.1, nm) () l .leaf)) → p < x) ∧ nv m' tr 8 p = nv m tr 8 p := by
  have hnl := hN.1
  have hls : lsI (-1) A < n2 ∧ (lsI (-1) A = -1 ∨ (p : Int) < lsI (-1) A) := by
    rcases lsI_mem A (-1) with ⟨q, q2⟩ | ⟨b, hb1, hb2⟩
    · rw [q2]; omega
    · rw [hb2]; have := rA b hb1; omega
  obtain ⟨m', e1, w1, g1, u1, x1, x2⟩ := c290 (d := d) (p := p) (b := lsI (-1) A) (k := n) hw hT ok ⟨by omega, by omega⟩ hls.1 ⟨by omega, hnl⟩
  obtain ⟨p1, p2, p3, p4, p5, p6⟩ := hP
  rw [hob] at p6
  have hI := TF.ins (g := nv m tr) (us := us2) (n := n2) (p := p) (ob := ob) (A := A) (B := .leaf) (l := l) (k := n) (d := (nd.1, nd.2.1, nd.2.2.1, nm)) (by rw [fapp_nil]; exact p6) hN hnm (by rw [fapp_nil]; exact p5) nA ⟨fun q => by have := rA n q; omega, by simp [idF], fun q => by have := rl n q; omega, by omega⟩ ⟨fun q => by have := rA p q; omega, by simp [idF], fun q => by have := rl p q; omega⟩ (fun y hy => ⟨fun q => by have := rA y hy; have := rl y q; omega, by simp [idF]⟩)
  refine ⟨m', e1, YT.tg w1 g1 (fun f j f0 f1 j0 j1 => insG_o _ _ _ _ _ _ (by omega) (by omega) (by omega)) u1 x1 x2 hU, ?_, ?_, ?_, ?_⟩
  · have hT2 : TN (insG (nv m tr) p (lsI (-1) A) n) us2 n2 p pd (fapp A (.inner n (nd.1, nd.2.1, nd.2.2.1, nm) () l .leaf)) := by
      refine ⟨p1, by rw [insG_03 _ _ _ _ _ _ (by decide)]; exact p2, fun q => by rw [insG_03 _ _ _ _ _ _ (by decide)]; exact p3 q, by rw [insG_03 _ _ _ _ _ _ (by decide), insG_03 _ _ _ _ _ _ (by decide)]; exact p4, hI.2, by rw [hob]; exact hI.1⟩
    exact hT2.keep0 (fun f j f0 f1 _ => g1.2.2.2 f j f0 f1) (fun f f0 f1 => g1.2.2.2 f p f0 (by omega))
  · rw [idF_app, List.nodup_append]
    refine ⟨nA, ?_, ?_⟩
    · simp only [idF, List.append_nil, List.nodup_cons]
      exact ⟨fun q => by have := rl n q; omega, nl⟩
    · intro a ha b hb q
      subst q
      have h1 := rA a ha
      simp only [idF, List.append_nil, List.mem_cons] at hb
      rcases hb with hb | hb
      · omega
      · have := rl a hb; omega
  · intro x hx
    rw [idF_app, List.mem_append] at hx
    rcases hx with hx | hx
    · exact (rA x hx).1
    · simp only [idF, List.append_nil, List.mem_cons] at hx
      rcases hx with hx | hx
      · omega
      · have := rl x hx; omega
  · rw [g1.2.2.2 8 p (by decide) (by decide)]
    unfold insG
    split
    · rw [up_ne _ _ _ _ _ _ (by omega), up_ne _ _ _ _ _ _ (by omega), up_ne _ _ _ _ _ _ (by omega)]
    · rw [up_ne _ _ _ _ _ _ (by omega), up_ne _ _ _ _ _ _ (by omega), up_ne _ _ _ _ _ _ (by omega)]
theorem PYe_succ (hB : tB t e) (hPV : PYv M tp e tr t N) (hPE : PYe M tp e tr t N) : PYe M tp e tr t (N + 1) := by
  intro d dep m i n us C p A ob z6 z7 z8 hd hdep1 hdep h hw hT hU hn hL hN nA rA c6 c7 c8
  have key := c208_key (d := d) (a3 := (dep : Int) - 1) (a5 := lsI (-1) A) (z6 := z6) (z7 := z7) (z8 := z8) (by omega) hB c6 c7 c8 h hw hT hU hL hN
  have hpn : (p : Int) < n := hN.1
  unfold sP
  cases hk : sKey t e ob (nmsF A) (sB t e i) with
  | inl p0 =>
    refine ⟨fun F j hF => (by cases hF), fun q hq => ?_⟩
    cases hq
    obtain ⟨m', us', r1, r2, r3, r4⟩ := key.2 p0 hk
    exact ⟨m', r1, r2, n, us', C, r3.mono (by omega), by have := h.2.1.2.2.2.2.2.2.1; omega, r4⟩
  | inr w =>
    obtain ⟨nm, j⟩ := w
    obtain ⟨i1, m1, us1, a6, a7, z, hz, rfl, hi1, hi2, s1, h1, y1, l1, hnm1⟩ := key.1 nm j hk
    have hv := hPV (d - 1) dep m1 i1 n us1 C ob (nmsF A) (by omega) hdep h1 y1.1 y1.2.1.1 y1.2.2.2.2.2.2.2 (by omega) (by omega)
    have hM1 := h1.2.1.1
    have s2 : ∀ X : RM, (bI (cl (d - 1) 197 [pR M, pR tr, pI dep] m1) fun v1 m1 => if v1 < 0 then (some (.inl (some (pI 0)), m1)) else if clo ob = 125 then (gd (tg m1 tr = 13) <| Jvm.Pilot.CPathStoreLaw_law_r3608_0f1887.nm (vl m1 tr 6) fun v2 => gd (tg m1 v2 = 284101 ∨ tg m1 v2 = 287101) <| gd ((0 : Int) ≤ v1 ∧ v1 < ln m1 v2) <| Jvm.Pilot.CPathStoreLaw_law_r3608_0f1887.nm (vl m1 tr 7) fun v3 => gd (tg m1 v3 = 284101 ∨ tg m1 v3 = 287101) <| gd ((0 : Int) ≤ v1 ∧ v1 < ln m1 v3) <| rn d 208 183 [pR M, pR tr, pI p, pI ((dep : Int) - 1), pI (clo ob), pI (lsI (-1) A), pI a6, pI a7, pI v1] [] (mst (mst m1 v2 v1 a6) v3 v1 a7)) else rn d 208 183 [pR M, pR tr, pI p, pI ((dep : Int) - 1), pI (clo ob), pI (lsI (-1) A), pI a6, pI a7, pI v1] [] m1) = X → ∀ Q, X = some Q → rn d 208 38 [pR M, pR tr, pI p, pI ((dep : Int) - 1), pI (clo ob), pI (lsI (-1) A), z6, z7, z8] [] m = some Q := by
      intro X hX Q hQ
      refine s1 _ (q208_141 (by omega) h1.1.1 hz _ ?_)
      have ew : w32 ((dep : Int) - 1 + 1) = dep := by rw [w32_of (by omega) (by omega)]; omega
      rw [gd_of hM1, ew]
      exact (by exact hX : _ = X).trans hQ
    dsimp only
    cases hvv : sP t e N false dep ob (nmsF A) (sB t e i1) with
    | none => exact ⟨fun F j hF => (by cases hF), fun p hp => (by cases hp)⟩
    | some w =>
      cases w with
      | inl p0 =>
        refine ⟨fun F j hF => (by cases hF), fun q hq => ?_⟩
        cases hq
        obtain ⟨m', r1, r2, n', us', C', r3, r4, r5⟩ := hv.2 p0 hvv
        exact ⟨m', s2 _ (by rw [bI_eq r1, if_pos (by decide)]) _ rfl, r2, n', us', C', (y1.trans r3 (Int.le_refl _)).mono (by omega), by omega, by omega⟩
      | inr w =>
        obtain ⟨Fv, k⟩ := w
        obtain ⟨nd, l, rfl, k0, k1, m2, e2, hx2, n2, us2, C2, y2, hN2, nl, rl, b1, b2, -⟩ := hv.1 Fv k hvv
        dsimp only
        have h2 : YS m2 M tp e (sB t e k) t := h1.fr2 (cl_FRM e2) hx2 (by rfl)
        have hnln : n ∉ idF l := fun q => by have := rl n q; omega
        obtain ⟨m3, s3, h3, y3, hN3, hn3⟩ := c208_nm (d := d) (a6 := a6) (a7 := a7) (a3 := (dep : Int) - 1) (a5 := lsI (-1) A) (p := p) (ob := ob) hN2 hnln h2 y2.1 y2.2.1.1 y2.2.2.2.2.2.2.2
        have y123 := (y1.trans y2 (Int.le_refl _)).trans y3 (Int.le_refl _)
        obtain ⟨vs2, hvs2⟩ := y2.2.2.2.2.2.2.1
        have hP3 : TN (nv m3 tr) us2 n2 p (kdB ob, 0, [], []) A := hN.yt y123 hpn hN.lt
        have hnm3 : ob = true → nv m3 tr 7 n = nm.length ∧ At us2 (nv m3 tr 6 n) nm := by
          intro ho
          obtain ⟨q1, q2, q3⟩ := hnm1 ho
          obtain ⟨q4, q5⟩ := hn3 ho
          rw [q4, q5, hvs2]
          exact ⟨q1, q2.ext⟩
        obtain ⟨m4, e4, y4, hP4, nA4, rA4, q84⟩ := c208_ins (d := d - 1) (nm := nm) (pd := (kdB ob, 0, [], [])) (by cases ob <;> rfl) h3.1 y3.1 y3.2.1.1 y3.2.2.2.2.2.2.2 hN3 nl rl hnm3 hP3 nA (fun x hx => ⟨rA x hx, by have := hN.lt x hx; omega⟩) (by omega)
        have h4 : YS m4 M tp e (sB t e k) t := h3.fr (cl_FRM e4) (by rfl) (by rfl)
        have yA : YT tr p m n us C m4 n2 us2 C2 := (y123.mono (by omega)).trans y4 (Int.le_refl _)
        have hpn2 := hP4.1
        have p84 : ∀ x, nv (mst m4 M 12 x) tr 8 p = nv m tr 8 p := fun x => by rw [nv_mT (by have := h4.2.1.1; omega) yA.1 (Or.inl ⟨by decide, by decide⟩), q84, y123.2.1.2.2 8 p (by decide) (by decide) (by omega) (by omega)]
        have h199 := c199 (d := d - 1) h4.1.1 h4.2.1
        have hM4 := h4.2.1.1
        have hM134 : tg m4 M ≠ 13 ∧ tg m4 M < 100 := by omega
        have v12 := h4.2.1.2.2.2.1
        have hbk := sB_rng t (i := k) (e := e) k1
        have b6 := h4.2.1.2.2.2.2.2.2.1
        have s4 : ∀ X : RM, (if pk t e (sB t e k) = clo ob then (some (.inl (some (pI 1)), (mst m4 M 12 (w32 ((vl m4 M 12) + 1))))) else bI (cl (d - 1) 201 [pR M, pI 44] m4) fun v3 m3 => if v3 = 0 then (some (.inl (some (pI 0)), m3)) else rn d 208 38 [pR M, pR tr, pI p, pI ((dep : Int) - 1), pI (clo ob), pI n, pI a6, pI a7, pI n] [] m3) = X → ∀ Q, X = some Q → rn d 208 38 [pR M, pR tr, pI p, pI ((dep : Int) - 1), pI (clo ob), pI (lsI (-1) A), z6, z7, z8] [] m = some Q := by
          intro X hX Q hQ
          refine s2 _ ?_ _ hQ
          rw [bI_eq e2, if_neg (by omega)]
          rw [hQ]
          refine s3 Q (q208_183 (by omega) h3.1.1 _ ?_)
          rw [gd_of y3.1.1, bV_eq e4, gd_of hM4, bI_eq h199]
          exact (by exact hX : _ = X).trans hQ
        have hnmA : nmsF (fapp A (.inner n (nd.1, nd.2.1, nd.2.2.1, nm) () l .leaf)) = nmsF A ++ [nm] := by rw [nmsF_fapp]; rfl
        by_cases hc : pk t e (sB t e k) = clo ob
        · rw [if_pos hc]
          refine ⟨fun F j hF => ?_, fun p hp => (by cases hp)⟩
          cases hF
          have hlt : sB t e k < e := pkf_lt (t := t) (by rw [hc]; cases ob <;> decide)
          refine ⟨by omega, by omega, .inner n (nd.1, nd.2.1, nd.2.2.1, nm) () l .leaf, rfl, mst m4 M 12 (sB t e k + 1), s4 _ (by rw [if_pos hc, v12, w32_of (by omega) (by omega)]) _ rfl, h4.2.1.at (by omega) (by omega), n2, us2, C2, yA.trans (YT.mT hM134 yA.2.1.1 yA.1 yA.2.2.2.2.2.2.2) (by omega), hP4.mT hM134 yA.1, nA4, rA4, by omega, by omega, p84 _⟩
        · rw [if_neg hc]
          by_cases h44 : pk t e (sB t e k) = 44
          · rw [if_pos h44]
            have hlt : sB t e k < e := pkf_lt (t := t) (by omega)
            have e201 := c201_1 (d := d - 1) (x := 44) (by omega) h4.1.1 h4.2.1 h44 (by decide)
            have h5 := h4.at (j := sB t e k + 1) (by omega) (by omega)
            have y5 : YT tr p m n us C (mst m4 M 12 (sB t e k + 1)) n2 us2 C2 := yA.trans (YT.mT hM134 yA.2.1.1 yA.1 yA.2.2.2.2.2.2.2) (by omega)
            have hP5 := hP4.mT (f := 12) (v := sB t e k + 1) hM134 yA.1
            have hE := hPE d dep (mst m4 M 12 (sB t e k + 1)) (sB t e k + 1) n2 us2 C2 p _ ob (pI a6) (pI a7) (pI n) hd hdep1 hdep h5 y5.1 y5.2.1.1 y5.2.2.2.2.2.2.2 (by omega) (by omega) hP5 nA4 rA4 rfl rfl rfl
            rw [hnmA, lsI_app] at hE
            have s5 : ∀ Q, rn d 208 38 [pR M, pR tr, pI p, pI ((dep : Int) - 1), pI (clo ob), pI n, pI a6, pI a7, pI n] [] (mst m4 M 12 (sB t e k + 1)) = some Q → rn d 208 38 [pR M, pR tr, pI p, pI ((dep : Int) - 1), pI (clo ob), pI (lsI (-1) A), z6, z7, z8] [] m = some Q := fun Q hQ => s4 _ (by rw [if_neg hc, bI_eq e201, if_neg (by decide)]) _ hQ
            cases hr : sP t e N true dep ob (nmsF A ++ [nm]) (sB t e (sB t e k + 1)) with
            | none => exact ⟨fun F j hF => (by cases hF), fun p hp => (by cases hp)⟩
            | some w =>
              cases w with
              | inl p0 =>
                refine ⟨fun F j hF => (by cases hF), fun q hq => ?_⟩
                cases hq
                obtain ⟨m', r1, r2, n', us', C', r3, r4, r5⟩ := hE.2 p0 hr
                exact ⟨m', s5 _ r1, r2, n', us', C', y5.trans r3 (Int.le_refl _), by omega, by omega⟩
              | inr w =>
                obtain ⟨R, q⟩ := w
                refine ⟨fun F j hF => ?_, fun p hp => (by cases hp)⟩
                cases hF
                obtain ⟨r1, r2, FD, rfl, m', r3, r4, n', us', C', r5, r6, r7, r8, r9, r10, r11⟩ := hE.1 R q hr
                have eA : fapp (fapp A (.inner n (nd.1, nd.2.1, nd.2.2.1, nm) () l .leaf)) FD = fapp A (.inner n (nd.1, nd.2.1, nd.2.2.1, nm) () l FD) := by rw [fapp_assoc]; rfl
                rw [eA] at r6 r7 r8
                exact ⟨by omega, r2, .inner n (nd.1, nd.2.1, nd.2.2.1, nm) () l FD, rfl, m', s5 _ r3, r4, n', us', C', y5.trans r5 (Int.le_refl _), r6, r7, r8, by omega, by omega, r11.trans (p84 _)⟩
          · rw [if_neg h44]
            refine ⟨fun F j hF => (by cases hF), fun q hq => ?_⟩
            cases hq
            have e201 := c201_0 (d := d - 1) (x := 44) (by omega) h4.1.1 h4.2.1 h44
            exact ⟨_, s4 _ (by rw [if_neg hc, bI_eq e201, if_pos rfl]) _ rfl, by rw [vl_mst, if_pos ⟨rfl, rfl⟩], n2, us2, C2, yA.trans (YT.mT hM134 yA.2.1.1 yA.1 yA.2.2.2.2.2.2.2) (by omega), by omega, by omega⟩
end
