/-! the twin's texts: the name of a member -/
set_option maxRecDepth 100000
set_option maxHeartbeats 4000000
theorem TF.lt {g : Int → Int → Int} {us : List Int} {n : Int} : ∀ {F : Fo} {p : Int} {ob : Bool}, TF g us n p ob F → ∀ x, x ∈ idF F → (x : Int) < n := by
  intro F
  induction F with
  | leaf => intro p ob _ x hx; simp [idF] at hx
  | inner i d u l r ihl ihr =>
    intro p ob h x hx
    obtain ⟨f1, f2, f3, f4, f5, f6, f7, f8, f9, f10⟩ := h
    simp only [idF, List.mem_cons, List.mem_append] at hx
    rcases hx with hx | hx | hx
    · rw [hx]; exact f1
    · exact ihl f9 x hx
    · exact ihr f10 x hx
theorem TN.lt {g : Int → Int → Int} {us : List Int} {n : Int} {i : Nat} {d : ND} {l : Fo} (h : TN g us n i d l) : ∀ x, x ∈ idF l → (x : Int) < n := h.2.2.2.2.2.lt
theorem TN.yt {tr b n n' C C' : Int} {m m' : Mem} {us us' : List Int} {i : Nat} {d : ND} {l : Fo} (y : YT tr b m n us C m' n' us' C') (h : TN (nv m tr) us n i d l) (hi : (i : Int) < b) (hl : ∀ x, x ∈ idF l → (x : Int) < b) : TN (nv m' tr) us' n' i d l := by
  obtain ⟨a1, a2, a3, a4, a5, a6, ⟨vs, a7⟩, a8⟩ := y
  subst a7
  exact TN.keep a6 h (fun f j f0 f1 hj => a2.2.2 f j f0 f1 (by omega) (hl j hj)) (fun f f0 f1 => a2.2.2 f i f0 (by omega) (by omega) hi)
theorem TN.mT {tr n C T f v : Int} {m : Mem} {us us' : List Int} {n' : Int} {i : Nat} {d : ND} {l : Fo} (hT : tg m T ≠ 13 ∧ tg m T < 100) (hw : TW m tr n' us' C) (h : TN (nv m tr) us n i d l) : TN (nv (mst m T f v) tr) us n i d l := h.keep0 (fun g j g0 g1 _ => nv_mT hT hw (Or.inl ⟨g0, g1⟩)) (fun g g0 g1 => nv_mT hT hw (Or.inl ⟨g0, by omega⟩))
abbrev kdB (ob : Bool) : Nat := if ob then 6 else 5
section
variable {d : Nat} {M tp e tr : Int} {t : Int → Int}
theorem c208_key {m : Mem} {i C a3 a5 : Int} {n p : Nat} {us : List Int} {A : Fo} {ob : Bool} {z6 z7 z8 : PV} (hd : 9 ≤ d) (hB : tB t e) (h6 : cat z6 = 1) (h7 : cat z7 = 1) (h8 : cat z8 = 1) (h : YS m M tp e i t) (hw : TW m tr n us C) (hT : TI m) (hU : wfU us) (hL : (us.length : Int) + (e - i) ≤ 40000) (hN : TN (nv m tr) us n p (kdB ob, 0, [], []) A) :
    (∀ nm j, sKey t e ob (nmsF A) (sB t e i) = .inr (nm, j) → ∃ i1 m1 us1 a6 a7 z, cat z = 1 ∧ j = sB t e i1 ∧ i ≤ i1 ∧ i1 ≤ e ∧ (∀ Q, rn d 208 141 [pR M, pR tr, pI p, pI a3, pI (clo ob), pI a5, pI a6, pI a7, z] [] m1 = some Q → rn d 208 38 [pR M, pR tr, pI p, pI a3, pI (clo ob), pI a5, z6, z7, z8] [] m = some Q) ∧ YS m1 M tp e i1 t ∧ YT tr n m n us C m1 n us1 C ∧ (us1.length : Int) - us.length ≤ i1 - i ∧ (ob = true → a7 = nm.length ∧ At us1 a6 nm ∧ nm ∉ nmsF A)) ∧
    (∀ q, sKey t e ob (nmsF A) (sB t e i) = .inl q → ∃ m' us', rn d 208 38 [pR M, pR tr, pI p, pI a3, pI (clo ob), pI a5, z6, z7, z8] [] m = some (.inl (some (pI 0)), m') ∧ vl m' M 14 = q ∧ YT tr n m n us C m' n us' C ∧ (us'.length : Int) - us.length ≤ e - i) := by
  have hM := h.2.1.1
  have b6 := h.2.1.2.2.2.2.2.2.1
  have hM13 : tg m M ≠ 13 ∧ tg m M < 100 := by omega
  have hw1 := hw.1
  unfold sKey
  cases ob with
  | false =>
    rw [if_neg (by decide)]
    refine ⟨fun nm j hE => ?_, fun q hE => (by cases hE)⟩
    cases hE
    refine ⟨i, m, us, 0, 0, z8, h8, rfl, by omega, by omega, fun Q hQ => ?_, h, YT.of ⟨hw, TU.refl hT, GR.refl, by omega, hU⟩ hw ⟨[], by rw [List.append_nil]⟩, by omega, fun q => (by cases q)⟩
    refine q208_38 (by omega) h.1.1 h6 h7 h8 _ ?_
    rw [if_neg (show ¬ clo false = 125 by decide)]; exact hQ
  | true =>
    rw [if_pos rfl]
    have hs := sB_rng t (i := i) (e := e) (by omega)
    have e198 := c198 (d := d - 1) (by omega) h.1.1 h.2.1
    have h1 := h.at (j := sB t e i) (by omega) hs.2
    have y1 : YT tr n m n us C (mst m M 12 (sB t e i)) n us C := YT.mT hM13 hT hw hU
    have v12 : vl (mst m M 12 (sB t e i)) M 12 = sB t e i := h1.2.1.2.2.2.1
    have v14 : vl (mst m M 12 (sB t e i)) M 14 = -1 := h1.2.1.2.2.2.2.1
    have h199 := c199 (d := d - 1) h1.1.1 h1.2.1
    by_cases h34 : pk t e (sB t e i) = 34
    · rw [if_pos h34]
      have h203 := c203 (d := d - 1) (q := 34) (by omega) (Or.inl rfl) hB h1.1 y1.2.1.1 h1.2.1 h1.2.2.2.2.2 y1.1 hU (by omega) h34
      have hie : sB t e i < e := pkf_lt (t := t) (by omega)
      have hw1' : tg (mst m M 12 (sB t e i)) tr = 13 := hw1
      have w12 : vl (mst m M 12 (sB t e i)) tr 12 = us.length := y1.1.2.2.2.2.2.1
      have s1 : ∀ X : RM, (bI (cl (d - 1) 203 [pR M, pI 34, pR tr] (mst m M 12 (sB t e i))) fun v3 m3 => if v3 = 0 then (some (.inl (some (pI 0)), m3)) else nm (w32 ((vl m3 tr 12) - us.length)) fun v11 => bI (cl (d - 1) 288 [pR tr, pI p, pR tr, pI us.length, pI v11] m3) fun v4 m4 => if v4 < 0 then (bV (cl (d - 1) 198 [pR M] m4) fun m5 => bI (cl (d - 1) 201 [pR M, pI 58] m5) fun v6 m6 => if v6 = 0 then (some (.inl (some (pI 0)), m6)) else rn d 208 141 [pR M, pR tr, pI p, pI a3, pI 125, pI a5, pI us.length, pI v11, pI (sB t e i)] [] m6) else bI (cl (d - 1) 202 [pR M, pI (sB t e i)] m4) fun v7 m7 => gd (v7 = 0 ∨ v7 = 1) <| some (.inl (some (pI v7)), m7)) = X → ∀ Q, X = some Q → rn d 208 38 [pR M, pR tr, pI p, pI a3, pI (clo true), pI a5, z6, z7, z8] [] m = some Q := by
        intro X hX Q hQ
        refine q208_38 (by omega) h.1.1 h6 h7 h8 _ ?_
        rw [if_pos (show clo true = 125 from rfl), gd_of hM, bV_eq e198, nm_eq, v12, bI_eq h199, if_pos h34, gd_of hw1', nm_eq, w12]
        exact (by exact hX : _ = X).trans hQ
      cases hss : sS t e 34 (sB t e i + 1) with
      | inl p0 =>
        refine ⟨fun nm j hE => (by cases hE), fun q hE => ?_⟩
        cases hE
        obtain ⟨m3, vs, r1, r2, r3, r4⟩ := h203.2 p0 hss
        refine ⟨m3, us ++ vs, s1 _ (by rw [bI_eq r1, if_pos rfl]) _ rfl, r2, y1.trans (YT.of r3 y1.1 ⟨vs, rfl⟩) (Int.le_refl _), by rw [List.length_append]; omega⟩
      | inr w =>
        obtain ⟨ks, j⟩ := w
        obtain ⟨j0, j1, j2, m3, e3, hx3, y3⟩ := h203.1 ks j hss
        have h3 : YS m3 M tp e j t := h1.fr2 (cl_FRM e3) hx3 (by rfl)
        have y13 := y1.trans (YT.of y3 y1.1 ⟨ks, rfl⟩) (Int.le_refl _)
        have hN3 : TN (nv m3 tr) (us ++ ks) n p (6, 0, [], []) A := hN.yt y13 hN.1 hN.lt
        have h288 := c288 (d := d - 1) (by omega) y3.1 y3.1 h3.1 (At.end (xs := us) (ys := ks)) hN3 rfl
        have w12' : vl m3 tr 12 = us.length + ks.length := by rw [y3.1.2.2.2.2.2.1, List.length_append]; omega
        have hl11 : w32 (vl m3 tr 12 - us.length) = ks.length := by rw [w12', w32_of (by omega) (by omega)]; omega
        have hM3 := h3.2.1.1
        have hM133 : tg m3 M ≠ 13 ∧ tg m3 M < 100 := by omega
        have s2 : ∀ X : RM, (if fnI ks A < 0 then (bV (cl (d - 1) 198 [pR M] m3) fun m5 => bI (cl (d - 1) 201 [pR M, pI 58] m5) fun v6 m6 => if v6 = 0 then (some (.inl (some (pI 0)), m6)) else rn d 208 141 [pR M, pR tr, pI p, pI a3, pI 125, pI a5, pI us.length, pI ks.length, pI (sB t e i)] [] m6) else bI (cl (d - 1) 202 [pR M, pI (sB t e i)] m3) fun v7 m7 => gd (v7 = 0 ∨ v7 = 1) <| some (.inl (some (pI v7)), m7)) = X → ∀ Q, X = some Q → rn d 208 38 [pR M, pR tr, pI p, pI a3, pI (clo true), pI a5, z6, z7, z8] [] m = some Q := by
          intro X hX Q hQ
          refine s1 _ ?_ _ hQ
          rw [bI_eq e3, if_neg (by decide), nm_eq, hl11, bI_eq h288]
          exact hX
        dsimp only
        by_cases hm : ks ∈ nmsF A
        · rw [if_pos hm]
          refine ⟨fun nm j hE => (by cases hE), fun q hE => ?_⟩
          cases hE
          refine ⟨mst m3 M 14 (sB t e i), us ++ ks, s2 _ (by rw [if_neg (fun q => (fnI_neg ks A).mp q hm), bI_eq (c202 h3.1.1 hM3 h3.2.1.2.2.2.2.1), gd_of (Or.inl rfl)]) _ rfl, by rw [vl_mst, if_pos ⟨rfl, rfl⟩], y13.trans (YT.mT hM133 y13.2.1.1 y13.1 y13.2.2.2.2.2.2.2) (Int.le_refl _), by rw [List.length_append]; omega⟩
        · rw [if_neg hm]
          have hsj := sB_rng t (i := j) (e := e) j1
          have e198b := c198 (d := d - 1) (by omega) h3.1.1 h3.2.1
          have h4 := h3.at (j := sB t e j) (by omega) hsj.2
          have y4 : YT tr n m n us C (mst m3 M 12 (sB t e j)) n (us ++ ks) C := y13.trans (YT.mT hM133 y13.2.1.1 y13.1 y13.2.2.2.2.2.2.2) (Int.le_refl _)
          by_cases h58 : pk t e (sB t e j) = 58
          · rw [if_pos h58]
            refine ⟨fun nm j' hE => ?_, fun q hE => (by cases hE)⟩
            cases hE
            have hlt : sB t e j < e := pkf_lt (t := t) (by omega)
            have e201 := c201_1 (d := d - 1) (x := 58) (by omega) h4.1.1 h4.2.1 h58 (by decide)
            refine ⟨sB t e j + 1, mst (mst m3 M 12 (sB t e j)) M 12 (sB t e j + 1), us ++ ks, us.length, ks.length, pI (sB t e i), rfl, rfl, by omega, by omega, fun Q hQ => ?_, h4.at (by omega) (by omega), y4.trans (YT.mT hM133 y4.2.1.1 y4.1 y4.2.2.2.2.2.2.2) (Int.le_refl _), by rw [List.length_append]; omega, fun _ => ⟨rfl, At.end, hm⟩⟩
            exact s2 _ (by rw [if_pos ((fnI_neg ks A).mpr hm), bV_eq e198b, bI_eq e201, if_neg (by decide)]; rfl) _ hQ
          · rw [if_neg h58]
            refine ⟨fun nm j hE => (by cases hE), fun q hE => ?_⟩
            cases hE
            have e201 := c201_0 (d := d - 1) (x := 58) (by omega) h4.1.1 h4.2.1 h58
            refine ⟨_, us ++ ks, s2 _ (by rw [if_pos ((fnI_neg ks A).mpr hm), bV_eq e198b, bI_eq e201, if_pos rfl]) _ rfl, by rw [vl_mst, if_pos ⟨rfl, rfl⟩], y4.trans (YT.mT hM133 y4.2.1.1 y4.1 y4.2.2.2.2.2.2.2) (Int.le_refl _), by rw [List.length_append]; omega⟩
    · rw [if_neg h34]
      refine ⟨fun nm j hE => (by cases hE), fun q hE => ?_⟩
      cases hE
      refine ⟨mst (mst m M 12 (sB t e i)) M 14 (sB t e i), us, ?_, by rw [vl_mst, if_pos ⟨rfl, rfl⟩], y1.trans (YT.mT hM13 y1.2.1.1 y1.1 hU) (Int.le_refl _), by omega⟩
      refine q208_38 (by omega) h.1.1 h6 h7 h8 _ ?_
      rw [if_pos (show clo true = 125 from rfl), gd_of hM, bV_eq e198, nm_eq, bI_eq h199, if_neg h34, v12, bI_eq (c202 h1.1.1 h1.2.1.1 v14), gd_of (Or.inl rfl)]
end
