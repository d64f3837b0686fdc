/-! the twin's patches: a value comes in -/
set_option maxRecDepth 100000
set_option maxHeartbeats 4000000
/-- the document in its tree: the value v, its root's index in the twin -/
def DS (m : Mem) (M D : Int) (v : Vl) (n : Int) (us : List Int) (C : Int) : Prop := TI m ∧ tg m M = 11 ∧ vl m M 18 = D ∧ TW m D n us C ∧ wfU us ∧ TNv (nv m D) us n v ∧ (idV v).Nodup ∧ vl m M 26 = v.1
/-- the document's tree went from n, us to n', us'; other trees are as they were -/
def DX (D : Int) (m : Mem) (us : List Int) (C : Int) (m' : Mem) (us' : List Int) (C' : Int) : Prop := OK m' ∧ (∀ t', t' ≠ D → ∀ n us C, TW m t' n us C → TW m' t' n us C ∧ (∀ f j, 0 ≤ f → f ≤ 9 → nv m' t' f j = nv m t' f j) ∧ uC m' t' = uC m t') ∧ GR m m' (tC m D C) (tC m' D C') ∧ (∃ vs, us' = us ++ vs) ∧ C' ≤ max C 10000 ∧ uC m' D ≤ max (uC m D) 20000
theorem DX.trans {D C C1 C2 : Int} {m m1 m2 : Mem} {us us1 us2 : List Int} (h : DX D m us C m1 us1 C1) (h' : DX D m1 us1 C1 m2 us2 C2) : DX D m us C m2 us2 C2 := by
  obtain ⟨a1, a2, a3, ⟨vs, a4⟩, a5, a6⟩ := h
  obtain ⟨b1, b2, b3, ⟨ws, b4⟩, b5, b6⟩ := h'
  refine ⟨b1, fun t' ht n u c hw => ?_, a3.trans b3, ⟨vs ++ ws, by rw [b4, a4, List.append_assoc]⟩, by omega, by omega⟩
  obtain ⟨c1, c2, c3⟩ := a2 t' ht n u c hw
  obtain ⟨d1, d2, d3⟩ := b2 t' ht n u c c1
  exact ⟨d1, fun f j f0 f1 => by rw [d2 f j f0 f1, c2 f j f0 f1], by rw [d3, c3]⟩
theorem DX.tg {D C n : Int} {m m' : Mem} {us : List Int} {g : Int → Int → Int} (ok : OK m') (hg : TG D m m' g) (hu : uC m' D = uC m D) (hx : nx m' = nx m) (hs : sl m' = sl m) : DX D m us C m' us C := by
  refine ⟨ok, hg.2.2.1, ?_, ⟨[], by rw [List.append_nil]⟩, by omega, by omega⟩
  unfold tC
  rw [hu]
  exact ⟨by omega, by omega, by omega⟩
theorem DX.yt {D C C' b n n' : Int} {m m' : Mem} {us us' : List Int} (ok : OK m') (y : YT D b m n us C m' n' us' C') (hn : n' ≤ 5000) (hl : us'.length ≤ 10000) : DX D m us C m' us' C' := ⟨ok, y.2.1.2.1, y.2.2.1, y.2.2.2.2.2.2.1, by have := y.2.2.2.1; omega, by have := y.2.2.2.2.1; omega⟩
theorem DX.refl {D C : Int} {m : Mem} {us : List Int} (ok : OK m) : DX D m us C m us C := ⟨ok, fun _ _ _ _ _ h => ⟨h, fun _ _ _ _ => rfl, rfl⟩, GR.refl, ⟨[], by rw [List.append_nil]⟩, by omega, by omega⟩
theorem lsI_cut : ∀ (i : Nat) (F : Fo) (x : Int), i ≤ cntF F → lsI x (cutI i F).1 = if i = 0 then x else kdI F ((i : Int) - 1) := by
  intro i
  induction i with
  | zero => intro F x _; rw [if_pos rfl]; rfl
  | succ i ih =>
    intro F x h
    cases F with
    | leaf => simp [cntF] at h
    | inner j d u l r =>
      have h : i ≤ cntF r := by simp [cntF] at h; omega
      show lsI j (cutI i r).1 = _
      rw [ih r j h, if_neg (show ¬ (i + 1 = 0) by omega)]
      show _ = if (((i + 1 : Nat) : Int) - 1) = 0 then (j : Int) else kdI r (((i + 1 : Nat) : Int) - 1 - 1)
      by_cases h0 : i = 0
      · rw [if_pos h0, if_pos (show ((i + 1 : Nat) : Int) - 1 = 0 by omega)]
      · rw [if_neg h0, if_neg (show ¬ ((i + 1 : Nat) : Int) - 1 = 0 by omega)]
        congr 1
        omega
theorem ctI_cnt2 (F : Fo) : ctI F = (cntF F : Int) := ctI_cnt F
theorem mem_idF_id {x : Nat} {A : Fo} {i : Nat} {d : ND} {l B : Fo} : x = i → x ∈ idF (fapp A (.inner i d () l B)) := by
  intro h; rw [idF_app, h]; simp [idF]
theorem plug_root : ∀ (kz : List Fr) (i : Nat) (d : ND) (l : Fo) (d' : ND) (l' : Fo), (plug kz (i, d, l)).1 = (plug kz (i, d', l')).1 := by
  intro kz
  cases kz with
  | nil => intros; rfl
  | cons f kz =>
    intro i d l d' l'
    have : ∀ (kz : List Fr) (i : Nat) (d : ND) (l l' : Fo), (plug kz (i, d, l)).1 = (plug kz (i, d, l')).1 := by
      intro kz
      induction kz with
      | nil => intros; rfl
      | cons f kz ih => intro i d l l'; exact ih _ _ _ _
    exact this kz _ _ _ _
theorem sz_plug : ∀ (kz : List Fr) (u : Vl), szF u.2.2 ≤ szF (plug kz u).2.2 := by
  intro kz
  induction kz with
  | nil => intro u; exact Nat.le_refl _
  | cons f kz ih =>
    intro u
    have h1 := ih (f.1, f.2.1, amg f.2.2.1 u f.2.2.2.1 f.2.2.2.2)
    have h2 := sz_amg f.2.2.1 u f.2.2.2.1 f.2.2.2.2
    dsimp only at h1
    show szF u.2.2 ≤ szF (plug kz (f.1, f.2.1, amg f.2.2.1 u f.2.2.2.1 f.2.2.2.2)).2.2
    omega
section
variable {d : Nat} {m : Mem} {M NT D n C : Int} {us : List Int} {tks : List (List Int)}
/-- what coming in comes to -/
def ADD (X : RM) (M D : Int) (m : Mem) (n : Int) (us : List Int) (C : Int) (o : Option Vl) : Prop := match o with
  | some v' => ∃ m' us', X = some (.inl (some (pI 1)), m') ∧ DS m' M D v' n us' C ∧ DX D m us C m' us' C
  | none => ∃ m' us', X = some (.inl (some (pI 0)), m') ∧ TI m' ∧ TW m' D n us' C ∧ DX D m us C m' us' C
theorem TNv.eqg {g g' : Int → Int → Int} {v : Vl} (h : TNv g us n v) (hg : ∀ f j, 0 ≤ f → f ≤ 9 → g' f j = g f j) : TNv g' us n v := TN.keep0 h (fun f j f0 f1 _ => hg f j f0 f1) (fun f f0 f1 => hg f _ f0 (by omega))
/-- names are no part of a node by itself -/
theorem TNv.nam {g : Int → Int → Int} {v : Vl} {i : Nat} {a b : Int} {vs : List Int} (h : TNv g us n v) (hi : i ∉ idF v.2.2) : TNv (up (up g 6 i a) 7 i b) (us ++ vs) n v := by
  refine TN.keep (Int.le_refl _) h (fun f j f0 f1 hj => ?_) (fun f f0 f1 => ?_)
  · have : j ≠ i := fun q => hi (q ▸ hj)
    rw [up_ne _ _ _ _ _ _ (by omega), up_ne _ _ _ _ _ _ (by omega)]
  · rw [up_ne _ _ _ _ _ _ (by omega), up_ne _ _ _ _ _ _ (by omega)]
/-- a value in its tree -/
def VT (m : Mem) (M D : Int) (v : Vl) (n : Int) (us : List Int) (C : Int) : Prop := TI m ∧ tg m M = 11 ∧ vl m M 18 = D ∧ TW m D n us C ∧ wfU us ∧ TNv (nv m D) us n v ∧ (idV v).Nodup
theorem DS.vt {v : Vl} (h : DS m M D v n us C) : VT m M D v n us C := ⟨h.1, h.2.1, h.2.2.1, h.2.2.2.1, h.2.2.2.2.1, h.2.2.2.2.2.1, h.2.2.2.2.2.2.1⟩
/-- one takes another's place among the kids of the hole -/
theorem t239 {kz : List Fr} {ui x : Nat} {ud xd : ND} {xl A B : Fo} {w : Vl} {nm : List Int} (hd : 2 ≤ d) (ok : OK m) (h : VT m M D (plug kz (ui, ud, fapp A (.inner x xd () xl B))) n us C) (hw : TNv (nv m D) us n w) (nw : (idV w).Nodup) (dis : ∀ j, j ∈ idV w → j ∉ idV (plug kz (ui, ud, fapp A (.inner x xd () xl B)))) (hnm : (ud.1 == 6) = true → nv m D 7 w.1 = nm.length ∧ At us (nv m D 6 w.1) nm) :
    ∃ m', cl d 239 [pR M, pI x, pI w.1] m = some (.inl none, m') ∧ VT m' M D (plug kz (ui, ud, amg A w nm B)) n us C ∧ DX D m us C m' us C ∧ vl m' M 26 = vl m M 26 := by
  obtain ⟨hI, hM, h18, hTW, hU, hN, ndv⟩ := h
  have hNu := TNv.sub kz _ hN
  obtain ⟨ndu, subu⟩ := idV_sub kz _ ndv
  have hul : (ui : Int) < n := hNu.1
  have hwn := hw.1
  have dw : ∀ j, j ∈ idV w → j ∉ idV (ui, ud, fapp A (.inner x xd () xl B)) := fun j hj q => dis j hj (subu j q)
  have hxn : (x : Int) < n := hNu.lt x (mem_idF_id rfl)
  have ndA : (idF (fapp A (.inner x xd () xl B))).Nodup := (List.nodup_cons.mp ndu).2
  have hkA : x ∉ idF A := fun q => by
    rw [idF_app] at ndA
    exact (List.nodup_append.mp ndA).2.2 _ q x (by simp [idF]) rfl
  obtain ⟨m7, e239, w7, g7, u7, nx7, sl7⟩ := c239 (d := d) (M := M) (p := ui) (k := x) (v := w.1) (ob := (ud.1 == 6)) (nd := xd) (l := xl) (A := A) (B := B) hd hM h18 ok hTW hI hU hul hxn hwn hNu.2.2.2.2.2 hNu.2.2.2.2.1 hkA
  have f7 := cl_FRM e239
  obtain ⟨r1, r2, r3⟩ := TNv.rm (kz := kz) hN ndv
  have hwr : TNv (rmG (nv m D) ui (lsI (-1) A) (hdI B)) us n w := by
    have ub : ∀ j : Nat, j ∈ idV w → (j : Int) ≠ ui ∧ (j : Int) ≠ lsI (-1) A := fun j hj => by
      refine ⟨fun q => dw j hj (by have : j = ui := by omega
                                   rw [this]; unfold idV; simp), fun q => ?_⟩
      rcases ls_in A with h | ⟨b, h1, h2⟩
      · omega
      · have : j = b := by omega
        exact dw j hj (by rw [this]; show b ∈ ui :: idF (fapp A _); rw [idF_app]; simp [h1])
    refine TN.keep0 hw (fun f j f0 f1 hj => ?_) (fun f f0 f1 => ?_)
    · have := ub j (by unfold idV; simp [hj]); exact rmG_o _ _ _ _ _ _ (by omega) (by omega)
    · have := ub w.1 (by unfold idV; simp); exact rmG_o _ _ _ _ _ _ (by omega) (by omega)
  obtain ⟨i1, i2, i3⟩ := TNv.ins (kz := kz) (u := (ui, ud, fapp A B)) (w := w) (A := A) (B := B) (nm := nm) (ob := (ud.1 == 6)) rfl rfl r1 r2 hwr nw (fun j hj q => dis j hj (r3 j q)) (fun h6 => by
    rw [rmG_o _ _ _ _ _ _ (by omega) (by omega), rmG_o _ _ _ _ _ _ (by omega) (by omega)]; exact hnm h6)
  refine ⟨m7, e239, ⟨g7.1, by rw [tg_of f7 ok.1 (by omega)]; exact hM, by rw [vl_of f7 ok.1 hM (by decide) (by rfl)]; exact h18, w7, hU, TNv.eqg i1 (fun f j f0 f1 => g7.2.2.2 f j f0 f1), i2⟩, DX.tg (n := n) (ok.fr f7) g7 u7 nx7 sl7, vl_of f7 ok.1 hM (by decide) (by rfl)⟩
/-- a kid comes behind another -/
theorem t290 {kz : List Fr} {ui : Nat} {ud : ND} {A B : Fo} {w : Vl} {nm : List Int} (ok : OK m) (h : VT m M D (plug kz (ui, ud, fapp A B)) n us C) (hw : TNv (nv m D) us n w) (nw : (idV w).Nodup) (dis : ∀ j, j ∈ idV w → j ∉ idV (plug kz (ui, ud, fapp A B))) (hnm : (ud.1 == 6) = true → nv m D 7 w.1 = nm.length ∧ At us (nv m D 6 w.1) nm) :
    ∃ m', cl d 290 [pR D, pI ui, pI (lsI (-1) A), pI w.1] m = some (.inl none, m') ∧ VT m' M D (plug kz (ui, ud, amg A w nm B)) n us C ∧ DX D m us C m' us C ∧ vl m' M 26 = vl m M 26 := by
  obtain ⟨hI, hM, h18, hTW, hU, hN, ndv⟩ := h
  have hNu := TNv.sub kz _ hN
  have hul : (ui : Int) < n := hNu.1
  have hwn := hw.1
  have hb : lsI (-1) A < n := by
    rcases ls_in A with h | ⟨b, h1, h2⟩
    · omega
    · rw [h2]; refine hNu.lt b ?_; show b ∈ idF (fapp A B); rw [idF_app]; simp [h1]
  obtain ⟨m6, e290, w6, g6, u6, nx6, sl6⟩ := c290 (d := d) (p := ui) (b := lsI (-1) A) (k := w.1) hTW hI ok ⟨by omega, hul⟩ hb ⟨by omega, hwn⟩
  have f6 := cl_FRM e290
  obtain ⟨i1, i2, i3⟩ := TNv.ins (kz := kz) (u := (ui, ud, fapp A B)) (w := w) (A := A) (B := B) (nm := nm) (ob := (ud.1 == 6)) rfl rfl hN ndv hw nw dis hnm
  exact ⟨m6, e290, ⟨g6.1, by rw [tg_of f6 ok.1 (by omega)]; exact hM, by rw [vl_of f6 ok.1 hM (by decide) (by rfl)]; exact h18, w6, hU, TNv.eqg i1 (fun f j f0 f1 => g6.2.2.2 f j f0 f1), i2⟩, DX.tg (n := n) (ok.fr f6) g6 u6 nx6 sl6, vl_of f6 ok.1 hM (by decide) (by rfl)⟩
/-- a kid goes -/
theorem t294 {kz : List Fr} {ui x : Nat} {ud xd : ND} {xl A B : Fo} (ok : OK m) (h : VT m M D (plug kz (ui, ud, fapp A (.inner x xd () xl B))) n us C) :
    ∃ m', cl d 294 [pR D, pI x] m = some (.inl none, m') ∧ VT m' M D (plug kz (ui, ud, fapp A B)) n us C ∧ DX D m us C m' us C ∧ vl m' M 26 = vl m M 26 ∧ ∀ w : Vl, TNv (nv m D) us n w → (∀ j, j ∈ idV w → j ∉ idV (plug kz (ui, ud, fapp A (.inner x xd () xl B)))) → TNv (nv m' D) us n w := by
  obtain ⟨hI, hM, h18, hTW, hU, hN, ndv⟩ := h
  have hNu := TNv.sub kz _ hN
  obtain ⟨ndu, subu⟩ := idV_sub kz _ ndv
  have hul : (ui : Int) < n := hNu.1
  have hxn : (x : Int) < n := hNu.lt x (mem_idF_id rfl)
  have ndA : (idF (fapp A (.inner x xd () xl B))).Nodup := (List.nodup_cons.mp ndu).2
  have hkA : x ∉ idF A := fun q => by
    rw [idF_app] at ndA
    exact (List.nodup_append.mp ndA).2.2 _ q x (by simp [idF]) rfl
  obtain ⟨m7, e294, w7, g7, u7, nx7, sl7⟩ := c294 (d := d) (p := ui) (k := x) (ob := (ud.1 == 6)) (nd := xd) (l := xl) (A := A) (B := B) hxn hul hTW hI ok hU hNu.2.2.2.2.2 hNu.2.2.2.2.1 hkA
  have f7 := cl_FRM e294
  obtain ⟨r1, r2, r3⟩ := TNv.rm (kz := kz) hN ndv
  refine ⟨m7, e294, ⟨g7.1, by rw [tg_of f7 ok.1 (by omega)]; exact hM, by rw [vl_of f7 ok.1 hM (by decide) (by rfl)]; exact h18, w7, hU, TNv.eqg r1 (fun f j f0 f1 => g7.2.2.2 f j f0 f1), r2⟩, DX.tg (n := n) (ok.fr f7) g7 u7 nx7 sl7, vl_of f7 ok.1 hM (by decide) (by rfl), fun w hw dis => ?_⟩
  have dw : ∀ j, j ∈ idV w → j ∉ idV (ui, ud, fapp A (.inner x xd () xl B)) := fun j hj q => dis j hj (subu j q)
  have ub : ∀ j : Nat, j ∈ idV w → (j : Int) ≠ ui ∧ (j : Int) ≠ lsI (-1) A := fun j hj => by
    refine ⟨fun q => dw j hj (by have : j = ui := by omega
                                 rw [this]; unfold idV; simp), fun q => ?_⟩
    rcases ls_in A with h | ⟨b, h1, h2⟩
    · omega
    · have : j = b := by omega
      exact dw j hj (by rw [this]; show b ∈ ui :: idF (fapp A _); rw [idF_app]; simp [h1])
  refine TNv.eqg (g := rmG (nv m D) ui (lsI (-1) A) (hdI B)) (TN.keep0 hw (fun f j f0 f1 hj => ?_) (fun f f0 f1 => ?_)) (fun f j f0 f1 => g7.2.2.2 f j f0 f1)
  · have := ub j (by unfold idV; simp [hj]); exact rmG_o _ _ _ _ _ _ (by omega) (by omega)
  · have := ub w.1 (by unfold idV; simp); exact rmG_o _ _ _ _ _ _ (by omega) (by omega)
end
