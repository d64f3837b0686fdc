/-! the component: the documents of a version are listed; what is wrong -/
set_option maxRecDepth 100000
set_option maxHeartbeats 4000000
/-- documents listed from a place on -/
def LsE (m : Mem) (A : Int → Int) (c : RF) : Int → DL → Prop
  | _, [] => True
  | i, x :: r => vl m (A 20) i = x.1 ∧ bDoc (c (vl m (A 21) i)) x.2 ∧ (2 ≤ vl m (A 21) i ∧ vl m (A 21) i < 1600) ∧ LsE m A c (i + 1) r
theorem LsE.app {m : Mem} {A : Int → Int} {c : RF} : ∀ {L L' : DL} {i : Int}, LsE m A c i L → LsE m A c (i + L.length) L' → LsE m A c i (L ++ L') := by
  intro L
  induction L with
  | nil => intro L' i _ h; simpa using h
  | cons x L ih =>
    intro L' i h h'
    refine ⟨h.1, h.2.1, h.2.2.1, ih h.2.2.2 ?_⟩
    rw [List.length_cons] at h'
    push_cast at h'
    rw [show i + 1 + (L.length : Int) = i + ((L.length : Int) + 1) by omega]
    exact h'
theorem LsE.imp {m m' : Mem} {A : Int → Int} {c : RF} : ∀ {L : DL} {i : Int}, LsE m A c i L → (∀ j, i ≤ j → j < i + L.length → vl m' (A 20) j = vl m (A 20) j ∧ vl m' (A 21) j = vl m (A 21) j) → LsE m' A c i L := by
  intro L
  induction L with
  | nil => intro i _ _; trivial
  | cons x L ih =>
    intro i h hj
    rw [List.length_cons] at hj
    push_cast at hj
    obtain ⟨e1, e2⟩ := hj i (Int.le_refl _) (by omega)
    exact ⟨by rw [e1]; exact h.1, by rw [e2]; exact h.2.1, by rw [e2]; exact h.2.2.1, ih h.2.2.2 fun j j0 j1 => hj j (by omega) (by omega)⟩
section
variable {d n : Nat} {m m1 : Mem} {X : Int} {A : Int → Int} {s : St} {g : GH}
/-- what listing changes -/
def LF (X : Int) (A : Int → Int) (m m1 : Mem) : Prop := NC (fun a => a = X ∨ a = A 20 ∨ a = A 21) m m1 ∧ ∀ f, f ≠ 22 → vl m1 X f = vl m X f
theorem LF.trans {m2 : Mem} (h : LF X A m m1) (h' : LF X A m1 m2) : LF X A m m2 := ⟨h.1.trans h'.1, fun f hf => by rw [h'.2 f hf, h.2 f hf]⟩
theorem LF.ut {ts : List Int} (hX : XP m X A) (h : LF X A m m1) (h1 : (1 : Int) ∉ ts) (h2 : (17101 : Int) ∉ ts) : UT ts m m1 := UT.nc h.1 fun a ha => by
  rcases ha with z | z | z
  · rw [z, hX.1]; exact h1
  · rw [z, hX.a20.1]; exact h2
  · rw [z, hX.a21.1]; exact h2
theorem LF.xp (hX : XP m X A) (h : LF X A m m1) (hz : TZ m) : XP m1 X A := hX.kp (h.ut (ts := []) hX (by simp) (by simp)).1 hz fun f hp => h.2 f (by omega)
/-- the component through a listing -/
theorem CPt.lst (h : CPt n m X A s g) (k : LF X A m m1) : CPt n m1 X A s g := by
  have hX := h.2.1
  have hz := h.1.tz
  have b := h.1
  have fl := h.2.2.2.1
  have ul : UT ([1, 10, 17115] ++ dkT) m m := UT.refl
  have u10 : UT (noX ++ [10] ++ dkT) m m1 := k.ut hX (by decide) (by decide)
  have bb : BSm m1 := by
    obtain ⟨b1, b2, b3, b4, b5⟩ := b
    have tt := k.1.2.2.1
    have hv : ∀ a, tg m a = 8 ∨ tg m a = 2 → vl m1 a 0 = vl m a 0 := fun a ha => k.1.2.2.2 a 0 (by
      rintro (z | z | z)
      · rw [z, hX.1] at ha; omega
      · rw [z, hX.a20.1] at ha; omega
      · rw [z, hX.a21.1] at ha; omega)
    refine ⟨k.1.ok b1, ⟨fun r hr => ?_, fun r r' h1 h2 h3 h4 => ?_⟩, fun x y h1 h2 h3 h4 => ?_, fun a => by rw [(tt a).2]; exact b4 a, b5.ut (k.ut (ts := strT) hX (by decide) (by decide)) hz (by decide) (by decide)⟩
    · rw [(tt r).1] at hr
      rw [hv r (Or.inl hr), k.1.1]; exact b2.1 r hr
    · rw [(tt _).1] at h1 h2
      rw [hv r (Or.inl h1)] at h4 ⊢
      rw [hv r' (Or.inl h2)]; exact b2.2 r r' h1 h2 h3 h4
    · rw [(tt _).1] at h1 h2
      rw [hv x (Or.inr h1)] at h4 ⊢
      rw [hv y (Or.inr h2)]; exact b3 x y h1 h2 h3 h4
  have dk := h.2.2.2.2.2.2.2.2.2.1
  have dk1 : DKI n m1 X A g.c g.ns g.sq g.srl g.hist s.now s.rd := by
    obtain ⟨a1, a2, a3, ⟨a4, a5, a6⟩, a7, a8, a9⟩ := dk
    have gv : ∀ v f, tg m v = 10 → vl m1 v f = vl m v f := fun v f hv => k.1.2.2.2 v f (by
      rintro (z | z | z)
      · rw [z, hX.1] at hv; omega
      · rw [z, hX.a20.1] at hv; omega
      · rw [z, hX.a21.1] at hv; omega)
    have vn : ∀ v D, tg m v = 10 → VNI m g.c g.hist g.srl v D → VNI m1 g.c g.hist g.srl v D := fun v D hv q => by
      obtain ⟨bs, q1, q2, q3⟩ := q
      exact ⟨bs, by rw [gv v 0 hv]; exact q1, by rw [gv v 1 hv]; exact q2, by rw [gv v 2 hv]; exact q3⟩
    refine ⟨a1.ut u10 hz (by decide), ⟨by rw [k.2 15 (by decide)]; exact a2.1, by rw [k.2 16 (by decide)]; exact a2.2⟩, a3, ⟨a4.ut hX u10 hz (by decide), vn _ _ hX.a12 a5, a6⟩, by rw [gv _ 0 hX.a12]; exact a7, a8, fun q q0 q1 => ?_⟩
    have tv := (a4.1 q q0 q1).2
    exact ⟨by rw [gv _ 3 tv]; exact (a9 q q0 q1).1, fun D hD => ⟨vn _ _ tv ((a9 q q0 q1).2 D hD).1, ((a9 q q0 q1).2 D hD).2⟩⟩
  exact h.vers (u10.sub (by decide)) bb (fun f _ _ f2 => k.2 f f2) dk1
/-- documents below a node are listed -/
theorem c41 {c : RF} {ns : List Int} : ∀ (hh d : Nat) (m : Mem) (b i : Int) (ch : CH), 2 * hh + 4 ≤ d → OK m → XP m X A → DR m (A 9) c ns → (0 ≤ b ∧ b < 1600) → bNode (c b) (hh == 0) (ents ch) → chV c hh ch → ch.length ≤ 8 → (∀ y ∈ flB ch, 2 ≤ y ∧ y < 1600) → vl m X 22 = i → 0 ≤ i → i + (flL ch).length ≤ 128 → ∃ m', cl d 41 [pR X, pI b] m = some (.inl none, m') ∧ LF X A m m' ∧ vl m' X 22 = i + (flL ch).length ∧ LsE m' A c i (flL ch) ∧ ∀ j, j < i → vl m' (A 20) j = vl m (A 20) j ∧ vl m' (A 21) j = vl m (A 21) j := by
  intro hh
  induction hh with
  | zero =>
    intro d m b i ch hd ok hX hDR hb hn hv hl hr h22 h0 h128
    have hz := ok.1
    have n1 := hn.1
    have n2 := hn.2.1
    rw [ents_len] at n2
    have e181 := c181 (d := d - 1) (b := b) (by omega) hz hDR.1 hDR.2.1 hb
    rw [n2] at e181
    have key : ∀ (rest done : CH) (m1 : Mem) (i1 : Int), ch = done ++ rest → OK m1 → LF X A m m1 → i1 = i + (flL done).length → vl m1 X 22 = i1 → ∃ m', rn d 41 11 [pR X, pI b, pI ch.length, pI done.length] [] m1 = some (.inl none, m') ∧ LF X A m1 m' ∧ vl m' X 22 = i1 + (flL rest).length ∧ LsE m' A c i1 (flL rest) ∧ ∀ j, j < i1 → vl m' (A 20) j = vl m1 (A 20) j ∧ vl m' (A 21) j = vl m1 (A 21) j := by
      intro rest
      induction rest with
      | nil =>
        intro done m1 i1 e ok1 k1 hi1 h1
        rw [List.append_nil] at e
        refine ⟨m1, q41_11 (by omega) ok1.1 _ ?_, ⟨NC.refl, fun _ _ => rfl⟩, by rw [h1]; simp [flL], trivial, fun _ _ => ⟨rfl, rfl⟩⟩
        rw [if_neg (by rw [e]; omega)]
      | cons x rest ih =>
        intro done m1 i1 e ok1 k1 hi1 h1
        have hxm : x ∈ ch := by rw [e]; exact List.mem_append_right _ List.mem_cons_self
        obtain ⟨ys, hx, hdoc⟩ := VTr.leaf (hv x hxm)
        have hxl : x.2.1 = [(hdId x.2.1, ys)] := by rw [hx]; rfl
        have hxb := hr x.1 (by rw [e, flB_app, flB_cons]; refine List.mem_append_right _ (List.mem_append_left _ ?_); rw [hx]; exact List.mem_cons_self)
        have hX1 := k1.xp hX hz
        have hDR1 := hDR.ut (k1.ut (ts := dkT) hX (by decide) (by decide)) hz (by decide)
        have el : ch.length = done.length + rest.length + 1 := by rw [e]; simp; omega
        have hen := hn.2.2.1 done.length (hdId x.2.1, x.1) (by rw [e]; exact ents_at)
        have e182 := c182 (d := d - 1) (b := b) ok1.1 hDR1.1 hDR1.2.1 hb
        rw [n1, if_pos (by decide)] at e182
        have e166 := c166 (d := d - 1) (b := b) (k := done.length) (by omega) ok1.1 hDR1.1 hDR1.2.1 hb (by omega)
        rw [hen.1] at e166
        have ln1 : (flL (x :: rest)).length = 1 + (flL rest).length := by rw [flL_cons, hxl]; simp; omega
        have tot : (flL ch).length = (flL done).length + (flL (x :: rest)).length := by rw [e, flL_app, List.length_append]
        have n20 : A 20 ≠ X := fun z => by have := hX.a20.1; rw [z, hX.1] at this; omega
        have n21 : A 21 ≠ X := fun z => by have := hX.a21.1; rw [z, hX.1] at this; omega
        have nel := hX.nel
        -- the entry
        have k2 : LF X A m1 (mst (mst m1 (A 20) i1 (hdId x.2.1)) X 22 (i1 + 1)) := ⟨(NC.set (Or.inr (Or.inl rfl))).trans (NC.set (Or.inl rfl)), fun f hf => by rw [vl_mst, if_neg (fun z => hf z.2), vl_mst, if_neg (fun z => n20 z.1.symm)]⟩
        have ok2 : OK (mst (mst m1 (A 20) i1 (hdId x.2.1)) X 22 (i1 + 1)) := ok1
        have hDR2 := hDR1.ut (k2.ut (ts := dkT) hX1 (by decide) (by decide)) ok1.1 (by decide)
        have e167 := c167 (d := d - 1) (b := b) (k := done.length) (by omega) ok2.1 hDR2.1 hDR2.2.1 hb (by omega)
        rw [hen.2] at e167
        have e167 : cl (d - 1) 167 [pR (A 9), pI b, pI (done.length : Int)] (mst (mst m1 (A 20) i1 (hdId x.2.1)) X 22 (i1 + 1)) = some (.inl (some (pI x.1)), mst (mst m1 (A 20) i1 (hdId x.2.1)) X 22 (i1 + 1)) := e167
        have k3 : LF X A m1 (mst (mst (mst m1 (A 20) i1 (hdId x.2.1)) X 22 (i1 + 1)) (A 21) i1 x.1) := k2.trans ⟨NC.set (Or.inr (Or.inr rfl)), fun f hf => by rw [vl_mst, if_neg (fun z => n21 z.1.symm)]⟩
        have v20 : ∀ j, vl (mst (mst (mst m1 (A 20) i1 (hdId x.2.1)) X 22 (i1 + 1)) (A 21) i1 x.1) (A 20) j = if j = i1 then hdId x.2.1 else vl m1 (A 20) j := fun j => by
          rw [vl_mst, if_neg (fun z => nel z.1), vl_mst, if_neg (fun z => n20 z.1), vl_mst]
          by_cases q : j = i1
          · rw [if_pos ⟨rfl, q⟩, if_pos q]
          · rw [if_neg (fun z => q z.2), if_neg q]
        have v21 : ∀ j, vl (mst (mst (mst m1 (A 20) i1 (hdId x.2.1)) X 22 (i1 + 1)) (A 21) i1 x.1) (A 21) j = if j = i1 then x.1 else vl m1 (A 21) j := fun j => by
          rw [vl_mst]
          by_cases q : j = i1
          · rw [if_pos ⟨rfl, q⟩, if_pos q]
          · rw [if_neg (fun z => q z.2), if_neg q, vl_mst, if_neg (fun z => n21 z.1), vl_mst, if_neg (fun z => nel z.1.symm)]
        have v22 : vl (mst (mst (mst m1 (A 20) i1 (hdId x.2.1)) X 22 (i1 + 1)) (A 21) i1 x.1) X 22 = i1 + 1 := by rw [vl_mst, if_neg (fun z => n21 z.1.symm), vl_mst, if_pos ⟨rfl, rfl⟩]
        generalize hm3 : mst (mst (mst m1 (A 20) i1 (hdId x.2.1)) X 22 (i1 + 1)) (A 21) i1 x.1 = m3 at *
        have ok3 : OK m3 := by rw [← hm3]; exact ok1
        obtain ⟨m', f1, f2, f3, f4, f5⟩ := ih (done ++ [x]) m3 (i1 + 1) (by rw [e]; simp) ok3 (k1.trans k3) (by rw [hi1, flL_app, List.length_append, show (flL [x]).length = 1 by rw [flL_cons, hxl]; rfl]; push_cast; omega) v22
        have el1 : (((done ++ [x]).length : Nat) : Int) = done.length + 1 := by simp
        rw [el1] at f1
        refine ⟨m', q41_11 (by omega) ok1.1 _ ?_, k3.trans f2, by rw [f3, ln1]; push_cast; omega, ?_, fun j hj => ?_⟩
        · rw [if_pos (by omega), gd_of hX1.1, nm_eq, hX1.f (by omega), gd_of hX1.a9, bI_eq e182, if_neg (by decide), nm_eq, nm_eq, nm_eq, hX1.f (by omega), hX1.f (by omega), h1, gd_of hX1.a9, bI_eq e166, gd_of hX1.a20.1, gd_of ⟨by omega, by rw [hX1.a20.2]; omega⟩, nm_eq, nm_eq, nm_eq, hX1.f (by omega), h1, hX1.f (by omega), gd_of hX1.a9, (w32_of (by omega) (by omega) : w32 (i1 + 1) = i1 + 1), bI_eq e167, gd_of (show tg (mst (mst m1 (A 20) i1 (hdId x.2.1)) X 22 (i1 + 1)) (A 21) = 17101 from hX1.a21.1), gd_of ⟨by omega, by show i1 < ln m1 (A 21); rw [hX1.a21.2]; omega⟩, hm3, (w32_of (by omega) (by omega) : w32 ((done.length : Int) + 1) = (done.length : Int) + 1)]
          exact f1
        · rw [flL_cons, hxl]
          obtain ⟨a1, a2⟩ := f5 i1 (by omega)
          refine ⟨by rw [a1, v20, if_pos rfl], by rw [a2, v21, if_pos rfl]; exact hdoc, by rw [a2, v21, if_pos rfl]; exact hxb, f4⟩
        · obtain ⟨a1, a2⟩ := f5 j (by omega)
          exact ⟨by rw [a1, v20, if_neg (by omega)], by rw [a2, v21, if_neg (by omega)]⟩
    obtain ⟨m', f1, f2, f3, f4, f5⟩ := key ch [] m i rfl ok ⟨NC.refl, fun _ _ => rfl⟩ (by simp [flL]) h22
    refine ⟨m', q41 (by omega) hz _ ?_, f2, f3, f4, f5⟩
    rw [gd_of hX.1, nm_eq, hX.f (by omega), gd_of hX.a9, bI_eq e181]
    exact f1
  | succ hh ihh =>
    intro d m b i ch hd ok hX hDR hb hn hv hl hr h22 h0 h128
    have hz := ok.1
    have n1 := hn.1
    have n2 := hn.2.1
    rw [ents_len] at n2
    have e181 := c181 (d := d - 1) (b := b) (by omega) hz hDR.1 hDR.2.1 hb
    rw [n2] at e181
    have key : ∀ (rest done : CH) (m1 : Mem) (i1 : Int), ch = done ++ rest → OK m1 → LF X A m m1 → i1 = i + (flL done).length → vl m1 X 22 = i1 → ∃ m', rn d 41 11 [pR X, pI b, pI ch.length, pI done.length] [] m1 = some (.inl none, m') ∧ LF X A m1 m' ∧ vl m' X 22 = i1 + (flL rest).length ∧ LsE m' A c i1 (flL rest) ∧ ∀ j, j < i1 → vl m' (A 20) j = vl m1 (A 20) j ∧ vl m' (A 21) j = vl m1 (A 21) j := by
      intro rest
      induction rest with
      | nil =>
        intro done m1 i1 e ok1 k1 hi1 h1
        rw [List.append_nil] at e
        refine ⟨m1, q41_11 (by omega) ok1.1 _ ?_, ⟨NC.refl, fun _ _ => rfl⟩, by rw [h1]; simp [flL], trivial, fun _ _ => ⟨rfl, rfl⟩⟩
        rw [if_neg (by rw [e]; omega)]
      | cons x rest ih =>
        intro done m1 i1 e ok1 k1 hi1 h1
        have hxm : x ∈ ch := by rw [e]; exact List.mem_append_right _ List.mem_cons_self
        obtain ⟨ch', cn, cL, cB, cl', cv⟩ := hv x hxm
        have hxs : ∀ y ∈ x.2.2, 2 ≤ y ∧ y < 1600 := fun y hy => hr y (List.mem_flatMap.mpr ⟨x, hxm, hy⟩)
        have hxb := hxs x.1 (by rw [cB]; exact List.mem_cons_self)
        have hX1 := k1.xp hX hz
        have hDR1 := hDR.ut (k1.ut (ts := dkT) hX (by decide) (by decide)) hz (by decide)
        have el : ch.length = done.length + rest.length + 1 := by rw [e]; simp; omega
        have hen := hn.2.2.1 done.length (hdId x.2.1, x.1) (by rw [e]; exact ents_at)
        have e182 := c182 (d := d - 1) (b := b) ok1.1 hDR1.1 hDR1.2.1 hb
        rw [n1, if_neg (by simp)] at e182
        have e167 := c167 (d := d - 1) (b := b) (k := done.length) (by omega) ok1.1 hDR1.1 hDR1.2.1 hb (by omega)
        rw [hen.2] at e167
        have e167 : cl (d - 1) 167 [pR (A 9), pI b, pI (done.length : Int)] m1 = some (.inl (some (pI x.1)), m1) := e167
        have ln1 : (flL (x :: rest)).length = x.2.1.length + (flL rest).length := by rw [flL_cons, List.length_append]
        have tot : (flL ch).length = (flL done).length + (flL (x :: rest)).length := by rw [e, flL_app, List.length_append]
        obtain ⟨m2, e41, k2, w22, w1, w2⟩ := ihh (d - 1) m1 x.1 i1 ch' (by omega) ok1 hX1 hDR1 (by omega) cn cv cl'.2 (fun y hy => hxs y (by rw [cB]; exact List.mem_cons_of_mem _ hy)) h1 (by omega) (by rw [← cL]; omega)
        rw [← cL] at w22 w1
        have ok2 := k2.1.ok ok1
        obtain ⟨m', f1, f2, f3, f4, f5⟩ := ih (done ++ [x]) m2 (i1 + x.2.1.length) (by rw [e]; simp) ok2 (k1.trans k2) (by rw [hi1, flL_app, List.length_append]; simp [flL]; omega) w22
        have el1 : (((done ++ [x]).length : Nat) : Int) = done.length + 1 := by simp
        rw [el1] at f1
        refine ⟨m', q41_11 (by omega) ok1.1 _ ?_, k2.trans f2, by rw [f3, ln1]; push_cast; omega, ?_, fun j hj => ?_⟩
        · rw [if_pos (by omega), gd_of hX1.1, nm_eq, hX1.f (by omega), gd_of hX1.a9, bI_eq e182, if_pos rfl, nm_eq, hX1.f (by omega), gd_of hX1.a9, bI_eq e167, bV_eq e41, (w32_of (by omega) (by omega) : w32 ((done.length : Int) + 1) = (done.length : Int) + 1)]
          exact f1
        · rw [flL_cons]
          exact (w1.imp fun j j0 j1 => f5 j (by omega)).app f4
        · obtain ⟨a1, a2⟩ := f5 j (by omega)
          obtain ⟨a3, a4⟩ := w2 j hj
          exact ⟨by rw [a1, a3], by rw [a2, a4]⟩
    obtain ⟨m', f1, f2, f3, f4, f5⟩ := key ch [] m i rfl ok ⟨NC.refl, fun _ _ => rfl⟩ (by simp [flL]) h22
    refine ⟨m', q41 (by omega) hz _ ?_, f2, f3, f4, f5⟩
    rw [gd_of hX.1, nm_eq, hX.f (by omega), gd_of hX.a9, bI_eq e181]
    exact f1
/-- a version's documents are listed -/
theorem c40 {root : Int} {bs : List Int} {D : DC} (hd : 20 ≤ d) (h : CPt n m X A s g) (hV : VsO g.c root (encD D) bs) (hD : D.length ≤ 64) : ∃ m', cl d 40 [pR X, pI root] m = some (.inl none, m') ∧ CPt n m' X A s g ∧ LF X A m m' ∧ vl m' X 22 = D.length ∧ LsE m' A g.c 0 (encD D) := by
  have hz := h.1.tz
  have hX := h.2.1
  have k0 : LF X A m (mst m X 22 0) := ⟨NC.set (Or.inl rfl), fun f hf => by rw [vl_mst, if_neg (fun z => hf z.2)]⟩
  have v22 : vl (mst m X 22 0) X 22 = 0 := by rw [vl_mst, if_pos ⟨rfl, rfl⟩]
  have hXm := k0.xp hX hz
  obtain ⟨hDR, -⟩ := h.2.2.2.2.2.2.2.2.2.1
  have hDR0 := hDR.ut (k0.ut (ts := dkT) hX (by decide) (by decide)) hz (by decide)
  have hL : (encD D).length ≤ 100 := by rw [encD_len]; omega
  obtain ⟨hV1, -, -, -, hr⟩ := hV
  rcases hV1 with ⟨rfl, e2, -⟩ | ⟨hh, ch, hn, e2, e3, hl, hv⟩
  · have hD0 : D = [] := by
      have := congrArg List.length e2
      rw [encD_len] at this
      exact List.length_eq_zero_iff.mp this
    subst hD0
    refine ⟨_, q40 (by omega) hz _ ?_, h.lst k0, k0, v22, trivial⟩
    rw [gd_of hX.1, if_pos rfl]
  · have hrt := hr root (by rw [e3]; exact List.mem_cons_self)
    have h3 := lev_le hv ⟨hl.1, hl.2.2⟩ (by rw [← e2]; exact hL)
    obtain ⟨m', f1, f2, f3, f4, f5⟩ := c41 (c := g.c) (ns := g.ns) hh (d - 1) (mst m X 22 0) root 0 ch (by omega) h.1.1 hXm hDR0 (by omega) hn hv hl.2.1 (fun y hy => hr y (by rw [e3]; exact List.mem_cons_of_mem _ hy)) v22 (by omega) (by rw [← e2]; omega)
    rw [← e2] at f3 f4
    refine ⟨m', q40 (by omega) hz _ ?_, h.lst (k0.trans f2), k0.trans f2, by rw [f3, encD_len]; omega, f4⟩
    rw [gd_of hX.1, if_neg (by omega), bV_eq f1]
end
