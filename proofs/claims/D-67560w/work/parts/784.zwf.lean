/-! patches keep values as they should be -/
set_option maxRecDepth 100000
set_option maxHeartbeats 4000000
/-- a value as it is read: no index, no name, canonical -/
def GV (v : Vl) : Prop := v.1 = 0 ∧ v.2.1.2.2.2 = [] ∧ wfF (foC v.2.1 v.2.2 foN) ∧ cnF false (foC v.2.1 v.2.2 foN)
theorem wfF_fapp : ∀ (A B : Fo), wfF (fapp A B) ↔ wfF A ∧ wfF B := by
  intro A
  induction A with
  | leaf => intro B; exact ⟨fun h => ⟨trivial, h⟩, fun h => h.2⟩
  | inner n d u l r _ ih =>
    intro B
    show (wfN d ∧ sur d.2.2.1 ∧ (d.1 < 5 → l = foN) ∧ (d.1 = 6 → (nmsF l).Nodup) ∧ wfF l ∧ wfF (fapp r B)) ↔ (wfN d ∧ sur d.2.2.1 ∧ (d.1 < 5 → l = foN) ∧ (d.1 = 6 → (nmsF l).Nodup) ∧ wfF l ∧ wfF r) ∧ wfF B
    rw [ih]
    constructor
    · rintro ⟨a, b, c, d, e, f, g⟩; exact ⟨⟨a, b, c, d, e, f⟩, g⟩
    · rintro ⟨⟨a, b, c, d, e, f⟩, g⟩; exact ⟨a, b, c, d, e, f, g⟩
theorem cnF_fapp (ob : Bool) : ∀ (A B : Fo), cnF ob (fapp A B) ↔ cnF ob A ∧ cnF ob B := by
  intro A
  induction A with
  | leaf => intro B; exact ⟨fun h => ⟨trivial, h⟩, fun h => h.2⟩
  | inner n d u l r _ ih =>
    intro B
    show (n = 0 ∧ cnN d ob ∧ cnF (d.1 == 6) l ∧ cnF ob (fapp r B)) ↔ (n = 0 ∧ cnN d ob ∧ cnF (d.1 == 6) l ∧ cnF ob r) ∧ cnF ob B
    rw [ih]
    constructor
    · rintro ⟨a, b, c, d, e⟩; exact ⟨⟨a, b, c, d⟩, e⟩
    · rintro ⟨⟨a, b, c, d⟩, e⟩; exact ⟨a, b, c, d, e⟩
theorem dpF_fapp : ∀ (A B : Fo), dpF (fapp A B) = max (dpF A) (dpF B) := by
  intro A
  induction A with
  | leaf => intro B; show dpF B = max 0 (dpF B); omega
  | inner n d u l r _ ih =>
    intro B
    show max (if d.1 < 5 then 0 else 1 + dpF l) (dpF (fapp r B)) = max (max (if d.1 < 5 then 0 else 1 + dpF l) (dpF r)) (dpF B)
    rw [ih]; omega
theorem G_amg {ob : Bool} {A B : Fo} {v : Vl} {k : List Int} (hv : v.2.1.2.2.2 = []) : (wfF (amg A v k B) ∧ cnF ob (amg A v k B)) ↔ (wfF A ∧ cnF ob A) ∧ (wfF B ∧ cnF ob B) ∧ GV v ∧ wfU k ∧ sur k ∧ (ob = false → k = []) := by
  obtain ⟨i, d, l⟩ := v
  obtain ⟨d1, d2, d3, d4⟩ := d
  have hv : d4 = [] := hv
  subst hv
  unfold GV
  rw [wfF_fapp, cnF_fapp]
  constructor
  · rintro ⟨⟨a1, ⟨⟨b1, b2, b3, b4, b5⟩, b6, b7, b8, b9, b10⟩⟩, a2, c1, ⟨c2, c3, c4, c5⟩, c6, c7⟩
    exact ⟨⟨a1, a2⟩, ⟨b10, c7⟩, ⟨c1, rfl, ⟨⟨b1, b2, b3, b4, fun u hu => absurd hu (by simp)⟩, b6, b7, b8, b9, trivial⟩, rfl, ⟨c2, c3, fun _ => rfl, trivial⟩, c6, trivial⟩, b5, c5, c4⟩
  · rintro ⟨⟨a1, a2⟩, ⟨b10, c7⟩, ⟨c1, _, ⟨⟨b1, b2, b3, b4, _⟩, b6, b7, b8, b9, _⟩, _, ⟨c2, c3, _, _⟩, c6, _⟩, b5, c5, c4⟩
    exact ⟨⟨a1, ⟨⟨b1, b2, b3, b4, b5⟩, b6, b7, b8, b9, b10⟩⟩, a2, c1, ⟨c2, c3, c4, c5⟩, c6, c7⟩
theorem amg_ne (A : Fo) (v : Vl) (k : List Int) (B : Fo) : amg A v k B ≠ foN := by
  cases A <;> intro h <;> cases h
theorem nms_amg (A : Fo) (v : Vl) (k : List Int) (B : Fo) : nmsF (amg A v k B) = nmsF A ++ k :: nmsF B := by
  rw [nmsF_fapp]; rfl
theorem GV_kids {i : Nat} {d : ND} {l l' : Fo} (h : GV (i, d, l)) (h5 : d.1 = 5 ∨ d.1 = 6) (hn : d.1 = 6 → (nmsF l').Nodup) (hw : wfF l' ∧ cnF (d.1 == 6) l') : GV (i, d, l') := by
  obtain ⟨a1, a2, ⟨b1, b2, b3, b4, b5, b6⟩, c1, c2, c3, c4⟩ := h
  exact ⟨a1, a2, ⟨b1, b2, fun q => absurd (show d.1 < 5 from q) (by omega), hn, hw.1, trivial⟩, c1, c2, hw.2, trivial⟩
theorem GV.kid {i : Nat} {d : ND} {l : Fo} (h : GV (i, d, l)) : (wfF l ∧ cnF (d.1 == 6) l) ∧ (d.1 = 6 → (nmsF l).Nodup) ∧ (l ≠ foN → 5 ≤ d.1 ∧ d.1 ≤ 6) := by
  obtain ⟨a1, a2, ⟨b1, b2, b3, b4, b5, b6⟩, c1, c2, c3, c4⟩ := h
  refine ⟨⟨b5, c3⟩, b4, fun q => ⟨?_, b1.1⟩⟩
  rcases Nat.lt_or_ge d.1 5 with q1 | q1
  · exact absurd (b3 q1) q
  · exact q1
def okN (k : List Fr) : Prop := ∀ f, f ∈ k → f.2.1.2.2.2 = []
theorem GV_hole : ∀ (k : List Fr) (u : Vl), okN k → u.2.1.2.2.2 = [] → GV (plug k u) → GV u ∧ ∀ u', GV u' → GV (plug k u') := by
  intro k
  induction k with
  | nil => intro u _ _ h; exact ⟨h, fun u' h' => h'⟩
  | cons f k ih =>
    intro u hk hu h
    obtain ⟨g1, g2⟩ := ih (f.1, f.2.1, amg f.2.2.1 u f.2.2.2.1 f.2.2.2.2) (fun f' hf' => hk f' (List.mem_cons_of_mem _ hf')) (hk f (List.mem_cons_self)) h
    obtain ⟨q1, q2, q3⟩ := g1.kid
    have q5 := q3 (amg_ne _ _ _ _)
    obtain ⟨r1, r2, r3, r4, r5, r6⟩ := (G_amg hu).mp q1
    refine ⟨r3, fun u' h' => g2 _ (GV_kids g1 (by omega) (fun h6 => ?_) ((G_amg h'.2.1).mpr ⟨r1, r2, h', r4, r5, r6⟩))⟩
    rw [nms_amg]
    have := q2 h6
    rw [nms_amg] at this; exact this
theorem goZ_nm : ∀ (tks : List (List Int)) (k : List Fr) (v : Vl) (k' : List Fr) (w : Vl), okN k → v.2.1.2.2.2 = [] → goZ tks k v = some (k', w) → okN k' ∧ w.2.1.2.2.2 = [] := by
  intro tks
  induction tks with
  | nil => intro k v k' w hk hv h; unfold goZ at h; cases h; exact ⟨hk, hv⟩
  | cons tk tks ih =>
    intro k v k' w hk hv h
    unfold goZ at h
    cases h1 : go1 tk v with
    | none => rw [h1] at h; cases h
    | some p =>
      rw [h1] at h
      obtain ⟨f, w1⟩ := p
      have e : f.2.1 = v.2.1 ∧ w1.2.1.2.2.2 = [] := by
        unfold go1 at h1
        split at h1
        · obtain ⟨x, _, hx⟩ := Option.map_eq_some_iff.mp h1
          unfold fr1 at hx; cases hx; exact ⟨rfl, rfl⟩
        · split at h1
          · split at h1
            · cases h1
            · obtain ⟨x, _, hx⟩ := Option.map_eq_some_iff.mp h1
              unfold fr1 at hx; cases hx; exact ⟨rfl, rfl⟩
          · cases h1
      refine ih (f :: k) w1 k' w (fun f' hf' => ?_) e.2 h
      rcases List.mem_cons.mp hf' with q | q
      · rw [q, e.1]; exact hv
      · exact hk f' q
/-- what was found is as it should be, and so is what comes of another value there -/
theorem GV_go {tks : List (List Int)} {v : Vl} {k : List Fr} {w : Vl} (h : GV v) (hg : goZ tks [] v = some (k, w)) : plug k w = v ∧ okN k ∧ GV w ∧ ∀ u', GV u' → GV (plug k u') := by
  have hp := goZ_plug tks [] v k w hg
  obtain ⟨n1, n2⟩ := goZ_nm tks [] v k w (fun f hf => absurd hf (by simp)) h.2.1 hg
  have hp : plug k w = v := hp
  obtain ⟨g1, g2⟩ := GV_hole k w n1 n2 (by rw [hp]; exact h)
  exact ⟨hp, n1, g1, g2⟩
theorem GV_ad1 {tk : List Int} {w u : Vl} {l : Fo} (hu : GV u) (hw : GV w) (ht : wfU tk ∧ sur tk) (h : ad1 tk w u = some l) : GV (u.1, u.2.1, l) := by
  obtain ⟨i, d, l0⟩ := u
  obtain ⟨q1, q2, q3⟩ := hu.kid
  unfold ad1 at h
  dsimp only at h
  by_cases h6 : d.1 = 6
  · rw [if_pos h6] at h
    have e6 : (d.1 == 6) = true := by rw [h6]; rfl
    cases hs : spN tk l0 with
    | some x =>
      rw [hs] at h
      cases h
      obtain ⟨s1, s2, s3⟩ := spN_eq hs
      have s4 : l0 = amg x.1 (x.2.1, noN x.2.2.1, x.2.2.2.1) x.2.2.1.2.2.2 x.2.2.2.2 := s1
      rw [s4] at q1
      obtain ⟨r1, r2, r3, r4, r5, r6⟩ := (G_amg (v := (x.2.1, noN x.2.2.1, x.2.2.2.1)) rfl).mp q1
      refine GV_kids hu (Or.inr h6) (fun _ => ?_) ((G_amg hw.2.1).mpr ⟨r1, r2, hw, r4, r5, r6⟩)
      have := q2 h6
      rw [s4, nms_amg] at this
      rw [nms_amg]; exact this
    | none =>
      rw [hs] at h
      cases h
      refine GV_kids hu (Or.inr h6) (fun _ => ?_) ((G_amg hw.2.1).mpr ⟨q1, ⟨trivial, trivial⟩, hw, ht.1, ht.2, fun q => (by rw [e6] at q; cases q)⟩)
      rw [nms_amg]
      have := spN_none.mp hs
      rw [List.nodup_append]
      refine ⟨q2 h6, by simp [nmsF], fun a ha b hb => ?_⟩
      have hb : b = tk := by simpa [nmsF] using hb
      rw [hb]; intro q; exact this (q ▸ ha)
  · rw [if_neg h6] at h
    by_cases h5 : d.1 = 5
    · rw [if_pos h5] at h
      have e6 : (d.1 == 6) = false := by rw [h5]; rfl
      cases hx : (if tk = [45] then some (cntF l0) else ixT tk) with
      | none => rw [hx] at h; cases h
      | some j =>
        rw [hx] at h
        dsimp only at h
        split at h
        · cases h
          have hc := (cutI_eq j l0).1
          have q1' := q1
          rw [hc, wfF_fapp, cnF_fapp] at q1'
          exact GV_kids hu (Or.inl h5) (fun q => absurd q h6) ((G_amg hw.2.1).mpr ⟨⟨q1'.1.1, q1'.2.1⟩, ⟨q1'.1.2, q1'.2.2⟩, hw, fun u hu => absurd hu (by simp), trivial, fun _ => rfl⟩)
        · cases h
    · rw [if_neg h5] at h; cases h
theorem GV_adZ {tks : List (List Int)} {w v v' : Vl} (hv : GV v) (hw : GV w) (ht : ∀ tk, tk ∈ tks → wfU tk ∧ sur tk) (h : adZ tks w v = some v') : GV v' := by
  rcases List.eq_nil_or_concat tks with rfl | ⟨init, tk, rfl⟩
  · unfold adZ at h; cases h; exact hw
  · rw [List.concat_eq_append] at *
    rw [adZ_app] at h
    cases hg : goZ init [] v with
    | none => rw [hg] at h; cases h
    | some p =>
      obtain ⟨k, u⟩ := p
      rw [hg] at h
      dsimp only at h
      obtain ⟨l, hl, rfl⟩ := Option.map_eq_some_iff.mp h
      obtain ⟨_, _, g3, g4⟩ := GV_go hv hg
      exact g4 _ (GV_ad1 g3 hw (ht tk (by simp)) hl)
theorem GV_rmZ {tks : List (List Int)} {v v' : Vl} (hv : GV v) (h : rmZ tks v = some v') : GV v' ∧ dpV v'.2.1 v'.2.2 ≤ dpV v.2.1 v.2.2 := by
  have dpm : ∀ (k : List Fr) (u u' : Vl), dpV u'.2.1 u'.2.2 ≤ dpV u.2.1 u.2.2 → dpV (plug k u').2.1 (plug k u').2.2 ≤ dpV (plug k u).2.1 (plug k u).2.2 := by
    intro k
    induction k with
    | nil => intro u u' h; exact h
    | cons f k ih =>
      intro u u' h
      refine ih _ _ ?_
      show dpV f.2.1 (amg f.2.2.1 u' f.2.2.2.1 f.2.2.2.2) ≤ dpV f.2.1 (amg f.2.2.1 u f.2.2.2.1 f.2.2.2.2)
      have e : ∀ x : Vl, dpF (amg f.2.2.1 x f.2.2.2.1 f.2.2.2.2) = max (dpF f.2.2.1) (max (dpV x.2.1 x.2.2) (dpF f.2.2.2.2)) := fun x => by rw [dpF_fapp]; rfl
      unfold dpV
      rw [e, e]
      split
      · omega
      · omega
  unfold rmZ at h
  split at h
  · rename_i f k w hg
    cases h
    obtain ⟨g1, g2, g3, g4⟩ := GV_go hv hg
    have g1' : plug k (f.1, f.2.1, amg f.2.2.1 w f.2.2.2.1 f.2.2.2.2) = v := g1
    obtain ⟨h1, h2⟩ := GV_hole k (f.1, f.2.1, amg f.2.2.1 w f.2.2.2.1 f.2.2.2.2) (fun f' hf' => g2 f' (List.mem_cons_of_mem _ hf')) (g2 f (List.mem_cons_self)) (by rw [g1']; exact hv)
    obtain ⟨q1, q2, q3⟩ := h1.kid
    have q5 := q3 (amg_ne _ _ _ _)
    obtain ⟨r1, r2, r3, r4, r5, r6⟩ := (G_amg g3.2.1).mp q1
    refine ⟨h2 _ (GV_kids h1 (by omega) (fun h6 => ?_) ⟨(wfF_fapp _ _).mpr ⟨r1.1, r2.1⟩, (cnF_fapp _ _ _).mpr ⟨r1.2, r2.2⟩⟩), ?_⟩
    · rw [nmsF_fapp]
      have := q2 h6
      rw [nms_amg] at this
      obtain ⟨n1, n2, n3⟩ := List.nodup_append.mp this
      rw [List.nodup_append]
      exact ⟨n1, (List.nodup_cons.mp n2).2, fun a ha b hb => n3 a ha b (List.mem_cons_of_mem _ hb)⟩
    · rw [← g1']
      refine dpm k _ _ ?_
      show dpV f.2.1 (fapp f.2.2.1 f.2.2.2.2) ≤ dpV f.2.1 (amg f.2.2.1 w f.2.2.2.1 f.2.2.2.2)
      have e : dpF (amg f.2.2.1 w f.2.2.2.1 f.2.2.2.2) = max (dpF f.2.2.1) (max (dpV w.2.1 w.2.2) (dpF f.2.2.2.2)) := by rw [dpF_fapp]; rfl
      unfold dpV
      rw [dpF_fapp, e]
      split <;> omega
  · cases h
theorem GV_rpZ {tks : List (List Int)} {w v v' : Vl} (hv : GV v) (hw : GV w) (h : rpZ tks w v = some v') : GV v' := by
  unfold rpZ at h
  obtain ⟨p, hp, rfl⟩ := Option.map_eq_some_iff.mp h
  obtain ⟨k, u⟩ := p
  exact (GV_go hv hp).2.2.2 _ hw
/-- tokens of whole characters -/
theorem pTk_sur : ∀ (n : Nat) (acc l : List Int) (ts : List (List Int)), l.length ≤ n → wfU acc → sur acc → wfU l → sur l → pTk acc l = some ts → ∀ tk, tk ∈ ts → wfU tk ∧ sur tk := by
  intro n
  induction n with
  | zero =>
    intro acc l ts hl ha hs _ _ h
    match l with
    | [] => unfold pTk at h; cases h; intro tk htk; rw [List.mem_singleton.mp htk]; exact ⟨ha, hs⟩
    | _ :: _ => simp at hl
  | succ n ih =>
    intro acc l ts hl ha hs wl sl h
    match l with
    | [] => unfold pTk at h; cases h; intro tk htk; rw [List.mem_singleton.mp htk]; exact ⟨ha, hs⟩
    | c :: r =>
      have hln : r.length ≤ n := by simpa using hl
      have wr : wfU r := fun u hu => wl u (List.mem_cons_of_mem _ hu)
      have sr : ¬ (55296 ≤ c ∧ c ≤ 57343) → sur r := fun hc => by
        match r, sl with
        | [], _ => trivial
        | v :: r2, sl =>
          rcases sl with ⟨q1, q2, -⟩ | ⟨-, q⟩
          · exact absurd ⟨q1, by omega⟩ hc
          · exact q
      have one : ∀ x, 0 ≤ x ∧ x < 55296 → wfU (acc ++ [x]) ∧ sur (acc ++ [x]) := fun x hx => ⟨fun u hu => by
        rcases List.mem_append.mp hu with q | q
        · exact ha u q
        · rw [List.mem_singleton.mp q]; omega, sur_app hs (by show ¬ (55296 ≤ x ∧ x ≤ 57343); omega)⟩
      by_cases h47 : c = 47
      · subst h47
        rw [pTk_sl] at h
        obtain ⟨t2, h2, rfl⟩ := Option.map_eq_some_iff.mp h
        intro tk htk
        rcases List.mem_cons.mp htk with q | q
        · rw [q]; exact ⟨ha, hs⟩
        · exact ih [] r t2 hln (fun u hu => absurd hu (by simp)) (show sur [] from trivial) wr (sr (by omega)) h2 tk q
      · by_cases h126 : c = 126
        · subst h126
          match r, hln, h, wr, sr with
          | [], _, h, _, _ => unfold pTk at h; simp at h
          | x :: r2, hln, h, wr, sr =>
            have sr1 := sr (by omega)
            unfold pTk at h
            simp only [show ¬ (126 : Int) = 47 by decide, if_false, if_true] at h
            have hl2 : r2.length ≤ n := by simp at hln; omega
            have wr2 : wfU r2 := fun u hu => wr u (List.mem_cons_of_mem _ hu)
            have sr2 : ¬ (55296 ≤ x ∧ x ≤ 57343) → sur r2 := fun hc => by
              match r2, sr1 with
              | [], _ => trivial
              | v :: r3, sl =>
                rcases sl with ⟨q1, q2, -⟩ | ⟨-, q⟩
                · exact absurd ⟨q1, by omega⟩ hc
                · exact q
            by_cases h48 : x = 48
            · rw [if_pos h48] at h
              exact ih _ r2 ts hl2 (one 126 (by omega)).1 (one 126 (by omega)).2 wr2 (sr2 (by omega)) h
            · rw [if_neg h48] at h
              by_cases h49 : x = 49
              · rw [if_pos h49] at h
                exact ih _ r2 ts hl2 (one 47 (by omega)).1 (one 47 (by omega)).2 wr2 (sr2 (by omega)) h
              · rw [if_neg h49] at h; cases h
        · rw [pTk_u _ _ ⟨h47, h126⟩] at h
          have wc := wl c List.mem_cons_self
          by_cases hc : 55296 ≤ c ∧ c ≤ 57343
          · match r, sl, hln, h, wr with
            | [], sl, _, _, _ => exact absurd hc sl
            | v :: r2, sl, hln, h, wr =>
              rcases sl with ⟨q1, q2, q3, q4, q5⟩ | ⟨q, -⟩
              · rw [pTk_u _ _ ⟨by omega, by omega⟩, List.append_assoc] at h
                have hl2 : r2.length ≤ n := by simp at hln; omega
                refine ih _ r2 ts hl2 (fun u hu => ?_) (sur_app hs ?_) (fun u hu => wr u (List.mem_cons_of_mem _ hu)) q5 h
                · rcases List.mem_append.mp hu with q | q
                  · exact ha u q
                  · simp only [List.cons_append, List.nil_append, List.mem_cons, List.not_mem_nil, or_false] at q
                    omega
                · exact Or.inl ⟨q1, q2, q3, q4, trivial⟩
              · exact absurd hc q
          · refine ih _ r ts hln (fun u hu => ?_) (sur_app hs (show sur [c] from hc)) wr (sr hc) h
            rcases List.mem_append.mp hu with q | q
            · exact ha u q
            · rw [List.mem_singleton.mp q]; exact wc
theorem ptr_sur {us : List Int} {tks : List (List Int)} (hw : wfU us) (hs : sur us) (h : ptr us = some tks) : ∀ tk, tk ∈ tks → wfU tk ∧ sur tk := by
  unfold ptr at h
  match us, hw, hs, h with
  | [], _, _, h => cases h; intro tk htk; cases htk
  | c :: r, hw, hs, h =>
    dsimp only at h
    split at h
    · rename_i h47
      have sr : sur r := by
        match r, hs with
        | [], _ => trivial
        | v :: r2, sl =>
          rcases sl with ⟨q1, q2, -⟩ | ⟨-, q⟩
          · omega
          · exact q
      exact pTk_sur _ [] _ _ (Nat.le_refl _) (fun u hu => absurd hu (by simp)) (show sur [] from trivial) (fun u hu => hw u (List.mem_cons_of_mem _ hu)) sr h
    · cases h
/-- tokens are no longer than their text -/
theorem ptr_okT {us : List Int} {tks : List (List Int)} (hw : wfU us) (hs : sur us) (hl : (uts us).length ≤ 1900) (h : ptr us = some tks) : okT tks := by
  have hu := ptr_up h
  have hsu := ptr_sur hw hs h
  refine ⟨fun tk htk => ⟨(hsu tk htk).1, ?_⟩, by omega⟩
  have : ∀ (L : List (List Int)), tk ∈ L → (uts tk).length ≤ (tkB L).length := by
    intro L
    induction L with
    | nil => intro h; cases h
    | cons a L ih =>
      intro h
      have e : tkB (a :: L) = nmB a ++ tkB L := rfl
      rw [e, List.length_append, nmB_len]
      rcases List.mem_cons.mp h with q | q
      · rw [q]; omega
      · have := ih q; omega
  have := this tks htk
  omega
theorem goZ_ok : ∀ (tks : List (List Int)) (k : List Fr) (v : Vl) (k' : List Fr) (w : Vl), okK k → goZ tks k v = some (k', w) → okK k' := by
  intro tks
  induction tks with
  | nil => intro k v k' w hk h; unfold goZ at h; cases h; exact hk
  | cons tk tks ih =>
    intro k v k' w hk h
    unfold goZ at h
    cases h1 : go1 tk v with
    | none => rw [h1] at h; cases h
    | some p =>
      rw [h1] at h
      obtain ⟨f, w1⟩ := p
      obtain ⟨e1, e2⟩ := go1_eq h1
      refine ih (f :: k) w1 k' w (fun f' hf' => ?_) h
      rcases List.mem_cons.mp hf' with q | q
      · rw [q]
        have : v.2.1 = f.2.1 := by rw [e1]
        rw [← this]; exact e2
      · exact hk f' q
theorem en_len56 {d : ND} {l : Fo} (h : d.1 = 5 ∨ d.1 = 6) : (enV d l).length = 3 + (enF (d.1 == 6) l).length := by
  unfold enV enD
  rw [if_neg (by omega), if_neg (by omega), if_neg (by omega)]
  simp [l2_len]; omega
theorem en_plug (k : List Fr) (v : Vl) (hk : okK k) : (enV (plug k v).2.1 (plug k v).2.2).length = offK k + (enV v.2.1 v.2.2).length + (poK k).length := by
  rw [enc_plug k v hk, List.length_append, List.length_append, prL_len _ _ (lnK_len _ _)]; omega
theorem rm_len {tks : List (List Int)} {v v' : Vl} (h : rmZ tks v = some v') : (enV v'.2.1 v'.2.2).length ≤ (enV v.2.1 v.2.2).length := by
  unfold rmZ at h
  split at h
  · rename_i f k w hg
    cases h
    have hok := goZ_ok tks [] v _ _ (fun f hf => absurd hf (by simp)) hg
    have hp := goZ_plug tks [] v _ _ hg
    have hp : plug k (f.1, f.2.1, amg f.2.2.1 w f.2.2.2.1 f.2.2.2.2) = v := hp
    have hk : okK k := fun f' hf' => hok f' (List.mem_cons_of_mem _ hf')
    have h5 := hok f List.mem_cons_self
    rw [← hp, en_plug _ _ hk, en_plug _ _ hk, en_len56 h5, en_len56 h5]
    have e : enF (f.2.1.1 == 6) (amg f.2.2.1 w f.2.2.2.1 f.2.2.2.2) = enF (f.2.1.1 == 6) f.2.2.1 ++ (nmF (f.2.1.1 == 6) f.2.2.2.1 ++ (enV w.2.1 w.2.2 ++ enF (f.2.1.1 == 6) f.2.2.2.2)) := enF_amg _ _ _ _ _
    show _ + (3 + (enF (f.2.1.1 == 6) (fapp f.2.2.1 f.2.2.2.2)).length) + _ ≤ _ + (3 + (enF (f.2.1.1 == 6) (amg f.2.2.1 w f.2.2.2.1 f.2.2.2.2)).length) + _
    rw [enF_fapp, e]
    simp only [List.length_append]
    omega
  · cases h
theorem dp_fr {f : Fr} (h5 : f.2.1.1 = 5 ∨ f.2.1.1 = 6) (x : Vl) : dpV f.2.1 (amg f.2.2.1 x f.2.2.2.1 f.2.2.2.2) = 1 + max (dpF f.2.2.1) (max (dpV x.2.1 x.2.2) (dpF f.2.2.2.2)) := by
  have : dpF (amg f.2.2.1 x f.2.2.2.1 f.2.2.2.2) = max (dpF f.2.2.1) (max (dpV x.2.1 x.2.2) (dpF f.2.2.2.2)) := by rw [dpF_fapp]; rfl
  unfold dpV
  rw [if_neg (by omega), this]; rfl
theorem dp_ge : ∀ (k : List Fr) (u : Vl), okK k → k.length + dpV u.2.1 u.2.2 ≤ dpV (plug k u).2.1 (plug k u).2.2 := by
  intro k
  induction k with
  | nil => intro u _; show 0 + _ ≤ dpV u.2.1 u.2.2; omega
  | cons f k ih =>
    intro u hk
    have h1 := ih (f.1, f.2.1, amg f.2.2.1 u f.2.2.2.1 f.2.2.2.2) (fun f' hf' => hk f' (List.mem_cons_of_mem _ hf'))
    have h2 := dp_fr (hk f List.mem_cons_self) u
    show k.length + 1 + dpV u.2.1 u.2.2 ≤ dpV (plug k (f.1, f.2.1, amg f.2.2.1 u f.2.2.2.1 f.2.2.2.2)).2.1 (plug k (f.1, f.2.1, amg f.2.2.1 u f.2.2.2.1 f.2.2.2.2)).2.2
    dsimp only at h1
    omega
theorem dp_plug : ∀ (k : List Fr) (u u' : Vl), okK k → dpV (plug k u').2.1 (plug k u').2.2 ≤ max (dpV (plug k u).2.1 (plug k u).2.2) (k.length + dpV u'.2.1 u'.2.2) := by
  intro k
  induction k with
  | nil => intro u u' _; show dpV u'.2.1 u'.2.2 ≤ max _ (0 + _); omega
  | cons f k ih =>
    intro u u' hk
    have hk' : okK k := fun f' hf' => hk f' (List.mem_cons_of_mem _ hf')
    have h1 := ih (f.1, f.2.1, amg f.2.2.1 u f.2.2.2.1 f.2.2.2.2) (f.1, f.2.1, amg f.2.2.1 u' f.2.2.2.1 f.2.2.2.2) hk'
    have h0 := dp_ge k (f.1, f.2.1, amg f.2.2.1 u f.2.2.2.1 f.2.2.2.2) hk'
    have e1 := dp_fr (hk f List.mem_cons_self) u
    have e2 := dp_fr (hk f List.mem_cons_self) u'
    show dpV (plug k (f.1, f.2.1, amg f.2.2.1 u' f.2.2.2.1 f.2.2.2.2)).2.1 (plug k (f.1, f.2.1, amg f.2.2.1 u' f.2.2.2.1 f.2.2.2.2)).2.2 ≤ max (dpV (plug k (f.1, f.2.1, amg f.2.2.1 u f.2.2.2.1 f.2.2.2.2)).2.1 (plug k (f.1, f.2.1, amg f.2.2.1 u f.2.2.2.1 f.2.2.2.2)).2.2) (k.length + 1 + dpV u'.2.1 u'.2.2)
    dsimp only at h1 h0
    omega
/-- after a step a value is at most 66 deep -/
theorem dp_adZ {tks : List (List Int)} {w v v' : Vl} (hv : GV v) (hd : dpV v.2.1 v.2.2 ≤ 32) (hw : dpV w.2.1 w.2.2 ≤ 32) (h : adZ tks w v = some v') : dpV v'.2.1 v'.2.2 ≤ 66 := by
  rcases List.eq_nil_or_concat tks with rfl | ⟨init, tk, rfl⟩
  · unfold adZ at h; cases h; omega
  · rw [List.concat_eq_append] at *
    rw [adZ_app] at h
    cases hg : goZ init [] v with
    | none => rw [hg] at h; cases h
    | some p =>
      obtain ⟨k, u⟩ := p
      rw [hg] at h
      dsimp only at h
      obtain ⟨l, hl, rfl⟩ := Option.map_eq_some_iff.mp h
      have hok := goZ_ok init [] v _ _ (fun f hf => absurd hf (by simp)) hg
      obtain ⟨g1, g2, g3, g4⟩ := GV_go hv hg
      have h0 := dp_ge k u hok
      have h1 := dp_plug k u (u.1, u.2.1, l) hok
      rw [g1] at h0 h1
      have h2 : dpV u.2.1 l ≤ 1 + max (dpV u.2.1 u.2.2) (dpV w.2.1 w.2.2) := by
        obtain ⟨i, d, l0⟩ := u
        have dd : ∀ (A B : Fo) (nm : List Int), dpF (amg A w nm B) = max (dpF A) (max (dpV w.2.1 w.2.2) (dpF B)) := fun A B nm => by rw [dpF_fapp]; rfl
        unfold ad1 at hl
        dsimp only at hl ⊢
        by_cases h6 : d.1 = 6
        · rw [if_pos h6] at hl
          cases hs : spN tk l0 with
          | some x =>
            rw [hs] at hl
            cases hl
            have s1 := (spN_eq hs).1
            have s2 : dpF l0 = max (dpF x.1) (dpF (.inner x.2.1 x.2.2.1 () x.2.2.2.1 x.2.2.2.2)) := (congrArg dpF s1).trans (dpF_fapp _ _)
            have s3 : dpF x.2.2.2.2 ≤ dpF (Std.DTreeMap.Internal.Impl.inner x.2.1 x.2.2.1 () x.2.2.2.1 x.2.2.2.2 : Fo) := by show _ ≤ max _ (dpF x.2.2.2.2); omega
            have ed : ∀ l, dpV d l = 1 + dpF l := fun l => if_neg (by omega)
            rw [ed, ed, dd]
            clear h0 h1
            omega
          | none =>
            rw [hs] at hl
            cases hl
            have ed : ∀ l, dpV d l = 1 + dpF l := fun l => if_neg (by omega)
            rw [ed, ed, dd]
            have z : dpF foN = 0 := rfl
            clear h0 h1
            omega
        · rw [if_neg h6] at hl
          by_cases h5 : d.1 = 5
          · rw [if_pos h5] at hl
            cases hx : (if tk = [45] then some (cntF l0) else ixT tk) with
            | none => rw [hx] at hl; cases hl
            | some j =>
              rw [hx] at hl
              dsimp only at hl
              split at hl
              · cases hl
                have hc := (cutI_eq j l0).1
                have s2 : dpF l0 = max (dpF (cutI j l0).1) (dpF (cutI j l0).2) := (congrArg dpF hc).trans (dpF_fapp _ _)
                have ed : ∀ l, dpV d l = 1 + dpF l := fun l => if_neg (by omega)
                rw [ed, ed, dd]
                clear h0 h1
                omega
              · cases hl
          · rw [if_neg h5] at hl; cases hl
      dsimp only at h1 ⊢
      omega
theorem dp_rpZ {tks : List (List Int)} {w v v' : Vl} (hv : GV v) (hd : dpV v.2.1 v.2.2 ≤ 32) (hw : dpV w.2.1 w.2.2 ≤ 32) (h : rpZ tks w v = some v') : dpV v'.2.1 v'.2.2 ≤ 66 := by
  unfold rpZ at h
  obtain ⟨p, hp, rfl⟩ := Option.map_eq_some_iff.mp h
  obtain ⟨k, u⟩ := p
  have hok := goZ_ok tks [] v _ _ (fun f hf => absurd hf (by simp)) hp
  have h0 := dp_ge k u hok
  have h1 := dp_plug k u w hok
  rw [(GV_go hv hp).1] at h0 h1
  dsimp only
  omega
