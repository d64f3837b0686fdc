/-! the twin's patches: one takes another's place -/
set_option maxRecDepth 100000
set_option maxHeartbeats 4000000
theorem insG_congr {g g' : Int → Int → Int} (hg : ∀ f j, 0 ≤ f → f ≤ 9 → g f j = g' f j) (p b k f j : Int) (h0 : 0 ≤ f) (h1 : f ≤ 9) : insG g p b k f j = insG g' p b k f j := by
  unfold insG
  rw [hg 4 p (by decide) (by decide), hg 5 b (by decide) (by decide)]
  split
  · unfold up; rw [hg f j h0 h1]
  · unfold up; rw [hg f j h0 h1]
section
variable {d : Nat} {m : Mem} {M D n C : Int} {us : List Int}
theorem c239 {p k v : Nat} {ob : Bool} {nd : ND} {l A B : Fo} (hd : 2 ≤ d) (hM : tg m M = 11) (hD : vl m M 18 = D) (ok : OK m) (h : TW m D n us C) (hT : TI m) (hU : wfU us) (hpn : (p : Int) < n) (hkn : (k : Int) < n) (hvn : (v : Int) < n) (hF : TF (nv m D) us n p ob (fapp A (.inner k nd () l B))) (h4 : nv m D 4 p = hdI (fapp A (.inner k nd () l B))) (hk : k ∉ idF A) :
    ∃ m2, cl d 239 [pR M, pI k, pI v] m = some (.inl none, m2) ∧ TW m2 D n us C ∧ TG D m m2 (insG (rmG (nv m D) p (lsI (-1) A) (hdI B)) p (lsI (-1) A) v) ∧ uC m2 D = uC m D ∧ nx m2 = nx m ∧ sl m2 = sl m := by
  have hc := h.2.2.2.2.2.2.1
  have l8 := h.ld (f := 8) ⟨by decide, by decide⟩ (by decide)
  have l4 := h.ld (f := 4) ⟨by decide, by decide⟩ (by decide)
  have e8 : vl m (vl m D 8) k = p := hF.mid.2.2.2.2.2.1
  have e4 : vl m (vl m D 4) p = hdI (fapp A (.inner k nd () l B)) := h4
  obtain ⟨m1, e1, w1, g1, u1, x1, s1⟩ := c294 (d := d - 1) hkn hpn h hT ok hU hF h4 hk
  have hls : lsI (-1) A < n := by
    rcases lsI_mem A (-1) with ⟨q, q2⟩ | ⟨b, hb1, hb2⟩
    · rw [q2]; omega
    · rw [hb2]
      have : TF (nv m D) us n p ob (fapp A (.inner k nd () l B)) := hF
      exact this.lt b (by rw [idF_app]; exact List.mem_append.mpr (Or.inl hb1))
  obtain ⟨m2, e2, w2, g2, u2, x2, s2⟩ := c290 (d := d - 1) (p := p) (b := lsI (-1) A) (k := v) w1 g1.1 g1.2.1 ⟨by omega, hpn⟩ hls ⟨by omega, hvn⟩
  have hMn : M < nx m := tz_lt ok.1 (by omega)
  have hM1 : tg m1 M = 11 := by rw [tg_of (cl_FRM e1) ok.1 (by omega)]; exact hM
  have hD1 : vl m1 M 18 = D := by rw [vl_of (cl_FRM e1) ok.1 hM (by decide) (by rfl)]; exact hD
  refine ⟨m2, ?_, w2, ⟨g2.1, g2.2.1, fun t' ht n' us' C' hw' => ?_, fun f j f0 f1 => ?_⟩, by rw [u2, u1], by rw [x2, x1], by rw [s2, s1]⟩
  · refine q239 ok.1 _ ?_
    rw [gd_of hM, nm_eq, hD, gd_of h.1, nm_eq, gd_of l8.1, gd_of ⟨by omega, by omega⟩, nm_eq, e8, nm_eq, gd_of l4.1, gd_of ⟨by omega, by omega⟩, e4]
    refine c239_24 (by omega) hM hD ok h A (-1) hF hk _ (q239_24 (by omega) ok.1 _ ?_)
    rw [if_pos rfl, gd_of hM, nm_eq, hD, gd_of h.1, bV_eq e1, nm_eq, hD1, gd_of w1.1, bV_eq e2]
  · obtain ⟨a1, a2, a3⟩ := g1.2.2.1 t' ht n' us' C' hw'
    obtain ⟨b1, b2, b3⟩ := g2.2.2.1 t' ht n' us' C' a1
    exact ⟨b1, fun f j f0 f1 => by rw [b2 f j f0 f1, a2 f j f0 f1], by rw [b3, a3]⟩
  · rw [g2.2.2.2 f j f0 f1]
    exact insG_congr (fun f j f0 f1 => g1.2.2.2 f j f0 f1) _ _ _ f j f0 f1
end
