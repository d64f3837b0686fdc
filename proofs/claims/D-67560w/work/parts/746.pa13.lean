/-! the patcher: how long the document is, printed -/
set_option maxRecDepth 100000
set_option maxHeartbeats 4000000
theorem frm_mst {e : Nat} {m : Mem} {a k v : Int} (hb : Nat.testBit e (bix (tg m a) k) = true) : FRM e m (mst m a k v) := by
  refine ⟨⟨fun z => z, Int.le_refl _, fun _ _ => ⟨rfl, rfl⟩⟩, fun a' f h1 h2 => ?_, fun _ => ⟨rfl, rfl⟩⟩
  rw [vl_mst, if_neg]
  rintro ⟨q1, q2⟩
  rw [q1, q2, hb] at h2
  cases h2
theorem SK.clear {m : Mem} {s cap : Int} {ys : List Int} (h : SK m s ys cap) (hI : SI m) : SKS s m (mst m s 1 0) [] cap 0 := by
  obtain ⟨h1, h2, h3, h4, h5, h6, h7⟩ := h
  have hv : ∀ a, vl (mst m s 1 0) a 0 = vl m a 0 := fun a => by rw [vl_mst, if_neg (by omega)]
  refine ⟨⟨h1, by rw [hv]; exact h2, by rw [hv]; exact h3, by rw [vl_mst, if_pos ⟨rfl, rfl⟩]; rfl, by simp; omega, h6, fun i i0 i1 => absurd i1 (by simp; omega)⟩, ⟨fun a a' ha ha' hne h0 => ?_, fun s' hs ys' c' hw => ?_⟩, frm_mst (by rw [h1]; rfl), by show nx m = _; omega, by show sl m = _; omega⟩
  · rw [hv] at h0 ⊢
    rw [hv]; exact hI a a' ha ha' hne h0
  · obtain ⟨b1, b2, b3, b4, b5, b6, b7⟩ := hw
    have hbs : vl m s' 0 ≠ s := by intro q; rw [q] at b2; omega
    refine ⟨b1, by rw [hv]; exact b2, by rw [hv]; exact b3, by rw [vl_mst, if_neg (by omega)]; exact b4, b5, b6, fun i i0 i1 => ?_⟩
    rw [hv, vl_mst, if_neg (by omega)]; exact b7 i i0 i1
section
variable {d : Nat} {m : Mem} {P cd : Int} {xs ys : List Int} {nd : ND} {l : Fo}
theorem c128 (hd : 13 + 2 * dpF l ≤ d) (hP : tg m P = 7) (hpre : PRE m) (hI : SI m) (hS : SK m (vl m P 15) ys 480) (hR : RW m (vl m P 5) xs cd) (hx : xs.length < 60000) (hA : At xs 0 (enV nd l)) (hw : wfF (foC nd l foN)) :
    ((prV nd l).length ≤ 480 → ∃ m', cl d 128 [pR P] m = some (.inl (some (pI (prV nd l).length)), m') ∧ SKS (vl m P 15) m m' (prV nd l) 480 0) ∧
    (480 < (prV nd l).length → ∃ m' ws, cl d 128 [pR P] m = some (.inr 201, m') ∧ SKS (vl m P 15) m m' ws 480 1) := by
  have ok := hpre.1
  have k0 := hS.clear hI
  have hpre0 := hpre.fr k0.2.2.1
  have hPs : P ≠ vl m P 15 := by intro q; have := hS.1; rw [← q] at this; omega
  have hR0 : RW (mst m (vl m P 15) 1 0) (vl m P 5) xs cd := hR.fr k0.2.2.1 ok.1 (by rfl)
  have hp := c52 (d := d - 1) (a := 0) (by omega) hw hpre0 k0.2.1.1 k0.1 hR0 hx hA
  have e15 : vl (mst m (vl m P 15) 1 0) P 15 = vl m P 15 := by rw [vl_mst, if_neg (by omega)]
  refine ⟨fun hl => ?_, fun hl => ?_⟩
  · obtain ⟨m1, e1, g1⟩ := hp.1 (by simp; omega)
    rw [List.nil_append] at g1
    have h15 : vl m1 P 15 = vl m P 15 := by
      rw [vl_of g1.2.2.1 hpre0.1.1 (show tg (mst m (vl m P 15) 1 0) P = 7 from hP) (by decide) (by rfl)]; exact e15
    refine ⟨m1, q128 (by omega) ok.1 _ ?_, k0.trans g1⟩
    rw [gd_of hP, nm_eq, gd_of hS.1, bV_eq e1, nm_eq, h15, gd_of g1.1.1, g1.1.2.2.2.1]
  · obtain ⟨m1, ws, e1, g1⟩ := hp.2 (by simp; omega)
    refine ⟨m1, ws, q128 (by omega) ok.1 _ ?_, k0.trans g1⟩
    rw [gd_of hP, nm_eq, gd_of hS.1, bV_xq e1]
end
