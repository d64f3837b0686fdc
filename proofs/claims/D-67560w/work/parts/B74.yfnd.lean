/-! the twin: an index is made -/
set_option maxRecDepth 100000
set_option maxHeartbeats 4000000
section
variable {d n : Nat} {m m1 : Mem} {M : Int} {B : Int → Int} {s : St} {c : Int → Int} {K : Int} {f : Int → Option PV}
/-- a field of a row -/
theorem c251q {k r f : Int} (hz : TZ m) (h : QA m M k K) (hr : 0 ≤ r ∧ r < k) (hf : 0 ≤ f ∧ f < 8) : cl d 251 [pR M, pI r, pI f] m = some (.inl (some (pI (rv m M r f))), m) := by
  obtain ⟨a1, a2, ⟨a3, a4⟩, ⟨a5, a6⟩, a7, a8, a9⟩ := h
  refine q251 hz _ ?_
  rw [gd_of a1, nm_eq, nm_eq, (w32_of (by omega) (by omega) : w32 (8 * r) = 8 * r), (w32_of (by omega) (by omega) : w32 (8 * r + f) = 8 * r + f), gd_of a3, gd_of (by rw [a4]; omega)]
  rfl
theorem TWt.ti_nc {o : Int} (h : TI m) (k : NC (· = o) m m1) (ho : tg m o ≠ 13) : TI m1 := by
  have e13 : ∀ a, tg m a = 13 → ∀ f, vl m1 a f = vl m a f := fun a ha f => k.2.2.2 a f fun z => by rw [z] at ha; exact ho ha
  refine ⟨fun t f ht hf => by rw [(k.2.2.1 t).1] at ht; rw [e13 t ht, k.1]; exact h.1 t f ht hf, fun t t' f f' ht ht' hf hf' hne h0 => ?_⟩
  rw [(k.2.2.1 _).1] at ht ht'
  rw [e13 t ht] at h0
  rw [e13 t ht, e13 t' ht']
  exact h.2 t t' f f' ht ht' hf hf' hne h0
theorem TI_mal {t k : Int} (h : TI m) (hz : TZ m) (ht : t ≠ 13) : TI (mal m t k) := by
  have e : ∀ a, tg (mal m t k) a = 13 → tg m a = 13 ∧ ∀ f, vl (mal m t k) a f = vl m a f := fun a ha => by
    rw [tg_mal] at ha
    have hn : a ≠ nx m := fun z => by rw [if_pos z] at ha; exact ht ha
    rw [if_neg hn] at ha
    exact ⟨ha, fun f => by rw [vl_mal, if_neg hn]⟩
  refine ⟨fun a f ha hf => ?_, fun a b f g ha hb hf hg hne h0 => ?_⟩
  · obtain ⟨e1, e2⟩ := e a ha
    rw [e2]
    have := h.1 a f e1 hf
    show vl m a f < nx m + 1
    omega
  · obtain ⟨e1, e2⟩ := e a ha
    obtain ⟨e3, e4⟩ := e b hb
    rw [e2] at h0
    rw [e2, e4]
    exact h.2 a b f g e1 e3 hf hg hne h0
end
