/-! the pure machine is sound -/
set_option maxRecDepth 100000
set_option maxHeartbeats 4000000
section SND
variable {l : Launch} {s0 : State} {b0 : Addr} {pre : Int → Nat} {dC : Nat → ClassId} {dI : Nat → Nat → Nat}
def SNDp (l : Launch) (s0 : State) (pre : Int → Nat) (dC : Nat → ClassId) (dI : Nat → Nat → Nat) (n : Nat) : Prop :=
  ∀ (d k : Nat) (en : mE) (pc : Nat) (ls st : List PV) (m : Mem) (r : Rs) (m1 : Mem), mI k = some en → MOKb en = true → hOK en.1 (enH en) (rHt k) → ls.length = enL en → exec n d k pc ls st m = some (r, m1) →
    ∀ (p : Program) (e : Env) (R : Room) (s : State) (mid : MethodId) (args : Array Value) (below : List Frame) (meth : Method) (c : Code) (mb : Mem), EM s0 p s mid args meth c en mb → (k ≠ 0 → c.exceptionTable.toList = tableOf (enH en)) → nx mb ≤ nx m → sl mb ≤ sl m → d + 10 ≤ R.frames → 40 * d + 120 ≤ R.locals → (nx m1 - nx mb).toNat ≤ R.cells → (sl m1 - sl mb).toNat ≤ R.slots →
      WS s0 pre dC dI p l e R s mid args below meth c mb (vx_MQ below (QcR s0 pre dC dI r m1) (XcR s0 pre dC dI r m1) args s (nx m1 - nx mb).toNat (sl m1 - sl mb).toNat (frO s0)) pc ls st m
theorem ctr_of {n d k : Nat} {en : mE} {as : List PV} {m : Mem} {r : Rs} {m1 : Mem} (hS : SNDp l s0 pre dC dI n) (hk : mI k = some en) (hk0 : 0 < k) (hal : (arL as).length ≤ enL en) (hex : exec n d k 0 (ini (enL en) as) [] m = some (r, m1)) : CTR l s0 pre dC dI d en as m r m1 := by
  obtain ⟨mb1, mh, mini, mc0, mc1⟩ := mok_all k hk0 en hk
  obtain ⟨u1, u2, u3, u4, u5, u6, u7⟩ := MOKb.use mb1
  unfold CTR
  have main : ∀ (ws : List Cond) (p : Program) (e : Env) (s : State) (mid : MethodId) (args : Array Value) (below : List Frame) (meth : Method) (c : Code) (s₁ : State), BodyLoose p l (enY en) (headSpec ws (rmO d (nx m1 - nx m).toNat (sl m1 - sl m).toNat)) (enB en) (enL en) (enR en) e s mid args below meth c s₁ → (∀ w ∈ lw_all, w ∈ ws) → c.maxLocals = enL en → c.exceptionTable.toList = tableOf (enH en) → PcR s0 pre dC dI as m args s →
      W p l e (headSpec ws (rmO d (nx m1 - nx m).toNat (sl m1 - sl m).toNat)).room s mid args below meth c s.heap [] 0 0 (vx_MQ below (QcR s0 pre dC dI r m1) (XcR s0 pre dC dI r m1) args s (nx m1 - nx m).toNat (sl m1 - sl m).toNat (frO s0)) (entryFrame mid args (enL en)) := by
    intro ws p e s mid args below meth c s₁ B hws hml htb hP
    obtain ⟨hA, hR, hW⟩ := hP
    have hts := atoms_spec (ws := ws) B.pre
    obtain ⟨e1, e2⟩ := entry_lR hA hal
    have hE : EM s0 p s mid args meth c en m := ⟨B.exec, B.bytes, hml, B.returns, B.notSynchronized, fun w h => hts w (hws w h), by rw [u5]; exact findClass_of_methodNamed B.named, hW, fun h => (name_of_methodNamed B.named B.method).1.trans (u7 h), hR.2.1, hR.2.2.1, hR.1⟩
    have k1 := hS d k en 0 (ini (enL en) as) [] m r m1 hk mb1 mh e2 hex p e (rmO d (nx m1 - nx m).toNat (sl m1 - sl m).toNat) s mid args below meth c m hE (fun _ => htb) (Int.le_refl _) (Int.le_refl _) (Nat.le_refl _) (Nat.le_refl _) (Nat.le_refl _) (Nat.le_refl _)
    have k2 := k1 s.heap [] _ [] hR e1 trivial (fun _ h => nomatch h)
    rw [show args = args.toList.toArray by simp, lg_entry_eq]
    rw [show args = args.toList.toArray by simp] at k2
    rw [show (nx m - nx m).toNat = 0 by omega, show (sl m - sl m).toNat = 0 by omega] at k2
    rw [show (headSpec ws (rmO d (nx m1 - nx m).toNat (sl m1 - sl m).toNat)).room = rmO d (nx m1 - nx m).toNat (sl m1 - sl m).toNat from rfl]
    simpa using k2
  by_cases hH : enH en = []
  · rw [mW_nil hH]
    refine vx_ofW (cc := enB en) (maxL := enL en) (ret := enR en) u1 rfl ?_
    intro p e s mid args below meth c s₁ B hml hno hP
    refine main _ p e s mid args below meth c s₁ B (fun w h => List.mem_cons_of_mem _ h) hml ?_ hP
    rw [hH]
    cases hc : c.exceptionTable.toList with
    | nil => rfl
    | cons a b => exact (hno a (by rw [hc]; exact List.mem_cons_self)).elim
  · rw [mW_cons hH]
    refine vx_ofWH (cc := enB en) (maxL := enL en) (ret := enR en) (hh := enH en) u1 rfl ?_
    intro p e s mid args below meth c s₁ B hml hP
    refine main _ p e s mid args below meth c s₁ B (fun w h => List.mem_cons_of_mem _ h) hml ?_ hP
    exact vx_table (x := enY en) B (atoms_spec (ws := wsW_ (enY en) (enB en) (enL en) (enR en) (enH en)) B.pre _ List.mem_cons_self)
theorem SND_all (hl : l.stackTraces = false) (hG : G0 s0 b0 pre dC dI) : ∀ n, SNDp l s0 pre dC dI n := by
  intro n
  induction n with
  | zero => intro d k en pc ls st m r m1 _ _ _ _ h; cases h
  | succ n ih =>
    intro d k en pc ls st m r m1 hk hok hho hls h p e R s mid args below meth c mb hE htb hb1 hb2 hf1 hf2 hc1 hc2
    have hmono := exec_mono _ _ _ _ _ _ _ _ _ h
    obtain ⟨u1, u2, u3, u4, u5, u6, u7⟩ := MOKb.use hok
    unfold exec at h
    rw [hk] at h
    dsimp only at h
    split at h
    · rename_i i len hd
      split at h
      · cases h
      · rename_i hlen
        have hlen : len = ilen i len := Classical.not_not.mp hlen
        split at h
        · cases h
        · -- a step
          rename_i pc1 l1 s1 m2 hst
          obtain ⟨a0, a1, a2⟩ := stp_keep hst
          obtain ⟨b1, b2⟩ := exec_mono _ _ _ _ _ _ _ _ _ h
          exact stp_go hG hE hls hb1 hb2 (by omega) (by omega) (by omega) (by omega) (ih d k en pc1 l1 s1 m2 r m1 hk hok hho (a0.trans hls) h p e R s mid args below meth c mb hE htb (by omega) (by omega) hf1 hf2 hc1 hc2) hd hlen hst
        · -- a call
          rename_i k1 as rest len1 hst
          split at h
          · cases h
          · rename_i d1
            obtain ⟨hk1, en1, hm1, hcall⟩ := stp_call (l := l) (e := e) (R := R) (below := below) hG hE hls hd hlen hst
            rw [hm1] at h
            dsimp only at h
            split at h
            · cases h
            · rename_i hal
              split at h
              · cases h
              · rename_i v m2 hex
                obtain ⟨a1, a2⟩ := exec_mono _ _ _ _ _ _ _ _ _ hex
                obtain ⟨b1, b2⟩ := exec_mono _ _ _ _ _ _ _ _ _ h
                have hC : CTR l s0 pre dC dI d1 en1 as m (.inl v) m2 := ctr_of ih hm1 hk1 (by show _ ≤ en1.2.2.2.1; omega) hex
                have kk := fun pc9 (h9 : exec n (d1 + 1) k pc9 ls (v.toList ++ rest) m2 = some (r, m1)) => ih (d1 + 1) k en pc9 ls (v.toList ++ rest) m2 r m1 hk hok hho hls h9 p e R s mid args below meth c mb hE htb (by omega) (by omega) hf1 hf2 hc1 hc2
                intro H locs lc sc hR hL hS hQ
                obtain ⟨rC, a, hrC, hrun⟩ := hcall d1 _ m2 hC (by omega) (by omega) H locs lc sc (nx m - nx mb).toNat (sl m - sl mb).toNat ⟨by omega, by omega⟩ hR hL hS
                rcases hrun with ⟨rfl, hrun⟩ | ⟨rfl, hrun⟩
                · exact aft_ret hrun hL hrC hQ (by omega) (by omega) (kk _ h)
                · exact aft_ret5 hrun hL hrC hQ (by omega) (by omega) (kk _ h)
              · rename_i x m2 hex
                obtain ⟨a1, a2⟩ := exec_mono _ _ _ _ _ _ _ _ _ hex
                have hC : CTR l s0 pre dC dI d1 en1 as m (.inr x) m2 := ctr_of ih hm1 hk1 (by show _ ≤ en1.2.2.2.1; omega) hex
                split at h
                · cases h
                · rename_i hk0
                  have htb := htb hk0
                  obtain ⟨hx, hb, hml, hret, hlocks, hts, hown, hW, hini, hs1, hs2, hmb⟩ := hE
                  have hE : EM s0 p s mid args meth c en mb := ⟨hx, hb, hml, hret, hlocks, hts, hown, hW, hini, hs1, hs2, hmb⟩
                  have fin : nx m2 ≤ nx m1 → sl m2 ≤ sl m1 → WX s0 pre dC dI p l e R s mid args below meth c mb (vx_MQ below (QcR s0 pre dC dI r m1) (XcR s0 pre dC dI r m1) args s (nx m1 - nx mb).toNat (sl m1 - sl mb).toNat (frO s0)) pc ls x m2 → WS s0 pre dC dI p l e R s mid args below meth c mb (vx_MQ below (QcR s0 pre dC dI r m1) (XcR s0 pre dC dI r m1) args s (nx m1 - nx mb).toNat (sl m1 - sl mb).toNat (frO s0)) pc ls st m := by
                    intro b1 b2 kx H locs lc sc hR hL hS hQ
                    obtain ⟨rC, a, hrC, hrun⟩ := hcall d1 _ m2 hC (by omega) (by omega) H locs lc sc (nx m - nx mb).toNat (sl m - sl mb).toNat ⟨by omega, by omega⟩ hR hL hS
                    rcases hrun with ⟨-, hrun⟩ | ⟨-, hrun⟩
                    · exact aft_thr hrun hL hQ (by omega) (by omega) kx
                    · exact aft_thr5 hrun hL hQ (by omega) (by omega) kx
                  split at h
                  · -- caught
                    rename_i hp hh
                    obtain ⟨b1, b2⟩ := exec_mono _ _ _ _ _ _ _ _ _ h
                    obtain ⟨z1, b9, z2, t, r1, r2, r3, r4, r5, r6, r7, r8⟩ := hdlC_some _ _ _ _ _ hho hh
                    subst r5
                    refine fin b1 b2 (WX.catch hown htb r1 (fun z hz => ?_) r3 r4 (hts _ r7) (mv_CA hW (hG.2.2.1 _ (z_exc t r6.1 r6.2))) ?_)
                    · rcases r8 z hz with h9 | ⟨h9, u, hu, hne, hlk⟩
                      · exact Or.inl h9
                      · exact Or.inr ⟨h9, eNm u, hts _ hlk, (hG.2.2.2.2.2.1 t u r6.1 r6.2 hu.1 hu.2 (fun e9 => hne e9.symm)).moved hW.alike⟩
                    · rw [← r2]
                      exact ih (d1 + 1) k en hp ls [pU] m2 r m1 hk hok hho hls h p e R s mid args below meth c mb hE (fun _ => htb) (by omega) (by omega) hf1 hf2 hc1 hc2
                  · -- not caught
                    rename_i hh
                    cases h
                    refine fin (Int.le_refl _) (Int.le_refl _) (WX.outP rfl hown ?_ hlocks (Nat.le_refl _) (Nat.le_refl _))
                    intro z hz
                    rw [htb] at hz
                    obtain ⟨y, hy, rfl⟩ := List.mem_map.mp hz
                    rcases hdlC_none _ _ _ _ hho hh y hy with h9 | ⟨h9, u, t, rfl, ht, hu, hne, hlk⟩
                    · exact Or.inl h9
                    · exact Or.inr ⟨h9, eNm u, hts _ hlk, (hG.2.2.2.2.2.1 t u ht.1 ht.2 hu.1 hu.2 (fun e9 => hne e9.symm)).moved hW.alike⟩
                  · cases h
        · -- an answer
          rename_i v hst
          cases h
          exact stp_ret hE u6 hd hlen hst
        · -- an exception
          rename_i x m2 hst
          split at h
          · cases h
          · rename_i hk0
            have htb := htb hk0
            split at h
            · rename_i hh
              cases h
              refine stp_throw hl hG hE hk hls hb1 hb2 (by omega) (by omega) hc1 hc2 hd hst ?_
              intro z hz
              rw [htb] at hz
              obtain ⟨y, hy, rfl⟩ := List.mem_map.mp hz
              exact hdl_none _ _ _ _ hho hh y hy
            · cases h
    · cases h
end SND
