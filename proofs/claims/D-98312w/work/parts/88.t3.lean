set_option maxRecDepth 100000
set_option maxHeartbeats 1000000
/-! ===== PURE: what one does to the twin ===== -/
abbrev ok_ : List Int := [1, 49, 50, 52, 54, 55, 56, 58, 59, 62, 63, 64, 65, 66, 68, 69, 70, 71, 72, 73, 74]
abbrev of_ : List Int := [2, 51, 53, 57, 60, 61, 67]
section
variable {s s' s1 : TW} {X : Txt} {K K' : Crt} {M : Mst} {β : Type} {ks fs : List Int}
theorem RepR.dn {q p : Int} {a : Int → Int} {mi : Int} {br sh : Int → Int} (h : RepR q a mi br sh X K) (hp : p ≤ q) : RepR p a mi br sh X K := ⟨h.1, h.2.1, fun k t b0 b1 b2 b3 => ⟨(h.2.2.1 k t b0 b1 b2 b3).1, (h.2.2.1 k t b0 b1 b2 b3).2.1, fun e => (h.2.2.1 k t b0 b1 b2 b3).2.2 (by omega)⟩, h.2.2.2⟩
theorem TInv.keeps (T : TInv s M) (hM : WfM M) (c : cg_ qk qf s s1) (hr : RepW s1 (mX M) K') (hW' : WfK (mX M) K') (hb : blw (mX M) (mK M) K') : ∃ s' : TW, f_X8_keeps s1 = some ((), s') ∧ TInv s' (mPush M K') ∧ cg_ ok_ of_ s s' := by
  obtain ⟨Q, U, S, L, P, W⟩ := T.q c
  obtain ⟨s2, e2, q2, u2, c2⟩ := t_keeps Q U hM.2.2.1.1 hr hW' hb
  exact ⟨s2, e2, ⟨q2, u2, S.fr c2 (by decide) (by decide) (by decide), L.fr c2 (by decide) (by decide) (by decide) (by decide) (by decide), P.fr c2 (by decide) (by decide), (c2.2 17 (by decide)).trans W⟩, (c.up (by decide) (by decide)).tr (c2.up (by decide) (by decide))⟩
theorem t_becomes (T : TInv s M) (hM : WfM M) {c v : Int} {K1 : Crt} (c0 : 0 ≤ c) (c1 : c < 36) (wv : wd v) (hset : ∀ (a : Int → Int) (mi : Int) (br sh : Int → Int), RepR (kMi (mK M) - 1) a mi br sh (mX M) (mK M) → RepR (kMi (mK M) - 1) (fu a (36 * kMi (mK M) + c) v) mi br sh (mX M) K1) (hmi : kMi K1 = kMi (mK M)) (hw : WfQ (kMi (mK M) - 1) (mX M) K1) (hb : blw (mX M) (mK M) (lks (mX M) K1)) : ∃ s' : TW, f_X8_becomes s c v = some ((), s') ∧ TInv s' (mPush M (lks (mX M) K1)) ∧ chg ok_ of_ s s' := by
  have Q := T.1
  have hX := Q.1
  have a2 := Q.2.2.2.1
  obtain ⟨s1, e1, J, l1, C⟩ := Q.copies
  have jmi := J.mi
  have C2 := (C.up (ks' := qk) (fs' := qf) (by decide) (by decide)).ts (k := 56) (by decide) (36 * kMi (mK M) + c) v
  have hs2 := Q.2.1.same (C2.text (by decide) (by decide))
  have hr2 : RepQ (kMi K1 - 1) (tst s1 56 (36 * kMi (mK M) + c) v) (mX M) K1 := by
    unfold RepQ
    rw [tst_eq, tst_ne _ _ _ (by decide), tst_ne _ _ _ (by decide), tst_f, hmi]
    exact hset _ _ _ _ (RepR.dn J.2.2.1 (by omega))
  obtain ⟨s3, e3, r3, C3⟩ := t_fillsLate hX hs2 hr2 (by rw [hmi]; exact hw)
  obtain ⟨s4, e4, T4, C4⟩ := T.keeps hM (C2.tr (C3.up (by decide) (by decide))) r3 (lks_wf (by rw [hmi]; exact hw)) hb
  refine ⟨s4, ?_, T4, C4⟩
  unfold f_X8_becomes
  rw [e1, btS, jmi, nrm_i wv.1 wv.2, ts56 (by omega) (by omega), obS, e3, btS, e4, btS]
theorem now_t (Q : TQ s X K) {c : Int} (c0 : 0 ≤ c) (c1 : c < 36) (f : Int → TW → Option β) : bt_ (f_X8_nowOf s c) f = f (s.2 52 (36 * kMi K + c)) s := by
  have a2 := Q.2.2.2.1
  refine btP ?_ f
  unfold f_X8_nowOf
  rw [Q.mi, tb52 (by omega) (by omega)]
theorem now_Wt (Q : TQ s X K) {x : Int} (h0 : 0 ≤ x) (h1 : x < xM X) (f : Int → TW → Option β) : bt_ (f_X8_nowOf s x) f = f (kW K x (kMi K)) s := by
  have a2 := Q.2.2.2.1
  have a1 := Q.1.2.2.1
  rw [now_t Q h0 (by omega), (Q.2.2.1.2.1 x (kMi K) h0 h1 a2.1 (Int.le_refl _)).1]
theorem now_Rt (Q : TQ s X K) {x : Int} (h0 : 0 ≤ x) (h1 : x < xM X) (f : Int → TW → Option β) : bt_ (f_X8_nowOf s (6 + x)) f = f (kR K x (kMi K)) s := by
  have a2 := Q.2.2.2.1
  have a1 := Q.1.2.2.1
  rw [now_t Q (by omega) (by omega), ← Int.add_assoc, (Q.2.2.1.2.1 x (kMi K) h0 h1 a2.1 (Int.le_refl _)).2]
theorem now_Ht (Q : TQ s X K) {x : Int} (h0 : 0 ≤ x) (h1 : x < xK X) (f : Int → TW → Option β) : bt_ (f_X8_nowOf s (12 + x)) f = f (kH K x (kMi K)) s := by
  have a2 := Q.2.2.2.1
  have a1 := Q.1.2.2.2.1
  rw [now_t Q (by omega) (by omega), ← Int.add_assoc, (Q.2.2.1.2.2.1 x (kMi K) h0 h1 a2.1 (Int.le_refl _)).1]
theorem now_Ut (Q : TQ s X K) {x : Int} (h0 : 0 ≤ x) (h1 : x < xK X) (f : Int → TW → Option β) : bt_ (f_X8_nowOf s (20 + x)) f = f (kU K x (kMi K)) s := by
  have a2 := Q.2.2.2.1
  have a1 := Q.1.2.2.2.1
  rw [now_t Q (by omega) (by omega), ← Int.add_assoc, (Q.2.2.1.2.2.1 x (kMi K) h0 h1 a2.1 (Int.le_refl _)).2.1]
theorem t_minutes (T : TInv s M) (hM : WfM M) {n : Int} (wn : wd n) : ∃ s' : TW, f_X8_minutes s n = some (v_minutes M n, s') ∧ TInv s' (a_minutes M n) ∧ chg ok_ of_ s s' := by
  have Q := T.1
  have hX := Q.1
  have a2 := Q.2.2.2.1
  have hmi := Q.mi
  unfold f_X8_minutes v_minutes a_minutes
  by_cases G : 0 ≤ n ∧ n ≤ 299 - kMi (mK M)
  · rw [if_pos G]
    by_cases c : n = 0
    · rw [if_neg (by omega)]
      refine ⟨s, ?_, T, chg.rf _ _ _⟩
      rw [ti_t G.1 (by omega) (by omega) (by omega) (by decide) (by decide), if_neg (by decide), hmi, nrm_i (z := kMi (mK M) + n) (by omega) (by omega), nrm_i (z := 299) (by decide) (by decide), if_pos (by omega), c, if_neg (by decide), Int.add_zero]
    · rw [if_pos (by omega)]
      obtain ⟨s1, e1, J, l1, C⟩ := Q.copies
      have C2 := C.up (ks' := qk) (fs' := qf) (by decide) (by decide)
      have em : s1.1 53 = kMi (mK M) := (C2.2 53 (by decide)).trans hmi
      obtain ⟨s2, e2, r2, c2⟩ := t_goesTill hX J.2.1 J.2.2.1 J.2.2.2 (l1.trans hM.2.1.2.1.symm) (u := kMi (mK M) + n) (by omega) (by omega)
      have et : tilN (mK M) (kMi (mK M) + n) = n.toNat := by unfold tilN; omega
      rw [et] at r2
      have hok := rn_Ok (n := n.toNat) hX hM.2.1 (by omega)
      obtain ⟨s3, e3, T3, C3⟩ := T.keeps hM (C2.tr (c2.up (by decide) (by decide))) r2 hok.1 (rn_blw _ _ _)
      have em3 : s3.1 53 = kMi (mK M) + n := by
        have : s3.1 53 = kMi (rn (mX M) n.toNat (mK M)) := T3.1.mi
        rw [this, (rn_mi (mX M) n.toNat (mK M)).1]
        omega
      refine ⟨s3, ?_, T3, C3⟩
      rw [ti_t G.1 (by omega) (by omega) (by omega) (by decide) (by decide), if_neg (by decide), hmi, nrm_i (z := kMi (mK M) + n) (by omega) (by omega), nrm_i (z := 299) (by decide) (by decide), if_pos (by omega), nrm_i (z := n) (by omega) (by omega), if_pos c, e1, btS, em, e2, btS, e3, btS, em3]
  · rw [if_neg G, if_neg (by omega)]
    refine ⟨s, ?_, T, chg.rf _ _ _⟩
    have w1 := wn.1
    have w2 := wn.2
    by_cases c : 0 ≤ n ∧ n ≤ 299
    · rw [ti_t c.1 c.2 w1 w2 (by decide) (by decide), if_neg (by decide), hmi, nrm_i (z := kMi (mK M) + n) (by omega) (by omega), nrm_i (z := 299) (by decide) (by decide), if_neg (by omega)]
    · rw [ti_f (by omega) w1 w2 (by decide) (by decide) (by decide) (by decide), if_pos (by decide)]
theorem t_go (T : TInv s M) (hM : WfM M) {x y : Int} (wx : wd x) (wy : wd y) : ∃ s' : TW, f_X8_go s x y = some (if g_go M x y then 1 else 0, s') ∧ TInv s' (a_go M x y) ∧ chg ok_ of_ s s' := by
  have Q := T.1
  have hX := Q.1
  have hs := Q.2.1
  have hW := Q.2.2.2
  have a2 := hW.1
  have a0 := hX.1
  have a1 := hX.2.2.1
  have wy1 := wy.1
  have wy2 := wy.2
  unfold f_X8_go a_go
  by_cases c1 : 0 ≤ x ∧ x < xM (mX M)
  · have hw := (hW.2.1 x (kMi (mK M)) c1.1 c1.2 a2.1 (Int.le_refl _)).1
    have hwy := wys_le hX (kW (mK M) x (kMi (mK M)))
    by_cases c2 : 1 ≤ y ∧ y ≤ wys (mX M) (kW (mK M) x (kMi (mK M)))
    · have G : g_go M x y := ⟨c1, c2⟩
      rw [if_pos G, if_pos G]
      have ht := thr1_in hX (k := y) hw
      have hwf : WfQ (kMi (mK M) - 1) (mX M) (setW (mK M) x (kMi (mK M)) (thr1 (mX M) (kW (mK M) x (kMi (mK M))) y)) := (hW.le (by omega)).setW x _ ht
      obtain ⟨s2, e2, T2, C2⟩ := t_becomes T hM (c := x) (v := thr1 (mX M) (kW (mK M) x (kMi (mK M))) y) c1.1 (by omega) (by unfold wd; omega) (fun a mi br sh h => h.setW hX _ c1.1 (by omega)) rfl hwf (now_W _ _ _ _).lk.blw
      refine ⟨s2, ?_, T2, C2⟩
      rw [tman_t hX hs c1.1 c1.2, if_neg (by decide), nrm_i (z := y) wy1 wy2, nrm_i (z := 1) (by decide) (by decide), if_neg (by omega), now_Wt Q c1.1 c1.2, t_waysOf hX hs (by omega) (by omega), btS, nrm_i (z := wys (mX M) (kW (mK M) x (kMi (mK M)))) (by omega) (by omega), if_pos c2.2, now_Wt Q c1.1 c1.2, t_through hX hs (by omega) (by omega) c2.1 c2.2, btS, e2, btS]
    · have G : ¬ g_go M x y := fun h => c2 h.2
      rw [if_neg G, if_neg G]
      refine ⟨s, ?_, T, chg.rf _ _ _⟩
      rw [tman_t hX hs c1.1 c1.2, if_neg (by decide), nrm_i (z := y) wy1 wy2, nrm_i (z := 1) (by decide) (by decide)]
      by_cases c3 : y < 1
      · rw [if_pos c3]
      · rw [if_neg c3, now_Wt Q c1.1 c1.2, t_waysOf hX hs (by omega) (by omega), btS, nrm_i (z := wys (mX M) (kW (mK M) x (kMi (mK M)))) (by omega) (by omega), if_neg (by omega)]
  · have G : ¬ g_go M x y := fun h => c1 h.1
    rw [if_neg G, if_neg G]
    refine ⟨s, ?_, T, chg.rf _ _ _⟩
    rw [tman_f hX hs (by omega) wx.1 wx.2, if_pos (by decide)]
theorem t_raise (T : TInv s M) (hM : WfM M) {x y : Int} (wx : wd x) (wy : wd y) : ∃ s' : TW, f_X8_raise s x y = some (if g_raise M x y then 1 else 0, s') ∧ TInv s' (a_raise M x y) ∧ chg ok_ of_ s s' := by
  have Q := T.1
  have hX := Q.1
  have hs := Q.2.1
  have hW := Q.2.2.2
  have a2 := hW.1
  have a1 := hX.2.2.1
  have wy1 := wy.1
  have wy2 := wy.2
  unfold f_X8_raise a_raise
  by_cases c1 : 0 ≤ x ∧ x < xM (mX M)
  · have hw := (hW.2.1 x (kMi (mK M)) c1.1 c1.2 a2.1 (Int.le_refl _)).2
    by_cases c2 : 0 ≤ y ∧ y ≤ 20
    · by_cases c3 : kR (mK M) x (kMi (mK M)) = y
      · have G : ¬ g_raise M x y := fun h => h.2.2 c3
        rw [if_neg G, if_neg G]
        refine ⟨s, ?_, T, chg.rf _ _ _⟩
        rw [tman_t hX hs c1.1 c1.2, if_neg (by decide), ti_t c2.1 c2.2 wy1 wy2 (by decide) (by decide), if_neg (by decide), now_Rt Q c1.1 c1.2, c3, if_neg (fun h => h rfl)]
      · have G : g_raise M x y := ⟨c1, c2, c3⟩
        rw [if_pos G, if_pos G]
        have hwf : WfQ (kMi (mK M) - 1) (mX M) (setR (mK M) x (kMi (mK M)) y) := (hW.le (by omega)).setR x _ c2
        obtain ⟨s2, e2, T2, C2⟩ := t_becomes T hM (K1 := setR (mK M) x (kMi (mK M)) y) (c := 6 + x) (v := y) (by omega) (by omega) wy (fun a mi br sh h => by rw [← Int.add_assoc]; exact h.setR hX _ c1.1 (by omega)) rfl hwf (now_R _ _ _ _).lk.blw
        refine ⟨s2, ?_, T2, C2⟩
        rw [tman_t hX hs c1.1 c1.2, if_neg (by decide), ti_t c2.1 c2.2 wy1 wy2 (by decide) (by decide), if_neg (by decide), now_Rt Q c1.1 c1.2, nrm_i (z := y) wy1 wy2, nrm_i (z := kR (mK M) x (kMi (mK M))) (by omega) (by omega), if_pos c3, e2, btS]
    · have G : ¬ g_raise M x y := fun h => c2 h.2.1
      rw [if_neg G, if_neg G]
      refine ⟨s, ?_, T, chg.rf _ _ _⟩
      rw [tman_t hX hs c1.1 c1.2, if_neg (by decide), ti_f (by omega) wy1 wy2 (by decide) (by decide) (by decide) (by decide), if_pos (by decide)]
  · have G : ¬ g_raise M x y := fun h => c1 h.1
    rw [if_neg G, if_neg G]
    refine ⟨s, ?_, T, chg.rf _ _ _⟩
    rw [tman_f hX hs (by omega) wx.1 wx.2, if_pos (by decide)]
theorem t_carry (T : TInv s M) (hM : WfM M) {x y : Int} (wx : wd x) (wy : wd y) : ∃ s' : TW, f_X8_carry s x y = some (if g_carry M x y then 1 else 0, s') ∧ TInv s' (a_carry M x y) ∧ chg ok_ of_ s s' := by
  have Q := T.1
  have hX := Q.1
  have hs := Q.2.1
  have hW := Q.2.2.2
  have a2 := hW.1
  have a0 := hX.1
  have a4 := hX.2.2.2.1
  have wy1 := wy.1
  have wy2 := wy.2
  unfold f_X8_carry a_carry
  by_cases c1 : 0 ≤ x ∧ x < xK (mX M)
  · have hw := (hW.2.2.1 x (kMi (mK M)) c1.1 c1.2 a2.1 (Int.le_refl _)).1
    by_cases c2 : 0 ≤ y ∧ y < xR (mX M)
    · by_cases c3 : kH (mK M) x (kMi (mK M)) = y
      · have G : ¬ g_carry M x y := fun h => h.2.2 c3
        rw [if_neg G, if_neg G]
        refine ⟨s, ?_, T, chg.rf _ _ _⟩
        rw [tmir_t hX hs c1.1 c1.2, if_neg (by decide), troom_t hX hs c2.1 c2.2, if_neg (by decide), now_Ht Q c1.1 c1.2, c3, if_neg (fun h => h rfl)]
      · have G : g_carry M x y := ⟨c1, c2, c3⟩
        rw [if_pos G, if_pos G]
        have hwf : WfQ (kMi (mK M) - 1) (mX M) (setH (mK M) x (kMi (mK M)) y) := (hW.le (by omega)).setH x _ c2
        obtain ⟨s2, e2, T2, C2⟩ := t_becomes T hM (K1 := setH (mK M) x (kMi (mK M)) y) (c := 12 + x) (v := y) (by omega) (by omega) wy (fun a mi br sh h => by rw [← Int.add_assoc]; exact h.setH hX _ c1.1 (by omega)) rfl hwf (now_H _ _ _ _).lk.blw
        refine ⟨s2, ?_, T2, C2⟩
        rw [tmir_t hX hs c1.1 c1.2, if_neg (by decide), troom_t hX hs c2.1 c2.2, if_neg (by decide), now_Ht Q c1.1 c1.2, nrm_i (z := y) wy1 wy2, nrm_i (z := kH (mK M) x (kMi (mK M))) (by omega) (by omega), if_pos c3, e2, btS]
    · have G : ¬ g_carry M x y := fun h => c2 h.2.1
      rw [if_neg G, if_neg G]
      refine ⟨s, ?_, T, chg.rf _ _ _⟩
      rw [tmir_t hX hs c1.1 c1.2, if_neg (by decide), troom_f hX hs (by omega) wy1 wy2, if_pos (by decide)]
  · have G : ¬ g_carry M x y := fun h => c1 h.1
    rw [if_neg G, if_neg G]
    refine ⟨s, ?_, T, chg.rf _ _ _⟩
    rw [tmir_f hX hs (by omega) wx.1 wx.2, if_pos (by decide)]
theorem t_turn (T : TInv s M) (hM : WfM M) {x y : Int} (wx : wd x) (hy : y = 0 ∨ y = 1) : ∃ s' : TW, f_X8_turn s x y = some (if g_turn M x y then 1 else 0, s') ∧ TInv s' (a_turn M x y) ∧ chg ok_ of_ s s' := by
  have Q := T.1
  have hX := Q.1
  have hs := Q.2.1
  have hW := Q.2.2.2
  have a2 := hW.1
  have a4 := hX.2.2.2.1
  unfold f_X8_turn a_turn
  by_cases c1 : 0 ≤ x ∧ x < xK (mX M)
  · have hw := (hW.2.2.1 x (kMi (mK M)) c1.1 c1.2 a2.1 (Int.le_refl _)).2.1
    by_cases c3 : kU (mK M) x (kMi (mK M)) = y
    · have G : ¬ g_turn M x y := fun h => h.2 c3
      rw [if_neg G, if_neg G]
      refine ⟨s, ?_, T, chg.rf _ _ _⟩
      rw [tmir_t hX hs c1.1 c1.2, if_neg (by decide), now_Ut Q c1.1 c1.2, jnS, c3]
      rcases hy with h | h <;> rw [h]
      · rw [if_pos (by decide)]
        dsimp only
        rw [if_neg (by decide)]
      · rw [if_neg (by decide)]
        dsimp only
        rw [if_neg (by decide)]
    · have G : g_turn M x y := ⟨c1, c3⟩
      rw [if_pos G, if_pos G]
      have hok := Ok_U hM.2.1 x hy
      have hwf : WfQ (kMi (mK M) - 1) (mX M) (setU (mK M) x (kMi (mK M)) y) := (hW.le (by omega)).setU x _ hy
      have el : lks (mX M) (setU (mK M) x (kMi (mK M)) y) = setU (mK M) x (kMi (mK M)) y := lks_id hok.2.2
      obtain ⟨s2, e2, T2, C2⟩ := t_becomes T hM (K1 := setU (mK M) x (kMi (mK M)) y) (c := 20 + x) (v := y) (by omega) (by omega) (by unfold wd; omega) (fun a mi br sh h => by rw [← Int.add_assoc]; exact h.setU hX _ c1.1 (by omega)) rfl hwf (by rw [el]; exact (now_U _ _ _ _).blw)
      rw [el] at T2
      refine ⟨s2, ?_, T2, C2⟩
      rw [tmir_t hX hs c1.1 c1.2, if_neg (by decide), now_Ut Q c1.1 c1.2, jnS]
      rcases hy with h | h
      · have h1 : kU (mK M) x (kMi (mK M)) = 1 := hw.resolve_left (fun e => c3 (e.trans h.symm))
        rw [h] at e2 ⊢
        rw [h1, if_neg (by decide)]
        dsimp only
        rw [if_pos (by decide), jnS, if_pos (by decide)]
        dsimp only
        rw [e2, btS]
      · have h1 : kU (mK M) x (kMi (mK M)) = 0 := hw.resolve_right (fun e => c3 (e.trans h.symm))
        rw [h] at e2 ⊢
        rw [h1, if_pos (by decide)]
        dsimp only
        rw [if_pos (by decide), jnS, if_neg (by decide)]
        dsimp only
        rw [e2, btS]
  · have G : ¬ g_turn M x y := fun h => c1 h.1
    rw [if_neg G, if_neg G]
    refine ⟨s, ?_, T, chg.rf _ _ _⟩
    rw [tmir_f hX hs (by omega) wx.1 wx.2, if_pos (by decide)]
theorem t_smash (T : TInv s M) (hM : WfM M) {x : Int} (wx : wd x) : ∃ s' : TW, f_X8_smash s x = some (if g_smash M x then 1 else 0, s') ∧ TInv s' (a_smash M x) ∧ chg ok_ of_ s s' := by
  have Q := T.1
  have hX := Q.1
  have hs := Q.2.1
  have hW := Q.2.2.2
  have a2 := hW.1
  have a4 := hX.2.2.2.1
  unfold f_X8_smash a_smash
  by_cases c1 : 0 ≤ x ∧ x < xK (mX M)
  · have hw := hW.2.2.2 x c1.1 c1.2
    have hB := (Q.2.2.1.2.2.2 x c1.1 c1.2).1
    by_cases c3 : kB (mK M) x = 300
    · have G : g_smash M x := ⟨c1, c3⟩
      rw [if_pos G, if_pos G]
      rw [if_pos c3] at hB
      obtain ⟨s1, e1, J, l1, C⟩ := Q.copies
      have C2 := C.up (ks' := qk) (fs' := qf) (by decide) (by decide)
      obtain ⟨s2, e2, r2, c2⟩ := t_breaksNow hX J.2.2.1 hW c1.1 c1.2
      have hok := Ok_B hM.2.1 c1.1 c1.2
      obtain ⟨s3, e3, T3, C3⟩ := T.keeps hM (C2.tr (c2.up (by decide) (by decide))) r2 hok.1 (now_B _ _ _ _ _).blw
      refine ⟨s3, ?_, T3, C3⟩
      rw [tmir_t hX hs c1.1 c1.2, if_neg (by decide), tb54 c1.1 (by omega), hB, if_pos rfl, e1, btS, e2, btS, e3, btS]
    · have G : ¬ g_smash M x := fun h => c3 h.2
      rw [if_neg G, if_neg G]
      rw [if_neg c3] at hB
      refine ⟨s, ?_, T, chg.rf _ _ _⟩
      rw [tmir_t hX hs c1.1 c1.2, if_neg (by decide), tb54 c1.1 (by omega), hB, nrm_i (by omega) (by omega), nrm_i (by decide) (by decide), if_neg (by omega)]
  · have G : ¬ g_smash M x := fun h => c1 h.1
    rw [if_neg G, if_neg G]
    refine ⟨s, ?_, T, chg.rf _ _ _⟩
    rw [tmir_f hX hs (by omega) wx.1 wx.2, if_pos (by decide)]
end
