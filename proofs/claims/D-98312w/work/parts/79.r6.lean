set_option maxRecDepth 100000
set_option maxHeartbeats 4000000
section
variable {s : TW} {X : Txt} {K : Crt} {β : Type}
theorem tb_hasIn (J : TI s X K) {x y a c : Int} (x0 : 0 ≤ x) (x1 : x < xM X) (y0 : 0 ≤ y) (y1 : y < xM X) (wa : wd a) (wc : wd c) (f : Int → TW → Option β) : bt_ (f_X8_hasIn s a c (orI (slI 1 x) (slI 1 y))) f = f (hsF X K x y a c) s := by
  have hX := J.1
  have hW := J.2.2.2
  have a0 := hX.1
  have a1 := hX.2.2.1
  have a4 := hX.2.2.2.1
  have a2 := hW.1
  have b3 := J.2.1.1
  have jmi := J.mi
  refine btP ?_ f
  have e2 := nt_ok x.toNat (by omega) y.toNat (by omega) _ (mFr_lt hX K a (kMi K))
  have hp := pcn_in (ntI (mFr X K a (kMi K)) x.toNat y.toNat).toNat
  have e : anI (mFr X K a (kMi K) : Int) (xoI (orI (slI 1 x) (slI 1 y)) (-1)) = ntI (mFr X K a (kMi K)) x.toNat y.toNat := by
    unfold ntI
    rw [show ((x.toNat : Nat) : Int) = x by omega, show ((y.toNat : Nat) : Int) = y by omega]
  have e3 : ∀ {β : Type} (f : Int → TW → Option β), bt_ (f_X8_bits s (ntI (mFr X K a (kMi K)) x.toNat y.toNat)) f = f (pcn (ntI (mFr X K a (kMi K)) x.toNat y.toNat).toNat) s := by
    intro β f
    have := tb_bits (s := s) (x := (ntI (mFr X K a (kMi K)) x.toNat y.toNat).toNat) (by omega) f
    rw [show (((ntI (mFr X K a (kMi K)) x.toNat y.toNat).toNat : Nat) : Int) = ntI (mFr X K a (kMi K)) x.toNat y.toNat by omega] at this
    exact this
  unfold f_X8_hasIn hsF
  rw [tb_seenFrom J wa, e, e3, nrm_i wa.1 wa.2, nrm_i wc.1 wc.2]
  by_cases h1 : a = c
  · rw [if_neg (fun g => g h1), if_pos h1, nrm_i (by omega) (by omega)]
  · rw [if_pos h1, if_neg h1, nrm_i (by omega) (by omega)]
theorem tb_isResting (J : TI s X K) {x y a b : Int} (x0 : 0 ≤ x) (x1 : x < xM X) (y0 : 0 ≤ y) (y1 : y < xM X) (ha : 0 ≤ a ∧ a < xR X) (hb : 0 ≤ b ∧ b < xR X) (f : Int → TW → Option β) : bt_ (f_X8_isResting s a b (orI (slI 1 x) (slI 1 y))) f = f (if rsB X K x y a b = true then 1 else 0) s := by
  have hX := J.1
  have hW := J.2.2.2
  have a0 := hX.1
  have a1 := hX.2.2.1
  have a4 := hX.2.2.2.1
  have a2 := hW.1
  have b3 := J.2.1.1
  have jmi := J.mi
  refine btP ?_ f
  have hs : ∀ {c d : Int}, 0 ≤ c → c < xR X → 0 ≤ d → d < xR X → ∀ {β : Type} (f : Int → TW → Option β), bt_ (f_X8_hasIn s c d (orI (slI 1 x) (slI 1 y))) f = f (hsF X K x y c d) s := fun h1 h2 h3 h4 _ f => tb_hasIn J x0 x1 y0 y1 (by omega) (by omega) f
  generalize orI (slI 1 x) (slI 1 y) = w at *
  unfold f_X8_isResting
  have e := loopF (fun n i => f_X8_isResting_L3 n s a b w i (fun s13 => some (1, s13))) (some (1, s)) (fun _ => some (0, s)) (fun k => decide (hsF X K x y a b < hsF X K x y k b ∨ hsF X K x y b a < hsF X K x y k a)) (xR X).toNat 0 (fl := FU) (by rw [FU_eq]; omega) (fun n i hi => by
        have h1 := hsF_in X K x y a b
        have h2 := hsF_in X K x y b a
        have h3 := hsF_in X K x y i b
        have h4 := hsF_in X K x y i a
        rw [f_X8_isResting_L3, Int.zero_add, tz_R J.2.1, nrm_i (by omega) (by omega), nrm_i (by omega) (by omega), if_neg (by omega), hs (by omega) (by omega) hb.1 hb.2, hs ha.1 ha.2 hb.1 hb.2, nrm_i (by omega) (by omega), nrm_i (by omega) (by omega)]
        by_cases d1 : hsF X K x y a b < hsF X K x y i b
        · rw [if_pos d1, if_pos (by simp [d1])]
        · rw [if_neg d1, hs (by omega) (by omega) ha.1 ha.2, hs hb.1 hb.2 ha.1 ha.2, nrm_i (by omega) (by omega), nrm_i (by omega) (by omega)]
          by_cases d2 : hsF X K x y b a < hsF X K x y i a
          · rw [if_neg (by omega), if_pos (by simp [d2])]
          · rw [if_pos (by omega), if_neg (by simp [d1, d2])])
      (fun n => by
        try dsimp only
        rw [f_X8_isResting_L3]
        simp (disch := omega) only [↓reduceIte, Bool.false_eq_true, nrm_i, ltT, ltF, leT, leF, eqT, eqF, not_true_eq_false, not_false_eq_true, and_self, and_true, true_and, false_and, and_false, or_true, true_or, or_false, false_or, ↓btS, ↓bnS, ↓bdS, ↓jnS, ↓obS, ↓tz_R J.2.1])
  refine e.trans ((fnd_if _ _ _ _).trans ?_)
  unfold rsB
  cases anyN (fun k => decide (hsF X K x y a b < hsF X K x y k b ∨ hsF X K x y b a < hsF X K x y k a)) (xR X).toNat with
  | true => rfl
  | false => rfl
theorem t_rests (Q : TQ s X K) {x y i : Int} (wx : wd x) (wy : wd y) (wi : wd i) : ∃ s' : TW, f_X8_rests s x y i = some (q_rests X K x y i, s') ∧ chg qk qf s s' := by
  obtain ⟨hX, hs, hn, hW⟩ := Q
  have Q : TQ s X K := ⟨hX, hs, hn, hW⟩
  have hmi := Q.mi
  have a0 := hX.1
  have a1 := hX.2.2.1
  have a4 := hX.2.2.2.1
  have a3 := hs.1
  have a2 := hW.1
  obtain ⟨s1, e1, J, l1, C⟩ := Q.copies
  have C := C.up (ks' := qk) (fs' := qf) (by decide) (by decide)
  have b3 := J.2.1.1
  have jmi := J.mi
  unfold f_X8_rests q_rests
  by_cases G : (0 ≤ x ∧ x < xM X) ∧ (0 ≤ y ∧ y < xM X) ∧ ¬ x = y ∧ -1 ≤ i
  · rw [if_pos G]
    obtain ⟨c1, c2, c3, c4⟩ := G
    refine ⟨s1, ?_, C⟩
    have hr : ∀ {a b : Int}, 0 ≤ a → a < xR X → 0 ≤ b → b < xR X → ∀ {β : Type} (f : Int → TW → Option β), bt_ (f_X8_isResting s1 a b (orI (slI 1 x) (slI 1 y))) f = f (if rsB X K x y a b = true then 1 else 0) s1 := fun h1 h2 h3 h4 _ f => tb_isResting J c1.1 c1.2 c2.1 c2.2 ⟨h1, h2⟩ ⟨h3, h4⟩ f
    have lp : f_X8_rests_L38 FU s1 x y i 0 0 (fun s15 x3 x4 => (if ¬ nrm x3 = nrm (-1) then (some ((-1), s15)) else (some (nrm x4, s15)))) = some ((match itE (rsO X K x y i) 0 (xR X).toNat 0 with | .inl n => if i = -1 then n else -1 | .inr v => v), s1) := by
      obtain ⟨e, p⟩ := loop0 (fun n (a : Int) j => f_X8_rests_L38 n s1 x y i a j (fun s15 x3 x4 => (if ¬ nrm x3 = nrm (-1) then (some ((-1), s15)) else (some (nrm x4, s15))))) (fun a => if i = -1 then some (a, s1) else some (-1, s1)) (fun v => some (v, s1)) (rsO X K x y i) (fun a n => 0 ≤ n ∧ n ≤ 8 * a) (xR X).toNat 0 (fl := FU) (a0 := 0) (by rw [FU_eq]; omega) ⟨by decide, by decide⟩ (fun n a m ha hp => by
          obtain ⟨e, p⟩ := loop0 (fun n' (m : Int) j => f_X8_rests_L55 n' s1 x y i m (a : Int) j (fun s13 x1 x2 x3 x4 x5 => f_X8_rests_L38 n s13 x1 x2 x3 x4 (x5 + 1) (fun s15 x3 x4 => (if ¬ nrm x3 = nrm (-1) then (some ((-1), s15)) else (some (nrm x4, s15)))))) (fun m => f_X8_rests_L38 n s1 x y i m ((a : Int) + 1) (fun s15 x3 x4 => (if ¬ nrm x3 = nrm (-1) then (some ((-1), s15)) else (some (nrm x4, s15))))) (fun v => some (v, s1)) (rsI X K x y i a) (fun b n => 0 ≤ n ∧ n ≤ 8 * a + b) (xR X).toNat 0 (fl := FU) (a0 := m) (by rw [FU_eq]; omega) ⟨hp.1, by omega⟩ (fun n' b m' hb hp' => by
              try dsimp only
              rw [f_X8_rests_L55, Int.zero_add]
              unfold rsI
              by_cases d : rsB X K x y a b = true
              · by_cases d2 : m' = i
                · exact ⟨by simp (disch := omega) only [↓reduceIte, Bool.false_eq_true, nrm_i, ltT, ltF, leT, leF, eqT, eqF, not_true_eq_false, not_false_eq_true, and_self, and_true, true_and, false_and, and_false, or_true, true_or, or_false, false_or, ↓btS, ↓bnS, ↓bdS, ↓jnS, ↓obS, ↓tz_R J.2.1, ↓hr, d, d2], fun a' h => by rw [if_pos d, if_pos d2] at h; cases h⟩
                · exact ⟨by simp (disch := omega) only [↓reduceIte, Bool.false_eq_true, nrm_i, ltT, ltF, leT, leF, eqT, eqF, not_true_eq_false, not_false_eq_true, and_self, and_true, true_and, false_and, and_false, or_true, true_or, or_false, false_or, ↓btS, ↓bnS, ↓bdS, ↓jnS, ↓obS, ↓tz_R J.2.1, ↓hr, d, d2], fun a' h => by rw [if_pos d, if_neg d2] at h; cases h; omega⟩
              · exact ⟨by simp (disch := omega) only [↓reduceIte, Bool.false_eq_true, nrm_i, ltT, ltF, leT, leF, eqT, eqF, not_true_eq_false, not_false_eq_true, and_self, and_true, true_and, false_and, and_false, or_true, true_or, or_false, false_or, ↓btS, ↓bnS, ↓bdS, ↓jnS, ↓obS, ↓tz_R J.2.1, ↓hr, d], fun a' h => by rw [if_neg d] at h; cases h; omega⟩)
            (fun n' m' hp' => by
              try dsimp only
              rw [f_X8_rests_L55]
              simp (disch := omega) only [↓reduceIte, Bool.false_eq_true, nrm_i, ltT, ltF, leT, leF, eqT, eqF, not_true_eq_false, not_false_eq_true, and_self, and_true, true_and, false_and, and_false, or_true, true_or, or_false, false_or, ↓btS, ↓bnS, ↓bdS, ↓jnS, ↓obS, ↓tz_R J.2.1])
          try dsimp only
          rw [f_X8_rests_L38, Int.zero_add, tz_R J.2.1, nrm_i (by omega) (by omega), nrm_i (by omega) (by omega), if_neg (by omega)]
          exact ⟨e, fun a' h => by have := p a' h; omega⟩)
        (fun n a hp => by
          try dsimp only
          rw [f_X8_rests_L38]
          by_cases d : i = -1
          · simp (disch := omega) only [↓reduceIte, Bool.false_eq_true, nrm_i, ltT, ltF, leT, leF, eqT, eqF, not_true_eq_false, not_false_eq_true, and_self, and_true, true_and, false_and, and_false, or_true, true_or, or_false, false_or, ↓btS, ↓bnS, ↓bdS, ↓jnS, ↓obS, ↓tz_R J.2.1, d]
          · simp (disch := omega) only [↓reduceIte, Bool.false_eq_true, nrm_i, ltT, ltF, leT, leF, eqT, eqF, not_true_eq_false, not_false_eq_true, and_self, and_true, true_and, false_and, and_false, or_true, true_or, or_false, false_or, ↓btS, ↓bnS, ↓bdS, ↓jnS, ↓obS, ↓tz_R J.2.1, d])
      refine e.trans ?_
      cases itE (rsO X K x y i) 0 (xR X).toNat 0 with
      | inl n => dsimp only; split <;> rfl
      | inr v => rfl
    simp (disch := omega) only [↓reduceIte, Bool.false_eq_true, nrm_i, ltT, ltF, leT, leF, eqT, eqF, not_true_eq_false, not_false_eq_true, and_self, and_true, true_and, false_and, and_false, or_true, true_or, or_false, false_or, ↓btS, ↓bnS, ↓bdS, ↓jnS, ↓obS, n_W hX hW, n_R hW, n_H hX hW, n_U hW, n_L hW, n_B hW, n_S hW, n_M hX, n_Ms hX, n_P, ↓ti_t, ↓ti_f, ↓tman_t hX hs, ↓tman_f hX hs, ↓troom_t hX hs, ↓troom_f hX hs, ↓tmir_t hX hs, ↓tmir_f hX hs, ↓tpas_t hn hW, ↓tpas_f hn hW, hmi, ↓pv_W Q, ↓pv_R Q, ↓pv_B Q, ↓tb52, p_W Q, p_R Q, ↓tz_R hs, ↓tz_M hs, ↓tz_K hs, ↓btP e1, ↓lp]
    rfl
  · rw [if_neg G]
    refine ⟨s, ?_, chg.rf _ _ _⟩
    by_cases c1 : 0 ≤ x ∧ x < xM X
    · by_cases c2 : 0 ≤ y ∧ y < xM X
      · by_cases c3 : ¬ x = y
        · by_cases c4 : -1 ≤ i
          · exact absurd ⟨c1, c2, c3, c4⟩ G
          · simp (disch := omega) only [↓reduceIte, Bool.false_eq_true, nrm_i, ltT, ltF, leT, leF, eqT, eqF, not_true_eq_false, not_false_eq_true, and_self, and_true, true_and, false_and, and_false, or_true, true_or, or_false, false_or, ↓btS, ↓bnS, ↓bdS, ↓jnS, ↓obS, n_W hX hW, n_R hW, n_H hX hW, n_U hW, n_L hW, n_B hW, n_S hW, n_M hX, n_Ms hX, n_P, ↓ti_t, ↓ti_f, ↓tman_t hX hs, ↓tman_f hX hs, ↓troom_t hX hs, ↓troom_f hX hs, ↓tmir_t hX hs, ↓tmir_f hX hs, ↓tpas_t hn hW, ↓tpas_f hn hW, hmi, ↓pv_W Q, ↓pv_R Q, ↓pv_B Q, ↓tb52, p_W Q, p_R Q, ↓tz_R hs, ↓tz_M hs, ↓tz_K hs]
        · simp (disch := omega) only [↓reduceIte, Bool.false_eq_true, nrm_i, ltT, ltF, leT, leF, eqT, eqF, not_true_eq_false, not_false_eq_true, and_self, and_true, true_and, false_and, and_false, or_true, true_or, or_false, false_or, ↓btS, ↓bnS, ↓bdS, ↓jnS, ↓obS, n_W hX hW, n_R hW, n_H hX hW, n_U hW, n_L hW, n_B hW, n_S hW, n_M hX, n_Ms hX, n_P, ↓ti_t, ↓ti_f, ↓tman_t hX hs, ↓tman_f hX hs, ↓troom_t hX hs, ↓troom_f hX hs, ↓tmir_t hX hs, ↓tmir_f hX hs, ↓tpas_t hn hW, ↓tpas_f hn hW, hmi, ↓pv_W Q, ↓pv_R Q, ↓pv_B Q, ↓tb52, p_W Q, p_R Q, ↓tz_R hs, ↓tz_M hs, ↓tz_K hs]
      · simp (disch := omega) only [↓reduceIte, Bool.false_eq_true, nrm_i, ltT, ltF, leT, leF, eqT, eqF, not_true_eq_false, not_false_eq_true, and_self, and_true, true_and, false_and, and_false, or_true, true_or, or_false, false_or, ↓btS, ↓bnS, ↓bdS, ↓jnS, ↓obS, n_W hX hW, n_R hW, n_H hX hW, n_U hW, n_L hW, n_B hW, n_S hW, n_M hX, n_Ms hX, n_P, ↓ti_t, ↓ti_f, ↓tman_t hX hs, ↓tman_f hX hs, ↓troom_t hX hs, ↓troom_f hX hs, ↓tmir_t hX hs, ↓tmir_f hX hs, ↓tpas_t hn hW, ↓tpas_f hn hW, hmi, ↓pv_W Q, ↓pv_R Q, ↓pv_B Q, ↓tb52, p_W Q, p_R Q, ↓tz_R hs, ↓tz_M hs, ↓tz_K hs]
    · simp (disch := omega) only [↓reduceIte, Bool.false_eq_true, nrm_i, ltT, ltF, leT, leF, eqT, eqF, not_true_eq_false, not_false_eq_true, and_self, and_true, true_and, false_and, and_false, or_true, true_or, or_false, false_or, ↓btS, ↓bnS, ↓bdS, ↓jnS, ↓obS, n_W hX hW, n_R hW, n_H hX hW, n_U hW, n_L hW, n_B hW, n_S hW, n_M hX, n_Ms hX, n_P, ↓ti_t, ↓ti_f, ↓tman_t hX hs, ↓tman_f hX hs, ↓troom_t hX hs, ↓troom_f hX hs, ↓tmir_t hX hs, ↓tmir_f hX hs, ↓tpas_t hn hW, ↓tpas_f hn hW, hmi, ↓pv_W Q, ↓pv_R Q, ↓pv_B Q, ↓tb52, p_W Q, p_R Q, ↓tz_R hs, ↓tz_M hs, ↓tz_K hs]
end
