set_option maxRecDepth 100000
set_option maxHeartbeats 4000000
section
variable {s : TW} {X : Txt} {K : Crt} {β : Type}
theorem tb_seenIn (J : TI s X K) {k v j : Int} (h0 : 0 ≤ k) (h1 : k < xK X) (v0 : v = -2 ∨ 0 ≤ v) (v1 : v ≤ kMi K) (j0 : 0 ≤ j) (j1 : j < xK X) (f : Int → TW → Option β) : bt_ (f_X8_seenIn s k v j) f = f (sn K k v j) s := by
  have hX := J.1
  have hW := J.2.2.2
  have a0 := hX.1
  have a1 := hX.2.2.1
  have a4 := hX.2.2.2.1
  have a2 := hW.1
  have b3 := J.2.1.1
  have jmi := J.mi
  refine btP ?_ f
  unfold f_X8_seenIn sn
  by_cases c1 : v < 0
  · simp (disch := omega) only [↓reduceIte, Bool.false_eq_true, nrm_i, ltT, ltF, leT, leF, eqT, eqF, not_true_eq_false, not_false_eq_true, and_self, and_true, true_and, false_and, and_false, or_true, true_or, or_false, false_or, ↓btS, ↓bnS, ↓bdS, ↓jnS, ↓obS, n_W hX hW, n_R hW, n_H hX hW, n_U hW, n_L hW, n_B hW, n_S hW, n_M hX, n_Ms hX, n_P, J.mi, ↓ti_t, ↓ti_f, ↓tv_W J, ↓tv_L J, ↓tv_B J, ↓tb56, w_W J, w_R J, w_L J, ↓tb_menIn J, ↓tb_showsAt J, ↓tb_hungIn J, ↓tb_isTurned J, ↓tb_menShown J, ↓tb_menShown2 J, ↓tb_bits, ↓tz_R J.2.1, ↓tz_M J.2.1, ↓tz_K J.2.1, c1]
  · by_cases c2 : k = j
    · simp (disch := omega) only [↓reduceIte, Bool.false_eq_true, nrm_i, ltT, ltF, leT, leF, eqT, eqF, not_true_eq_false, not_false_eq_true, and_self, and_true, true_and, false_and, and_false, or_true, true_or, or_false, false_or, ↓btS, ↓bnS, ↓bdS, ↓jnS, ↓obS, n_W hX hW, n_R hW, n_H hX hW, n_U hW, n_L hW, n_B hW, n_S hW, n_M hX, n_Ms hX, n_P, J.mi, ↓ti_t, ↓ti_f, ↓tv_W J, ↓tv_L J, ↓tv_B J, ↓tb56, w_W J, w_R J, w_L J, ↓tb_menIn J, ↓tb_showsAt J, ↓tb_hungIn J, ↓tb_isTurned J, ↓tb_menShown J, ↓tb_menShown2 J, ↓tb_bits, ↓tz_R J.2.1, ↓tz_M J.2.1, ↓tz_K J.2.1, c1, c2]
    · have hh := (hW.2.2.1 k v h0 h1 (by omega) (by omega)).1
      have hh2 := (hW.2.2.1 j v j0 j1 (by omega) (by omega)).1
      by_cases c3 : kH K j v = kH K k v
      · simp (disch := omega) only [↓reduceIte, Bool.false_eq_true, nrm_i, ltT, ltF, leT, leF, eqT, eqF, not_true_eq_false, not_false_eq_true, and_self, and_true, true_and, false_and, and_false, or_true, true_or, or_false, false_or, ↓btS, ↓bnS, ↓bdS, ↓jnS, ↓obS, n_W hX hW, n_R hW, n_H hX hW, n_U hW, n_L hW, n_B hW, n_S hW, n_M hX, n_Ms hX, n_P, J.mi, ↓ti_t, ↓ti_f, ↓tv_W J, ↓tv_L J, ↓tv_B J, ↓tb56, w_W J, w_R J, w_L J, ↓tb_menIn J, ↓tb_showsAt J, ↓tb_hungIn J, ↓tb_isTurned J, ↓tb_menShown J, ↓tb_menShown2 J, ↓tb_bits, ↓tz_R J.2.1, ↓tz_M J.2.1, ↓tz_K J.2.1, c1, c2, c3]
      · simp (disch := omega) only [↓reduceIte, Bool.false_eq_true, nrm_i, ltT, ltF, leT, leF, eqT, eqF, not_true_eq_false, not_false_eq_true, and_self, and_true, true_and, false_and, and_false, or_true, true_or, or_false, false_or, ↓btS, ↓bnS, ↓bdS, ↓jnS, ↓obS, n_W hX hW, n_R hW, n_H hX hW, n_U hW, n_L hW, n_B hW, n_S hW, n_M hX, n_Ms hX, n_P, J.mi, ↓ti_t, ↓ti_f, ↓tv_W J, ↓tv_L J, ↓tv_B J, ↓tb56, w_W J, w_R J, w_L J, ↓tb_menIn J, ↓tb_showsAt J, ↓tb_hungIn J, ↓tb_isTurned J, ↓tb_menShown J, ↓tb_menShown2 J, ↓tb_bits, ↓tz_R J.2.1, ↓tz_M J.2.1, ↓tz_K J.2.1, c1, c2, c3]
theorem n_sn (hW : WfK X K) {k v j : Int} (h0 : 0 ≤ j) (h1 : j < xK X) (h2 : v ≤ kMi K) : nrm (sn K k v j) = sn K k v j := by
  have := sn_in hW (k := k) h0 h1 h2
  have := hW.1
  exact nrm_i (by omega) (by omega)
theorem t_look (Q : TQ s X K) {x y z w : Int} (wx : wd x) (wy : wd y) (wz : wd z) (ww : wd w) : ∃ s' : TW, f_X8_look s x y z w = some (q_look X K x y z w, s') ∧ chg qk qf s s' := by
  obtain ⟨hX, hs, hn, hW⟩ := Q
  have Q : TQ s X K := ⟨hX, hs, hn, hW⟩
  have hmi := Q.mi
  have a0 := hX.1
  have a1 := hX.2.2.1
  have a4 := hX.2.2.2.1
  have a3 := hs.1
  have a2 := hW.1
  obtain ⟨s1, e1, J, l1, C⟩ := Q.copies
  have C := C.up (ks' := qk) (fs' := qf) (by decide) (by decide)
  have b3 := J.2.1.1
  have jmi := J.mi
  unfold f_X8_look q_look
  by_cases G : (0 ≤ x ∧ x < xK X) ∧ (0 ≤ y ∧ y < xK X) ∧ (-1 ≤ z ∧ z < xK X) ∧ (0 ≤ w ∧ w ≤ 2)
  · rw [if_pos G]
    obtain ⟨c1, c2, c3, c4⟩ := G
    refine ⟨s1, ?_, C⟩
    have hsw := shw_le hW c1.1 c1.2 a2.1 (Int.le_refl _)
    have eshw : ∀ {β : Type} (f : Int → TW → Option β), bt_ (f_X8_showsAt s1 x (s1.1 57)) f = f (shw K x (kMi K)) s1 := fun f => by rw [jmi]; exact tb_showsAt J c1.1 c1.2 a2.1 (Int.le_refl _) f
    unfold lkV
    by_cases d : z = -1
    · have h2 := sn_in hW (k := x) (v := shw K x (kMi K)) c2.1 c2.2 (by omega)
      have n2 := n_sn hW (k := x) (v := shw K x (kMi K)) c2.1 c2.2 (by omega)
      have e2 : ∀ {β : Type} (f : Int → TW → Option β), bt_ (f_X8_seenIn s1 x (shw K x (kMi K)) y) f = f (sn K x (shw K x (kMi K)) y) s1 := fun f => tb_seenIn J c1.1 c1.2 (by omega) (by omega) c2.1 c2.2 f
      rw [if_pos d, if_pos d]
      generalize sn K x (shw K x (kMi K)) y = v at *
      by_cases d1 : v < 0
      · simp (disch := omega) only [↓reduceIte, Bool.false_eq_true, nrm_i, ltT, ltF, leT, leF, eqT, eqF, not_true_eq_false, not_false_eq_true, and_self, and_true, true_and, false_and, and_false, or_true, true_or, or_false, false_or, ↓btS, ↓bnS, ↓bdS, ↓jnS, ↓obS, n_W hX hW, n_R hW, n_H hX hW, n_U hW, n_L hW, n_B hW, n_S hW, n_M hX, n_Ms hX, n_P, ↓ti_t, ↓ti_f, ↓tman_t hX hs, ↓tman_f hX hs, ↓troom_t hX hs, ↓troom_f hX hs, ↓tmir_t hX hs, ↓tmir_f hX hs, ↓tpas_t hn hW, ↓tpas_f hn hW, hmi, ↓pv_W Q, ↓pv_R Q, ↓pv_B Q, ↓tb52, p_W Q, p_R Q, ↓tz_R hs, ↓tz_M hs, ↓tz_K hs, ↓btP e1, ↓eshw, ↓e2, n2, d, d1]
      · rcases (show w = 0 ∨ w = 1 ∨ w = 2 by omega) with rfl | rfl | rfl
        · simp (disch := omega) only [↓reduceIte, Bool.false_eq_true, nrm_i, ltT, ltF, leT, leF, eqT, eqF, not_true_eq_false, not_false_eq_true, and_self, and_true, true_and, false_and, and_false, or_true, true_or, or_false, false_or, ↓btS, ↓bnS, ↓bdS, ↓jnS, ↓obS, n_W hX hW, n_R hW, n_H hX hW, n_U hW, n_L hW, n_B hW, n_S hW, n_M hX, n_Ms hX, n_P, ↓ti_t, ↓ti_f, ↓tman_t hX hs, ↓tman_f hX hs, ↓troom_t hX hs, ↓troom_f hX hs, ↓tmir_t hX hs, ↓tmir_f hX hs, ↓tpas_t hn hW, ↓tpas_f hn hW, hmi, ↓pv_W Q, ↓pv_R Q, ↓pv_B Q, ↓tb52, p_W Q, p_R Q, ↓tz_R hs, ↓tz_M hs, ↓tz_K hs, ↓btP e1, ↓eshw, ↓e2, n2, d, d1]
        · simp (disch := omega) only [↓reduceIte, Bool.false_eq_true, nrm_i, ltT, ltF, leT, leF, eqT, eqF, not_true_eq_false, not_false_eq_true, and_self, and_true, true_and, false_and, and_false, or_true, true_or, or_false, false_or, ↓btS, ↓bnS, ↓bdS, ↓jnS, ↓obS, n_W hX hW, n_R hW, n_H hX hW, n_U hW, n_L hW, n_B hW, n_S hW, n_M hX, n_Ms hX, n_P, ↓ti_t, ↓ti_f, ↓tman_t hX hs, ↓tman_f hX hs, ↓troom_t hX hs, ↓troom_f hX hs, ↓tmir_t hX hs, ↓tmir_f hX hs, ↓tpas_t hn hW, ↓tpas_f hn hW, hmi, ↓pv_W Q, ↓pv_R Q, ↓pv_B Q, ↓tb52, p_W Q, p_R Q, ↓tz_R hs, ↓tz_M hs, ↓tz_K hs, ↓btP e1, ↓eshw, ↓e2, n2, d, d1, ↓tb_hungIn J]
        · simp (disch := omega) only [↓reduceIte, Bool.false_eq_true, nrm_i, ltT, ltF, leT, leF, eqT, eqF, not_true_eq_false, not_false_eq_true, and_self, and_true, true_and, false_and, and_false, or_true, true_or, or_false, false_or, ↓btS, ↓bnS, ↓bdS, ↓jnS, ↓obS, n_W hX hW, n_R hW, n_H hX hW, n_U hW, n_L hW, n_B hW, n_S hW, n_M hX, n_Ms hX, n_P, ↓ti_t, ↓ti_f, ↓tman_t hX hs, ↓tman_f hX hs, ↓troom_t hX hs, ↓troom_f hX hs, ↓tmir_t hX hs, ↓tmir_f hX hs, ↓tpas_t hn hW, ↓tpas_f hn hW, hmi, ↓pv_W Q, ↓pv_R Q, ↓pv_B Q, ↓tb52, p_W Q, p_R Q, ↓tz_R hs, ↓tz_M hs, ↓tz_K hs, ↓btP e1, ↓eshw, ↓e2, n2, d, d1, ↓tb_menShown2 J]
    · have h2 := sn_in hW (k := x) (v := shw K x (kMi K)) c2.1 c2.2 (by omega)
      have e2 : ∀ {β : Type} (f : Int → TW → Option β), bt_ (f_X8_seenIn s1 x (shw K x (kMi K)) y) f = f (sn K x (shw K x (kMi K)) y) s1 := fun f => tb_seenIn J c1.1 c1.2 (by omega) (by omega) c2.1 c2.2 f
      rw [if_neg d, if_neg d]
      generalize sn K x (shw K x (kMi K)) y = u at *
      have h3 := sn_in hW (k := y) (v := u) (j := z) (by omega) (by omega) (by omega)
      have n3 := n_sn hW (k := y) (v := u) (j := z) (by omega) (by omega) (by omega)
      have e3 : ∀ {β : Type} (f : Int → TW → Option β), bt_ (f_X8_seenIn s1 y u z) f = f (sn K y u z) s1 := fun f => tb_seenIn J c2.1 c2.2 (by omega) (by omega) (by omega) (by omega) f
      generalize sn K y u z = v at *
      by_cases d1 : v < 0
      · simp (disch := omega) only [↓reduceIte, Bool.false_eq_true, nrm_i, ltT, ltF, leT, leF, eqT, eqF, not_true_eq_false, not_false_eq_true, and_self, and_true, true_and, false_and, and_false, or_true, true_or, or_false, false_or, ↓btS, ↓bnS, ↓bdS, ↓jnS, ↓obS, n_W hX hW, n_R hW, n_H hX hW, n_U hW, n_L hW, n_B hW, n_S hW, n_M hX, n_Ms hX, n_P, ↓ti_t, ↓ti_f, ↓tman_t hX hs, ↓tman_f hX hs, ↓troom_t hX hs, ↓troom_f hX hs, ↓tmir_t hX hs, ↓tmir_f hX hs, ↓tpas_t hn hW, ↓tpas_f hn hW, hmi, ↓pv_W Q, ↓pv_R Q, ↓pv_B Q, ↓tb52, p_W Q, p_R Q, ↓tz_R hs, ↓tz_M hs, ↓tz_K hs, ↓btP e1, ↓eshw, ↓e2, ↓e3, n3, d, d1]
      · rcases (show w = 0 ∨ w = 1 ∨ w = 2 by omega) with rfl | rfl | rfl
        · simp (disch := omega) only [↓reduceIte, Bool.false_eq_true, nrm_i, ltT, ltF, leT, leF, eqT, eqF, not_true_eq_false, not_false_eq_true, and_self, and_true, true_and, false_and, and_false, or_true, true_or, or_false, false_or, ↓btS, ↓bnS, ↓bdS, ↓jnS, ↓obS, n_W hX hW, n_R hW, n_H hX hW, n_U hW, n_L hW, n_B hW, n_S hW, n_M hX, n_Ms hX, n_P, ↓ti_t, ↓ti_f, ↓tman_t hX hs, ↓tman_f hX hs, ↓troom_t hX hs, ↓troom_f hX hs, ↓tmir_t hX hs, ↓tmir_f hX hs, ↓tpas_t hn hW, ↓tpas_f hn hW, hmi, ↓pv_W Q, ↓pv_R Q, ↓pv_B Q, ↓tb52, p_W Q, p_R Q, ↓tz_R hs, ↓tz_M hs, ↓tz_K hs, ↓btP e1, ↓eshw, ↓e2, ↓e3, n3, d, d1]
        · simp (disch := omega) only [↓reduceIte, Bool.false_eq_true, nrm_i, ltT, ltF, leT, leF, eqT, eqF, not_true_eq_false, not_false_eq_true, and_self, and_true, true_and, false_and, and_false, or_true, true_or, or_false, false_or, ↓btS, ↓bnS, ↓bdS, ↓jnS, ↓obS, n_W hX hW, n_R hW, n_H hX hW, n_U hW, n_L hW, n_B hW, n_S hW, n_M hX, n_Ms hX, n_P, ↓ti_t, ↓ti_f, ↓tman_t hX hs, ↓tman_f hX hs, ↓troom_t hX hs, ↓troom_f hX hs, ↓tmir_t hX hs, ↓tmir_f hX hs, ↓tpas_t hn hW, ↓tpas_f hn hW, hmi, ↓pv_W Q, ↓pv_R Q, ↓pv_B Q, ↓tb52, p_W Q, p_R Q, ↓tz_R hs, ↓tz_M hs, ↓tz_K hs, ↓btP e1, ↓eshw, ↓e2, ↓e3, n3, d, d1, ↓tb_hungIn J]
        · simp (disch := omega) only [↓reduceIte, Bool.false_eq_true, nrm_i, ltT, ltF, leT, leF, eqT, eqF, not_true_eq_false, not_false_eq_true, and_self, and_true, true_and, false_and, and_false, or_true, true_or, or_false, false_or, ↓btS, ↓bnS, ↓bdS, ↓jnS, ↓obS, n_W hX hW, n_R hW, n_H hX hW, n_U hW, n_L hW, n_B hW, n_S hW, n_M hX, n_Ms hX, n_P, ↓ti_t, ↓ti_f, ↓tman_t hX hs, ↓tman_f hX hs, ↓troom_t hX hs, ↓troom_f hX hs, ↓tmir_t hX hs, ↓tmir_f hX hs, ↓tpas_t hn hW, ↓tpas_f hn hW, hmi, ↓pv_W Q, ↓pv_R Q, ↓pv_B Q, ↓tb52, p_W Q, p_R Q, ↓tz_R hs, ↓tz_M hs, ↓tz_K hs, ↓btP e1, ↓eshw, ↓e2, ↓e3, n3, d, d1, ↓tb_menShown2 J]
  · rw [if_neg G]
    refine ⟨s, ?_, chg.rf _ _ _⟩
    by_cases d : z = -1
    ·
      by_cases c1 : 0 ≤ x ∧ x < xK X
      · by_cases c2 : 0 ≤ y ∧ y < xK X
        · by_cases c3 : -1 ≤ z ∧ z < xK X
          · by_cases c4 : 0 ≤ w ∧ w ≤ 2
            · exact absurd ⟨c1, c2, c3, c4⟩ G
            · simp (disch := omega) only [↓reduceIte, Bool.false_eq_true, nrm_i, ltT, ltF, leT, leF, eqT, eqF, not_true_eq_false, not_false_eq_true, and_self, and_true, true_and, false_and, and_false, or_true, true_or, or_false, false_or, ↓btS, ↓bnS, ↓bdS, ↓jnS, ↓obS, n_W hX hW, n_R hW, n_H hX hW, n_U hW, n_L hW, n_B hW, n_S hW, n_M hX, n_Ms hX, n_P, ↓ti_t, ↓ti_f, ↓tman_t hX hs, ↓tman_f hX hs, ↓troom_t hX hs, ↓troom_f hX hs, ↓tmir_t hX hs, ↓tmir_f hX hs, ↓tpas_t hn hW, ↓tpas_f hn hW, hmi, ↓pv_W Q, ↓pv_R Q, ↓pv_B Q, ↓tb52, p_W Q, p_R Q, ↓tz_R hs, ↓tz_M hs, ↓tz_K hs, d]
          · simp (disch := omega) only [↓reduceIte, Bool.false_eq_true, nrm_i, ltT, ltF, leT, leF, eqT, eqF, not_true_eq_false, not_false_eq_true, and_self, and_true, true_and, false_and, and_false, or_true, true_or, or_false, false_or, ↓btS, ↓bnS, ↓bdS, ↓jnS, ↓obS, n_W hX hW, n_R hW, n_H hX hW, n_U hW, n_L hW, n_B hW, n_S hW, n_M hX, n_Ms hX, n_P, ↓ti_t, ↓ti_f, ↓tman_t hX hs, ↓tman_f hX hs, ↓troom_t hX hs, ↓troom_f hX hs, ↓tmir_t hX hs, ↓tmir_f hX hs, ↓tpas_t hn hW, ↓tpas_f hn hW, hmi, ↓pv_W Q, ↓pv_R Q, ↓pv_B Q, ↓tb52, p_W Q, p_R Q, ↓tz_R hs, ↓tz_M hs, ↓tz_K hs, d]
        · simp (disch := omega) only [↓reduceIte, Bool.false_eq_true, nrm_i, ltT, ltF, leT, leF, eqT, eqF, not_true_eq_false, not_false_eq_true, and_self, and_true, true_and, false_and, and_false, or_true, true_or, or_false, false_or, ↓btS, ↓bnS, ↓bdS, ↓jnS, ↓obS, n_W hX hW, n_R hW, n_H hX hW, n_U hW, n_L hW, n_B hW, n_S hW, n_M hX, n_Ms hX, n_P, ↓ti_t, ↓ti_f, ↓tman_t hX hs, ↓tman_f hX hs, ↓troom_t hX hs, ↓troom_f hX hs, ↓tmir_t hX hs, ↓tmir_f hX hs, ↓tpas_t hn hW, ↓tpas_f hn hW, hmi, ↓pv_W Q, ↓pv_R Q, ↓pv_B Q, ↓tb52, p_W Q, p_R Q, ↓tz_R hs, ↓tz_M hs, ↓tz_K hs, d]
      · simp (disch := omega) only [↓reduceIte, Bool.false_eq_true, nrm_i, ltT, ltF, leT, leF, eqT, eqF, not_true_eq_false, not_false_eq_true, and_self, and_true, true_and, false_and, and_false, or_true, true_or, or_false, false_or, ↓btS, ↓bnS, ↓bdS, ↓jnS, ↓obS, n_W hX hW, n_R hW, n_H hX hW, n_U hW, n_L hW, n_B hW, n_S hW, n_M hX, n_Ms hX, n_P, ↓ti_t, ↓ti_f, ↓tman_t hX hs, ↓tman_f hX hs, ↓troom_t hX hs, ↓troom_f hX hs, ↓tmir_t hX hs, ↓tmir_f hX hs, ↓tpas_t hn hW, ↓tpas_f hn hW, hmi, ↓pv_W Q, ↓pv_R Q, ↓pv_B Q, ↓tb52, p_W Q, p_R Q, ↓tz_R hs, ↓tz_M hs, ↓tz_K hs, d]
    ·
      by_cases c1 : 0 ≤ x ∧ x < xK X
      · by_cases c2 : 0 ≤ y ∧ y < xK X
        · by_cases c3 : -1 ≤ z ∧ z < xK X
          · by_cases c4 : 0 ≤ w ∧ w ≤ 2
            · exact absurd ⟨c1, c2, c3, c4⟩ G
            · simp (disch := omega) only [↓reduceIte, Bool.false_eq_true, nrm_i, ltT, ltF, leT, leF, eqT, eqF, not_true_eq_false, not_false_eq_true, and_self, and_true, true_and, false_and, and_false, or_true, true_or, or_false, false_or, ↓btS, ↓bnS, ↓bdS, ↓jnS, ↓obS, n_W hX hW, n_R hW, n_H hX hW, n_U hW, n_L hW, n_B hW, n_S hW, n_M hX, n_Ms hX, n_P, ↓ti_t, ↓ti_f, ↓tman_t hX hs, ↓tman_f hX hs, ↓troom_t hX hs, ↓troom_f hX hs, ↓tmir_t hX hs, ↓tmir_f hX hs, ↓tpas_t hn hW, ↓tpas_f hn hW, hmi, ↓pv_W Q, ↓pv_R Q, ↓pv_B Q, ↓tb52, p_W Q, p_R Q, ↓tz_R hs, ↓tz_M hs, ↓tz_K hs]
          · simp (disch := omega) only [↓reduceIte, Bool.false_eq_true, nrm_i, ltT, ltF, leT, leF, eqT, eqF, not_true_eq_false, not_false_eq_true, and_self, and_true, true_and, false_and, and_false, or_true, true_or, or_false, false_or, ↓btS, ↓bnS, ↓bdS, ↓jnS, ↓obS, n_W hX hW, n_R hW, n_H hX hW, n_U hW, n_L hW, n_B hW, n_S hW, n_M hX, n_Ms hX, n_P, ↓ti_t, ↓ti_f, ↓tman_t hX hs, ↓tman_f hX hs, ↓troom_t hX hs, ↓troom_f hX hs, ↓tmir_t hX hs, ↓tmir_f hX hs, ↓tpas_t hn hW, ↓tpas_f hn hW, hmi, ↓pv_W Q, ↓pv_R Q, ↓pv_B Q, ↓tb52, p_W Q, p_R Q, ↓tz_R hs, ↓tz_M hs, ↓tz_K hs]
        · simp (disch := omega) only [↓reduceIte, Bool.false_eq_true, nrm_i, ltT, ltF, leT, leF, eqT, eqF, not_true_eq_false, not_false_eq_true, and_self, and_true, true_and, false_and, and_false, or_true, true_or, or_false, false_or, ↓btS, ↓bnS, ↓bdS, ↓jnS, ↓obS, n_W hX hW, n_R hW, n_H hX hW, n_U hW, n_L hW, n_B hW, n_S hW, n_M hX, n_Ms hX, n_P, ↓ti_t, ↓ti_f, ↓tman_t hX hs, ↓tman_f hX hs, ↓troom_t hX hs, ↓troom_f hX hs, ↓tmir_t hX hs, ↓tmir_f hX hs, ↓tpas_t hn hW, ↓tpas_f hn hW, hmi, ↓pv_W Q, ↓pv_R Q, ↓pv_B Q, ↓tb52, p_W Q, p_R Q, ↓tz_R hs, ↓tz_M hs, ↓tz_K hs]
      · simp (disch := omega) only [↓reduceIte, Bool.false_eq_true, nrm_i, ltT, ltF, leT, leF, eqT, eqF, not_true_eq_false, not_false_eq_true, and_self, and_true, true_and, false_and, and_false, or_true, true_or, or_false, false_or, ↓btS, ↓bnS, ↓bdS, ↓jnS, ↓obS, n_W hX hW, n_R hW, n_H hX hW, n_U hW, n_L hW, n_B hW, n_S hW, n_M hX, n_Ms hX, n_P, ↓ti_t, ↓ti_f, ↓tman_t hX hs, ↓tman_f hX hs, ↓troom_t hX hs, ↓troom_f hX hs, ↓tmir_t hX hs, ↓tmir_f hX hs, ↓tpas_t hn hW, ↓tpas_f hn hW, hmi, ↓pv_W Q, ↓pv_R Q, ↓pv_B Q, ↓tb52, p_W Q, p_R Q, ↓tz_R hs, ↓tz_M hs, ↓tz_K hs]
theorem rm2 : ∀ n : Nat, n < 20 → rmI ((n : Int) + 1) 2 = if n % 2 = 0 then 1 else 0 := by decide +kernel
theorem t_facing (Q : TQ s X K) {x y z : Int} (wx : wd x) (wy : wd y) (wz : wd z) : ∃ s' : TW, f_X8_facing s x y z = some (q_facing X K x y z, s') ∧ chg qk qf s s' := by
  obtain ⟨hX, hs, hn, hW⟩ := Q
  have Q : TQ s X K := ⟨hX, hs, hn, hW⟩
  have hmi := Q.mi
  have a0 := hX.1
  have a1 := hX.2.2.1
  have a4 := hX.2.2.2.1
  have a3 := hs.1
  have a2 := hW.1
  obtain ⟨s1, e1, J, l1, C⟩ := Q.copies
  have C := C.up (ks' := qk) (fs' := qf) (by decide) (by decide)
  have b3 := J.2.1.1
  have jmi := J.mi
  unfold f_X8_facing q_facing
  by_cases G : (0 ≤ x ∧ x < xK X) ∧ (0 ≤ y ∧ y < xK X) ∧ ¬ x = y ∧ -1 ≤ z
  · rw [if_pos G]
    obtain ⟨c1, c2, c3, c4⟩ := G
    refine ⟨s1, ?_, C⟩
    have eshw : ∀ {β : Type} (f : Int → TW → Option β), bt_ (f_X8_showsAt s1 x (s1.1 57)) f = f (shw K x (kMi K)) s1 := fun f => by rw [jmi]; exact tb_showsAt J c1.1 c1.2 a2.1 (Int.le_refl _) f
    have key : ∀ (j n fl : Nat) (v : Int), n + j = 20 → j < fl → (v = -2 ∨ 0 ≤ v) → v ≤ kMi K → f_X8_facing_L46 fl s1 x y z (n : Int) v (fun s16 x3 x4 => (if ¬ nrm x3 = nrm (-1) then (some ((-1), s16)) else (some (nrm x4, s16)))) = some (fcR K x y z j n v, s1) := by
      intro j
      induction j with
      | zero =>
        intro n fl v hn hf v0 v1
        obtain ⟨fl, rfl⟩ : ∃ q, fl = q + 1 := ⟨fl - 1, by omega⟩
        rw [f_X8_facing_L46, fcR]
        by_cases d : z = -1
        · simp (disch := omega) only [↓reduceIte, Bool.false_eq_true, nrm_i, ltT, ltF, leT, leF, eqT, eqF, not_true_eq_false, not_false_eq_true, and_self, and_true, true_and, false_and, and_false, or_true, true_or, or_false, false_or, ↓btS, ↓bnS, ↓bdS, ↓jnS, ↓obS, d]
        · simp (disch := omega) only [↓reduceIte, Bool.false_eq_true, nrm_i, ltT, ltF, leT, leF, eqT, eqF, not_true_eq_false, not_false_eq_true, and_self, and_true, true_and, false_and, and_false, or_true, true_or, or_false, false_or, ↓btS, ↓bnS, ↓bdS, ↓jnS, ↓obS, d]
      | succ j ih =>
        intro n fl v hn hf v0 v1
        obtain ⟨fl, rfl⟩ : ∃ q, fl = q + 1 := ⟨fl - 1, by omega⟩
        rw [f_X8_facing_L46, fcR]
        by_cases d1 : v < 0
        · by_cases d : z = -1
          · simp (disch := omega) only [↓reduceIte, Bool.false_eq_true, nrm_i, ltT, ltF, leT, leF, eqT, eqF, not_true_eq_false, not_false_eq_true, and_self, and_true, true_and, false_and, and_false, or_true, true_or, or_false, false_or, ↓btS, ↓bnS, ↓bdS, ↓jnS, ↓obS, d]
          · simp (disch := omega) only [↓reduceIte, Bool.false_eq_true, nrm_i, ltT, ltF, leT, leF, eqT, eqF, not_true_eq_false, not_false_eq_true, and_self, and_true, true_and, false_and, and_false, or_true, true_or, or_false, false_or, ↓btS, ↓bnS, ↓bdS, ↓jnS, ↓obS, d]
        · by_cases d2 : (n : Int) = z
          · simp (disch := omega) only [↓reduceIte, Bool.false_eq_true, nrm_i, ltT, ltF, leT, leF, eqT, eqF, not_true_eq_false, not_false_eq_true, and_self, and_true, true_and, false_and, and_false, or_true, true_or, or_false, false_or, ↓btS, ↓bnS, ↓bdS, ↓jnS, ↓obS]
          · have r2 := rm2 n (by omega)
            by_cases par : n % 2 = 0
            · rw [if_pos par] at r2
              have h2 := sn_in hW (k := x) (v := v) c2.1 c2.2 v1
              have e9 := ih (n + 1) fl (sn K x v y) (by omega) (by omega) (by omega) (by omega)
              rw [show ((n + 1 : Nat) : Int) = (n : Int) + 1 by omega] at e9
              simp (disch := omega) only [↓reduceIte, Bool.false_eq_true, nrm_i, ltT, ltF, leT, leF, eqT, eqF, not_true_eq_false, not_false_eq_true, and_self, and_true, true_and, false_and, and_false, or_true, true_or, or_false, false_or, ↓btS, ↓bnS, ↓bdS, ↓jnS, ↓obS, r2, par, ↓tb_seenIn J, ↓e9]
            · rw [if_neg par] at r2
              have h2 := sn_in hW (k := y) (v := v) c1.1 c1.2 v1
              have e9 := ih (n + 1) fl (sn K y v x) (by omega) (by omega) (by omega) (by omega)
              rw [show ((n + 1 : Nat) : Int) = (n : Int) + 1 by omega] at e9
              simp (disch := omega) only [↓reduceIte, Bool.false_eq_true, nrm_i, ltT, ltF, leT, leF, eqT, eqF, not_true_eq_false, not_false_eq_true, and_self, and_true, true_and, false_and, and_false, or_true, true_or, or_false, false_or, ↓btS, ↓bnS, ↓bdS, ↓jnS, ↓obS, r2, par, ↓tb_seenIn J, ↓e9]
    have hsw := shw_le hW c1.1 c1.2 a2.1 (Int.le_refl _)
    have e9 : f_X8_facing_L46 FU s1 x y z 0 (shw K x (kMi K)) (fun s16 x3 x4 => (if ¬ nrm x3 = nrm (-1) then (some ((-1), s16)) else (some (nrm x4, s16)))) = some (fcR K x y z 20 0 (shw K x (kMi K)), s1) := key 20 0 FU _ rfl (by decide) (by omega) (by omega)
    simp (disch := omega) only [↓reduceIte, Bool.false_eq_true, nrm_i, ltT, ltF, leT, leF, eqT, eqF, not_true_eq_false, not_false_eq_true, and_self, and_true, true_and, false_and, and_false, or_true, true_or, or_false, false_or, ↓btS, ↓bnS, ↓bdS, ↓jnS, ↓obS, n_W hX hW, n_R hW, n_H hX hW, n_U hW, n_L hW, n_B hW, n_S hW, n_M hX, n_Ms hX, n_P, ↓ti_t, ↓ti_f, ↓tman_t hX hs, ↓tman_f hX hs, ↓troom_t hX hs, ↓troom_f hX hs, ↓tmir_t hX hs, ↓tmir_f hX hs, ↓tpas_t hn hW, ↓tpas_f hn hW, hmi, ↓pv_W Q, ↓pv_R Q, ↓pv_B Q, ↓tb52, p_W Q, p_R Q, ↓tz_R hs, ↓tz_M hs, ↓tz_K hs, ↓btP e1, ↓eshw, ↓e9]
  · rw [if_neg G]
    refine ⟨s, ?_, chg.rf _ _ _⟩
    by_cases c1 : 0 ≤ x ∧ x < xK X
    · by_cases c2 : 0 ≤ y ∧ y < xK X
      · by_cases c3 : ¬ x = y
        · by_cases c4 : -1 ≤ z
          · exact absurd ⟨c1, c2, c3, c4⟩ G
          · simp (disch := omega) only [↓reduceIte, Bool.false_eq_true, nrm_i, ltT, ltF, leT, leF, eqT, eqF, not_true_eq_false, not_false_eq_true, and_self, and_true, true_and, false_and, and_false, or_true, true_or, or_false, false_or, ↓btS, ↓bnS, ↓bdS, ↓jnS, ↓obS, n_W hX hW, n_R hW, n_H hX hW, n_U hW, n_L hW, n_B hW, n_S hW, n_M hX, n_Ms hX, n_P, ↓ti_t, ↓ti_f, ↓tman_t hX hs, ↓tman_f hX hs, ↓troom_t hX hs, ↓troom_f hX hs, ↓tmir_t hX hs, ↓tmir_f hX hs, ↓tpas_t hn hW, ↓tpas_f hn hW, hmi, ↓pv_W Q, ↓pv_R Q, ↓pv_B Q, ↓tb52, p_W Q, p_R Q, ↓tz_R hs, ↓tz_M hs, ↓tz_K hs]
        · simp (disch := omega) only [↓reduceIte, Bool.false_eq_true, nrm_i, ltT, ltF, leT, leF, eqT, eqF, not_true_eq_false, not_false_eq_true, and_self, and_true, true_and, false_and, and_false, or_true, true_or, or_false, false_or, ↓btS, ↓bnS, ↓bdS, ↓jnS, ↓obS, n_W hX hW, n_R hW, n_H hX hW, n_U hW, n_L hW, n_B hW, n_S hW, n_M hX, n_Ms hX, n_P, ↓ti_t, ↓ti_f, ↓tman_t hX hs, ↓tman_f hX hs, ↓troom_t hX hs, ↓troom_f hX hs, ↓tmir_t hX hs, ↓tmir_f hX hs, ↓tpas_t hn hW, ↓tpas_f hn hW, hmi, ↓pv_W Q, ↓pv_R Q, ↓pv_B Q, ↓tb52, p_W Q, p_R Q, ↓tz_R hs, ↓tz_M hs, ↓tz_K hs]
      · simp (disch := omega) only [↓reduceIte, Bool.false_eq_true, nrm_i, ltT, ltF, leT, leF, eqT, eqF, not_true_eq_false, not_false_eq_true, and_self, and_true, true_and, false_and, and_false, or_true, true_or, or_false, false_or, ↓btS, ↓bnS, ↓bdS, ↓jnS, ↓obS, n_W hX hW, n_R hW, n_H hX hW, n_U hW, n_L hW, n_B hW, n_S hW, n_M hX, n_Ms hX, n_P, ↓ti_t, ↓ti_f, ↓tman_t hX hs, ↓tman_f hX hs, ↓troom_t hX hs, ↓troom_f hX hs, ↓tmir_t hX hs, ↓tmir_f hX hs, ↓tpas_t hn hW, ↓tpas_f hn hW, hmi, ↓pv_W Q, ↓pv_R Q, ↓pv_B Q, ↓tb52, p_W Q, p_R Q, ↓tz_R hs, ↓tz_M hs, ↓tz_K hs]
    · simp (disch := omega) only [↓reduceIte, Bool.false_eq_true, nrm_i, ltT, ltF, leT, leF, eqT, eqF, not_true_eq_false, not_false_eq_true, and_self, and_true, true_and, false_and, and_false, or_true, true_or, or_false, false_or, ↓btS, ↓bnS, ↓bdS, ↓jnS, ↓obS, n_W hX hW, n_R hW, n_H hX hW, n_U hW, n_L hW, n_B hW, n_S hW, n_M hX, n_Ms hX, n_P, ↓ti_t, ↓ti_f, ↓tman_t hX hs, ↓tman_f hX hs, ↓troom_t hX hs, ↓troom_f hX hs, ↓tmir_t hX hs, ↓tmir_f hX hs, ↓tpas_t hn hW, ↓tpas_f hn hW, hmi, ↓pv_W Q, ↓pv_R Q, ↓pv_B Q, ↓tb52, p_W Q, p_R Q, ↓tz_R hs, ↓tz_M hs, ↓tz_K hs]
end
