set_option maxRecDepth 100000
set_option maxHeartbeats 4000000
section
variable {s s' : TW} {X : Txt} {K : Crt} {β : Type}
theorem TI.chg (J : TI s X K) {ks fs : List Int} (e : chg ks fs s s') (h1 : ∀ k ∈ ks, k < 24 ∨ 46 < k) (h2 : (18 : Int) ∉ fs) (h3 : (56 : Int) ∉ ks ∧ (58 : Int) ∉ ks ∧ (59 : Int) ∉ ks) (h4 : (57 : Int) ∉ fs) : TI s' X K := ⟨J.1, J.2.1.same (e.text h1 h2), RepQ.chg J.2.2.1 e h3 h4, J.2.2.2⟩
theorem t_late (J : TI s X K) {k rk : Int} (h0 : 0 ≤ k) (h1 : k < xK X) (k0 : 0 ≤ rk) (k1 : rk ≤ 20) : ∃ s' : TW, f_X8_lateBy s k rk = some (lat X K k rk, s') ∧ chg [49, 50] [51] s s' := t_lateBy J.1 J.2.1 J.2.2.1 J.2.2.2 h0 h1 k0 k1
theorem WfQ.setR {q : Int} (h : WfQ q X K) (m t : Int) {v : Int} (hv : 0 ≤ v ∧ v ≤ 20) : WfQ q X (setR K m t v) := by
  refine ⟨h.1, fun j u b0 b1 b2 b3 => ⟨(h.2.1 j u b0 b1 b2 b3).1, ?_⟩, h.2.2.1, h.2.2.2⟩
  show 0 ≤ f2 (kR K) m t v j u ∧ f2 (kR K) m t v j u ≤ 20
  unfold f2
  split
  · exact hv
  · exact (h.2.1 j u b0 b1 b2 b3).2
def eqR (K K' : Crt) : Prop := K'.1 = K.1 ∧ kW K' = kW K ∧ kH K' = kH K
theorem lat_eqR {K K' : Crt} (h : eqR K K') (k rk : Int) : lat X K' k rk = lat X K k rk := by
  obtain ⟨h1, h2, h3⟩ := h
  have h4 : kMi K' = kMi K := by unfold kMi; rw [h1]
  unfold lat mIn
  rw [h2, h3, h4]
theorem t_rankFor (Q : TQ s X K) {x y : Int} (wx : wd x) (wy : wd y) : ∃ s' : TW, f_X8_rankFor s x y = some (q_rankFor X K x y, s') ∧ chg qk qf s s' := by
  obtain ⟨hX, hs, hn, hW⟩ := Q
  have Q : TQ s X K := ⟨hX, hs, hn, hW⟩
  have hmi := Q.mi
  have a0 := hX.1
  have a1 := hX.2.2.1
  have a4 := hX.2.2.2.1
  have a3 := hs.1
  have a2 := hW.1
  obtain ⟨s1, e1, J, l1, C⟩ := Q.copies
  have C := C.up (ks' := qk) (fs' := qf) (by decide) (by decide)
  have b3 := J.2.1.1
  have jmi := J.mi
  unfold f_X8_rankFor q_rankFor
  by_cases c1 : 0 ≤ x ∧ x < xK X <;> by_cases c2 : 0 ≤ y ∧ y ≤ kMi K
  · have hb := (hW.2.2.2 x c1.1 c1.2).1
    have hu := (hW.2.2.1 x (kMi K) c1.1 c1.2 a2.1 (Int.le_refl _)).2.1
    have hu2 := (hW.2.2.1 x y c1.1 c1.2 c2.1 c2.2).2.1
    have ho := (hX.2.2.2.2.2.2.2.2 x c1.1 c1.2).2
    by_cases G : kB K x = 300 ∧ kU K x (kMi K) = 0 ∧ kU K x y = 0
    · rw [if_pos ⟨c1, c2⟩, if_pos G]
      obtain ⟨g1, g2, g3⟩ := G
      simp (disch := omega) only [↓reduceIte, Bool.false_eq_true, nrm_i, ltT, ltF, leT, leF, eqT, eqF, not_true_eq_false, not_false_eq_true, and_self, and_true, true_and, false_and, and_false, or_true, true_or, or_false, false_or, ↓btS, ↓bnS, ↓bdS, ↓jnS, ↓obS, n_W hX hW, n_R hW, n_H hX hW, n_U hW, n_L hW, n_B hW, n_S hW, n_M hX, n_Ms hX, n_P, ↓ti_t, ↓ti_f, ↓tman_t hX hs, ↓tman_f hX hs, ↓troom_t hX hs, ↓troom_f hX hs, ↓tmir_t hX hs, ↓tmir_f hX hs, ↓tpas_t hn hW, ↓tpas_f hn hW, hmi, ↓pv_W Q, ↓pv_R Q, ↓pv_B Q, ↓tb52, p_W Q, p_R Q, ↓tz_R hs, ↓tz_M hs, ↓tz_K hs, ↓btP e1, ↓reduceIte, Bool.false_eq_true, nrm_i, ltT, ltF, leT, leF, eqT, eqF, not_true_eq_false, not_false_eq_true, and_self, and_true, true_and, false_and, and_false, or_true, true_or, or_false, false_or, ↓btS, ↓bnS, ↓bdS, ↓jnS, ↓obS, n_W hX hW, n_R hW, n_H hX hW, n_U hW, n_L hW, n_B hW, n_S hW, n_M hX, n_Ms hX, n_P, J.mi, ↓ti_t, ↓ti_f, ↓tv_W J, ↓tv_L J, ↓tv_B J, ↓tb56, w_W J, w_R J, w_L J, ↓tb_menIn J, ↓tb_showsAt J, ↓tb_hungIn J, ↓tb_isTurned J, ↓tb_menShown J, ↓tb_menShown2 J, ↓tb_bits, ↓tz_R J.2.1, ↓tz_M J.2.1, ↓tz_K J.2.1, g1, g2, g3]
      have key : ∀ (j i n : Nat) (τ : TW) (K' : Crt), i + j = 21 → j < n → chg qk qf s τ → TI τ X K' → eqR K K' → ∃ s' : TW, f_X8_rankFor_L58 n τ x y (i : Int) (fun s17 => some (-2, s17)) = some ((match fnd (fun k => decide (kMi K - lat X K x k = y)) i j with | some k => (k : Int) | none => -2), s') ∧ chg qk qf s s' := by
        intro j
        induction j with
        | zero =>
          intro i n τ K' hi hn hcq _ _
          obtain ⟨n, rfl⟩ : ∃ q, n = q + 1 := ⟨n - 1, by omega⟩
          exact ⟨τ, by rw [f_X8_rankFor_L58]; simp (disch := omega) only [↓reduceIte, Bool.false_eq_true, nrm_i, ltT, ltF, leT, leF, eqT, eqF, not_true_eq_false, not_false_eq_true, and_self, and_true, true_and, false_and, and_false, or_true, true_or, or_false, false_or, ↓btS, ↓bnS, ↓bdS, ↓jnS, ↓obS, fnd], hcq⟩
        | succ j ih =>
          intro i n τ K' hi hn hcq J' hE
          obtain ⟨n, rfl⟩ : ∃ q, n = q + 1 := ⟨n - 1, by omega⟩
          have hmi' : kMi K' = kMi K := by unfold kMi; rw [hE.1]
          have jm' : τ.1 57 = kMi K := J'.mi.trans hmi'
          have b3' := J'.2.1.1
          have J2 : TI (tst τ 56 (36 * kMi K + 6 + xOw X x) i) X (setR K' (xOw X x) (kMi K) i) := by
            have c := (chg.rf qk qf τ).ts (k := 56) (by decide) (36 * kMi K + 6 + xOw X x) i
            refine ⟨hX, J'.2.1.same (c.text (by decide) (by decide)), ?_, J'.2.2.2.setR _ _ ⟨by omega, by omega⟩⟩
            have w := RepR.setR J'.2.2.1 hX (k := xOw X x) (t := kMi K) i (by omega) (by omega)
            show RepR _ ((tst τ 56 _ _).2 56) _ ((tst τ 56 _ _).2 58) ((tst τ 56 _ _).2 59) X _
            rw [tst_eq, tst_ne _ _ _ (by decide), tst_ne _ _ _ (by decide)]
            exact w
          obtain ⟨τ1, f1, q1⟩ := t_late J2 c1.1 c1.2 (rk := i) (by omega) (by omega)
          have hE2 : eqR K (setR K' (xOw X x) (kMi K) i) := hE
          rw [lat_eqR hE2] at f1
          have hl := lat_in X K x i
          have how := (J'.2.1.2.2.2.2.1 x c1.1 c1.2).2
          have how' : ta τ 33 (8 * τ.1 18 + x) = some (xOw X x) := by rw [ta33 (by omega) (by omega), how]
          have hcq2 : chg qk qf s τ1 := (hcq.ts (k := 56) (by decide) _ _).tr (q1.up (by decide) (by decide))
          have e57 : (tst τ 56 (36 * kMi K + 6 + xOw X x) (i : Int)).1 57 = kMi K := jm'
          rw [f_X8_rankFor_L58, fnd]
          by_cases c : kMi K - lat X K x i = y
          · refine ⟨τ1, ?_, hcq2⟩
            simp (disch := omega) only [↓reduceIte, Bool.false_eq_true, nrm_i, ltT, ltF, leT, leF, eqT, eqF, not_true_eq_false, not_false_eq_true, and_self, and_true, true_and, false_and, and_false, or_true, true_or, or_false, false_or, ↓btS, ↓bnS, ↓bdS, ↓jnS, ↓obS, ↓obP how', jm', ↓sb56, ↓btP f1, e57, c, decide_true]
          · obtain ⟨s', e2, q2⟩ := ih (i + 1) n τ1 _ (by omega) (by omega) hcq2 (J2.chg q1 (by decide) (by decide) (by decide) (by decide)) hE2
            refine ⟨s', ?_, q2⟩
            simp (disch := omega) only [↓reduceIte, Bool.false_eq_true, nrm_i, ltT, ltF, leT, leF, eqT, eqF, not_true_eq_false, not_false_eq_true, and_self, and_true, true_and, false_and, and_false, or_true, true_or, or_false, false_or, ↓btS, ↓bnS, ↓bdS, ↓jnS, ↓obS, ↓obP how', jm', ↓sb56, ↓btP f1, e57, c, decide_false]
            exact e2
      exact key 21 0 FU s1 K rfl (by decide) C J ⟨rfl, rfl, rfl⟩
    · rw [if_pos ⟨c1, c2⟩, if_neg G]
      refine ⟨s1, ?_, C⟩
      by_cases g1 : kB K x = 300
      · by_cases g2 : kU K x (kMi K) = 0
        · by_cases g3 : kU K x y = 0
          · exact absurd ⟨g1, g2, g3⟩ G
          · simp (disch := omega) only [↓reduceIte, Bool.false_eq_true, nrm_i, ltT, ltF, leT, leF, eqT, eqF, not_true_eq_false, not_false_eq_true, and_self, and_true, true_and, false_and, and_false, or_true, true_or, or_false, false_or, ↓btS, ↓bnS, ↓bdS, ↓jnS, ↓obS, n_W hX hW, n_R hW, n_H hX hW, n_U hW, n_L hW, n_B hW, n_S hW, n_M hX, n_Ms hX, n_P, ↓ti_t, ↓ti_f, ↓tman_t hX hs, ↓tman_f hX hs, ↓troom_t hX hs, ↓troom_f hX hs, ↓tmir_t hX hs, ↓tmir_f hX hs, ↓tpas_t hn hW, ↓tpas_f hn hW, hmi, ↓pv_W Q, ↓pv_R Q, ↓pv_B Q, ↓tb52, p_W Q, p_R Q, ↓tz_R hs, ↓tz_M hs, ↓tz_K hs, ↓btP e1, ↓reduceIte, Bool.false_eq_true, nrm_i, ltT, ltF, leT, leF, eqT, eqF, not_true_eq_false, not_false_eq_true, and_self, and_true, true_and, false_and, and_false, or_true, true_or, or_false, false_or, ↓btS, ↓bnS, ↓bdS, ↓jnS, ↓obS, n_W hX hW, n_R hW, n_H hX hW, n_U hW, n_L hW, n_B hW, n_S hW, n_M hX, n_Ms hX, n_P, J.mi, ↓ti_t, ↓ti_f, ↓tv_W J, ↓tv_L J, ↓tv_B J, ↓tb56, w_W J, w_R J, w_L J, ↓tb_menIn J, ↓tb_showsAt J, ↓tb_hungIn J, ↓tb_isTurned J, ↓tb_menShown J, ↓tb_menShown2 J, ↓tb_bits, ↓tz_R J.2.1, ↓tz_M J.2.1, ↓tz_K J.2.1]
        · simp (disch := omega) only [↓reduceIte, Bool.false_eq_true, nrm_i, ltT, ltF, leT, leF, eqT, eqF, not_true_eq_false, not_false_eq_true, and_self, and_true, true_and, false_and, and_false, or_true, true_or, or_false, false_or, ↓btS, ↓bnS, ↓bdS, ↓jnS, ↓obS, n_W hX hW, n_R hW, n_H hX hW, n_U hW, n_L hW, n_B hW, n_S hW, n_M hX, n_Ms hX, n_P, ↓ti_t, ↓ti_f, ↓tman_t hX hs, ↓tman_f hX hs, ↓troom_t hX hs, ↓troom_f hX hs, ↓tmir_t hX hs, ↓tmir_f hX hs, ↓tpas_t hn hW, ↓tpas_f hn hW, hmi, ↓pv_W Q, ↓pv_R Q, ↓pv_B Q, ↓tb52, p_W Q, p_R Q, ↓tz_R hs, ↓tz_M hs, ↓tz_K hs, ↓btP e1, ↓reduceIte, Bool.false_eq_true, nrm_i, ltT, ltF, leT, leF, eqT, eqF, not_true_eq_false, not_false_eq_true, and_self, and_true, true_and, false_and, and_false, or_true, true_or, or_false, false_or, ↓btS, ↓bnS, ↓bdS, ↓jnS, ↓obS, n_W hX hW, n_R hW, n_H hX hW, n_U hW, n_L hW, n_B hW, n_S hW, n_M hX, n_Ms hX, n_P, J.mi, ↓ti_t, ↓ti_f, ↓tv_W J, ↓tv_L J, ↓tv_B J, ↓tb56, w_W J, w_R J, w_L J, ↓tb_menIn J, ↓tb_showsAt J, ↓tb_hungIn J, ↓tb_isTurned J, ↓tb_menShown J, ↓tb_menShown2 J, ↓tb_bits, ↓tz_R J.2.1, ↓tz_M J.2.1, ↓tz_K J.2.1]
      · simp (disch := omega) only [↓reduceIte, Bool.false_eq_true, nrm_i, ltT, ltF, leT, leF, eqT, eqF, not_true_eq_false, not_false_eq_true, and_self, and_true, true_and, false_and, and_false, or_true, true_or, or_false, false_or, ↓btS, ↓bnS, ↓bdS, ↓jnS, ↓obS, n_W hX hW, n_R hW, n_H hX hW, n_U hW, n_L hW, n_B hW, n_S hW, n_M hX, n_Ms hX, n_P, ↓ti_t, ↓ti_f, ↓tman_t hX hs, ↓tman_f hX hs, ↓troom_t hX hs, ↓troom_f hX hs, ↓tmir_t hX hs, ↓tmir_f hX hs, ↓tpas_t hn hW, ↓tpas_f hn hW, hmi, ↓pv_W Q, ↓pv_R Q, ↓pv_B Q, ↓tb52, p_W Q, p_R Q, ↓tz_R hs, ↓tz_M hs, ↓tz_K hs, ↓btP e1, ↓reduceIte, Bool.false_eq_true, nrm_i, ltT, ltF, leT, leF, eqT, eqF, not_true_eq_false, not_false_eq_true, and_self, and_true, true_and, false_and, and_false, or_true, true_or, or_false, false_or, ↓btS, ↓bnS, ↓bdS, ↓jnS, ↓obS, n_W hX hW, n_R hW, n_H hX hW, n_U hW, n_L hW, n_B hW, n_S hW, n_M hX, n_Ms hX, n_P, J.mi, ↓ti_t, ↓ti_f, ↓tv_W J, ↓tv_L J, ↓tv_B J, ↓tb56, w_W J, w_R J, w_L J, ↓tb_menIn J, ↓tb_showsAt J, ↓tb_hungIn J, ↓tb_isTurned J, ↓tb_menShown J, ↓tb_menShown2 J, ↓tb_bits, ↓tz_R J.2.1, ↓tz_M J.2.1, ↓tz_K J.2.1]
  all_goals exact ⟨s, by simp (disch := omega) only [↓reduceIte, Bool.false_eq_true, nrm_i, ltT, ltF, leT, leF, eqT, eqF, not_true_eq_false, not_false_eq_true, and_self, and_true, true_and, false_and, and_false, or_true, true_or, or_false, false_or, ↓btS, ↓bnS, ↓bdS, ↓jnS, ↓obS, n_W hX hW, n_R hW, n_H hX hW, n_U hW, n_L hW, n_B hW, n_S hW, n_M hX, n_Ms hX, n_P, ↓ti_t, ↓ti_f, ↓tman_t hX hs, ↓tman_f hX hs, ↓troom_t hX hs, ↓troom_f hX hs, ↓tmir_t hX hs, ↓tmir_f hX hs, ↓tpas_t hn hW, ↓tpas_f hn hW, hmi, ↓pv_W Q, ↓pv_R Q, ↓pv_B Q, ↓tb52, p_W Q, p_R Q, ↓tz_R hs, ↓tz_M hs, ↓tz_K hs, c1, c2], chg.rf _ _ _⟩
theorem t_jolt (Q : TQ s X K) {x y z : Int} (wx : wd x) (wy : wd y) (wz : wd z) : ∃ s' : TW, f_X8_jolt s x y z = some (q_jolt X K x y z, s') ∧ chg qk qf s s' := by
  obtain ⟨hX, hs, hn, hW⟩ := Q
  have Q : TQ s X K := ⟨hX, hs, hn, hW⟩
  have hmi := Q.mi
  have a0 := hX.1
  have a1 := hX.2.2.1
  have a4 := hX.2.2.2.1
  have a3 := hs.1
  have a2 := hW.1
  obtain ⟨s1, e1, J, l1, C⟩ := Q.copies
  have C := C.up (ks' := qk) (fs' := qf) (by decide) (by decide)
  have b3 := J.2.1.1
  have jmi := J.mi
  unfold f_X8_jolt q_jolt
  by_cases G : (0 ≤ x ∧ x < xM X) ∧ (0 ≤ y ∧ y ≤ 20) ∧ (0 ≤ z ∧ z ≤ 2)
  · rw [if_pos G]
    obtain ⟨c1, c2, c3⟩ := G
    simp (disch := omega) only [↓reduceIte, Bool.false_eq_true, nrm_i, ltT, ltF, leT, leF, eqT, eqF, not_true_eq_false, not_false_eq_true, and_self, and_true, true_and, false_and, and_false, or_true, true_or, or_false, false_or, ↓btS, ↓bnS, ↓bdS, ↓jnS, ↓obS, n_W hX hW, n_R hW, n_H hX hW, n_U hW, n_L hW, n_B hW, n_S hW, n_M hX, n_Ms hX, n_P, ↓ti_t, ↓ti_f, ↓tman_t hX hs, ↓tman_f hX hs, ↓troom_t hX hs, ↓troom_f hX hs, ↓tmir_t hX hs, ↓tmir_f hX hs, ↓tpas_t hn hW, ↓tpas_f hn hW, hmi, ↓pv_W Q, ↓pv_R Q, ↓pv_B Q, ↓tb52, p_W Q, p_R Q, ↓tz_R hs, ↓tz_M hs, ↓tz_K hs, ↓btP e1]
    have hP := jl_P hW x y
    refine loop (S := TW × Int × Int × Int × Int × Int) (fun n q => f_X8_jolt_L50 n q.1 x y z q.2.1 q.2.2.1 q.2.2.2.1 q.2.2.2.2.1 q.2.2.2.2.2 (fun s22 x3 x5 x6 x7 => (if ¬ nrm x3 = 0 then ((if ¬ nrm x3 = nrm 1 then (some (nrm x7, s22)) else (some (nrm x6, s22)))) else (some (nrm x5, s22))))) (fun w => ∃ s' : TW, w = some (if z = 0 then (jlT X K x y).2.1 else if z = 1 then (jlT X K x y).2.2.1 else (jlT X K x y).2.2.2, s') ∧ chg qk qf s s')
      (fun i q => (chg qk qf s q.1 ∧ TI q.1 X K) ∧ q.2 = ((itr (jlG X K x y) i (0, 0, 0, 0)).1, (itr (jlG X K x y) i (0, 0, 0, 0)).2.1, (itr (jlG X K x y) i (0, 0, 0, 0)).2.2.1, (itr (jlG X K x y) i (0, 0, 0, 0)).2.2.2, (i : Int))) (xK X).toNat ?_ ?_ (xK X).toNat 0 FU (s1, 0, 0, 0, 0, 0) (by omega) (by rw [FU_eq]; omega) ⟨⟨C, J⟩, rfl⟩
    · rintro n i ⟨τ, q⟩ hi ⟨⟨hcq, J⟩, rfl⟩
      dsimp only at hcq J ⊢
      have jmi := J.mi
      have b3 := J.2.1.1
      have hb := (hW.2.2.2 i (by omega) (by omega)).1
      have ho := (hX.2.2.2.2.2.2.2.2 i (by omega) (by omega)).2
      have how := (J.2.1.2.2.2.2.1 i (by omega) (by omega)).2
      have how' : ta τ 33 (8 * τ.1 18 + i) = some (xOw X i) := by rw [ta33 (by omega) (by omega), how]
      have hp := hP i (by omega)
      right
      rw [f_X8_jolt_L50, itr, jlG]
      generalize itr (jlG X K x y) i (0, 0, 0, 0) = a at hp ⊢
      by_cases c4 : xOw X i = x
      · by_cases c5 : kB K i = 300
        · obtain ⟨τ1, f1, q1⟩ := t_late J (k := i) (rk := y) (by omega) (by omega) (by omega) (by omega)
          have J1 := J.chg q1 (by decide) (by decide) (by decide) (by decide)
          have jm1 := J1.mi
          have hl := lat_in X K i y
          have h2 := (hW.2.2.1 i (kMi K) (by omega) (by omega) hW.1.1 (Int.le_refl _)).2.2 (Int.le_refl _)
          have hv : -240 ≤ lat X K i y - kL K i (kMi K) ∧ lat X K i y - kL K i (kMi K) ≤ 240 := by omega
          have w58 := w_B J (k := i) (by omega) (by omega)
          rw [c5, if_pos rfl] at w58
          have w58' : ta τ 58 i = some (-1) := by rw [ta58 (by omega) (by omega), w58]
          refine ⟨(τ1, (1, if a.1 = 0 ∨ a.2.1 < lat X K i y - kL K i (kMi K) then lat X K i y - kL K i (kMi K) else a.2.1, a.2.2.1 + (if 0 < lat X K i y - kL K i (kMi K) then lat X K i y - kL K i (kMi K) else 0), a.2.2.2 - (if 0 < lat X K i y - kL K i (kMi K) then 0 else lat X K i y - kL K i (kMi K)), ((i + 1 : Nat) : Int))), ?_, ⟨hcq.tr (q1.up (by decide) (by decide)), J1⟩, by rw [if_pos (show xOw X i = x ∧ kB K i = 300 from ⟨c4, c5⟩)]⟩
          dsimp only
          have e36 : ta τ1 56 (36 * kMi K + 28 + i) = some (kL K i (kMi K)) := by rw [ta56 (by omega) (by omega), w_L J1 (by omega) (by omega) a2.1 (Int.le_refl _)]
          have e36' : ta τ1 56 (36 * τ1.1 57 + 28 + i) = some (kL K i (kMi K)) := by rw [jm1, e36]
          clear hP hb hl h2 wx wy wz w58 e36 how ho
          generalize hvv : lat X K i y - kL K i (kMi K) = v at hv ⊢
          by_cases c6 : a.1 = 0
          · by_cases c7 : 0 < v
            · simp (disch := omega) only [↓reduceIte, Bool.false_eq_true, nrm_i, ltT, ltF, leT, leF, eqT, eqF, not_true_eq_false, not_false_eq_true, and_self, and_true, true_and, false_and, and_false, or_true, true_or, or_false, false_or, ↓btS, ↓bnS, ↓bdS, ↓jnS, ↓obS, ↓tz_K J.2.1, ↓obP how', ↓obP w58', ↓btP f1, ↓obP e36', hvv, c6, c7, Int.sub_zero]; rfl
            · simp (disch := omega) only [↓reduceIte, Bool.false_eq_true, nrm_i, ltT, ltF, leT, leF, eqT, eqF, not_true_eq_false, not_false_eq_true, and_self, and_true, true_and, false_and, and_false, or_true, true_or, or_false, false_or, ↓btS, ↓bnS, ↓bdS, ↓jnS, ↓obS, ↓tz_K J.2.1, ↓obP how', ↓obP w58', ↓btP f1, ↓obP e36', hvv, c6, c7, Int.add_zero]; rfl
          · by_cases c8 : a.2.1 < v
            · by_cases c7 : 0 < v
              · simp (disch := omega) only [↓reduceIte, Bool.false_eq_true, nrm_i, ltT, ltF, leT, leF, eqT, eqF, not_true_eq_false, not_false_eq_true, and_self, and_true, true_and, false_and, and_false, or_true, true_or, or_false, false_or, ↓btS, ↓bnS, ↓bdS, ↓jnS, ↓obS, ↓tz_K J.2.1, ↓obP how', ↓obP w58', ↓btP f1, ↓obP e36', hvv, c6, c7, c8, Int.sub_zero]; rfl
              · simp (disch := omega) only [↓reduceIte, Bool.false_eq_true, nrm_i, ltT, ltF, leT, leF, eqT, eqF, not_true_eq_false, not_false_eq_true, and_self, and_true, true_and, false_and, and_false, or_true, true_or, or_false, false_or, ↓btS, ↓bnS, ↓bdS, ↓jnS, ↓obS, ↓tz_K J.2.1, ↓obP how', ↓obP w58', ↓btP f1, ↓obP e36', hvv, c6, c7, c8, Int.add_zero]; rfl
            · by_cases c7 : 0 < v
              · simp (disch := omega) only [↓reduceIte, Bool.false_eq_true, nrm_i, ltT, ltF, leT, leF, eqT, eqF, not_true_eq_false, not_false_eq_true, and_self, and_true, true_and, false_and, and_false, or_true, true_or, or_false, false_or, ↓btS, ↓bnS, ↓bdS, ↓jnS, ↓obS, ↓tz_K J.2.1, ↓obP how', ↓obP w58', ↓btP f1, ↓obP e36', hvv, c6, c7, c8, Int.sub_zero]; rfl
              · simp (disch := omega) only [↓reduceIte, Bool.false_eq_true, nrm_i, ltT, ltF, leT, leF, eqT, eqF, not_true_eq_false, not_false_eq_true, and_self, and_true, true_and, false_and, and_false, or_true, true_or, or_false, false_or, ↓btS, ↓bnS, ↓bdS, ↓jnS, ↓obS, ↓tz_K J.2.1, ↓obP how', ↓obP w58', ↓btP f1, ↓obP e36', hvv, c6, c7, c8, Int.add_zero]; rfl
        · have w58 := w_B J (k := i) (by omega) (by omega)
          rw [if_neg c5] at w58
          have w58' : ta τ 58 i = some (kB K i) := by rw [ta58 (by omega) (by omega), w58]
          refine ⟨(τ, (a.1, a.2.1, a.2.2.1, a.2.2.2, ((i + 1 : Nat) : Int))), ?_, ⟨hcq, J⟩, by rw [if_neg (show ¬ (xOw X i = x ∧ kB K i = 300) from fun h => c5 h.2)]⟩
          simp (disch := omega) only [↓reduceIte, Bool.false_eq_true, nrm_i, ltT, ltF, leT, leF, eqT, eqF, not_true_eq_false, not_false_eq_true, and_self, and_true, true_and, false_and, and_false, or_true, true_or, or_false, false_or, ↓btS, ↓bnS, ↓bdS, ↓jnS, ↓obS, ↓tz_K J.2.1, ↓obP how', ↓obP w58']
          rfl
      · refine ⟨(τ, (a.1, a.2.1, a.2.2.1, a.2.2.2, ((i + 1 : Nat) : Int))), ?_, ⟨hcq, J⟩, by rw [if_neg (show ¬ (xOw X i = x ∧ kB K i = 300) from fun h => c4 h.1)]⟩
        simp (disch := omega) only [↓reduceIte, Bool.false_eq_true, nrm_i, ltT, ltF, leT, leF, eqT, eqF, not_true_eq_false, not_false_eq_true, and_self, and_true, true_and, false_and, and_false, or_true, true_or, or_false, false_or, ↓btS, ↓bnS, ↓bdS, ↓jnS, ↓obS, ↓tz_K J.2.1, ↓obP how']
        rfl
    · rintro n ⟨τ, q⟩ ⟨⟨hcq, J⟩, rfl⟩
      dsimp only at hcq J ⊢
      have b3 := J.2.1.1
      have hp := hP (xK X).toNat (by omega)
      refine ⟨τ, ?_, hcq⟩
      unfold jlT
      rw [f_X8_jolt_L50]
      generalize itr (jlG X K x y) (xK X).toNat (0, 0, 0, 0) = a at hp ⊢
      rcases (show z = 0 ∨ z = 1 ∨ z = 2 by omega) with rfl | rfl | rfl
      · simp (disch := omega) only [↓reduceIte, Bool.false_eq_true, nrm_i, ltT, ltF, leT, leF, eqT, eqF, not_true_eq_false, not_false_eq_true, and_self, and_true, true_and, false_and, and_false, or_true, true_or, or_false, false_or, ↓btS, ↓bnS, ↓bdS, ↓jnS, ↓obS, ↓tz_K J.2.1]
      · simp (disch := omega) only [↓reduceIte, Bool.false_eq_true, nrm_i, ltT, ltF, leT, leF, eqT, eqF, not_true_eq_false, not_false_eq_true, and_self, and_true, true_and, false_and, and_false, or_true, true_or, or_false, false_or, ↓btS, ↓bnS, ↓bdS, ↓jnS, ↓obS, ↓tz_K J.2.1]
      · simp (disch := omega) only [↓reduceIte, Bool.false_eq_true, nrm_i, ltT, ltF, leT, leF, eqT, eqF, not_true_eq_false, not_false_eq_true, and_self, and_true, true_and, false_and, and_false, or_true, true_or, or_false, false_or, ↓btS, ↓bnS, ↓bdS, ↓jnS, ↓obS, ↓tz_K J.2.1]
  · rw [if_neg G]
    refine ⟨s, ?_, chg.rf _ _ _⟩
    by_cases c1 : 0 ≤ x ∧ x < xM X
    · by_cases c2 : 0 ≤ y ∧ y ≤ 20
      · by_cases c3 : 0 ≤ z ∧ z ≤ 2
        · exact absurd ⟨c1, c2, c3⟩ G
        · simp (disch := omega) only [↓reduceIte, Bool.false_eq_true, nrm_i, ltT, ltF, leT, leF, eqT, eqF, not_true_eq_false, not_false_eq_true, and_self, and_true, true_and, false_and, and_false, or_true, true_or, or_false, false_or, ↓btS, ↓bnS, ↓bdS, ↓jnS, ↓obS, n_W hX hW, n_R hW, n_H hX hW, n_U hW, n_L hW, n_B hW, n_S hW, n_M hX, n_Ms hX, n_P, ↓ti_t, ↓ti_f, ↓tman_t hX hs, ↓tman_f hX hs, ↓troom_t hX hs, ↓troom_f hX hs, ↓tmir_t hX hs, ↓tmir_f hX hs, ↓tpas_t hn hW, ↓tpas_f hn hW, hmi, ↓pv_W Q, ↓pv_R Q, ↓pv_B Q, ↓tb52, p_W Q, p_R Q, ↓tz_R hs, ↓tz_M hs, ↓tz_K hs]
      · simp (disch := omega) only [↓reduceIte, Bool.false_eq_true, nrm_i, ltT, ltF, leT, leF, eqT, eqF, not_true_eq_false, not_false_eq_true, and_self, and_true, true_and, false_and, and_false, or_true, true_or, or_false, false_or, ↓btS, ↓bnS, ↓bdS, ↓jnS, ↓obS, n_W hX hW, n_R hW, n_H hX hW, n_U hW, n_L hW, n_B hW, n_S hW, n_M hX, n_Ms hX, n_P, ↓ti_t, ↓ti_f, ↓tman_t hX hs, ↓tman_f hX hs, ↓troom_t hX hs, ↓troom_f hX hs, ↓tmir_t hX hs, ↓tmir_f hX hs, ↓tpas_t hn hW, ↓tpas_f hn hW, hmi, ↓pv_W Q, ↓pv_R Q, ↓pv_B Q, ↓tb52, p_W Q, p_R Q, ↓tz_R hs, ↓tz_M hs, ↓tz_K hs]
    · simp (disch := omega) only [↓reduceIte, Bool.false_eq_true, nrm_i, ltT, ltF, leT, leF, eqT, eqF, not_true_eq_false, not_false_eq_true, and_self, and_true, true_and, false_and, and_false, or_true, true_or, or_false, false_or, ↓btS, ↓bnS, ↓bdS, ↓jnS, ↓obS, n_W hX hW, n_R hW, n_H hX hW, n_U hW, n_L hW, n_B hW, n_S hW, n_M hX, n_Ms hX, n_P, ↓ti_t, ↓ti_f, ↓tman_t hX hs, ↓tman_f hX hs, ↓troom_t hX hs, ↓troom_f hX hs, ↓tmir_t hX hs, ↓tmir_f hX hs, ↓tpas_t hn hW, ↓tpas_f hn hW, hmi, ↓pv_W Q, ↓pv_R Q, ↓pv_B Q, ↓tb52, p_W Q, p_R Q, ↓tz_R hs, ↓tz_M hs, ↓tz_K hs]
end
