set_option maxRecDepth 100000
set_option maxHeartbeats 4000000
section
variable {s s' : TW} {X : Txt} {K E : Crt} {β : Type}
theorem t_still (Q : TQ s X K) (hsd : kSd K = xS X) {x y : Int} (wx : wd x) (wy : wd y) : ∃ s' : TW, f_X8_still s x y = some (q_still X K x y, s') ∧ chg qk qf s s' := by
  obtain ⟨hX, hs, hn, hW⟩ := Q
  have Q : TQ s X K := ⟨hX, hs, hn, hW⟩
  have hmi := Q.mi
  have a0 := hX.1
  have a1 := hX.2.2.1
  have a4 := hX.2.2.2.1
  have a3 := hs.1
  have a2 := hW.1
  unfold f_X8_still q_still
  by_cases G : (0 ≤ x ∧ x < xR X) ∧ (0 ≤ y ∧ y ≤ kMi K)
  · rw [if_pos G]
    obtain ⟨c1, c2⟩ := G
    obtain ⟨s1, e1, J, m1, C⟩ := t_fillsAll Q hsd
    obtain ⟨hWE, hE⟩ := kEnd_ok hX hW
    refine ⟨s1, ?_, C⟩
    have lp : f_X8_still_L27 FU s1 x y 0 0 (fun s13 x3 => some (nrm x3, s13)) = some (((ms (fun k => anyN (wsP X K x y k) (tEn K)) (xK X).toNat : Nat) : Int), s1) := by
      refine loop (S := Int × Int) (fun fl q => f_X8_still_L27 fl s1 x y q.1 q.2 (fun s13 x3 => some (nrm x3, s13))) (· = some (((ms (fun k => anyN (wsP X K x y k) (tEn K)) (xK X).toNat : Nat) : Int), s1)) (fun i q => q = ((ms (fun k => anyN (wsP X K x y k) (tEn K)) i : Int), (i : Int))) (xK X).toNat ?_ ?_ (xK X).toNat 0 FU (0, 0) (by omega) (by rw [FU_eq]; omega) rfl
      · rintro fl k q hk rfl
        have hm := ms_lt8 hX (fun k => anyN (wsP X K x y k) (tEn K)) (n := k) (by omega)
        have hpw : 2 ^ k ≤ 2 ^ 7 := Nat.pow_le_pow_right (by decide) (by omega)
        have e2 : (2 : Nat) ^ ((k : Nat) : Int).toNat = 2 ^ k := by rw [Int.toNat_natCast]
        right
        refine ⟨((ms (fun k => anyN (wsP X K x y k) (tEn K)) (k + 1) : Int), ((k + 1 : Nat) : Int)), ?_, rfl⟩
        dsimp only
        rw [f_X8_still_L27, tz_K J.2.1, nrm_i (by omega) (by omega), nrm_i (by omega) (by omega), if_neg (by omega), m1]
        obtain ⟨e, p⟩ := loopI (fun f (a : Nat) i => f_X8_still_L47 f s1 x y (a : Int) (k : Int) i (fun s11 x1 x2 x3 x4 => f_X8_still_L27 fl s11 x1 x2 x3 (x4 + 1) (fun s13 x3 => some (nrm x3, s13)))) (fun a => f_X8_still_L27 fl s1 x y (a : Int) ((k : Int) + 1) (fun s13 x3 => some (nrm x3, s13))) (fun i a => if wsP X K x y k i = true then a ||| 2 ^ k else a) (fun i a => a < 256) (tEn K) (kMi K) (fl := FU) (a0 := ms (fun k => anyN (wsP X K x y k) (tEn K)) k) (by rw [FU_eq]; unfold tEn; omega) hm (fun f i a hi hp => by
            unfold tEn at hi
            rw [f_X8_still_L47, nrm_i (z := 299) (by decide) (by decide), nrm_i (z := kMi K + i) (by omega) (by omega), if_neg (by omega), tb_showsRoom J (by omega) (by omega) (by omega) (by omega) wx c2.1 (by omega)]
            have ew : (decide (shw (kEnd X K) k (kMi K + i) = y) && decide (kH (kEnd X K) k y = x)) = wsP X K x y k i := rfl
            rw [ew]
            by_cases d : wsP X K x y k i = true
            · rw [if_pos d, if_pos d, if_neg (by decide), sl1 (by omega) (by omega), e2, orI_nat _ _ (by omega) (by omega)]
              exact ⟨rfl, Nat.or_lt_two_pow (n := 8) hp (by omega)⟩
            · rw [if_neg d, if_neg d, if_pos (by decide)]
              exact ⟨rfl, hp⟩)
          (fun f a hp => by
            have e : kMi K + (tEn K : Int) = 300 := by unfold tEn; omega
            rw [f_X8_still_L47, e, if_pos (by decide)])
        rw [itr_or] at e
        refine e.trans ?_
        rw [ms]
        by_cases d : anyN (wsP X K x y k) (tEn K) = true
        · rw [if_pos d, if_pos d]; rfl
        · rw [if_neg d, if_neg d, Nat.or_zero]; rfl
      · rintro fl q rfl
        dsimp only
        have hm := ms_lt8 hX (fun k => anyN (wsP X K x y k) (tEn K)) (n := (xK X).toNat) (by omega)
        rw [f_X8_still_L27, tz_K J.2.1, nrm_i (by omega) (by omega), nrm_i (by omega) (by omega), if_pos (by omega), nrm_i (by omega) (by omega)]
    simp (disch := omega) only [↓reduceIte, Bool.false_eq_true, nrm_i, ltT, ltF, leT, leF, eqT, eqF, not_true_eq_false, not_false_eq_true, and_self, and_true, true_and, false_and, and_false, or_true, true_or, or_false, false_or, ↓btS, ↓bnS, ↓bdS, ↓jnS, ↓obS, n_W hX hW, n_R hW, n_H hX hW, n_U hW, n_L hW, n_B hW, n_S hW, n_M hX, n_Ms hX, n_P, ↓ti_t, ↓ti_f, ↓tman_t hX hs, ↓tman_f hX hs, ↓troom_t hX hs, ↓troom_f hX hs, ↓tmir_t hX hs, ↓tmir_f hX hs, ↓tpas_t hn hW, ↓tpas_f hn hW, hmi, ↓pv_W Q, ↓pv_R Q, ↓pv_B Q, ↓tb52, p_W Q, p_R Q, ↓tz_R hs, ↓tz_M hs, ↓tz_K hs, ↓btP e1, ↓lp]
  · rw [if_neg G]
    refine ⟨s, ?_, chg.rf _ _ _⟩
    by_cases c1 : 0 ≤ x ∧ x < xR X
    · by_cases c2 : 0 ≤ y ∧ y ≤ kMi K
      · exact absurd ⟨c1, c2⟩ G
      · simp (disch := omega) only [↓reduceIte, Bool.false_eq_true, nrm_i, ltT, ltF, leT, leF, eqT, eqF, not_true_eq_false, not_false_eq_true, and_self, and_true, true_and, false_and, and_false, or_true, true_or, or_false, false_or, ↓btS, ↓bnS, ↓bdS, ↓jnS, ↓obS, n_W hX hW, n_R hW, n_H hX hW, n_U hW, n_L hW, n_B hW, n_S hW, n_M hX, n_Ms hX, n_P, ↓ti_t, ↓ti_f, ↓tman_t hX hs, ↓tman_f hX hs, ↓troom_t hX hs, ↓troom_f hX hs, ↓tmir_t hX hs, ↓tmir_f hX hs, ↓tpas_t hn hW, ↓tpas_f hn hW, hmi, ↓pv_W Q, ↓pv_R Q, ↓pv_B Q, ↓tb52, p_W Q, p_R Q, ↓tz_R hs, ↓tz_M hs, ↓tz_K hs]
    · simp (disch := omega) only [↓reduceIte, Bool.false_eq_true, nrm_i, ltT, ltF, leT, leF, eqT, eqF, not_true_eq_false, not_false_eq_true, and_self, and_true, true_and, false_and, and_false, or_true, true_or, or_false, false_or, ↓btS, ↓bnS, ↓bdS, ↓jnS, ↓obS, n_W hX hW, n_R hW, n_H hX hW, n_U hW, n_L hW, n_B hW, n_S hW, n_M hX, n_Ms hX, n_P, ↓ti_t, ↓ti_f, ↓tman_t hX hs, ↓tman_f hX hs, ↓troom_t hX hs, ↓troom_f hX hs, ↓tmir_t hX hs, ↓tmir_f hX hs, ↓tpas_t hn hW, ↓tpas_f hn hW, hmi, ↓pv_W Q, ↓pv_R Q, ↓pv_B Q, ↓tb52, p_W Q, p_R Q, ↓tz_R hs, ↓tz_M hs, ↓tz_K hs]
theorem t_soonest (Q : TQ s X K) (hsd : kSd K = xS X) {x y z : Int} (wx : wd x) (wy : wd y) (wz : wd z) : ∃ s' : TW, f_X8_soonest s x y z = some (q_soonest X K x y z, s') ∧ chg qk qf s s' := by
  obtain ⟨hX, hs, hn, hW⟩ := Q
  have Q : TQ s X K := ⟨hX, hs, hn, hW⟩
  have hmi := Q.mi
  have a0 := hX.1
  have a1 := hX.2.2.1
  have a4 := hX.2.2.2.1
  have a3 := hs.1
  have a2 := hW.1
  unfold f_X8_soonest q_soonest
  by_cases G : (0 ≤ x ∧ x < xR X) ∧ (0 ≤ y ∧ y ≤ kMi K) ∧ (0 ≤ z ∧ z ≤ 1)
  · rw [if_pos G]
    obtain ⟨c1, c2, c3⟩ := G
    obtain ⟨s1, e1, J, m1, C⟩ := t_fillsAll Q hsd
    obtain ⟨hWE, hE⟩ := kEnd_ok hX hW
    refine ⟨s1, ?_, C⟩
    have lp : f_X8_soonest_L37 FU s1 x y z (kMi K) (fun s16 => some (-2, s16)) = some (if (itr (sgG X K x y) (xK X).toNat (-2, 300)).1 < 0 then (itr (sgG X K x y) (xK X).toNat (-2, 300)).1 else if z = 1 then (itr (sgG X K x y) (xK X).toNat (-2, 300)).1 else (itr (sgG X K x y) (xK X).toNat (-2, 300)).2, s1) := by
      obtain ⟨e, -⟩ := loop0 (fun fl (_ : Unit) i => f_X8_soonest_L37 fl s1 x y z i (fun s16 => some (-2, s16))) (fun _ => some (-2, s1)) (fun q => some (if z = 0 then kMi K + q.1 else (q.2 : Int), s1)) (f2d (wsP X K x y) (xK X).toNat) (fun _ _ => True) (tEn K) (kMi K) (fl := FU) (a0 := ()) (by rw [FU_eq]; unfold tEn; omega) trivial (fun fl i _ hi _ => by
          refine ⟨?_, fun _ _ => trivial⟩
          unfold tEn at hi
          try dsimp only
          rw [f_X8_soonest_L37, nrm_i (z := 299) (by decide) (by decide), nrm_i (z := kMi K + i) (by omega) (by omega), if_neg (by omega)]
          have e := loopF (fun f k => f_X8_soonest_L48 f s1 x y z (kMi K + i) k (fun s14 x1 x2 x3 x4 => f_X8_soonest_L37 fl s14 x1 x2 x3 (x4 + 1) (fun s16 => some (-2, s16)))) (f_X8_soonest_L37 fl s1 x y z (kMi K + i + 1) (fun s16 => some (-2, s16))) (fun k => some (if z = 0 then kMi K + i else (k : Int), s1)) (fun k => wsP X K x y k i) (xK X).toNat 0 (fl := FU) (by rw [FU_eq]; omega) (fun f k hk => by
              rw [f_X8_soonest_L48, Int.zero_add, tz_K J.2.1, nrm_i (z := xK X) (by omega) (by omega), nrm_i (z := (k : Int)) (by omega) (by omega), if_neg (by omega), tb_showsRoom J (by omega) (by omega) (by omega) (by omega) wx c2.1 (by omega)]
              have ew : (decide (shw (kEnd X K) k (kMi K + i) = y) && decide (kH (kEnd X K) k y = x)) = wsP X K x y k i := rfl
              rw [ew]
              by_cases d : wsP X K x y k i = true
              · rw [if_pos d, if_pos d, if_neg (by decide), nrm_i (z := z) (by omega) (by omega), nrm_i (z := kMi K + i) (by omega) (by omega)]
                by_cases d2 : z = 0
                · rw [if_neg (fun h => h d2), if_pos d2]
                · rw [if_pos d2, if_neg d2]
              · rw [if_neg d, if_neg d, if_pos (by decide)])
            (fun f => by
              rw [f_X8_soonest_L48, Int.zero_add, tz_K J.2.1, nrm_i (by omega) (by omega), nrm_i (by omega) (by omega), if_pos (by omega)])
          refine e.trans ?_
          unfold f2d
          cases fnd (fun k => wsP X K x y k i) 0 (xK X).toNat with
          | some v => rfl
          | none => rfl)
        (fun fl _ _ => by
          have e : kMi K + (tEn K : Int) = 300 := by unfold tEn; omega
          try dsimp only
          rw [f_X8_soonest_L37, e, if_pos (by decide)])
      refine e.trans ?_
      rw [sg_f2 X a2 x y]
      cases itE (f2d (wsP X K x y) (xK X).toNat) 0 (tEn K) () with
      | inl u => dsimp only; rw [if_pos (by decide)]
      | inr q =>
        dsimp only
        rw [if_neg (show ¬ ((q.2 : Nat) : Int) < 0 by omega)]
        by_cases d2 : z = 0
        · rw [if_pos d2, if_neg (by omega)]
        · rw [if_neg d2, if_pos (by omega)]
    have lp' : f_X8_soonest_L37 FU s1 x y z (s1.1 53) (fun s16 => some (-2, s16)) = some (if (itr (sgG X K x y) (xK X).toNat (-2, 300)).1 < 0 then (itr (sgG X K x y) (xK X).toNat (-2, 300)).1 else if z = 1 then (itr (sgG X K x y) (xK X).toNat (-2, 300)).1 else (itr (sgG X K x y) (xK X).toNat (-2, 300)).2, s1) := by rw [m1]; exact lp
    simp (disch := omega) only [↓reduceIte, Bool.false_eq_true, nrm_i, ltT, ltF, leT, leF, eqT, eqF, not_true_eq_false, not_false_eq_true, and_self, and_true, true_and, false_and, and_false, or_true, true_or, or_false, false_or, ↓btS, ↓bnS, ↓bdS, ↓jnS, ↓obS, n_W hX hW, n_R hW, n_H hX hW, n_U hW, n_L hW, n_B hW, n_S hW, n_M hX, n_Ms hX, n_P, ↓ti_t, ↓ti_f, ↓tman_t hX hs, ↓tman_f hX hs, ↓troom_t hX hs, ↓troom_f hX hs, ↓tmir_t hX hs, ↓tmir_f hX hs, ↓tpas_t hn hW, ↓tpas_f hn hW, hmi, ↓pv_W Q, ↓pv_R Q, ↓pv_B Q, ↓tb52, p_W Q, p_R Q, ↓tz_R hs, ↓tz_M hs, ↓tz_K hs, ↓btP e1, ↓lp']
  · rw [if_neg G]
    refine ⟨s, ?_, chg.rf _ _ _⟩
    by_cases c1 : 0 ≤ x ∧ x < xR X
    · by_cases c2 : 0 ≤ y ∧ y ≤ kMi K
      · by_cases c3 : 0 ≤ z ∧ z ≤ 1
        · exact absurd ⟨c1, c2, c3⟩ G
        · simp (disch := omega) only [↓reduceIte, Bool.false_eq_true, nrm_i, ltT, ltF, leT, leF, eqT, eqF, not_true_eq_false, not_false_eq_true, and_self, and_true, true_and, false_and, and_false, or_true, true_or, or_false, false_or, ↓btS, ↓bnS, ↓bdS, ↓jnS, ↓obS, n_W hX hW, n_R hW, n_H hX hW, n_U hW, n_L hW, n_B hW, n_S hW, n_M hX, n_Ms hX, n_P, ↓ti_t, ↓ti_f, ↓tman_t hX hs, ↓tman_f hX hs, ↓troom_t hX hs, ↓troom_f hX hs, ↓tmir_t hX hs, ↓tmir_f hX hs, ↓tpas_t hn hW, ↓tpas_f hn hW, hmi, ↓pv_W Q, ↓pv_R Q, ↓pv_B Q, ↓tb52, p_W Q, p_R Q, ↓tz_R hs, ↓tz_M hs, ↓tz_K hs]
      · simp (disch := omega) only [↓reduceIte, Bool.false_eq_true, nrm_i, ltT, ltF, leT, leF, eqT, eqF, not_true_eq_false, not_false_eq_true, and_self, and_true, true_and, false_and, and_false, or_true, true_or, or_false, false_or, ↓btS, ↓bnS, ↓bdS, ↓jnS, ↓obS, n_W hX hW, n_R hW, n_H hX hW, n_U hW, n_L hW, n_B hW, n_S hW, n_M hX, n_Ms hX, n_P, ↓ti_t, ↓ti_f, ↓tman_t hX hs, ↓tman_f hX hs, ↓troom_t hX hs, ↓troom_f hX hs, ↓tmir_t hX hs, ↓tmir_f hX hs, ↓tpas_t hn hW, ↓tpas_f hn hW, hmi, ↓pv_W Q, ↓pv_R Q, ↓pv_B Q, ↓tb52, p_W Q, p_R Q, ↓tz_R hs, ↓tz_M hs, ↓tz_K hs]
    · simp (disch := omega) only [↓reduceIte, Bool.false_eq_true, nrm_i, ltT, ltF, leT, leF, eqT, eqF, not_true_eq_false, not_false_eq_true, and_self, and_true, true_and, false_and, and_false, or_true, true_or, or_false, false_or, ↓btS, ↓bnS, ↓bdS, ↓jnS, ↓obS, n_W hX hW, n_R hW, n_H hX hW, n_U hW, n_L hW, n_B hW, n_S hW, n_M hX, n_Ms hX, n_P, ↓ti_t, ↓ti_f, ↓tman_t hX hs, ↓tman_f hX hs, ↓troom_t hX hs, ↓troom_f hX hs, ↓tmir_t hX hs, ↓tmir_f hX hs, ↓tpas_t hn hW, ↓tpas_f hn hW, hmi, ↓pv_W Q, ↓pv_R Q, ↓pv_B Q, ↓tb52, p_W Q, p_R Q, ↓tz_R hs, ↓tz_M hs, ↓tz_K hs]
theorem t_turned (Q : TQ s X K) (hsd : kSd K = xS X) {x z : Int} (wx : wd x) (wz : wd z) : ∃ s' : TW, f_X8_turned s x z = some (q_turned X K x z, s') ∧ chg qk qf s s' := by
  obtain ⟨hX, hs, hn, hW⟩ := Q
  have Q : TQ s X K := ⟨hX, hs, hn, hW⟩
  have hmi := Q.mi
  have a0 := hX.1
  have a1 := hX.2.2.1
  have a4 := hX.2.2.2.1
  have a3 := hs.1
  have a2 := hW.1
  unfold f_X8_turned q_turned
  by_cases G : (0 ≤ x ∧ x < xM X) ∧ (0 ≤ z ∧ z ≤ 1)
  · rw [if_pos G]
    obtain ⟨c1, c2⟩ := G
    obtain ⟨s1, e1, J, m1, C⟩ := t_fillsAll Q hsd
    obtain ⟨hWE, hE⟩ := kEnd_ok hX hW
    refine ⟨s1, ?_, C⟩
    have hm9 : tnS X K x < 256 := ms_lt8 hX _ (Nat.le_refl _)
    have lp : f_X8_turned_L28 FU s1 x z 0 0 (fun s13 x2 x3 => (if ¬ nrm x2 = 0 then (some (nrm x3, s13)) else (bt_ (f_X8_bits s13 x3) fun v15 s14 => some (v15, s14)))) = some (if z = 0 then pcn (tnS X K x) else (tnS X K x : Nat), s1) := by
      refine loop (S := Int × Int) (fun fl q => f_X8_turned_L28 fl s1 x z q.1 q.2 (fun s13 x2 x3 => (if ¬ nrm x2 = 0 then (some (nrm x3, s13)) else (bt_ (f_X8_bits s13 x3) fun v15 s14 => some (v15, s14))))) (· = some (if z = 0 then pcn (tnS X K x) else (tnS X K x : Int), s1)) (fun i q => q = ((ms (fun k => anyN (sbB X K x k) (tEn K)) i : Int), (i : Int))) (xK X).toNat ?_ ?_ (xK X).toNat 0 FU (0, 0) (by omega) (by rw [FU_eq]; omega) rfl
      · rintro fl k q hk rfl
        have hm := ms_lt8 hX (fun k => anyN (sbB X K x k) (tEn K)) (n := k) (by omega)
        have hpw : 2 ^ k ≤ 2 ^ 7 := Nat.pow_le_pow_right (by decide) (by omega)
        have e2 : (2 : Nat) ^ ((k : Nat) : Int).toNat = 2 ^ k := by rw [Int.toNat_natCast]
        right
        refine ⟨((ms (fun k => anyN (sbB X K x k) (tEn K)) (k + 1) : Int), ((k + 1 : Nat) : Int)), ?_, rfl⟩
        dsimp only
        rw [f_X8_turned_L28, tz_K J.2.1, nrm_i (by omega) (by omega), nrm_i (by omega) (by omega), if_neg (by omega), m1]
        obtain ⟨e, p⟩ := loopI (fun f (a : Nat) i => f_X8_turned_L48 f s1 x z (a : Int) (k : Int) i (fun s11 x1 x2 x3 x4 => f_X8_turned_L28 fl s11 x1 x2 x3 (x4 + 1) (fun s13 x2 x3 => (if ¬ nrm x2 = 0 then (some (nrm x3, s13)) else (bt_ (f_X8_bits s13 x3) fun v15 s14 => some (v15, s14)))))) (fun a => f_X8_turned_L28 fl s1 x z (a : Int) ((k : Int) + 1) (fun s13 x2 x3 => (if ¬ nrm x2 = 0 then (some (nrm x3, s13)) else (bt_ (f_X8_bits s13 x3) fun v15 s14 => some (v15, s14))))) (fun i a => if sbB X K x k i = true then a ||| 2 ^ k else a) (fun i a => a < 256) (tEn K) (kMi K) (fl := FU) (a0 := ms (fun k => anyN (sbB X K x k) (tEn K)) k) (by rw [FU_eq]; unfold tEn; omega) hm (fun f i a hi hp => by
            unfold tEn at hi
            rw [f_X8_turned_L48, nrm_i (z := 299) (by decide) (by decide), nrm_i (z := kMi K + i) (by omega) (by omega), if_neg (by omega), tb_isSeenIn J (by omega) (by omega) (by omega) (by omega) c1.1 (by omega)]
            have ew : (mSh X (kEnd X K) k (kMi K + i)).testBit x.toNat = sbB X K x k i := rfl
            rw [ew]
            by_cases d : sbB X K x k i = true
            · rw [if_pos d, if_pos d, if_neg (by decide), sl1 (by omega) (by omega), e2, orI_nat _ _ (by omega) (by omega)]
              exact ⟨rfl, Nat.or_lt_two_pow (n := 8) hp (by omega)⟩
            · rw [if_neg d, if_neg d, if_pos (by decide)]
              exact ⟨rfl, hp⟩)
          (fun f a hp => by
            have e : kMi K + (tEn K : Int) = 300 := by unfold tEn; omega
            rw [f_X8_turned_L48, e, if_pos (by decide)])
        rw [itr_or] at e
        refine e.trans ?_
        rw [ms]
        by_cases d : anyN (sbB X K x k) (tEn K) = true
        · rw [if_pos d, if_pos d]; rfl
        · rw [if_neg d, if_neg d, Nat.or_zero]; rfl
      · rintro fl q rfl
        dsimp only
        rw [f_X8_turned_L28, tz_K J.2.1, nrm_i (by omega) (by omega), nrm_i (by omega) (by omega), if_pos (by omega), nrm_i (z := z) (by omega) (by omega)]
        by_cases d : z = 0
        · rw [if_neg (fun h => h d), if_pos d]
          exact tb_bits hm9 _
        · rw [if_pos d, if_neg d]
          show some (nrm ((tnS X K x : Nat) : Int), s1) = _
          rw [nrm_i (by omega) (by omega)]
    simp (disch := omega) only [↓reduceIte, Bool.false_eq_true, nrm_i, ltT, ltF, leT, leF, eqT, eqF, not_true_eq_false, not_false_eq_true, and_self, and_true, true_and, false_and, and_false, or_true, true_or, or_false, false_or, ↓btS, ↓bnS, ↓bdS, ↓jnS, ↓obS, n_W hX hW, n_R hW, n_H hX hW, n_U hW, n_L hW, n_B hW, n_S hW, n_M hX, n_Ms hX, n_P, ↓ti_t, ↓ti_f, ↓tman_t hX hs, ↓tman_f hX hs, ↓troom_t hX hs, ↓troom_f hX hs, ↓tmir_t hX hs, ↓tmir_f hX hs, ↓tpas_t hn hW, ↓tpas_f hn hW, hmi, ↓pv_W Q, ↓pv_R Q, ↓pv_B Q, ↓tb52, p_W Q, p_R Q, ↓tz_R hs, ↓tz_M hs, ↓tz_K hs, ↓btP e1, ↓lp]
  · rw [if_neg G]
    refine ⟨s, ?_, chg.rf _ _ _⟩
    by_cases c1 : 0 ≤ x ∧ x < xM X
    · by_cases c2 : 0 ≤ z ∧ z ≤ 1
      · exact absurd ⟨c1, c2⟩ G
      · simp (disch := omega) only [↓reduceIte, Bool.false_eq_true, nrm_i, ltT, ltF, leT, leF, eqT, eqF, not_true_eq_false, not_false_eq_true, and_self, and_true, true_and, false_and, and_false, or_true, true_or, or_false, false_or, ↓btS, ↓bnS, ↓bdS, ↓jnS, ↓obS, n_W hX hW, n_R hW, n_H hX hW, n_U hW, n_L hW, n_B hW, n_S hW, n_M hX, n_Ms hX, n_P, ↓ti_t, ↓ti_f, ↓tman_t hX hs, ↓tman_f hX hs, ↓troom_t hX hs, ↓troom_f hX hs, ↓tmir_t hX hs, ↓tmir_f hX hs, ↓tpas_t hn hW, ↓tpas_f hn hW, hmi, ↓pv_W Q, ↓pv_R Q, ↓pv_B Q, ↓tb52, p_W Q, p_R Q, ↓tz_R hs, ↓tz_M hs, ↓tz_K hs]
    · simp (disch := omega) only [↓reduceIte, Bool.false_eq_true, nrm_i, ltT, ltF, leT, leF, eqT, eqF, not_true_eq_false, not_false_eq_true, and_self, and_true, true_and, false_and, and_false, or_true, true_or, or_false, false_or, ↓btS, ↓bnS, ↓bdS, ↓jnS, ↓obS, n_W hX hW, n_R hW, n_H hX hW, n_U hW, n_L hW, n_B hW, n_S hW, n_M hX, n_Ms hX, n_P, ↓ti_t, ↓ti_f, ↓tman_t hX hs, ↓tman_f hX hs, ↓troom_t hX hs, ↓troom_f hX hs, ↓tmir_t hX hs, ↓tmir_f hX hs, ↓tpas_t hn hW, ↓tpas_f hn hW, hmi, ↓pv_W Q, ↓pv_R Q, ↓pv_B Q, ↓tb52, p_W Q, p_R Q, ↓tz_R hs, ↓tz_M hs, ↓tz_K hs]
theorem tlo_t {n : Int} (h0 : 0 ≤ n) (h1 : n ≤ 299) (f : Int → TW → Option β) : bt_ (f_X8_isLong s n) f = f 1 s := by
  refine btP ?_ f
  unfold f_X8_isLong
  simp (disch := omega) only [↓reduceIte, Bool.false_eq_true, nrm_i, ltT, ltF, leT, leF, eqT, eqF, not_true_eq_false, not_false_eq_true, and_self, and_true, true_and, false_and, and_false, or_true, true_or, or_false, false_or, ↓btS, ↓bnS, ↓bdS, ↓jnS, ↓obS, ↓ti_t]
theorem tlo_f {n : Int} (h0 : n < 0 ∨ 299 < n) (h1 : -2147483648 ≤ n) (h2 : n ≤ 2147483647) (f : Int → TW → Option β) : bt_ (f_X8_isLong s n) f = f 0 s := by
  refine btP ?_ f
  unfold f_X8_isLong
  simp (disch := omega) only [↓reduceIte, Bool.false_eq_true, nrm_i, ltT, ltF, leT, leF, eqT, eqF, not_true_eq_false, not_false_eq_true, and_self, and_true, true_and, false_and, and_false, or_true, true_or, or_false, false_or, ↓btS, ↓bnS, ↓bdS, ↓jnS, ↓obS, ↓ti_f]
theorem t_willBe (Q : TQ s X K) (hsd : kSd K = xS X) {x n : Int} (wx : wd x) (wn : wd n) : ∃ s' : TW, f_X8_willBe s x n = some (q_willBe X K x n, s') ∧ chg qk qf s s' := by
  obtain ⟨hX, hs, hn, hW⟩ := Q
  have Q : TQ s X K := ⟨hX, hs, hn, hW⟩
  have hmi := Q.mi
  have a0 := hX.1
  have a1 := hX.2.2.1
  have a4 := hX.2.2.2.1
  have a3 := hs.1
  have a2 := hW.1
  obtain ⟨s1, e1, J, l1, C⟩ := Q.copies
  have C := C.up (ks' := qk) (fs' := qf) (by decide) (by decide)
  have b3 := J.2.1.1
  have jmi := J.mi
  unfold f_X8_willBe q_willBe
  by_cases G : (0 ≤ x ∧ x < xM X) ∧ (0 ≤ n ∧ n ≤ 299)
  · rw [if_pos G]
    obtain ⟨c1, c2⟩ := G
    obtain ⟨s2, e2, J2, C2⟩ := t_till J (l1.trans hsd.symm) (n := n) c2.1 (by omega)
    have hr := rn_ok hX hW (n := n) c2.1
    have m53 : s1.1 53 = kMi K := (C.2 53 (by decide)).trans hmi
    have j2 := J2.mi
    have e3 : ∀ {β : Type} (f : Unit → TW → Option β), bt_ (f_X8_goesTill s1 (s1.1 53 + n)) f = f () s2 := fun f => by rw [m53]; exact btP e2 f
    have e4 : ∀ {β : Type} (f : Int → Option β), (ta s2 56 (36 * s2.1 57 + x)).bind f = f (kW (rn X (rnN K n) K) x (kMi K + rnN K n)) := fun f => by
      rw [j2, hr.2]
      exact tv_W J2 c1.1 c1.2 (by omega) (by omega) f
    refine ⟨s2, ?_, C.tr (C2.up (by decide) (by decide))⟩
    simp (disch := omega) only [↓reduceIte, Bool.false_eq_true, nrm_i, ltT, ltF, leT, leF, eqT, eqF, not_true_eq_false, not_false_eq_true, and_self, and_true, true_and, false_and, and_false, or_true, true_or, or_false, false_or, ↓btS, ↓bnS, ↓bdS, ↓jnS, ↓obS, n_W hX hW, n_R hW, n_H hX hW, n_U hW, n_L hW, n_B hW, n_S hW, n_M hX, n_Ms hX, n_P, ↓ti_t, ↓ti_f, ↓tman_t hX hs, ↓tman_f hX hs, ↓troom_t hX hs, ↓troom_f hX hs, ↓tmir_t hX hs, ↓tmir_f hX hs, ↓tpas_t hn hW, ↓tpas_f hn hW, hmi, ↓pv_W Q, ↓pv_R Q, ↓pv_B Q, ↓tb52, p_W Q, p_R Q, ↓tz_R hs, ↓tz_M hs, ↓tz_K hs, ↓tlo_t, ↓btP e1, ↓e3, ↓e4]
  · rw [if_neg G]
    refine ⟨s, ?_, chg.rf _ _ _⟩
    by_cases c1 : 0 ≤ x ∧ x < xM X
    · by_cases c2 : 0 ≤ n ∧ n ≤ 299
      · exact absurd ⟨c1, c2⟩ G
      · simp (disch := omega) only [↓reduceIte, Bool.false_eq_true, nrm_i, ltT, ltF, leT, leF, eqT, eqF, not_true_eq_false, not_false_eq_true, and_self, and_true, true_and, false_and, and_false, or_true, true_or, or_false, false_or, ↓btS, ↓bnS, ↓bdS, ↓jnS, ↓obS, n_W hX hW, n_R hW, n_H hX hW, n_U hW, n_L hW, n_B hW, n_S hW, n_M hX, n_Ms hX, n_P, ↓ti_t, ↓ti_f, ↓tman_t hX hs, ↓tman_f hX hs, ↓troom_t hX hs, ↓troom_f hX hs, ↓tmir_t hX hs, ↓tmir_f hX hs, ↓tpas_t hn hW, ↓tpas_f hn hW, hmi, ↓pv_W Q, ↓pv_R Q, ↓pv_B Q, ↓tb52, p_W Q, p_R Q, ↓tz_R hs, ↓tz_M hs, ↓tz_K hs, ↓tlo_t, ↓tlo_f]
    · simp (disch := omega) only [↓reduceIte, Bool.false_eq_true, nrm_i, ltT, ltF, leT, leF, eqT, eqF, not_true_eq_false, not_false_eq_true, and_self, and_true, true_and, false_and, and_false, or_true, true_or, or_false, false_or, ↓btS, ↓bnS, ↓bdS, ↓jnS, ↓obS, n_W hX hW, n_R hW, n_H hX hW, n_U hW, n_L hW, n_B hW, n_S hW, n_M hX, n_Ms hX, n_P, ↓ti_t, ↓ti_f, ↓tman_t hX hs, ↓tman_f hX hs, ↓troom_t hX hs, ↓troom_f hX hs, ↓tmir_t hX hs, ↓tmir_f hX hs, ↓tpas_t hn hW, ↓tpas_f hn hW, hmi, ↓pv_W Q, ↓pv_R Q, ↓pv_B Q, ↓tb52, p_W Q, p_R Q, ↓tz_R hs, ↓tz_M hs, ↓tz_K hs, ↓tlo_t, ↓tlo_f]
theorem t_seen (Q : TQ s X K) (hsd : kSd K = xS X) {x n : Int} (wx : wd x) (wn : wd n) : ∃ s' : TW, f_X8_seen s x n = some (q_seen X K x n, s') ∧ chg qk qf s s' := by
  obtain ⟨hX, hs, hn, hW⟩ := Q
  have Q : TQ s X K := ⟨hX, hs, hn, hW⟩
  have hmi := Q.mi
  have a0 := hX.1
  have a1 := hX.2.2.1
  have a4 := hX.2.2.2.1
  have a3 := hs.1
  have a2 := hW.1
  obtain ⟨s1, e1, J, l1, C⟩ := Q.copies
  have C := C.up (ks' := qk) (fs' := qf) (by decide) (by decide)
  have b3 := J.2.1.1
  have jmi := J.mi
  unfold f_X8_seen q_seen
  by_cases G : (0 ≤ x ∧ x < xM X) ∧ (0 ≤ n ∧ n ≤ 299)
  · rw [if_pos G]
    obtain ⟨c1, c2⟩ := G
    obtain ⟨s2, e2, J2, C2⟩ := t_till J (l1.trans hsd.symm) (n := n) c2.1 (by omega)
    have hr := rn_ok hX hW (n := n) c2.1
    have m53 : s1.1 53 = kMi K := (C.2 53 (by decide)).trans hmi
    have m53' : s2.1 53 = kMi K := (C2.2 53 (by decide)).trans m53
    have j2 : s2.1 57 = kMi K + rnN K n := J2.mi.trans hr.2
    have e3 : ∀ {β : Type} (f : Unit → TW → Option β), bt_ (f_X8_goesTill s1 (s1.1 53 + n)) f = f () s2 := fun f => by rw [m53]; exact btP e2 f
    have hN := rnN_in hW (n := n) c2.1
    have hms : ∀ k i : Nat, (k : Int) < xK X → i ≤ rnN K n → mSh X (rn X (rnN K n) K) k (kMi K + i) = mSh X (kEnd X K) k (kMi K + i) := by
      intro k i hk hi
      have e : kEnd X K = rn X (rnN K 300 - rnN K n) (rn X (rnN K n) K) := by
        unfold kEnd
        rw [← rn_add]
        congr 1
        unfold rnN
        omega
      rw [e]
      refine (rn_mSh hX _ _ hr.1 ?_ (by omega) hk (by omega) (by omega)).symm
      rw [hr.2]
      unfold rnN
      omega
    refine ⟨s2, ?_, C.tr (C2.up (by decide) (by decide))⟩
    have lp : f_X8_seen_L39 FU s2 x 0 (kMi K) (fun s14 x3 => some (nrm x3, s14)) = some (sm (fun k => sm (sb X K x k) (rnN K n + 1)) (xK X).toNat, s2) := by
      rw [sm_swap]
      obtain ⟨e, p⟩ := loopI (fun fl (a : Int) i => f_X8_seen_L39 fl s2 x a i (fun s14 x3 => some (nrm x3, s14))) (fun a => some (nrm a, s2)) (fun i a => a + sm (fun k => sb X K x k i) (xK X).toNat) (fun i a => 0 ≤ a ∧ a ≤ 8 * i) (rnN K n + 1) (kMi K) (fl := FU) (a0 := 0) (by rw [FU_eq]; omega) ⟨by decide, by decide⟩ (fun fl i a hi hp => by
          have hb := sm_in (fun k => sb X K x k i) (fun k => sb_in X K x k i) (xK X).toNat
          refine ⟨?_, by omega⟩
          try dsimp only
          rw [f_X8_seen_L39, j2, nrm_i (by omega) (by omega), nrm_i (by omega) (by omega), if_neg (by omega)]
          obtain ⟨e, p⟩ := loopI (fun f (a : Int) k => f_X8_seen_L51 f s2 x a (kMi K + i) k (fun s12 x1 x3 x4 => f_X8_seen_L39 fl s12 x1 x3 (x4 + 1) (fun s14 x3 => some (nrm x3, s14)))) (fun a => f_X8_seen_L39 fl s2 x a (kMi K + i + 1) (fun s14 x3 => some (nrm x3, s14))) (fun k a => a + sb X K x k i) (fun k a => 0 ≤ a ∧ a ≤ 8 * i + k) (xK X).toNat 0 (fl := FU) (a0 := a) (by rw [FU_eq]; omega) ⟨hp.1, by omega⟩ (fun f k a hk hp => by
              have hb := sb_in X K x k i
              refine ⟨?_, by omega⟩
              have ew : (mSh X (rn X (rnN K n) K) k (kMi K + i)).testBit x.toNat = sbB X K x k i := by rw [hms k i (by omega) (by omega)]; rfl
              have es : sb X K x k i = if sbB X K x k i = true then 1 else 0 := rfl
              rw [f_X8_seen_L51, Int.zero_add, tz_K J2.2.1, nrm_i (by omega) (by omega), nrm_i (by omega) (by omega), if_neg (by omega), tb_isSeenIn J2 (by omega) (by omega) (by omega) (by omega) c1.1 (by omega), ew]
              by_cases d : sbB X K x k i = true
              · rw [if_pos d] at es
                rw [if_pos d, if_neg (by decide), es]
              · rw [if_neg d] at es
                rw [if_neg d, if_pos (by decide), es, Int.add_zero])
            (fun f a hp => by
              rw [f_X8_seen_L51, tz_K J2.2.1, nrm_i (by omega) (by omega), nrm_i (by omega) (by omega), if_pos (by omega)])
          rw [itr_sm] at e
          exact e)
        (fun fl a hp => by
          try dsimp only
          rw [f_X8_seen_L39, j2, nrm_i (by omega) (by omega), nrm_i (by omega) (by omega), if_pos (by omega)])
      refine e.trans ?_
      rw [nrm_i (by omega) (by omega)]
      rfl
    have lp' : f_X8_seen_L39 FU s2 x 0 (s2.1 53) (fun s14 x3 => some (nrm x3, s14)) = some (sm (fun k => sm (sb X K x k) (rnN K n + 1)) (xK X).toNat, s2) := by rw [m53']; exact lp
    clear hms
    simp (disch := omega) only [↓reduceIte, Bool.false_eq_true, nrm_i, ltT, ltF, leT, leF, eqT, eqF, not_true_eq_false, not_false_eq_true, and_self, and_true, true_and, false_and, and_false, or_true, true_or, or_false, false_or, ↓btS, ↓bnS, ↓bdS, ↓jnS, ↓obS, n_W hX hW, n_R hW, n_H hX hW, n_U hW, n_L hW, n_B hW, n_S hW, n_M hX, n_Ms hX, n_P, ↓ti_t, ↓ti_f, ↓tman_t hX hs, ↓tman_f hX hs, ↓troom_t hX hs, ↓troom_f hX hs, ↓tmir_t hX hs, ↓tmir_f hX hs, ↓tpas_t hn hW, ↓tpas_f hn hW, hmi, ↓pv_W Q, ↓pv_R Q, ↓pv_B Q, ↓tb52, p_W Q, p_R Q, ↓tz_R hs, ↓tz_M hs, ↓tz_K hs, ↓tlo_t, ↓btP e1, ↓e3, ↓lp']
  · rw [if_neg G]
    refine ⟨s, ?_, chg.rf _ _ _⟩
    by_cases c1 : 0 ≤ x ∧ x < xM X
    · by_cases c2 : 0 ≤ n ∧ n ≤ 299
      · exact absurd ⟨c1, c2⟩ G
      · simp (disch := omega) only [↓reduceIte, Bool.false_eq_true, nrm_i, ltT, ltF, leT, leF, eqT, eqF, not_true_eq_false, not_false_eq_true, and_self, and_true, true_and, false_and, and_false, or_true, true_or, or_false, false_or, ↓btS, ↓bnS, ↓bdS, ↓jnS, ↓obS, n_W hX hW, n_R hW, n_H hX hW, n_U hW, n_L hW, n_B hW, n_S hW, n_M hX, n_Ms hX, n_P, ↓ti_t, ↓ti_f, ↓tman_t hX hs, ↓tman_f hX hs, ↓troom_t hX hs, ↓troom_f hX hs, ↓tmir_t hX hs, ↓tmir_f hX hs, ↓tpas_t hn hW, ↓tpas_f hn hW, hmi, ↓pv_W Q, ↓pv_R Q, ↓pv_B Q, ↓tb52, p_W Q, p_R Q, ↓tz_R hs, ↓tz_M hs, ↓tz_K hs, ↓tlo_t, ↓tlo_f]
    · simp (disch := omega) only [↓reduceIte, Bool.false_eq_true, nrm_i, ltT, ltF, leT, leF, eqT, eqF, not_true_eq_false, not_false_eq_true, and_self, and_true, true_and, false_and, and_false, or_true, true_or, or_false, false_or, ↓btS, ↓bnS, ↓bdS, ↓jnS, ↓obS, n_W hX hW, n_R hW, n_H hX hW, n_U hW, n_L hW, n_B hW, n_S hW, n_M hX, n_Ms hX, n_P, ↓ti_t, ↓ti_f, ↓tman_t hX hs, ↓tman_f hX hs, ↓troom_t hX hs, ↓troom_f hX hs, ↓tmir_t hX hs, ↓tmir_f hX hs, ↓tpas_t hn hW, ↓tpas_f hn hW, hmi, ↓pv_W Q, ↓pv_R Q, ↓pv_B Q, ↓tb52, p_W Q, p_R Q, ↓tz_R hs, ↓tz_M hs, ↓tz_K hs, ↓tlo_t, ↓tlo_f]
theorem t_odds (Q : TQ s X K) {x n z : Int} (wx : wd x) (wn : wd n) (wz : wd z) : ∃ s' : TW, f_X8_odds s x n z = some (q_odds X K x n z, s') ∧ chg qk qf s s' := by
  obtain ⟨hX, hs, hn, hW⟩ := Q
  have Q : TQ s X K := ⟨hX, hs, hn, hW⟩
  have hmi := Q.mi
  have a0 := hX.1
  have a1 := hX.2.2.1
  have a4 := hX.2.2.2.1
  have a3 := hs.1
  have a2 := hW.1
  unfold f_X8_odds q_odds
  by_cases G : (0 ≤ x ∧ x < xK X) ∧ (0 ≤ n ∧ n ≤ 299) ∧ (1 ≤ z ∧ z ≤ 10)
  · rw [if_pos G]
    obtain ⟨c1, c2, c3⟩ := G
    have hod : ∀ i : Nat, 0 ≤ odF X K x n i ∧ odF X K x n i ≤ 1 := fun i => by unfold odF; split <;> decide
    have lp : ∃ s' : TW, f_X8_odds_L33 FU s x n z 0 0 (fun s13 x4 => some (nrm x4, s13)) = some (sm (odF X K x n) z.toNat, s') ∧ chg qk qf s s' := by
      refine loop (S := TW × Int × Int) (fun fl q => f_X8_odds_L33 fl q.1 x n z q.2.1 q.2.2 (fun s13 x4 => some (nrm x4, s13))) (fun w => ∃ s' : TW, w = some (sm (odF X K x n) z.toNat, s') ∧ chg qk qf s s')
        (fun i q => chg qk qf s q.1 ∧ q.2 = (sm (odF X K x n) i, (i : Int))) z.toNat ?_ ?_ z.toNat 0 FU (s, 0, 0) (by omega) (by rw [FU_eq]; omega) ⟨chg.rf _ _ _, rfl⟩
      · rintro fl i ⟨τ, q⟩ hi ⟨hq, rfl⟩
        dsimp only at hq ⊢
        have Q0 := Q.chg hq
        have hs2 := sm_in (odF X K x n) hod i
        have a6 := hX.2.2.2.2.2.1
        obtain ⟨s1, e1, J, l1, C⟩ := Q0.copies
        have Cw := (chg.rf [] [60] s1).tp (k := 60) (by decide) (xS X + i)
        have Jw : TI (tp s1 60 (xS X + i)) X (setSd K (xS X + i)) := J.chg Cw (by decide) (by decide) (by decide) (by decide)
        obtain ⟨s2, e2, J2, C2⟩ := t_till Jw (tp_eq _ _ _) (n := n) c2.1 (by omega)
        have hN : rnN (setSd K (xS X + i)) n = rnN K n := rfl
        have hM : kMi (setSd K (xS X + i)) = kMi K := rfl
        rw [hN] at J2
        rw [hM] at e2
        have m53 : (tp s1 60 (xS X + i)).1 53 = kMi K := (Cw.2 53 (by decide)).trans ((C.2 53 (by decide)).trans Q0.mi)
        have hCC : chg qk qf s s2 := ((hq.tr (C.up (by decide) (by decide))).tr (Cw.up (by decide) (by decide))).tr (C2.up (by decide) (by decide))
        have eo : odF X K x n i = if kB (rn X (rnN K n) (setSd K (xS X + i))) x = 300 then 0 else 1 := rfl
        have hr := rn_ok hX (K := setSd K (xS X + i)) hW (n := n) c2.1
        rw [hN] at hr
        have hb := (hr.1.2.2.2 x c1.1 c1.2).1
        have a9 := hr.1.1
        right
        rw [f_X8_odds_L33, nrm_i (z := z) (by omega) (by omega), nrm_i (z := (i : Int)) (by omega) (by omega), if_neg (by omega), btP e1, bdS, l1, nrm_i (z := xS X + i) (by omega) (by omega), m53, btP e2, tv_B J2 c1.1 c1.2]
        by_cases d : kB (rn X (rnN K n) (setSd K (xS X + i))) x = 300
        · rw [if_pos d] at eo
          refine ⟨(s2, sm (odF X K x n) i, ((i + 1 : Nat) : Int)), ?_, hCC, by rw [sm_s, eo, Int.add_zero]⟩
          rw [if_pos d, if_pos rfl]
          rfl
        · rw [if_neg d] at eo
          refine ⟨(s2, sm (odF X K x n) i + 1, ((i + 1 : Nat) : Int)), ?_, hCC, by rw [sm_s, eo]⟩
          rw [if_neg d, nrm_i (by omega) (by omega), nrm_i (z := -1) (by decide) (by decide), if_neg (by omega)]
          rfl
      · rintro fl ⟨τ, q⟩ ⟨hq, rfl⟩
        dsimp only at hq ⊢
        have hs2 := sm_in (odF X K x n) hod z.toNat
        refine ⟨τ, ?_, hq⟩
        rw [f_X8_odds_L33, nrm_i (by omega) (by omega), nrm_i (by omega) (by omega), if_pos (by omega), nrm_i (by omega) (by omega)]
    obtain ⟨s', e9, q9⟩ := lp
    refine ⟨s', ?_, q9⟩
    clear hod
    simp (disch := omega) only [↓reduceIte, Bool.false_eq_true, nrm_i, ltT, ltF, leT, leF, eqT, eqF, not_true_eq_false, not_false_eq_true, and_self, and_true, true_and, false_and, and_false, or_true, true_or, or_false, false_or, ↓btS, ↓bnS, ↓bdS, ↓jnS, ↓obS, n_W hX hW, n_R hW, n_H hX hW, n_U hW, n_L hW, n_B hW, n_S hW, n_M hX, n_Ms hX, n_P, ↓ti_t, ↓ti_f, ↓tman_t hX hs, ↓tman_f hX hs, ↓troom_t hX hs, ↓troom_f hX hs, ↓tmir_t hX hs, ↓tmir_f hX hs, ↓tpas_t hn hW, ↓tpas_f hn hW, hmi, ↓pv_W Q, ↓pv_R Q, ↓pv_B Q, ↓tb52, p_W Q, p_R Q, ↓tz_R hs, ↓tz_M hs, ↓tz_K hs, ↓tlo_t, ↓e9]
  · rw [if_neg G]
    refine ⟨s, ?_, chg.rf _ _ _⟩
    by_cases c1 : 0 ≤ x ∧ x < xK X
    · by_cases c2 : 0 ≤ n ∧ n ≤ 299
      · by_cases c3 : 1 ≤ z ∧ z ≤ 10
        · exact absurd ⟨c1, c2, c3⟩ G
        · simp (disch := omega) only [↓reduceIte, Bool.false_eq_true, nrm_i, ltT, ltF, leT, leF, eqT, eqF, not_true_eq_false, not_false_eq_true, and_self, and_true, true_and, false_and, and_false, or_true, true_or, or_false, false_or, ↓btS, ↓bnS, ↓bdS, ↓jnS, ↓obS, n_W hX hW, n_R hW, n_H hX hW, n_U hW, n_L hW, n_B hW, n_S hW, n_M hX, n_Ms hX, n_P, ↓ti_t, ↓ti_f, ↓tman_t hX hs, ↓tman_f hX hs, ↓troom_t hX hs, ↓troom_f hX hs, ↓tmir_t hX hs, ↓tmir_f hX hs, ↓tpas_t hn hW, ↓tpas_f hn hW, hmi, ↓pv_W Q, ↓pv_R Q, ↓pv_B Q, ↓tb52, p_W Q, p_R Q, ↓tz_R hs, ↓tz_M hs, ↓tz_K hs, ↓tlo_t, ↓tlo_f]
      · simp (disch := omega) only [↓reduceIte, Bool.false_eq_true, nrm_i, ltT, ltF, leT, leF, eqT, eqF, not_true_eq_false, not_false_eq_true, and_self, and_true, true_and, false_and, and_false, or_true, true_or, or_false, false_or, ↓btS, ↓bnS, ↓bdS, ↓jnS, ↓obS, n_W hX hW, n_R hW, n_H hX hW, n_U hW, n_L hW, n_B hW, n_S hW, n_M hX, n_Ms hX, n_P, ↓ti_t, ↓ti_f, ↓tman_t hX hs, ↓tman_f hX hs, ↓troom_t hX hs, ↓troom_f hX hs, ↓tmir_t hX hs, ↓tmir_f hX hs, ↓tpas_t hn hW, ↓tpas_f hn hW, hmi, ↓pv_W Q, ↓pv_R Q, ↓pv_B Q, ↓tb52, p_W Q, p_R Q, ↓tz_R hs, ↓tz_M hs, ↓tz_K hs, ↓tlo_t, ↓tlo_f]
    · simp (disch := omega) only [↓reduceIte, Bool.false_eq_true, nrm_i, ltT, ltF, leT, leF, eqT, eqF, not_true_eq_false, not_false_eq_true, and_self, and_true, true_and, false_and, and_false, or_true, true_or, or_false, false_or, ↓btS, ↓bnS, ↓bdS, ↓jnS, ↓obS, n_W hX hW, n_R hW, n_H hX hW, n_U hW, n_L hW, n_B hW, n_S hW, n_M hX, n_Ms hX, n_P, ↓ti_t, ↓ti_f, ↓tman_t hX hs, ↓tman_f hX hs, ↓troom_t hX hs, ↓troom_f hX hs, ↓tmir_t hX hs, ↓tmir_f hX hs, ↓tpas_t hn hW, ↓tpas_f hn hW, hmi, ↓pv_W Q, ↓pv_R Q, ↓pv_B Q, ↓tb52, p_W Q, p_R Q, ↓tz_R hs, ↓tz_M hs, ↓tz_K hs, ↓tlo_t, ↓tlo_f]
end
