set_option maxRecDepth 100000
set_option maxHeartbeats 4000000
section
variable {Z : Nat → Prop} {σ σ' τ : Hp} {o r a : Nat} {X : Txt} {K E : Crt} {β : Type}
theorem hb_shownIn (T : TR Z τ o r X K (kEnd X K)) {m n : Int} {k : Nat} (k1 : (k : Int) < xK X) (m0 : 0 ≤ m) (m1 : m < xM X) (n0 : kMi K ≤ n) (n1 : n ≤ 1000) (f : Int → Hp → Option β) : bn (f_X0_shownIn τ o k m n) f = f (sm (sb X K m k) (min (n + 1 - kMi K) (300 - kMi K)).toNat) τ := by
  obtain ⟨I, J⟩ := T
  have J0 := I.ci
  have hO := I.1
  have hc := hO.trial
  have hX := I.2.2.2.2.1
  have hW0 := I.2.2.2.2.2
  have a4 := hX.2.2.2.1
  have a1 := hX.2.2.1
  obtain ⟨hW, hE⟩ := kEnd_ok hX hW0
  have a2 := hW0.1
  refine bnP ?_ f
  unfold f_X0_shownIn
  rw [o_g7 hO, cb_mi J0]
  obtain ⟨e, p⟩ := loopI (fun fl (a : Int) i => f_X0_shownIn_L12 o fl τ k m n a i (fun s10 x4 => some (nrm x4, s10))) (fun a => some (nrm a, τ)) (fun i a => a + sb X K m k i) (fun i a => 0 ≤ a ∧ a ≤ i) (min (n + 1 - kMi K) (300 - kMi K)).toNat (kMi K) (fl := FU) (a0 := 0) (by rw [FU_eq]; omega) ⟨by decide, by decide⟩ (fun fl i a hi hp => by
      have hb := sb_in X K m k i
      refine ⟨?_, by omega⟩
      have hm := mSh_lt (K := kEnd X K) hX (k : Int) (kMi K + i)
      have e : anI (srI (mSh X (kEnd X K) k (kMi K + i) : Int) m) 1 = sb X K m k i := srb m0 (by omega) (by omega)
      rw [f_X0_shownIn_L12, nrm_i (z := n) (by omega) (by omega), nrm_i (z := kMi K + i) (by omega) (by omega), if_neg (by omega), nrm_i (z := 300) (by decide) (by decide), if_neg (by omega), o_g8 hO, o_g3 hO, c_ob hc, hb_menShown J (by omega) k1 (by omega) (by omega), e])
    (fun fl a hp => by
      rw [f_X0_shownIn_L12, nrm_i (z := n) (by omega) (by omega), nrm_i (z := kMi K + ((min (n + 1 - kMi K) (300 - kMi K)).toNat : Nat)) (by omega) (by omega), nrm_i (z := 300) (by decide) (by decide)]
      by_cases d : n < kMi K + ((min (n + 1 - kMi K) (300 - kMi K)).toNat : Nat)
      · rw [if_pos d]
      · rw [if_neg d, if_pos (by omega)])
  exact e.trans (by rw [nrm_i (by omega) (by omega)]; rfl)
theorem h_seen (I : QI Z σ o r X K) {x n : Int} (wx : wd x) (wn : wd n) : ∃ σ' : Hp, f_X0_seen σ o x n = some (q_seen X K x n, σ') ∧ chgQ o σ σ' := by
  obtain ⟨hO, hx, hZ, hK, hX, hW⟩ := I
  have I : QI Z σ o r X K := ⟨hO, hx, hZ, hK, hX, hW⟩
  have J := I.ci
  have hc := hO.court
  have a0 := hX.1
  have a1 := hX.2.2.1
  have a4 := hX.2.2.2.1
  have a2 := hW.1
  unfold f_X0_seen q_seen
  by_cases G : (0 ≤ x ∧ x < xM X) ∧ (0 ≤ n ∧ n ≤ 299)
  · rw [if_pos G]
    obtain ⟨c1, c2⟩ := G
    obtain ⟨σ1, e1, J1, q1⟩ := h_goesToEnd I
    have T : TR Z σ1 o r X K (kEnd X K) := ⟨I.chg q1, J1⟩
    refine ⟨σ1, ?_, q1⟩
    have e3 : (min (kMi K + n + 1 - kMi K) (300 - kMi K)).toNat = rnN K n + 1 := by unfold rnN; omega
    have lp : f_X0_seen_L30 o FU σ1 x n 0 0 (fun s17 x3 => some (nrm x3, s17)) = some (sm (fun k => sm (sb X K x k) (rnN K n + 1)) (xK X).toNat, σ1) := by
      obtain ⟨e, p⟩ := loopI (fun fl (a : Int) i => f_X0_seen_L30 o fl σ1 x n a i (fun s17 x3 => some (nrm x3, s17))) (fun a => some (nrm a, σ1)) (fun k a => a + sm (sb X K x k) (rnN K n + 1)) (fun i a => 0 ≤ a ∧ a ≤ 300 * i) (xK X).toNat 0 (fl := FU) (a0 := 0) (by rw [FU_eq]; omega) ⟨by decide, by decide⟩ (fun fl i a hi hp => by
          have hb := sm_in (sb X K x i) (sb_in X K x i) (rnN K n + 1)
          have hr : rnN K n + 1 ≤ 300 := by unfold rnN; omega
          refine ⟨?_, by omega⟩
          try dsimp only
          rw [f_X0_seen_L30, Int.zero_add, o_rcv T.1.1, h_mirrors T.1, nrm_i (by omega) (by omega), nrm_i (by omega) (by omega), if_neg (by omega), o_g7 T.1.1, cb_mi T.1.ci, o_rcv T.1.1, hb_shownIn T (by omega) c1.1 c1.2 (by omega) (by omega), e3])
        (fun fl a hp => by
          try dsimp only
          rw [f_X0_seen_L30, o_rcv T.1.1, h_mirrors T.1, nrm_i (by omega) (by omega), nrm_i (by omega) (by omega), if_pos (by omega)])
      exact e.trans (by rw [nrm_i (by omega) (by omega)]; rfl)
    simp (disch := omega) only [↓reduceIte, Bool.false_eq_true, nrm_i, ltT, ltF, leT, leF, eqT, eqF, not_true_eq_false, not_false_eq_true, and_self, and_true, true_and, false_and, and_false, or_true, true_or, or_false, false_or, ↓btS, ↓bnS, ↓bdS, ↓jnS, ↓obS, ↓i_t, ↓i_f, ↓man_t I, ↓man_f I, ↓room_t I, ↓room_f I, ↓mir_t I, ↓mir_f I, ↓pas_t I, ↓pas_f I, ↓h_men I, ↓h_rooms I, ↓h_mirrors I, ↓o_rcv hO, ↓o_gI hO, ↓o_g3 hO, ↓o_g7 hO, ↓o_g8 hO, ↓o_g12 hO, ↓bnP e1, ↓lp]
  · rw [if_neg G]
    refine ⟨σ, ?_, chgQ.rf _ _⟩
    by_cases c1 : 0 ≤ x ∧ x < xM X
    · by_cases c2 : 0 ≤ n ∧ n ≤ 299
      · exact absurd ⟨c1, c2⟩ G
      · simp (disch := omega) only [↓reduceIte, Bool.false_eq_true, nrm_i, ltT, ltF, leT, leF, eqT, eqF, not_true_eq_false, not_false_eq_true, and_self, and_true, true_and, false_and, and_false, or_true, true_or, or_false, false_or, ↓btS, ↓bnS, ↓bdS, ↓jnS, ↓obS, ↓i_t, ↓i_f, ↓man_t I, ↓man_f I, ↓room_t I, ↓room_f I, ↓mir_t I, ↓mir_f I, ↓pas_t I, ↓pas_f I, ↓h_men I, ↓h_rooms I, ↓h_mirrors I, ↓o_rcv hO, ↓o_gI hO, ↓o_g3 hO, ↓o_g7 hO, ↓o_g8 hO, ↓o_g12 hO]
    · simp (disch := omega) only [↓reduceIte, Bool.false_eq_true, nrm_i, ltT, ltF, leT, leF, eqT, eqF, not_true_eq_false, not_false_eq_true, and_self, and_true, true_and, false_and, and_false, or_true, true_or, or_false, false_or, ↓btS, ↓bnS, ↓bdS, ↓jnS, ↓obS, ↓i_t, ↓i_f, ↓man_t I, ↓man_f I, ↓room_t I, ↓room_f I, ↓mir_t I, ↓mir_f I, ↓pas_t I, ↓pas_f I, ↓h_men I, ↓h_rooms I, ↓h_mirrors I, ↓o_rcv hO, ↓o_gI hO, ↓o_g3 hO, ↓o_g7 hO, ↓o_g8 hO, ↓o_g12 hO]
theorem h_turned (I : QI Z σ o r X K) {x z : Int} (wx : wd x) (wz : wd z) : ∃ σ' : Hp, f_X0_turned σ o x z = some (q_turned X K x z, σ') ∧ chgQ o σ σ' := by
  obtain ⟨hO, hx, hZ, hK, hX, hW⟩ := I
  have I : QI Z σ o r X K := ⟨hO, hx, hZ, hK, hX, hW⟩
  have J := I.ci
  have hc := hO.court
  have a0 := hX.1
  have a1 := hX.2.2.1
  have a4 := hX.2.2.2.1
  have a2 := hW.1
  unfold f_X0_turned q_turned
  by_cases G : (0 ≤ x ∧ x < xM X) ∧ (0 ≤ z ∧ z ≤ 1)
  · rw [if_pos G]
    obtain ⟨c1, c2⟩ := G
    obtain ⟨σ1, e1, J1, q1⟩ := h_goesToEnd I
    have T : TR Z σ1 o r X K (kEnd X K) := ⟨I.chg q1, J1⟩
    refine ⟨σ1, ?_, q1⟩
    have e3 : (min (300 + 1 - kMi K) (300 - kMi K)).toNat = tEn K := by unfold tEn; omega
    have hm9 : tnS X K x < 256 := ms_lt8 hX _ (Nat.le_refl _)
    have lp : f_X0_turned_L28 o FU σ1 x z 0 0 (fun s16 x2 x3 => (if ¬ nrm x2 = 0 then (some (nrm x3, s16)) else (bn (f_J8_bitCount s16 x3) fun v17 s18 => some (v17, s18)))) = some (if z = 0 then pcn (tnS X K x) else (tnS X K x : Nat), σ1) := by
      refine loop (S := Int × Int) (fun fl q => f_X0_turned_L28 o fl σ1 x z q.1 q.2 (fun s16 x2 x3 => (if ¬ nrm x2 = 0 then (some (nrm x3, s16)) else (bn (f_J8_bitCount s16 x3) fun v17 s18 => some (v17, s18))))) (· = some (if z = 0 then pcn (tnS X K x) else (tnS X K x : Int), σ1)) (fun i q => q = ((ms (fun k => anyN (sbB X K x k) (tEn K)) i : Int), (i : Int))) (xK X).toNat ?_ ?_ (xK X).toNat 0 FU (0, 0) (by omega) (by rw [FU_eq]; omega) rfl
      · rintro fl i q hi rfl
        have hb := sm_in (sb X K x i) (sb_in X K x i) (tEn K)
        have ha : 0 < sm (sb X K x i) (tEn K) ↔ anyN (sbB X K x i) (tEn K) = true := sm_any (sbB X K x i) (tEn K)
        have ht : tEn K ≤ 300 := by unfold tEn; omega
        have hm := ms_lt8 hX (fun k => anyN (sbB X K x k) (tEn K)) (n := i) (by omega)
        have hpw : 2 ^ i < 2147483648 := Nat.lt_of_le_of_lt ((Nat.pow_le_pow_right (by decide) (by omega) : 2 ^ i ≤ 2 ^ 8)) (by decide)
        have e2 : (2 : Nat) ^ ((i : Nat) : Int).toNat = 2 ^ i := by rw [Int.toNat_natCast]
        right
        refine ⟨((ms (fun k => anyN (sbB X K x k) (tEn K)) (i + 1) : Int), ((i + 1 : Nat) : Int)), ?_, rfl⟩
        dsimp only
        rw [f_X0_turned_L28, o_rcv T.1.1, h_mirrors T.1, nrm_i (by omega) (by omega), nrm_i (by omega) (by omega), if_neg (by omega), o_rcv T.1.1, hb_shownIn T (by omega) c1.1 c1.2 (by omega) (by omega), e3, nrm_i (by omega) (by omega), ms]
        by_cases d : 0 < sm (sb X K x i) (tEn K)
        · rw [if_neg (by omega), sl1 (by omega) (by omega), e2, orI_nat _ _ (by omega) hpw, if_pos (ha.mp d)]
          rfl
        · rw [if_pos (by omega), or0 (by omega), if_neg (fun h => d (ha.mpr h)), Nat.or_zero]
          rfl
      · rintro fl q rfl
        dsimp only
        rw [f_X0_turned_L28, o_rcv T.1.1, h_mirrors T.1, nrm_i (by omega) (by omega), nrm_i (by omega) (by omega), if_pos (by omega), nrm_i (z := z) (by omega) (by omega)]
        by_cases d : z = 0
        · rw [if_neg (fun h => h d), if_pos d]
          exact hb_bits hm9 _
        · rw [if_pos d, if_neg d]
          show some (nrm ((tnS X K x : Nat) : Int), σ1) = _
          rw [nrm_i (by omega) (by omega)]
    simp (disch := omega) only [↓reduceIte, Bool.false_eq_true, nrm_i, ltT, ltF, leT, leF, eqT, eqF, not_true_eq_false, not_false_eq_true, and_self, and_true, true_and, false_and, and_false, or_true, true_or, or_false, false_or, ↓btS, ↓bnS, ↓bdS, ↓jnS, ↓obS, ↓i_t, ↓i_f, ↓man_t I, ↓man_f I, ↓room_t I, ↓room_f I, ↓mir_t I, ↓mir_f I, ↓pas_t I, ↓pas_f I, ↓h_men I, ↓h_rooms I, ↓h_mirrors I, ↓o_rcv hO, ↓o_gI hO, ↓o_g3 hO, ↓o_g7 hO, ↓o_g8 hO, ↓o_g12 hO, ↓bnP e1, ↓lp]
  · rw [if_neg G]
    refine ⟨σ, ?_, chgQ.rf _ _⟩
    by_cases c1 : 0 ≤ x ∧ x < xM X
    · by_cases c2 : 0 ≤ z ∧ z ≤ 1
      · exact absurd ⟨c1, c2⟩ G
      · simp (disch := omega) only [↓reduceIte, Bool.false_eq_true, nrm_i, ltT, ltF, leT, leF, eqT, eqF, not_true_eq_false, not_false_eq_true, and_self, and_true, true_and, false_and, and_false, or_true, true_or, or_false, false_or, ↓btS, ↓bnS, ↓bdS, ↓jnS, ↓obS, ↓i_t, ↓i_f, ↓man_t I, ↓man_f I, ↓room_t I, ↓room_f I, ↓mir_t I, ↓mir_f I, ↓pas_t I, ↓pas_f I, ↓h_men I, ↓h_rooms I, ↓h_mirrors I, ↓o_rcv hO, ↓o_gI hO, ↓o_g3 hO, ↓o_g7 hO, ↓o_g8 hO, ↓o_g12 hO]
    · simp (disch := omega) only [↓reduceIte, Bool.false_eq_true, nrm_i, ltT, ltF, leT, leF, eqT, eqF, not_true_eq_false, not_false_eq_true, and_self, and_true, true_and, false_and, and_false, or_true, true_or, or_false, false_or, ↓btS, ↓bnS, ↓bdS, ↓jnS, ↓obS, ↓i_t, ↓i_f, ↓man_t I, ↓man_f I, ↓room_t I, ↓room_f I, ↓mir_t I, ↓mir_f I, ↓pas_t I, ↓pas_f I, ↓h_men I, ↓h_rooms I, ↓h_mirrors I, ↓o_rcv hO, ↓o_gI hO, ↓o_g3 hO, ↓o_g7 hO, ↓o_g8 hO, ↓o_g12 hO]
theorem h_willBe (I : QI Z σ o r X K) {x n : Int} (wx : wd x) (wn : wd n) : ∃ σ' : Hp, f_X0_willBe σ o x n = some (q_willBe X K x n, σ') ∧ chgQ o σ σ' := by
  obtain ⟨hO, hx, hZ, hK, hX, hW⟩ := I
  have I : QI Z σ o r X K := ⟨hO, hx, hZ, hK, hX, hW⟩
  have J := I.ci
  have hc := hO.court
  have a0 := hX.1
  have a1 := hX.2.2.1
  have a4 := hX.2.2.2.1
  have a2 := hW.1
  unfold f_X0_willBe q_willBe
  by_cases G : (0 ≤ x ∧ x < xM X) ∧ (0 ≤ n ∧ n ≤ 299)
  · rw [if_pos G]
    obtain ⟨c1, c2⟩ := G
    obtain ⟨σ1, e1, k1, q1⟩ := h_trial I
    have I1 := I.chg q1
    obtain ⟨σ2, e2, J2, q2⟩ := h_runsT I1 k1 hW (n := n) (by omega) (by omega)
    have I2 := I1.chg q2
    have hr := rn_ok hX hW (n := n) c2.1
    have hc2 := I2.1.trial
    have e9 : ∀ {β : Type} (f : Int → Option β), (gI σ2 5 (some (o + 61)) 9).bind f = f (kMi K + rnN K n) := fun f => by rw [cb_mi J2, hr.2]
    refine ⟨σ2, ?_, q1.tr q2⟩
    simp (disch := omega) only [↓reduceIte, Bool.false_eq_true, nrm_i, ltT, ltF, leT, leF, eqT, eqF, not_true_eq_false, not_false_eq_true, and_self, and_true, true_and, false_and, and_false, or_true, true_or, or_false, false_or, ↓btS, ↓bnS, ↓bdS, ↓jnS, ↓obS, ↓i_t, ↓i_f, ↓man_t I, ↓man_f I, ↓room_t I, ↓room_f I, ↓mir_t I, ↓mir_f I, ↓pas_t I, ↓pas_f I, ↓h_men I, ↓h_rooms I, ↓h_mirrors I, ↓o_rcv hO, ↓o_gI hO, ↓o_g3 hO, ↓o_g7 hO, ↓o_g8 hO, ↓o_g12 hO, ↓c_ob hO.trial, ↓bnP e1, ↓o_g8 I1.1, ↓o_rcv I1.1, ↓bnP e2, ↓o_g8 I2.1, ↓c_g0b hc2, ↓c_r0b hc2, ↓e9, ↓cb_W J2]
  · rw [if_neg G]
    refine ⟨σ, ?_, chgQ.rf _ _⟩
    by_cases c1 : 0 ≤ x ∧ x < xM X
    · by_cases c2 : 0 ≤ n ∧ n ≤ 299
      · exact absurd ⟨c1, c2⟩ G
      · simp (disch := omega) only [↓reduceIte, Bool.false_eq_true, nrm_i, ltT, ltF, leT, leF, eqT, eqF, not_true_eq_false, not_false_eq_true, and_self, and_true, true_and, false_and, and_false, or_true, true_or, or_false, false_or, ↓btS, ↓bnS, ↓bdS, ↓jnS, ↓obS, ↓i_t, ↓i_f, ↓man_t I, ↓man_f I, ↓room_t I, ↓room_f I, ↓mir_t I, ↓mir_f I, ↓pas_t I, ↓pas_f I, ↓h_men I, ↓h_rooms I, ↓h_mirrors I, ↓o_rcv hO, ↓o_gI hO, ↓o_g3 hO, ↓o_g7 hO, ↓o_g8 hO, ↓o_g12 hO]
    · simp (disch := omega) only [↓reduceIte, Bool.false_eq_true, nrm_i, ltT, ltF, leT, leF, eqT, eqF, not_true_eq_false, not_false_eq_true, and_self, and_true, true_and, false_and, and_false, or_true, true_or, or_false, false_or, ↓btS, ↓bnS, ↓bdS, ↓jnS, ↓obS, ↓i_t, ↓i_f, ↓man_t I, ↓man_f I, ↓room_t I, ↓room_f I, ↓mir_t I, ↓mir_f I, ↓pas_t I, ↓pas_f I, ↓h_men I, ↓h_rooms I, ↓h_mirrors I, ↓o_rcv hO, ↓o_gI hO, ↓o_g3 hO, ↓o_g7 hO, ↓o_g8 hO, ↓o_g12 hO]
theorem h_odds (I : QI Z σ o r X K) {x n z : Int} (wx : wd x) (wn : wd n) (wz : wd z) : ∃ σ' : Hp, f_X0_odds σ o x n z = some (q_odds X K x n z, σ') ∧ chgQ o σ σ' := by
  obtain ⟨hO, hx, hZ, hK, hX, hW⟩ := I
  have I : QI Z σ o r X K := ⟨hO, hx, hZ, hK, hX, hW⟩
  have J := I.ci
  have hc := hO.court
  have a0 := hX.1
  have a1 := hX.2.2.1
  have a4 := hX.2.2.2.1
  have a2 := hW.1
  unfold f_X0_odds q_odds
  by_cases G : (0 ≤ x ∧ x < xK X) ∧ (0 ≤ n ∧ n ≤ 299) ∧ (1 ≤ z ∧ z ≤ 10)
  · rw [if_pos G]
    obtain ⟨c1, c2, c3⟩ := G
    have hod : ∀ i : Nat, 0 ≤ odF X K x n i ∧ odF X K x n i ≤ 1 := fun i => by unfold odF; split <;> decide
    have lp : ∃ σ' : Hp, f_X0_odds_L37 o FU σ x n z 0 0 (fun s27 x4 => some (nrm x4, s27)) = some (sm (odF X K x n) z.toNat, σ') ∧ chgQ o σ σ' := by
      refine loop (S := Hp × Int × Int) (fun fl q => f_X0_odds_L37 o fl q.1 x n z q.2.1 q.2.2 (fun s27 x4 => some (nrm x4, s27))) (fun w => ∃ σ' : Hp, w = some (sm (odF X K x n) z.toNat, σ') ∧ chgQ o σ σ')
        (fun i q => chgQ o σ q.1 ∧ q.2 = (sm (odF X K x n) i, (i : Int))) z.toNat ?_ ?_ z.toNat 0 FU (σ, 0, 0) (by omega) (by rw [FU_eq]; omega) ⟨chgQ.rf _ _, rfl⟩
      · rintro fl i ⟨τ, q⟩ hi ⟨hq, rfl⟩
        dsimp only at hq ⊢
        have I0 := I.chg hq
        have hs := sm_in (odF X K x n) hod i
        have a6 := hX.2.2.2.2.2.1
        obtain ⟨σ1, e1, k1, q1⟩ := h_trial I0
        have I1 := I0.chg q1
        have cw : chgH (fun y => y = o + 61) σ1 (wr σ1 (o + 61) 10 (xS X + i)) := (chgH.rf (fun y => y = o + 61) σ1).wr rfl 10 (xS X + i)
        have qw : chgQ o σ1 (wr σ1 (o + 61) 10 (xS X + i)) := chgQ.of cw (fun y hy => by rw [hy]; unfold qS; omega)
        have Iw := I1.chg qw
        have kw : Cat (wr σ1 (o + 61) 10 (xS X + i)) (o + 61) X (setSd K (xS X + i)) := by
          have ea : ci (wr σ1 (o + 61) 10 (xS X + i)) (o + 61) = fu (ci σ1 (o + 61)) 10 (xS X + i) := by
            obtain ⟨⟨g, h1, -⟩, -⟩ := I1.1.trial
            exact wr_ci σ1 _ _ h1
          have eo : ∀ b : Nat, b ≠ o + 61 → ci (wr σ1 (o + 61) 10 (xS X + i)) b = ci σ1 b := fun b hb => wr_cne σ1 _ _ hb
          refine ⟨⟨by rw [ea, fuN _ _ (by decide)]; exact k1.1.1, by rw [ea, fuE]; rfl⟩, fun m t b0 b1 b2 b3 => ?_, fun k t b0 b1 b2 b3 => ?_, fun k b0 b1 => ?_⟩
          · rw [eo _ (by omega), eo _ (by omega)]; exact k1.2.1 m t b0 b1 b2 b3
          · rw [eo _ (by omega), eo _ (by omega), eo _ (by omega)]; exact k1.2.2.1 k t b0 b1 b2 b3
          · rw [eo _ (by omega), eo _ (by omega)]; exact k1.2.2.2 k b0 b1
        have hWs : WfK X (setSd K (xS X + i)) := hW
        obtain ⟨σ2, e2, J2, q2⟩ := h_runsT Iw kw hWs (n := n) (by omega) (by omega)
        have I2 := Iw.chg q2
        have hN : rnN (setSd K (xS X + i)) n = rnN K n := rfl
        rw [hN] at J2
        have hr := rn_ok hX hWs (n := n) c2.1
        rw [hN] at hr
        have hb := (hr.1.2.2.2 x c1.1 c1.2).1
        have e9 : ∀ {β : Type} (f : Int → Option β), (gI σ2 5 (some (o + 61)) 9).bind f = f (kMi (rn X (rnN K n) (setSd K (xS X + i)))) := fun f => by rw [cb_mi J2]
        have a9 := hr.1.1
        have e5 : ∀ {β : Type} (f : Int → Option β), (gI σ1 4 (some r) 5).bind f = f (xS X) := fun f => obP (x_breaks I1.2.1).2.2 f
        have e10 : ∀ {β : Type} (f : Hp → Option β), (pI σ1 5 (some (o + 61)) 10 (nrm (xS X + i))).bind f = f (wr σ1 (o + 61) 10 (xS X + i)) := fun f => by rw [nrm_i (by omega) (by omega), c_pb I1.1.trial]
        have eb : ∀ {β : Type} (f : Int → Hp → Option β), bn (f_X5_isBroken σ2 (o + 61) x (kMi (rn X (rnN K n) (setSd K (xS X + i))))) f = f (if kB (rn X (rnN K n) (setSd K (xS X + i))) x ≤ kMi (rn X (rnN K n) (setSd K (xS X + i))) then 1 else 0) σ2 := fun f => hb_isBroken J2 c1.1 c1.2 a9.1 a9.2 f
        right
        rw [f_X0_odds_L37, nrm_i (z := z) (by omega) (by omega), nrm_i (by omega) (by omega), if_neg (by omega), o_g8 I0.1, o_g7 I0.1, c_ob I0.1.trial, bnP e1, o_g8 I1.1, o_g3 I1.1, e5, e10, o_g8 Iw.1, o_rcv Iw.1, bnP e2, o_g8 I2.1, o_g8 I2.1, e9, c_ob I2.1.trial, eb]
        have eo : odF X K x n i = if kB (rn X (rnN K n) (setSd K (xS X + i))) x = 300 then 0 else 1 := rfl
        by_cases d : kB (rn X (rnN K n) (setSd K (xS X + i))) x = 300
        · rw [if_pos d] at eo
          refine ⟨(σ2, sm (odF X K x n) i + 0, ((i + 1 : Nat) : Int)), ?_, (((hq.tr q1).tr qw).tr q2), by rw [sm_s, eo]⟩
          rw [if_neg (show ¬ kB (rn X (rnN K n) (setSd K (xS X + i))) x ≤ kMi (rn X (rnN K n) (setSd K (xS X + i))) by omega), if_pos (by decide)]
          rfl
        · rw [if_neg d] at eo
          refine ⟨(σ2, sm (odF X K x n) i + 1, ((i + 1 : Nat) : Int)), ?_, (((hq.tr q1).tr qw).tr q2), by rw [sm_s, eo]⟩
          rw [if_pos (show kB (rn X (rnN K n) (setSd K (xS X + i))) x ≤ kMi (rn X (rnN K n) (setSd K (xS X + i))) by omega), if_neg (by decide)]
          rfl
      · rintro fl ⟨τ, q⟩ ⟨hq, rfl⟩
        dsimp only at hq ⊢
        have hs := sm_in (odF X K x n) hod z.toNat
        refine ⟨τ, ?_, hq⟩
        rw [f_X0_odds_L37, nrm_i (by omega) (by omega), nrm_i (by omega) (by omega), if_pos (by omega), nrm_i (by omega) (by omega)]
    obtain ⟨σ', e9, q9⟩ := lp
    refine ⟨σ', ?_, q9⟩
    clear hod
    simp (disch := omega) only [↓reduceIte, Bool.false_eq_true, nrm_i, ltT, ltF, leT, leF, eqT, eqF, not_true_eq_false, not_false_eq_true, and_self, and_true, true_and, false_and, and_false, or_true, true_or, or_false, false_or, ↓btS, ↓bnS, ↓bdS, ↓jnS, ↓obS, ↓i_t, ↓i_f, ↓man_t I, ↓man_f I, ↓room_t I, ↓room_f I, ↓mir_t I, ↓mir_f I, ↓pas_t I, ↓pas_f I, ↓h_men I, ↓h_rooms I, ↓h_mirrors I, ↓o_rcv hO, ↓o_gI hO, ↓o_g3 hO, ↓o_g7 hO, ↓o_g8 hO, ↓o_g12 hO, ↓e9]
  · rw [if_neg G]
    refine ⟨σ, ?_, chgQ.rf _ _⟩
    by_cases c1 : 0 ≤ x ∧ x < xK X
    · by_cases c2 : 0 ≤ n ∧ n ≤ 299
      · by_cases c3 : 1 ≤ z ∧ z ≤ 10
        · exact absurd ⟨c1, c2, c3⟩ G
        · simp (disch := omega) only [↓reduceIte, Bool.false_eq_true, nrm_i, ltT, ltF, leT, leF, eqT, eqF, not_true_eq_false, not_false_eq_true, and_self, and_true, true_and, false_and, and_false, or_true, true_or, or_false, false_or, ↓btS, ↓bnS, ↓bdS, ↓jnS, ↓obS, ↓i_t, ↓i_f, ↓man_t I, ↓man_f I, ↓room_t I, ↓room_f I, ↓mir_t I, ↓mir_f I, ↓pas_t I, ↓pas_f I, ↓h_men I, ↓h_rooms I, ↓h_mirrors I, ↓o_rcv hO, ↓o_gI hO, ↓o_g3 hO, ↓o_g7 hO, ↓o_g8 hO, ↓o_g12 hO]
      · simp (disch := omega) only [↓reduceIte, Bool.false_eq_true, nrm_i, ltT, ltF, leT, leF, eqT, eqF, not_true_eq_false, not_false_eq_true, and_self, and_true, true_and, false_and, and_false, or_true, true_or, or_false, false_or, ↓btS, ↓bnS, ↓bdS, ↓jnS, ↓obS, ↓i_t, ↓i_f, ↓man_t I, ↓man_f I, ↓room_t I, ↓room_f I, ↓mir_t I, ↓mir_f I, ↓pas_t I, ↓pas_f I, ↓h_men I, ↓h_rooms I, ↓h_mirrors I, ↓o_rcv hO, ↓o_gI hO, ↓o_g3 hO, ↓o_g7 hO, ↓o_g8 hO, ↓o_g12 hO]
    · simp (disch := omega) only [↓reduceIte, Bool.false_eq_true, nrm_i, ltT, ltF, leT, leF, eqT, eqF, not_true_eq_false, not_false_eq_true, and_self, and_true, true_and, false_and, and_false, or_true, true_or, or_false, false_or, ↓btS, ↓bnS, ↓bdS, ↓jnS, ↓obS, ↓i_t, ↓i_f, ↓man_t I, ↓man_f I, ↓room_t I, ↓room_f I, ↓mir_t I, ↓mir_f I, ↓pas_t I, ↓pas_f I, ↓h_men I, ↓h_rooms I, ↓h_mirrors I, ↓o_rcv hO, ↓o_gI hO, ↓o_g3 hO, ↓o_g7 hO, ↓o_g8 hO, ↓o_g12 hO]
end
