set_option maxRecDepth 100000
set_option maxHeartbeats 4000000
theorem fcR_neg (K : Crt) (x y i : Int) (j n : Nat) : fcR K x y i j n (-2) = if i = -1 then (n : Int) else -1 := by
  cases j with
  | zero => rfl
  | succ j => rw [fcR, if_pos (by decide)]
def fcC (x y : Int) (n : Nat) : Int := if n % 2 = 0 then x else y
theorem fcC_in {X : Txt} {x y : Int} (c1 : 0 ≤ x ∧ x < xK X) (c2 : 0 ≤ y ∧ y < xK X) (n : Nat) : 0 ≤ fcC x y n ∧ fcC x y n < xK X := by
  unfold fcC
  split
  · exact c1
  · exact c2
theorem fcC_s (K : Crt) (x y v : Int) (n : Nat) : (if n % 2 = 0 then sn K x v y else sn K y v x) = sn K (fcC x y n) v (fcC x y (n + 1)) := by
  unfold fcC
  by_cases h : n % 2 = 0
  · rw [if_pos h, if_pos h, if_neg (by omega)]
  · rw [if_neg h, if_neg h, if_pos (by omega)]
section
variable {Z : Nat → Prop} {σ : Hp} {o r : Nat} {X : Txt} {K : Crt} {β : Type}
theorem h_fcL (I : QI Z σ o r X K) {x y i : Int} (c1 : 0 ≤ x ∧ x < xK X) (c2 : 0 ≤ y ∧ y < xK X) (c3 : ¬ x = y) (c4 : -1 ≤ i ∧ i ≤ 2147483647) : ∀ (j n fl : Nat) (τ : Hp) (t : Int), n + j = 20 → j < fl → chgQ o σ τ → ci τ (o + 252) 0 = fcC x y n → ci τ (o + 252) 1 = t → 0 ≤ t → t ≤ kMi K →
    ∃ σ' : Hp, f_X0_facing_L49 o fl τ x y i (n : Int) 1 (fun s35 x3 x4 => (if ¬ nrm x3 = nrm (-1) then (some ((-1), s35)) else (some (nrm x4, s35)))) = some (fcR K x y i j n (shw K (fcC x y n) t), σ') ∧ chgQ o σ σ' := by
  have a4 := I.2.2.2.2.1.2.2.2.1
  have a2 := I.2.2.2.2.2.1
  have hW := I.2.2.2.2.2
  intro j
  induction j with
  | zero =>
    intro n fl τ t hn hf hq g0 g1 t0 t1
    obtain ⟨fl, rfl⟩ : ∃ q, fl = q + 1 := ⟨fl - 1, by omega⟩
    refine ⟨τ, ?_, hq⟩
    clear c1 c2 c3
    rw [f_X0_facing_L49, fcR]
    by_cases d : i = -1
    · simp (disch := omega) only [↓reduceIte, Bool.false_eq_true, nrm_i, ltT, ltF, leT, leF, eqT, eqF, not_true_eq_false, not_false_eq_true, and_self, and_true, true_and, false_and, and_false, or_true, true_or, or_false, false_or, ↓btS, ↓bnS, ↓bdS, ↓jnS, ↓obS, d]
    · simp (disch := omega) only [↓reduceIte, Bool.false_eq_true, nrm_i, ltT, ltF, leT, leF, eqT, eqF, not_true_eq_false, not_false_eq_true, and_self, and_true, true_and, false_and, and_false, or_true, true_or, or_false, false_or, ↓btS, ↓bnS, ↓bdS, ↓jnS, ↓obS, d]
  | succ j ih =>
    intro n fl τ t hn hf hq g0 g1 t0 t1
    obtain ⟨fl, rfl⟩ : ∃ q, fl = q + 1 := ⟨fl - 1, by omega⟩
    have I2 := I.chg hq
    have hO := I2.1
    have hcu := fcC_in c1 c2 n
    have hcv := fcC_in c1 c2 (n + 1)
    have hsw := shw_le hW hcu.1 hcu.2 t0 t1
    have e2 := h_goesTo I2 g0 g1 hcu.1 hcu.2 t0 t1 hcv.1 hcv.2
    have eN : ((n + 1 : Nat) : Int) = (n : Int) + 1 := by omega
    have eS : shw K (fcC x y n) t < 0 ∨ 0 ≤ shw K (fcC x y n) t := by omega
    have nS := n_S hW hcu.1 hcu.2 t0 t1
    have gsh : ∀ {β : Type} (f : Int → Hp → Option β), bn (f_X7_shows τ (o + 252) (some (o + 14))) f = f (shw K (fcC x y n) t) τ := fun f => hb_gsh I2 g0 g1 hcu.1 hcu.2 t0 t1 f
    rw [f_X0_facing_L49, fcR, fcC_s]
    by_cases d1 : shw K (fcC x y n) t < 0
    · refine ⟨τ, ?_, hq⟩
      by_cases d : i = -1
      · simp (disch := omega) only [↓reduceIte, Bool.false_eq_true, nrm_i, ltT, ltF, leT, leF, eqT, eqF, not_true_eq_false, not_false_eq_true, and_self, and_true, true_and, false_and, and_false, or_true, true_or, or_false, false_or, ↓btS, ↓bnS, ↓bdS, ↓jnS, ↓obS, ↓o_g12 hO, ↓o_g7 hO, ↓o_r252 hO, ↓gsh, nS, d]
      · simp (disch := omega) only [↓reduceIte, Bool.false_eq_true, nrm_i, ltT, ltF, leT, leF, eqT, eqF, not_true_eq_false, not_false_eq_true, and_self, and_true, true_and, false_and, and_false, or_true, true_or, or_false, false_or, ↓btS, ↓bnS, ↓bdS, ↓jnS, ↓obS, ↓o_g12 hO, ↓o_g7 hO, ↓o_r252 hO, ↓gsh, nS, d]
    · by_cases d2 : (n : Int) = i
      · refine ⟨τ, ?_, hq⟩
        simp (disch := omega) only [↓reduceIte, Bool.false_eq_true, nrm_i, ltT, ltF, leT, leF, eqT, eqF, not_true_eq_false, not_false_eq_true, and_self, and_true, true_and, false_and, and_false, or_true, true_or, or_false, false_or, ↓btS, ↓bnS, ↓bdS, ↓jnS, ↓obS, ↓o_g12 hO, ↓o_g7 hO, ↓o_r252 hO, ↓gsh, nS]
      · have hpar : (fcC x y n = x ∧ fcC x y (n + 1) = y) ∨ (fcC x y n = y ∧ fcC x y (n + 1) = x) := by
          unfold fcC
          by_cases h : n % 2 = 0
          · rw [if_pos h, if_neg (by omega)]; exact Or.inl ⟨rfl, rfl⟩
          · rw [if_neg h, if_pos (by omega)]; exact Or.inr ⟨rfl, rfl⟩
        have g0' : gI τ 7 (some (o + 252)) 0 = some (fcC x y n) := by obtain ⟨g, hg⟩ := o_s252 hO; rw [gI_s hg, g0]
        by_cases d3 : shw K (fcC x y n) t < 0 ∨ fcC x y n = fcC x y (n + 1) ∨ ¬ kH K (fcC x y (n + 1)) (shw K (fcC x y n) t) = kH K (fcC x y n) (shw K (fcC x y n) t)
        · rw [if_pos d3] at e2
          have es : sn K (fcC x y n) (shw K (fcC x y n) t) (fcC x y (n + 1)) = -2 := by unfold sn; rw [if_pos d3]
          rw [es, fcR_neg]
          obtain ⟨fl, rfl⟩ : ∃ q, fl = q + 1 := ⟨fl - 1, by omega⟩
          refine ⟨τ, ?_, hq⟩
          have e9 : f_X0_facing_L49 o (fl + 1) τ x y i ((n : Int) + 1) 0 (fun s35 x3 x4 => (if ¬ nrm x3 = nrm (-1) then (some ((-1), s35)) else (some (nrm x4, s35)))) = some (if i = -1 then ((n + 1 : Nat) : Int) else -1, τ) := by
            clear e2 hsw eS d3 hcu hcv
            rw [f_X0_facing_L49]
            by_cases d : i = -1
            · simp (disch := omega) only [↓reduceIte, Bool.false_eq_true, nrm_i, ltT, ltF, leT, leF, eqT, eqF, not_true_eq_false, not_false_eq_true, and_self, and_true, true_and, false_and, and_false, or_true, true_or, or_false, false_or, ↓btS, ↓bnS, ↓bdS, ↓jnS, ↓obS, d, eN]
            · simp (disch := omega) only [↓reduceIte, Bool.false_eq_true, nrm_i, ltT, ltF, leT, leF, eqT, eqF, not_true_eq_false, not_false_eq_true, and_self, and_true, true_and, false_and, and_false, or_true, true_or, or_false, false_or, ↓btS, ↓bnS, ↓bdS, ↓jnS, ↓obS, d, eN]
          clear hsw eS d3
          generalize fcC x y n = u at *
          generalize fcC x y (n + 1) = v at *
          rcases hpar with ⟨hu, hv⟩ | ⟨hu, hv⟩
          · subst hu hv
            simp (disch := omega) only [↓reduceIte, Bool.false_eq_true, nrm_i, ltT, ltF, leT, leF, eqT, eqF, not_true_eq_false, not_false_eq_true, and_self, and_true, true_and, false_and, and_false, or_true, true_or, or_false, false_or, ↓btS, ↓bnS, ↓bdS, ↓jnS, ↓obS, ↓o_g12 hO, ↓o_g7 hO, ↓o_r252 hO, ↓gsh, nS, ↓obP g0', ↓bnP e2, ↓e9]
          · subst hu hv
            simp (disch := omega) only [↓reduceIte, Bool.false_eq_true, nrm_i, ltT, ltF, leT, leF, eqT, eqF, not_true_eq_false, not_false_eq_true, and_self, and_true, true_and, false_and, and_false, or_true, true_or, or_false, false_or, ↓btS, ↓bnS, ↓bdS, ↓jnS, ↓obS, ↓o_g12 hO, ↓o_g7 hO, ↓o_r252 hO, ↓gsh, nS, ↓obP g0', ↓bnP e2, ↓e9]
        · rw [if_neg d3] at e2
          have es : sn K (fcC x y n) (shw K (fcC x y n) t) (fcC x y (n + 1)) = shw K (fcC x y (n + 1)) (shw K (fcC x y n) t) := by unfold sn; rw [if_neg d3]
          rw [es]
          have q2 := hq.tr (gl_q o τ (fcC x y (n + 1)) (shw K (fcC x y n) t))
          have g2 := gl_wr hO (fcC x y (n + 1)) (shw K (fcC x y n) t)
          obtain ⟨σ', e9, q9⟩ := ih (n + 1) fl _ _ (by omega) (by omega) q2 g2.1 g2.2 (by omega) (by omega)
          refine ⟨σ', ?_, q9⟩
          rw [eN] at e9
          clear hsw eS d3 ih
          generalize fcC x y n = u at *
          generalize fcC x y (n + 1) = v at *
          rcases hpar with ⟨hu, hv⟩ | ⟨hu, hv⟩
          · subst hu hv
            simp (disch := omega) only [↓reduceIte, Bool.false_eq_true, nrm_i, ltT, ltF, leT, leF, eqT, eqF, not_true_eq_false, not_false_eq_true, and_self, and_true, true_and, false_and, and_false, or_true, true_or, or_false, false_or, ↓btS, ↓bnS, ↓bdS, ↓jnS, ↓obS, ↓o_g12 hO, ↓o_g7 hO, ↓o_r252 hO, ↓gsh, nS, ↓obP g0', ↓bnP e2, ↓e9]
          · subst hu hv
            simp (disch := omega) only [↓reduceIte, Bool.false_eq_true, nrm_i, ltT, ltF, leT, leF, eqT, eqF, not_true_eq_false, not_false_eq_true, and_self, and_true, true_and, false_and, and_false, or_true, true_or, or_false, false_or, ↓btS, ↓bnS, ↓bdS, ↓jnS, ↓obS, ↓o_g12 hO, ↓o_g7 hO, ↓o_r252 hO, ↓gsh, nS, ↓obP g0', ↓bnP e2, ↓e9]
theorem h_facing (I : QI Z σ o r X K) {x y z : Int} (wx : wd x) (wy : wd y) (wz : wd z) : ∃ σ' : Hp, f_X0_facing σ o x y z = some (q_facing X K x y z, σ') ∧ chgQ o σ σ' := by
  obtain ⟨hO, hx, hZ, hK, hX, hW⟩ := I
  have I : QI Z σ o r X K := ⟨hO, hx, hZ, hK, hX, hW⟩
  have J := I.ci
  have hc := hO.court
  have a0 := hX.1
  have a1 := hX.2.2.1
  have a4 := hX.2.2.2.1
  have a2 := hW.1
  unfold f_X0_facing q_facing
  by_cases G : (0 ≤ x ∧ x < xK X) ∧ (0 ≤ y ∧ y < xK X) ∧ ¬ x = y ∧ -1 ≤ z
  · rw [if_pos G]
    obtain ⟨c1, c2, c3, c4⟩ := G
    have q1 := gl_q o σ x (kMi K)
    have g1 := gl_wr hO x (kMi K)
    have O1 := hO.chg ((chgH.rf (fun y => y = o + 252) σ).wr rfl 0 x)
    have eb : ∀ {β : Type} (f : Unit → Hp → Option β), bn (f_X7_begins σ (o + 252) x (kMi K)) f = f () (wr (wr σ (o + 252) 0 x) (o + 252) 1 (kMi K)) := by
      intro β f
      refine bnP ?_ f
      unfold f_X7_begins
      simp (disch := omega) only [↓reduceIte, Bool.false_eq_true, nrm_i, ltT, ltF, leT, leF, eqT, eqF, not_true_eq_false, not_false_eq_true, and_self, and_true, true_and, false_and, and_false, or_true, true_or, or_false, false_or, ↓btS, ↓bnS, ↓bdS, ↓jnS, ↓obS, ↓o_w252 hO, ↓o_w252 O1]
    obtain ⟨σ', e9, q9⟩ := h_fcL I c1 c2 c3 ⟨c4, wz.2⟩ 20 0 FU _ (kMi K) rfl (by decide) q1 g1.1 g1.2 a2.1 (Int.le_refl _)
    refine ⟨σ', ?_, q9⟩
    have e9 : f_X0_facing_L49 o FU (wr (wr σ (o + 252) 0 x) (o + 252) 1 (kMi K)) x y z 0 1 (fun s35 x3 x4 => (if ¬ nrm x3 = nrm (-1) then (some ((-1), s35)) else (some (nrm x4, s35)))) = some (fcR K x y z 20 0 (shw K x (kMi K)), σ') := e9
    simp (disch := omega) only [↓reduceIte, Bool.false_eq_true, nrm_i, ltT, ltF, leT, leF, eqT, eqF, not_true_eq_false, not_false_eq_true, and_self, and_true, true_and, false_and, and_false, or_true, true_or, or_false, false_or, ↓btS, ↓bnS, ↓bdS, ↓jnS, ↓obS, ↓i_t, ↓i_f, ↓man_t I, ↓man_f I, ↓room_t I, ↓room_f I, ↓mir_t I, ↓mir_f I, ↓pas_t I, ↓pas_f I, ↓h_men I, ↓h_rooms I, ↓h_mirrors I, ↓o_rcv hO, ↓o_gI hO, ↓o_g3 hO, ↓o_g7 hO, ↓o_g8 hO, ↓o_g12 hO, ↓cb_mi J, ↓o_r252 hO, ↓eb, ↓e9]
  · rw [if_neg G]
    refine ⟨σ, ?_, chgQ.rf _ _⟩
    by_cases c1 : 0 ≤ x ∧ x < xK X
    · by_cases c2 : 0 ≤ y ∧ y < xK X
      · by_cases c3 : ¬ x = y
        · by_cases c4 : -1 ≤ z
          · exact absurd ⟨c1, c2, c3, c4⟩ G
          · simp (disch := omega) only [↓reduceIte, Bool.false_eq_true, nrm_i, ltT, ltF, leT, leF, eqT, eqF, not_true_eq_false, not_false_eq_true, and_self, and_true, true_and, false_and, and_false, or_true, true_or, or_false, false_or, ↓btS, ↓bnS, ↓bdS, ↓jnS, ↓obS, ↓i_t, ↓i_f, ↓man_t I, ↓man_f I, ↓room_t I, ↓room_f I, ↓mir_t I, ↓mir_f I, ↓pas_t I, ↓pas_f I, ↓h_men I, ↓h_rooms I, ↓h_mirrors I, ↓o_rcv hO, ↓o_gI hO, ↓o_g3 hO, ↓o_g7 hO, ↓o_g8 hO, ↓o_g12 hO]
        · simp (disch := omega) only [↓reduceIte, Bool.false_eq_true, nrm_i, ltT, ltF, leT, leF, eqT, eqF, not_true_eq_false, not_false_eq_true, and_self, and_true, true_and, false_and, and_false, or_true, true_or, or_false, false_or, ↓btS, ↓bnS, ↓bdS, ↓jnS, ↓obS, ↓i_t, ↓i_f, ↓man_t I, ↓man_f I, ↓room_t I, ↓room_f I, ↓mir_t I, ↓mir_f I, ↓pas_t I, ↓pas_f I, ↓h_men I, ↓h_rooms I, ↓h_mirrors I, ↓o_rcv hO, ↓o_gI hO, ↓o_g3 hO, ↓o_g7 hO, ↓o_g8 hO, ↓o_g12 hO]
      · simp (disch := omega) only [↓reduceIte, Bool.false_eq_true, nrm_i, ltT, ltF, leT, leF, eqT, eqF, not_true_eq_false, not_false_eq_true, and_self, and_true, true_and, false_and, and_false, or_true, true_or, or_false, false_or, ↓btS, ↓bnS, ↓bdS, ↓jnS, ↓obS, ↓i_t, ↓i_f, ↓man_t I, ↓man_f I, ↓room_t I, ↓room_f I, ↓mir_t I, ↓mir_f I, ↓pas_t I, ↓pas_f I, ↓h_men I, ↓h_rooms I, ↓h_mirrors I, ↓o_rcv hO, ↓o_gI hO, ↓o_g3 hO, ↓o_g7 hO, ↓o_g8 hO, ↓o_g12 hO]
    · simp (disch := omega) only [↓reduceIte, Bool.false_eq_true, nrm_i, ltT, ltF, leT, leF, eqT, eqF, not_true_eq_false, not_false_eq_true, and_self, and_true, true_and, false_and, and_false, or_true, true_or, or_false, false_or, ↓btS, ↓bnS, ↓bdS, ↓jnS, ↓obS, ↓i_t, ↓i_f, ↓man_t I, ↓man_f I, ↓room_t I, ↓room_f I, ↓mir_t I, ↓mir_f I, ↓pas_t I, ↓pas_f I, ↓h_men I, ↓h_rooms I, ↓h_mirrors I, ↓o_rcv hO, ↓o_gI hO, ↓o_g3 hO, ↓o_g7 hO, ↓o_g8 hO, ↓o_g12 hO]
end
