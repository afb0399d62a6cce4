set_option maxRecDepth 100000
set_option maxHeartbeats 4000000
/-! ===== PURE: mirrors in mirrors ===== -/
def sn (K : Crt) (k v j : Int) : Int := if v < 0 ∨ k = j ∨ ¬ kH K j v = kH K k v then -2 else shw K j v
theorem sn_in {X : Txt} {K : Crt} (hW : WfK X K) {k v j : Int} (h0 : 0 ≤ j) (h1 : j < xK X) (h2 : v ≤ kMi K) : sn K k v j = -2 ∨ (0 ≤ sn K k v j ∧ sn K k v j ≤ kMi K) := by
  unfold sn
  split
  · left; rfl
  · exact shw_le hW h0 h1 (by omega) h2
def lkV (K : Crt) (x y z : Int) : Int := if z = -1 then sn K x (shw K x (kMi K)) y else sn K y (sn K x (shw K x (kMi K)) y) z
def q_look (X : Txt) (K : Crt) (x y z w : Int) : Int := if (0 ≤ x ∧ x < xK X) ∧ (0 ≤ y ∧ y < xK X) ∧ (-1 ≤ z ∧ z < xK X) ∧ (0 ≤ w ∧ w ≤ 2) then
  (if lkV K x y z < 0 then -2 else if w = 0 then lkV K x y z else if w = 1 then kH K (if z = -1 then y else z) (lkV K x y z) else (mIn X K (kH K (if z = -1 then y else z) (lkV K x y z)) (lkV K x y z) : Int)) else -1
/-- mirrors that face each other -/
def fcR (K : Crt) (x y i : Int) : Nat → Nat → Int → Int
  | 0, n, _ => if i = -1 then n else -1
  | j + 1, n, v => if v < 0 then (if i = -1 then n else -1) else if (n : Int) = i then v else fcR K x y i j (n + 1) (if n % 2 = 0 then sn K x v y else sn K y v x)
def q_facing (X : Txt) (K : Crt) (x y i : Int) : Int := if (0 ≤ x ∧ x < xK X) ∧ (0 ≤ y ∧ y < xK X) ∧ ¬ x = y ∧ -1 ≤ i then fcR K x y i 20 0 (shw K x (kMi K)) else -1
section
variable {Z : Nat → Prop} {σ : Hp} {o r : Nat} {X : Txt} {K : Crt} {β : Type}
theorem hb_gsh (I : QI Z σ o r X K) {k t : Int} (e0 : ci σ (o + 252) 0 = k) (e1 : ci σ (o + 252) 1 = t) (h0 : 0 ≤ k) (h1 : k < xK X) (h2 : 0 ≤ t) (h3 : t ≤ kMi K) (f : Int → Hp → Option β) : bn (f_X7_shows σ (o + 252) (some (o + 14))) f = f (shw K k t) σ := by
  obtain ⟨hO, hx, hZ, hK, hX, hW⟩ := I
  have I : QI Z σ o r X K := ⟨hO, hx, hZ, hK, hX, hW⟩
  have J := I.ci
  have hc := hO.court
  have a0 := hX.1
  have a1 := hX.2.2.1
  have a4 := hX.2.2.2.1
  have a2 := hW.1
  refine bnP ?_ f
  unfold f_X7_shows
  simp (disch := omega) only [↓reduceIte, Bool.false_eq_true, nrm_i, ltT, ltF, leT, leF, eqT, eqF, not_true_eq_false, not_false_eq_true, and_self, and_true, true_and, false_and, and_false, or_true, true_or, or_false, false_or, ↓btS, ↓bnS, ↓bdS, ↓jnS, ↓obS, n_W hX hW, n_R hW, n_H hX hW, n_U hW, n_L hW, n_B hW, n_S hW, n_M hX, n_Ms hX, n_P, ↓i_t, ↓i_f, ↓man_t I, ↓man_f I, ↓room_t I, ↓room_f I, ↓mir_t I, ↓mir_f I, ↓pas_t I, ↓pas_f I, ↓h_men I, ↓h_rooms I, ↓h_mirrors I, ↓o_rcv hO, ↓o_gI hO, ↓o_g3 hO, ↓o_g7 hO, ↓o_g8 hO, ↓o_g12 hO, ↓c_ob hc, ↓cb_mi J, ↓c_g0b hc, ↓c_g1b hc, ↓c_g2b hc, ↓c_g3b hc, ↓c_g4b hc, ↓c_r0b hc, ↓c_r1b hc, ↓c_r2b hc, ↓c_r3b hc, ↓c_r4b hc, ↓cb_W J, ↓cb_R J, ↓cb_H J, ↓cb_U J, ↓cb_L J, ↓hb_shows J, ↓hb_menIn J, ↓hb_menShown J, ↓hb_isBroken J, ↓hb_bits, ↓o_a252 hO, e0, e1]
theorem h_goesTo (I : QI Z σ o r X K) {k t j : Int} (e0 : ci σ (o + 252) 0 = k) (e1 : ci σ (o + 252) 1 = t) (h0 : 0 ≤ k) (h1 : k < xK X) (h2 : 0 ≤ t) (h3 : t ≤ kMi K) (j0 : 0 ≤ j) (j1 : j < xK X) : f_X7_goesTo σ (o + 252) (some (o + 14)) j = some (if shw K k t < 0 ∨ k = j ∨ ¬ kH K j (shw K k t) = kH K k (shw K k t) then (0, σ) else (1, wr (wr σ (o + 252) 0 j) (o + 252) 1 (shw K k t))) := by
  obtain ⟨hO, hx, hZ, hK, hX, hW⟩ := I
  have I : QI Z σ o r X K := ⟨hO, hx, hZ, hK, hX, hW⟩
  have J := I.ci
  have hc := hO.court
  have a0 := hX.1
  have a1 := hX.2.2.1
  have a4 := hX.2.2.2.1
  have a2 := hW.1
  have hsw := shw_le hW h0 h1 h2 h3
  obtain ⟨g, hg⟩ := o_s252 hO
  have O1 := hO.chg ((chgH.rf (fun x => x = o + 252) σ).wr rfl 0 j)
  unfold f_X7_goesTo
  by_cases c1 : shw K k t < 0
  · simp (disch := omega) only [↓reduceIte, Bool.false_eq_true, nrm_i, ltT, ltF, leT, leF, eqT, eqF, not_true_eq_false, not_false_eq_true, and_self, and_true, true_and, false_and, and_false, or_true, true_or, or_false, false_or, ↓btS, ↓bnS, ↓bdS, ↓jnS, ↓obS, n_W hX hW, n_R hW, n_H hX hW, n_U hW, n_L hW, n_B hW, n_S hW, n_M hX, n_Ms hX, n_P, ↓i_t, ↓i_f, ↓man_t I, ↓man_f I, ↓room_t I, ↓room_f I, ↓mir_t I, ↓mir_f I, ↓pas_t I, ↓pas_f I, ↓h_men I, ↓h_rooms I, ↓h_mirrors I, ↓o_rcv hO, ↓o_gI hO, ↓o_g3 hO, ↓o_g7 hO, ↓o_g8 hO, ↓o_g12 hO, ↓c_ob hc, ↓cb_mi J, ↓c_g0b hc, ↓c_g1b hc, ↓c_g2b hc, ↓c_g3b hc, ↓c_g4b hc, ↓c_r0b hc, ↓c_r1b hc, ↓c_r2b hc, ↓c_r3b hc, ↓c_r4b hc, ↓cb_W J, ↓cb_R J, ↓cb_H J, ↓cb_U J, ↓cb_L J, ↓hb_shows J, ↓hb_menIn J, ↓hb_menShown J, ↓hb_isBroken J, ↓hb_bits, ↓o_r252 hO, ↓hb_gsh I e0 e1 h0 h1 h2 h3, c1]
  · by_cases c2 : k = j
    · subst c2
      simp (disch := omega) only [↓reduceIte, Bool.false_eq_true, nrm_i, ltT, ltF, leT, leF, eqT, eqF, not_true_eq_false, not_false_eq_true, and_self, and_true, true_and, false_and, and_false, or_true, true_or, or_false, false_or, ↓btS, ↓bnS, ↓bdS, ↓jnS, ↓obS, n_W hX hW, n_R hW, n_H hX hW, n_U hW, n_L hW, n_B hW, n_S hW, n_M hX, n_Ms hX, n_P, ↓i_t, ↓i_f, ↓man_t I, ↓man_f I, ↓room_t I, ↓room_f I, ↓mir_t I, ↓mir_f I, ↓pas_t I, ↓pas_f I, ↓h_men I, ↓h_rooms I, ↓h_mirrors I, ↓o_rcv hO, ↓o_gI hO, ↓o_g3 hO, ↓o_g7 hO, ↓o_g8 hO, ↓o_g12 hO, ↓c_ob hc, ↓cb_mi J, ↓c_g0b hc, ↓c_g1b hc, ↓c_g2b hc, ↓c_g3b hc, ↓c_g4b hc, ↓c_r0b hc, ↓c_r1b hc, ↓c_r2b hc, ↓c_r3b hc, ↓c_r4b hc, ↓cb_W J, ↓cb_R J, ↓cb_H J, ↓cb_U J, ↓cb_L J, ↓hb_shows J, ↓hb_menIn J, ↓hb_menShown J, ↓hb_isBroken J, ↓hb_bits, ↓o_r252 hO, ↓hb_gsh I e0 e1 h0 h1 h2 h3, ↓o_a252 hO, e0]
    · have hh := (hW.2.2.1 k (shw K k t) h0 h1 (by omega) (by omega)).1
      have hh2 := (hW.2.2.1 j (shw K k t) j0 j1 (by omega) (by omega)).1
      by_cases c3 : kH K j (shw K k t) = kH K k (shw K k t)
      · simp (disch := omega) only [↓reduceIte, Bool.false_eq_true, nrm_i, ltT, ltF, leT, leF, eqT, eqF, not_true_eq_false, not_false_eq_true, and_self, and_true, true_and, false_and, and_false, or_true, true_or, or_false, false_or, ↓btS, ↓bnS, ↓bdS, ↓jnS, ↓obS, n_W hX hW, n_R hW, n_H hX hW, n_U hW, n_L hW, n_B hW, n_S hW, n_M hX, n_Ms hX, n_P, ↓i_t, ↓i_f, ↓man_t I, ↓man_f I, ↓room_t I, ↓room_f I, ↓mir_t I, ↓mir_f I, ↓pas_t I, ↓pas_f I, ↓h_men I, ↓h_rooms I, ↓h_mirrors I, ↓o_rcv hO, ↓o_gI hO, ↓o_g3 hO, ↓o_g7 hO, ↓o_g8 hO, ↓o_g12 hO, ↓c_ob hc, ↓cb_mi J, ↓c_g0b hc, ↓c_g1b hc, ↓c_g2b hc, ↓c_g3b hc, ↓c_g4b hc, ↓c_r0b hc, ↓c_r1b hc, ↓c_r2b hc, ↓c_r3b hc, ↓c_r4b hc, ↓cb_W J, ↓cb_R J, ↓cb_H J, ↓cb_U J, ↓cb_L J, ↓hb_shows J, ↓hb_menIn J, ↓hb_menShown J, ↓hb_isBroken J, ↓hb_bits, ↓o_r252 hO, ↓hb_gsh I e0 e1 h0 h1 h2 h3, ↓o_a252 hO, e0, c2, c3, ↓o_w252 hO, ↓o_w252 O1]
      · simp (disch := omega) only [↓reduceIte, Bool.false_eq_true, nrm_i, ltT, ltF, leT, leF, eqT, eqF, not_true_eq_false, not_false_eq_true, and_self, and_true, true_and, false_and, and_false, or_true, true_or, or_false, false_or, ↓btS, ↓bnS, ↓bdS, ↓jnS, ↓obS, n_W hX hW, n_R hW, n_H hX hW, n_U hW, n_L hW, n_B hW, n_S hW, n_M hX, n_Ms hX, n_P, ↓i_t, ↓i_f, ↓man_t I, ↓man_f I, ↓room_t I, ↓room_f I, ↓mir_t I, ↓mir_f I, ↓pas_t I, ↓pas_f I, ↓h_men I, ↓h_rooms I, ↓h_mirrors I, ↓o_rcv hO, ↓o_gI hO, ↓o_g3 hO, ↓o_g7 hO, ↓o_g8 hO, ↓o_g12 hO, ↓c_ob hc, ↓cb_mi J, ↓c_g0b hc, ↓c_g1b hc, ↓c_g2b hc, ↓c_g3b hc, ↓c_g4b hc, ↓c_r0b hc, ↓c_r1b hc, ↓c_r2b hc, ↓c_r3b hc, ↓c_r4b hc, ↓cb_W J, ↓cb_R J, ↓cb_H J, ↓cb_U J, ↓cb_L J, ↓hb_shows J, ↓hb_menIn J, ↓hb_menShown J, ↓hb_isBroken J, ↓hb_bits, ↓o_r252 hO, ↓hb_gsh I e0 e1 h0 h1 h2 h3, ↓o_a252 hO, e0, c2, c3]
/-- a glance is written -/
theorem gl_wr (hO : Osh σ o r) (k t : Int) : ci (wr (wr σ (o + 252) 0 k) (o + 252) 1 t) (o + 252) 0 = k ∧ ci (wr (wr σ (o + 252) 0 k) (o + 252) 1 t) (o + 252) 1 = t := by
  obtain ⟨g, hg⟩ := o_s252 hO
  rw [wr_ci (h := by rw [wr_shp]; exact hg), wr_ci (h := hg)]
  exact ⟨by rw [fuN _ _ (by decide), fuE], fuE _ _ _⟩
theorem gl_q (o : Nat) (σ : Hp) (k t : Int) : chgQ o σ (wr (wr σ (o + 252) 0 k) (o + 252) 1 t) := ((chgQ.rf o σ).wr (by unfold qS; omega) _ _).wr (by unfold qS; omega) _ _
theorem h_look (I : QI Z σ o r X K) {x y z w : Int} (wx : wd x) (wy : wd y) (wz : wd z) (ww : wd w) : ∃ σ' : Hp, f_X0_look σ o x y z w = some (q_look X K x y z w, σ') ∧ chgQ o σ σ' := by
  obtain ⟨hO, hx, hZ, hK, hX, hW⟩ := I
  have I : QI Z σ o r X K := ⟨hO, hx, hZ, hK, hX, hW⟩
  have J := I.ci
  have hc := hO.court
  have a0 := hX.1
  have a1 := hX.2.2.1
  have a4 := hX.2.2.2.1
  have a2 := hW.1
  unfold f_X0_look q_look
  by_cases G : (0 ≤ x ∧ x < xK X) ∧ (0 ≤ y ∧ y < xK X) ∧ (-1 ≤ z ∧ z < xK X) ∧ (0 ≤ w ∧ w ≤ 2)
  · rw [if_pos G]
    obtain ⟨c1, c2, c3, c4⟩ := G
    have q1 := gl_q o σ x (kMi K)
    have I1 := I.chg q1
    have g1 := gl_wr hO x (kMi K)
    have O1 := hO.chg ((chgH.rf (fun y => y = o + 252) σ).wr rfl 0 x)
    have eb : ∀ {β : Type} (f : Unit → Hp → Option β), bn (f_X7_begins σ (o + 252) x (kMi K)) f = f () (wr (wr σ (o + 252) 0 x) (o + 252) 1 (kMi K)) := by
      intro β f
      refine bnP ?_ f
      unfold f_X7_begins
      simp (disch := omega) only [↓reduceIte, Bool.false_eq_true, nrm_i, ltT, ltF, leT, leF, eqT, eqF, not_true_eq_false, not_false_eq_true, and_self, and_true, true_and, false_and, and_false, or_true, true_or, or_false, false_or, ↓btS, ↓bnS, ↓bdS, ↓jnS, ↓obS, ↓o_w252 hO, ↓o_w252 O1]
    have e2 := h_goesTo I1 g1.1 g1.2 c1.1 c1.2 a2.1 (Int.le_refl _) c2.1 c2.2
    generalize wr (wr σ (o + 252) 0 x) (o + 252) 1 (kMi K) = σ1 at *
    have hs1 := shw_le hW c1.1 c1.2 a2.1 (Int.le_refl _)
    have hO1 := I1.1
    have fin : ∀ (τ : Hp) (k t : Int), chgQ o σ τ → ci τ (o + 252) 0 = k → ci τ (o + 252) 1 = t → 0 ≤ k → k < xK X → 0 ≤ t → t ≤ kMi K → ((gR τ 0 (some o) 12).bind fun v25 => (gR τ 0 (some o) 7).bind fun v26 => (rcv τ 7 v25).bind fun b29 => bn (f_X7_shows τ b29 v26) fun v27 s28 => (if 0 ≤ nrm v27 then ((gR s28 0 (some o) 7).bind fun v30 => (gR s28 5 v30 2).bind fun v31 => (gR s28 0 (some o) 12).bind fun v32 => (gI s28 7 v32 0).bind fun v33 => (aR s28 105 v31 v33).bind fun v34 => (aI s28 101 v34 v27).bind fun v35 => (if ¬ nrm w = 0 then ((if ¬ nrm w = nrm 1 then ((gR s28 0 (some o) 7).bind fun v36 => (gR s28 0 (some o) 3).bind fun v37 => (rcv s28 5 v36).bind fun b40 => bn (f_X5_menIn s28 b40 v37 v35 v27) fun v38 s39 => some (v38, s39)) else (some (v35, s28)))) else (some (v27, s28)))) else (some ((-2), s28)))) = some ((if shw K k t < 0 then -2 else if w = 0 then shw K k t else if w = 1 then kH K k (shw K k t) else (mIn X K (kH K k (shw K k t)) (shw K k t) : Int)), τ) := by
      intro τ k t hq f0 f1 k0 k1 t0 t1
      have I := I.chg hq
      have hO := I.1
      have hc := hO.court
      have hK := I.2.2.2.1
      have J := I.ci
      have hsw := shw_le hW k0 k1 t0 t1
      by_cases d1 : shw K k t < 0
      · simp (disch := omega) only [↓reduceIte, Bool.false_eq_true, nrm_i, ltT, ltF, leT, leF, eqT, eqF, not_true_eq_false, not_false_eq_true, and_self, and_true, true_and, false_and, and_false, or_true, true_or, or_false, false_or, ↓btS, ↓bnS, ↓bdS, ↓jnS, ↓obS, n_W hX hW, n_R hW, n_H hX hW, n_U hW, n_L hW, n_B hW, n_S hW, n_M hX, n_Ms hX, n_P, ↓i_t, ↓i_f, ↓man_t I, ↓man_f I, ↓room_t I, ↓room_f I, ↓mir_t I, ↓mir_f I, ↓pas_t I, ↓pas_f I, ↓h_men I, ↓h_rooms I, ↓h_mirrors I, ↓o_rcv hO, ↓o_gI hO, ↓o_g3 hO, ↓o_g7 hO, ↓o_g8 hO, ↓o_g12 hO, ↓c_ob hc, ↓cb_mi J, ↓c_g0b hc, ↓c_g1b hc, ↓c_g2b hc, ↓c_g3b hc, ↓c_g4b hc, ↓c_r0b hc, ↓c_r1b hc, ↓c_r2b hc, ↓c_r3b hc, ↓c_r4b hc, ↓cb_W J, ↓cb_R J, ↓cb_H J, ↓cb_U J, ↓cb_L J, ↓hb_shows J, ↓hb_menIn J, ↓hb_menShown J, ↓hb_isBroken J, ↓hb_bits, ↓o_r252 hO, ↓hb_gsh I f0 f1 k0 k1 t0 t1, d1]
      · have hh := (hW.2.2.1 k (shw K k t) k0 k1 (by omega) (by omega)).1
        rcases (show w = 0 ∨ w = 1 ∨ w = 2 by omega) with rfl | rfl | rfl
        · simp (disch := omega) only [↓reduceIte, Bool.false_eq_true, nrm_i, ltT, ltF, leT, leF, eqT, eqF, not_true_eq_false, not_false_eq_true, and_self, and_true, true_and, false_and, and_false, or_true, true_or, or_false, false_or, ↓btS, ↓bnS, ↓bdS, ↓jnS, ↓obS, n_W hX hW, n_R hW, n_H hX hW, n_U hW, n_L hW, n_B hW, n_S hW, n_M hX, n_Ms hX, n_P, ↓i_t, ↓i_f, ↓man_t I, ↓man_f I, ↓room_t I, ↓room_f I, ↓mir_t I, ↓mir_f I, ↓pas_t I, ↓pas_f I, ↓h_men I, ↓h_rooms I, ↓h_mirrors I, ↓o_rcv hO, ↓o_gI hO, ↓o_g3 hO, ↓o_g7 hO, ↓o_g8 hO, ↓o_g12 hO, ↓c_ob hc, ↓cb_mi J, ↓c_g0b hc, ↓c_g1b hc, ↓c_g2b hc, ↓c_g3b hc, ↓c_g4b hc, ↓c_r0b hc, ↓c_r1b hc, ↓c_r2b hc, ↓c_r3b hc, ↓c_r4b hc, ↓cb_W J, ↓cb_R J, ↓cb_H J, ↓cb_U J, ↓cb_L J, ↓hb_shows J, ↓hb_menIn J, ↓hb_menShown J, ↓hb_isBroken J, ↓hb_bits, ↓o_r252 hO, ↓hb_gsh I f0 f1 k0 k1 t0 t1, d1, ↓o_a252 hO, f0]
        · simp (disch := omega) only [↓reduceIte, Bool.false_eq_true, nrm_i, ltT, ltF, leT, leF, eqT, eqF, not_true_eq_false, not_false_eq_true, and_self, and_true, true_and, false_and, and_false, or_true, true_or, or_false, false_or, ↓btS, ↓bnS, ↓bdS, ↓jnS, ↓obS, n_W hX hW, n_R hW, n_H hX hW, n_U hW, n_L hW, n_B hW, n_S hW, n_M hX, n_Ms hX, n_P, ↓i_t, ↓i_f, ↓man_t I, ↓man_f I, ↓room_t I, ↓room_f I, ↓mir_t I, ↓mir_f I, ↓pas_t I, ↓pas_f I, ↓h_men I, ↓h_rooms I, ↓h_mirrors I, ↓o_rcv hO, ↓o_gI hO, ↓o_g3 hO, ↓o_g7 hO, ↓o_g8 hO, ↓o_g12 hO, ↓c_ob hc, ↓cb_mi J, ↓c_g0b hc, ↓c_g1b hc, ↓c_g2b hc, ↓c_g3b hc, ↓c_g4b hc, ↓c_r0b hc, ↓c_r1b hc, ↓c_r2b hc, ↓c_r3b hc, ↓c_r4b hc, ↓cb_W J, ↓cb_R J, ↓cb_H J, ↓cb_U J, ↓cb_L J, ↓hb_shows J, ↓hb_menIn J, ↓hb_menShown J, ↓hb_isBroken J, ↓hb_bits, ↓o_r252 hO, ↓hb_gsh I f0 f1 k0 k1 t0 t1, d1, ↓o_a252 hO, f0]
        · simp (disch := omega) only [↓reduceIte, Bool.false_eq_true, nrm_i, ltT, ltF, leT, leF, eqT, eqF, not_true_eq_false, not_false_eq_true, and_self, and_true, true_and, false_and, and_false, or_true, true_or, or_false, false_or, ↓btS, ↓bnS, ↓bdS, ↓jnS, ↓obS, n_W hX hW, n_R hW, n_H hX hW, n_U hW, n_L hW, n_B hW, n_S hW, n_M hX, n_Ms hX, n_P, ↓i_t, ↓i_f, ↓man_t I, ↓man_f I, ↓room_t I, ↓room_f I, ↓mir_t I, ↓mir_f I, ↓pas_t I, ↓pas_f I, ↓h_men I, ↓h_rooms I, ↓h_mirrors I, ↓o_rcv hO, ↓o_gI hO, ↓o_g3 hO, ↓o_g7 hO, ↓o_g8 hO, ↓o_g12 hO, ↓c_ob hc, ↓cb_mi J, ↓c_g0b hc, ↓c_g1b hc, ↓c_g2b hc, ↓c_g3b hc, ↓c_g4b hc, ↓c_r0b hc, ↓c_r1b hc, ↓c_r2b hc, ↓c_r3b hc, ↓c_r4b hc, ↓cb_W J, ↓cb_R J, ↓cb_H J, ↓cb_U J, ↓cb_L J, ↓hb_shows J, ↓hb_menIn J, ↓hb_menShown J, ↓hb_isBroken J, ↓hb_bits, ↓o_r252 hO, ↓hb_gsh I f0 f1 k0 k1 t0 t1, d1, ↓o_a252 hO, f0]
    unfold lkV
    by_cases d : shw K x (kMi K) < 0 ∨ x = y ∨ ¬ kH K y (shw K x (kMi K)) = kH K x (shw K x (kMi K))
    · rw [if_pos d] at e2
      have es : sn K x (shw K x (kMi K)) y = -2 := by unfold sn; rw [if_pos d]
      have es2 : (if z = -1 then (-2 : Int) else sn K y (-2) z) = -2 := by
        split
        · rfl
        · unfold sn; rw [if_pos (by omega)]
      refine ⟨σ1, ?_, q1⟩
      rw [es, es2]
      simp (disch := omega) only [↓reduceIte, Bool.false_eq_true, nrm_i, ltT, ltF, leT, leF, eqT, eqF, not_true_eq_false, not_false_eq_true, and_self, and_true, true_and, false_and, and_false, or_true, true_or, or_false, false_or, ↓btS, ↓bnS, ↓bdS, ↓jnS, ↓obS, n_W hX hW, n_R hW, n_H hX hW, n_U hW, n_L hW, n_B hW, n_S hW, n_M hX, n_Ms hX, n_P, ↓i_t, ↓i_f, ↓man_t I, ↓man_f I, ↓room_t I, ↓room_f I, ↓mir_t I, ↓mir_f I, ↓pas_t I, ↓pas_f I, ↓h_men I, ↓h_rooms I, ↓h_mirrors I, ↓o_rcv hO, ↓o_gI hO, ↓o_g3 hO, ↓o_g7 hO, ↓o_g8 hO, ↓o_g12 hO, ↓c_ob hc, ↓cb_mi J, ↓c_g0b hc, ↓c_g1b hc, ↓c_g2b hc, ↓c_g3b hc, ↓c_g4b hc, ↓c_r0b hc, ↓c_r1b hc, ↓c_r2b hc, ↓c_r3b hc, ↓c_r4b hc, ↓cb_W J, ↓cb_R J, ↓cb_H J, ↓cb_U J, ↓cb_L J, ↓hb_shows J, ↓hb_menIn J, ↓hb_menShown J, ↓hb_isBroken J, ↓hb_bits, ↓o_r252 hO, ↓eb, ↓o_g12 hO1, ↓o_g7 hO1, ↓o_r252 hO1, ↓bnP e2]
    · rw [if_neg d] at e2
      have es : sn K x (shw K x (kMi K)) y = shw K y (shw K x (kMi K)) := by unfold sn; rw [if_neg d]
      have q2 := q1.tr (gl_q o σ1 y (shw K x (kMi K)))
      have g2 := gl_wr hO1 y (shw K x (kMi K))
      have hs2 : 0 ≤ shw K x (kMi K) ∧ shw K x (kMi K) ≤ kMi K := by omega
      rw [es]
      generalize wr (wr σ1 (o + 252) 0 y) (o + 252) 1 (shw K x (kMi K)) = σ2 at *
      generalize shw K x (kMi K) = u at *
      have I2 := I.chg q2
      have hO2 := I2.1
      have hs3 := shw_le hW c2.1 c2.2 hs2.1 hs2.2
      by_cases d2 : z = -1
      · have f9 := fin σ2 y u q2 g2.1 g2.2 c2.1 c2.2 hs2.1 hs2.2
        rw [nrm_i (z := w) (by omega) (by omega), nrm_i (z := 1) (by decide) (by decide)] at f9
        rw [if_pos d2, if_pos d2]
        refine ⟨σ2, ?_, q2⟩
        simp (disch := omega) only [↓reduceIte, Bool.false_eq_true, nrm_i, ltT, ltF, leT, leF, eqT, eqF, not_true_eq_false, not_false_eq_true, and_self, and_true, true_and, false_and, and_false, or_true, true_or, or_false, false_or, ↓btS, ↓bnS, ↓bdS, ↓jnS, ↓obS, n_W hX hW, n_R hW, n_H hX hW, n_U hW, n_L hW, n_B hW, n_S hW, n_M hX, n_Ms hX, n_P, ↓i_t, ↓i_f, ↓man_t I, ↓man_f I, ↓room_t I, ↓room_f I, ↓mir_t I, ↓mir_f I, ↓pas_t I, ↓pas_f I, ↓h_men I, ↓h_rooms I, ↓h_mirrors I, ↓o_rcv hO, ↓o_gI hO, ↓o_g3 hO, ↓o_g7 hO, ↓o_g8 hO, ↓o_g12 hO, ↓c_ob hc, ↓cb_mi J, ↓c_g0b hc, ↓c_g1b hc, ↓c_g2b hc, ↓c_g3b hc, ↓c_g4b hc, ↓c_r0b hc, ↓c_r1b hc, ↓c_r2b hc, ↓c_r3b hc, ↓c_r4b hc, ↓cb_W J, ↓cb_R J, ↓cb_H J, ↓cb_U J, ↓cb_L J, ↓hb_shows J, ↓hb_menIn J, ↓hb_menShown J, ↓hb_isBroken J, ↓hb_bits, ↓o_r252 hO, ↓eb, ↓o_g12 hO1, ↓o_g7 hO1, ↓o_r252 hO1, ↓bnP e2, d2]
        exact f9
      · rw [if_neg d2, if_neg d2]
        have e3 := h_goesTo I2 g2.1 g2.2 c2.1 c2.2 hs2.1 hs2.2 (j := z) (by omega) (by omega)
        by_cases d3 : shw K y u < 0 ∨ y = z ∨ ¬ kH K z (shw K y u) = kH K y (shw K y u)
        · rw [if_pos d3] at e3
          have es3 : sn K y (shw K y u) z = -2 := by unfold sn; rw [if_pos d3]
          refine ⟨σ2, ?_, q2⟩
          rw [es3]
          simp (disch := omega) only [↓reduceIte, Bool.false_eq_true, nrm_i, ltT, ltF, leT, leF, eqT, eqF, not_true_eq_false, not_false_eq_true, and_self, and_true, true_and, false_and, and_false, or_true, true_or, or_false, false_or, ↓btS, ↓bnS, ↓bdS, ↓jnS, ↓obS, n_W hX hW, n_R hW, n_H hX hW, n_U hW, n_L hW, n_B hW, n_S hW, n_M hX, n_Ms hX, n_P, ↓i_t, ↓i_f, ↓man_t I, ↓man_f I, ↓room_t I, ↓room_f I, ↓mir_t I, ↓mir_f I, ↓pas_t I, ↓pas_f I, ↓h_men I, ↓h_rooms I, ↓h_mirrors I, ↓o_rcv hO, ↓o_gI hO, ↓o_g3 hO, ↓o_g7 hO, ↓o_g8 hO, ↓o_g12 hO, ↓c_ob hc, ↓cb_mi J, ↓c_g0b hc, ↓c_g1b hc, ↓c_g2b hc, ↓c_g3b hc, ↓c_g4b hc, ↓c_r0b hc, ↓c_r1b hc, ↓c_r2b hc, ↓c_r3b hc, ↓c_r4b hc, ↓cb_W J, ↓cb_R J, ↓cb_H J, ↓cb_U J, ↓cb_L J, ↓hb_shows J, ↓hb_menIn J, ↓hb_menShown J, ↓hb_isBroken J, ↓hb_bits, ↓o_r252 hO, ↓eb, ↓o_g12 hO1, ↓o_g7 hO1, ↓o_r252 hO1, ↓bnP e2, ↓o_g12 hO2, ↓o_g7 hO2, ↓o_r252 hO2, ↓bnP e3]
        · rw [if_neg d3] at e3
          have es3 : sn K y (shw K y u) z = shw K z (shw K y u) := by unfold sn; rw [if_neg d3]
          have q3 := q2.tr (gl_q o σ2 z (shw K y u))
          have g3 := gl_wr hO2 z (shw K y u)
          generalize wr (wr σ2 (o + 252) 0 z) (o + 252) 1 (shw K y u) = σ3 at *
          have f9 := fin σ3 z (shw K y u) q3 g3.1 g3.2 (by omega) (by omega) (by omega) (by omega)
          rw [nrm_i (z := w) (by omega) (by omega), nrm_i (z := 1) (by decide) (by decide)] at f9
          refine ⟨σ3, ?_, q3⟩
          rw [es3]
          simp (disch := omega) only [↓reduceIte, Bool.false_eq_true, nrm_i, ltT, ltF, leT, leF, eqT, eqF, not_true_eq_false, not_false_eq_true, and_self, and_true, true_and, false_and, and_false, or_true, true_or, or_false, false_or, ↓btS, ↓bnS, ↓bdS, ↓jnS, ↓obS, n_W hX hW, n_R hW, n_H hX hW, n_U hW, n_L hW, n_B hW, n_S hW, n_M hX, n_Ms hX, n_P, ↓i_t, ↓i_f, ↓man_t I, ↓man_f I, ↓room_t I, ↓room_f I, ↓mir_t I, ↓mir_f I, ↓pas_t I, ↓pas_f I, ↓h_men I, ↓h_rooms I, ↓h_mirrors I, ↓o_rcv hO, ↓o_gI hO, ↓o_g3 hO, ↓o_g7 hO, ↓o_g8 hO, ↓o_g12 hO, ↓c_ob hc, ↓cb_mi J, ↓c_g0b hc, ↓c_g1b hc, ↓c_g2b hc, ↓c_g3b hc, ↓c_g4b hc, ↓c_r0b hc, ↓c_r1b hc, ↓c_r2b hc, ↓c_r3b hc, ↓c_r4b hc, ↓cb_W J, ↓cb_R J, ↓cb_H J, ↓cb_U J, ↓cb_L J, ↓hb_shows J, ↓hb_menIn J, ↓hb_menShown J, ↓hb_isBroken J, ↓hb_bits, ↓o_r252 hO, ↓eb, ↓o_g12 hO1, ↓o_g7 hO1, ↓o_r252 hO1, ↓bnP e2, ↓o_g12 hO2, ↓o_g7 hO2, ↓o_r252 hO2, ↓bnP e3]
          exact f9
  · rw [if_neg G]
    refine ⟨σ, ?_, chgQ.rf _ _⟩
    by_cases c1 : 0 ≤ x ∧ x < xK X
    · by_cases c2 : 0 ≤ y ∧ y < xK X
      · by_cases c3 : -1 ≤ z ∧ z < xK X
        · by_cases c4 : 0 ≤ w ∧ w ≤ 2
          · exact absurd ⟨c1, c2, c3, c4⟩ G
          · simp (disch := omega) only [↓reduceIte, Bool.false_eq_true, nrm_i, ltT, ltF, leT, leF, eqT, eqF, not_true_eq_false, not_false_eq_true, and_self, and_true, true_and, false_and, and_false, or_true, true_or, or_false, false_or, ↓btS, ↓bnS, ↓bdS, ↓jnS, ↓obS, n_W hX hW, n_R hW, n_H hX hW, n_U hW, n_L hW, n_B hW, n_S hW, n_M hX, n_Ms hX, n_P, ↓i_t, ↓i_f, ↓man_t I, ↓man_f I, ↓room_t I, ↓room_f I, ↓mir_t I, ↓mir_f I, ↓pas_t I, ↓pas_f I, ↓h_men I, ↓h_rooms I, ↓h_mirrors I, ↓o_rcv hO, ↓o_gI hO, ↓o_g3 hO, ↓o_g7 hO, ↓o_g8 hO, ↓o_g12 hO, ↓c_ob hc, ↓cb_mi J, ↓c_g0b hc, ↓c_g1b hc, ↓c_g2b hc, ↓c_g3b hc, ↓c_g4b hc, ↓c_r0b hc, ↓c_r1b hc, ↓c_r2b hc, ↓c_r3b hc, ↓c_r4b hc, ↓cb_W J, ↓cb_R J, ↓cb_H J, ↓cb_U J, ↓cb_L J, ↓hb_shows J, ↓hb_menIn J, ↓hb_menShown J, ↓hb_isBroken J, ↓hb_bits]
        · simp (disch := omega) only [↓reduceIte, Bool.false_eq_true, nrm_i, ltT, ltF, leT, leF, eqT, eqF, not_true_eq_false, not_false_eq_true, and_self, and_true, true_and, false_and, and_false, or_true, true_or, or_false, false_or, ↓btS, ↓bnS, ↓bdS, ↓jnS, ↓obS, n_W hX hW, n_R hW, n_H hX hW, n_U hW, n_L hW, n_B hW, n_S hW, n_M hX, n_Ms hX, n_P, ↓i_t, ↓i_f, ↓man_t I, ↓man_f I, ↓room_t I, ↓room_f I, ↓mir_t I, ↓mir_f I, ↓pas_t I, ↓pas_f I, ↓h_men I, ↓h_rooms I, ↓h_mirrors I, ↓o_rcv hO, ↓o_gI hO, ↓o_g3 hO, ↓o_g7 hO, ↓o_g8 hO, ↓o_g12 hO, ↓c_ob hc, ↓cb_mi J, ↓c_g0b hc, ↓c_g1b hc, ↓c_g2b hc, ↓c_g3b hc, ↓c_g4b hc, ↓c_r0b hc, ↓c_r1b hc, ↓c_r2b hc, ↓c_r3b hc, ↓c_r4b hc, ↓cb_W J, ↓cb_R J, ↓cb_H J, ↓cb_U J, ↓cb_L J, ↓hb_shows J, ↓hb_menIn J, ↓hb_menShown J, ↓hb_isBroken J, ↓hb_bits]
      · simp (disch := omega) only [↓reduceIte, Bool.false_eq_true, nrm_i, ltT, ltF, leT, leF, eqT, eqF, not_true_eq_false, not_false_eq_true, and_self, and_true, true_and, false_and, and_false, or_true, true_or, or_false, false_or, ↓btS, ↓bnS, ↓bdS, ↓jnS, ↓obS, n_W hX hW, n_R hW, n_H hX hW, n_U hW, n_L hW, n_B hW, n_S hW, n_M hX, n_Ms hX, n_P, ↓i_t, ↓i_f, ↓man_t I, ↓man_f I, ↓room_t I, ↓room_f I, ↓mir_t I, ↓mir_f I, ↓pas_t I, ↓pas_f I, ↓h_men I, ↓h_rooms I, ↓h_mirrors I, ↓o_rcv hO, ↓o_gI hO, ↓o_g3 hO, ↓o_g7 hO, ↓o_g8 hO, ↓o_g12 hO, ↓c_ob hc, ↓cb_mi J, ↓c_g0b hc, ↓c_g1b hc, ↓c_g2b hc, ↓c_g3b hc, ↓c_g4b hc, ↓c_r0b hc, ↓c_r1b hc, ↓c_r2b hc, ↓c_r3b hc, ↓c_r4b hc, ↓cb_W J, ↓cb_R J, ↓cb_H J, ↓cb_U J, ↓cb_L J, ↓hb_shows J, ↓hb_menIn J, ↓hb_menShown J, ↓hb_isBroken J, ↓hb_bits]
    · simp (disch := omega) only [↓reduceIte, Bool.false_eq_true, nrm_i, ltT, ltF, leT, leF, eqT, eqF, not_true_eq_false, not_false_eq_true, and_self, and_true, true_and, false_and, and_false, or_true, true_or, or_false, false_or, ↓btS, ↓bnS, ↓bdS, ↓jnS, ↓obS, n_W hX hW, n_R hW, n_H hX hW, n_U hW, n_L hW, n_B hW, n_S hW, n_M hX, n_Ms hX, n_P, ↓i_t, ↓i_f, ↓man_t I, ↓man_f I, ↓room_t I, ↓room_f I, ↓mir_t I, ↓mir_f I, ↓pas_t I, ↓pas_f I, ↓h_men I, ↓h_rooms I, ↓h_mirrors I, ↓o_rcv hO, ↓o_gI hO, ↓o_g3 hO, ↓o_g7 hO, ↓o_g8 hO, ↓o_g12 hO, ↓c_ob hc, ↓cb_mi J, ↓c_g0b hc, ↓c_g1b hc, ↓c_g2b hc, ↓c_g3b hc, ↓c_g4b hc, ↓c_r0b hc, ↓c_r1b hc, ↓c_r2b hc, ↓c_r3b hc, ↓c_r4b hc, ↓cb_W J, ↓cb_R J, ↓cb_H J, ↓cb_U J, ↓cb_L J, ↓hb_shows J, ↓hb_menIn J, ↓hb_menShown J, ↓hb_isBroken J, ↓hb_bits]
end
