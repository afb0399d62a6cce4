set_option maxRecDepth 100000
set_option maxHeartbeats 1000000
theorem UPd.tr {n : Int} {P Q : Int → Prop} {a0 a b : Int × Int} (h : UPd n P a0 a) (g : UPd n Q a b) : UPd n (fun v => P v ∨ Q v) a0 b := by
  obtain ⟨h1, h2, h3⟩ := h
  obtain ⟨g1, g2, g3⟩ := g
  refine ⟨by omega, fun v hv => by rcases hv with hv | hv; have := h2 v hv; omega; exact g2 v hv, ?_⟩
  rcases g3 with g3 | ⟨q1, q2, q3⟩
  · rcases h3 with h3 | ⟨p1, p2, p3⟩
    · exact Or.inl (g3.trans h3)
    · rw [g3]; exact Or.inr ⟨Or.inl p1, p2, p3⟩
  · exact Or.inr ⟨Or.inr q1, by omega, q3⟩
section
variable {Z : Nat → Prop} {σ σ' τ τ' : Hp} {o r b : Nat} {X : Txt} {K E : Crt} {β : Type}
/-- rows of yes and no -/
def RcB (X : Txt) (K : Crt) (b : Nat) (P : Int → Int → Prop) (τ : Hp) : Prop := ∀ k t : Int, 0 ≤ k → k < xK X → 0 ≤ t → t ≤ kMi K → (ci τ (b + k.toNat) t = 0 ∨ ci τ (b + k.toNat) t = 1) ∧ (ci τ (b + k.toNat) t = 1 ↔ P k t)
theorem RcB.cg {P Q : Int → Int → Prop} (h : RcB X K b P τ) (e : ∀ k t : Int, 0 ≤ k → k < xK X → 0 ≤ t → t ≤ kMi K → (P k t ↔ Q k t)) : RcB X K b Q τ := fun k t h0 h1 h2 h3 => ⟨(h k t h0 h1 h2 h3).1, (h k t h0 h1 h2 h3).2.trans (e k t h0 h1 h2 h3)⟩
theorem RcB.mv {P : Int → Int → Prop} (h : RcB X K b P τ) (e : ∀ k : Int, 0 ≤ k → k < xK X → ci τ' (b + k.toNat) = ci τ (b + k.toNat)) : RcB X K b P τ' := fun k t h0 h1 h2 h3 => by rw [e k h0 h1]; exact h k t h0 h1 h2 h3
/-- the start -/
theorem h_dp29 (I : QI Z σ o r X K) {x z : Int} (c1 : 0 ≤ x ∧ x < xK X) (k : Hp → Int → Int → Int → Option (Int × Hp)) : ∃ σ' : Hp, f_X0_deepest_L29 o FU σ x z 300 0 0 k = k σ' z 300 0 ∧ RcB X K (o + 255) (fun k t => k = x ∧ t = kMi K) σ' ∧ chgQ o σ σ' := by
  obtain ⟨hO, hx, hZ, hK, hX, hW⟩ := I
  have I : QI Z σ o r X K := ⟨hO, hx, hZ, hK, hX, hW⟩
  have J := I.ci
  have hc := hO.court
  have a0 := hX.1
  have a1 := hX.2.2.1
  have a4 := hX.2.2.2.1
  have a2 := hW.1
  refine loop (S := Hp × Int) (fun fl q => f_X0_deepest_L29 o fl q.1 x z 300 0 q.2 k) (fun w => ∃ σ' : Hp, w = k σ' z 300 0 ∧ RcB X K (o + 255) (fun k t => k = x ∧ t = kMi K) σ' ∧ chgQ o σ σ')
    (fun i q => q.2 = (i : Int) ∧ (∀ k t : Int, 0 ≤ k → k < i → 0 ≤ t → t ≤ kMi K → ci q.1 (o + 255 + k.toNat) t = if k = x ∧ t = kMi K then 1 else 0) ∧ chgQ o σ q.1) (xK X).toNat ?_ ?_ (xK X).toNat 0 FU (σ, 0) (by omega) (by rw [FU_eq]; omega) ⟨rfl, fun _ _ _ h => by omega, chgQ.rf _ _⟩
  · rintro fl i ⟨τ, q⟩ hi ⟨rfl, hy, cy⟩
    dsimp only at hy cy ⊢
    have I2 := I.chg cy
    have hO2 := I2.1
    have lp : ∃ τ' : Hp, f_X0_deepest_L41 o FU τ x z 300 0 i 0 (fun s21 x1 x2 x3 x4 x5 => f_X0_deepest_L29 o fl s21 x1 x2 x3 x4 (x5 + 1) k) = f_X0_deepest_L29 o fl τ' x z 300 0 ((i : Int) + 1) k ∧ (∀ t : Int, 0 ≤ t → t ≤ kMi K → ci τ' (o + 255 + (i : Int).toNat) t = if (i : Int) = x ∧ t = kMi K then 1 else 0) ∧ chgH (fun y => y = o + 255 + (i : Int).toNat) τ τ' := by
      refine loop (S := Hp × Int) (fun f q => f_X0_deepest_L41 o f q.1 x z 300 0 i q.2 (fun s21 x1 x2 x3 x4 x5 => f_X0_deepest_L29 o fl s21 x1 x2 x3 x4 (x5 + 1) k)) (fun w => ∃ τ' : Hp, w = f_X0_deepest_L29 o fl τ' x z 300 0 ((i : Int) + 1) k ∧ (∀ t : Int, 0 ≤ t → t ≤ kMi K → ci τ' (o + 255 + (i : Int).toNat) t = if (i : Int) = x ∧ t = kMi K then 1 else 0) ∧ chgH (fun y => y = o + 255 + (i : Int).toNat) τ τ')
        (fun j q => q.2 = (j : Int) ∧ (∀ t : Int, 0 ≤ t → t < j → ci q.1 (o + 255 + (i : Int).toNat) t = if (i : Int) = x ∧ t = kMi K then 1 else 0) ∧ chgH (fun y => y = o + 255 + (i : Int).toNat) τ q.1) (kMi K + 1).toNat ?_ ?_ (kMi K + 1).toNat 0 FU (τ, 0) (by omega) (by rw [FU_eq]; omega) ⟨rfl, fun _ _ h => by omega, chgH.rf _ _⟩
      · rintro f j ⟨y, q⟩ hj ⟨rfl, hz, cz⟩
        dsimp only at hz cz ⊢
        have qz : chgQ o τ y := chgQ.of cz (fun w hw => by rw [hw]; unfold qS; omega)
        have I3 := I2.chg qz
        have hO3 := I3.1
        have J3 := I3.ci
        obtain ⟨g, hg⟩ := o_s255 hO3 (i := i) (by omega) (by omega)
        right
        refine ⟨(wr y (o + 255 + (i : Int).toNat) j (if (i : Int) = x ∧ (j : Int) = kMi K then 1 else 0), ((j + 1 : Nat) : Int)), ?_, rfl, ?_, cz.wr rfl _ _⟩
        · rw [f_X0_deepest_L41]
          have hw : ∀ v : Int, sI y 102 (some (o + 255 + (i : Int).toNat)) j v = some (wr y (o + 255 + (i : Int).toNat) j v) := fun v => sI_s hg v (by omega) (by omega) (by omega)
          by_cases d1 : (i : Int) = x
          · by_cases d2 : (j : Int) = kMi K
            · simp (disch := omega) only [↓reduceIte, Bool.false_eq_true, nrm_i, ltT, ltF, leT, leF, eqT, eqF, not_true_eq_false, not_false_eq_true, and_self, and_true, true_and, false_and, and_false, or_true, true_or, or_false, false_or, ↓btS, ↓bnS, ↓bdS, ↓jnS, ↓obS, ↓o_g7 hO3, ↓cb_mi J3, ↓o_g14 hO3, ↓o_r254 hO3, ↓obP (hw _), b1_1]; rfl
            · simp (disch := omega) only [↓reduceIte, Bool.false_eq_true, nrm_i, ltT, ltF, leT, leF, eqT, eqF, not_true_eq_false, not_false_eq_true, and_self, and_true, true_and, false_and, and_false, or_true, true_or, or_false, false_or, ↓btS, ↓bnS, ↓bdS, ↓jnS, ↓obS, ↓o_g7 hO3, ↓cb_mi J3, ↓o_g14 hO3, ↓o_r254 hO3, ↓obP (hw _), b1_0]; rfl
          · simp (disch := omega) only [↓reduceIte, Bool.false_eq_true, nrm_i, ltT, ltF, leT, leF, eqT, eqF, not_true_eq_false, not_false_eq_true, and_self, and_true, true_and, false_and, and_false, or_true, true_or, or_false, false_or, ↓btS, ↓bnS, ↓bdS, ↓jnS, ↓obS, ↓o_g7 hO3, ↓cb_mi J3, ↓o_g14 hO3, ↓o_r254 hO3, ↓obP (hw _), b1_0]; rfl
        · intro t t0 t1
          dsimp only
          rw [wr_ci (h := hg)]
          by_cases e : t = j
          · rw [e, fuE]
          · rw [fuN _ _ e]; exact hz t t0 (by omega)
      · rintro f ⟨y, q⟩ ⟨rfl, hz, cz⟩
        dsimp only at hz cz ⊢
        have qz : chgQ o τ y := chgQ.of cz (fun w hw => by rw [hw]; unfold qS; omega)
        have I3 := I2.chg qz
        refine ⟨y, ?_, fun t t0 t1 => hz t t0 (by omega), cz⟩
        rw [f_X0_deepest_L41, o_g7 I3.1, cb_mi I3.ci, nrm_i (by omega) (by omega), nrm_i (by omega) (by omega), if_pos (by omega)]
    obtain ⟨τ', e', h', c'⟩ := lp
    right
    refine ⟨(τ', ((i + 1 : Nat) : Int)), ?_, rfl, fun k t k0 k1 t0 t1 => ?_, cy.tr (chgQ.of c' (fun w hw => by rw [hw]; unfold qS; omega))⟩
    · rw [f_X0_deepest_L29, o_rcv hO2, h_mirrors I2, nrm_i (by omega) (by omega), nrm_i (by omega) (by omega), if_neg (by omega), e']
      rfl
    · dsimp only
      by_cases e : k = i
      · rw [e]; exact h' t t0 t1
      · rw [c'.num (by omega)]
        exact hy k t k0 (by omega) t0 t1
  · rintro fl ⟨τ, q⟩ ⟨rfl, hy, cy⟩
    dsimp only at hy cy ⊢
    have I2 := I.chg cy
    refine ⟨τ, ?_, fun k t k0 k1 t0 t1 => ?_, cy⟩
    · rw [f_X0_deepest_L29, o_rcv I2.1, h_mirrors I2, nrm_i (by omega) (by omega), nrm_i (by omega) (by omega), if_pos (by omega)]
    · rw [hy k t k0 (by omega) t0 t1]
      by_cases e : k = x ∧ t = kMi K
      · rw [if_pos e]; exact ⟨Or.inr rfl, ⟨fun _ => e, fun _ => rfl⟩⟩
      · rw [if_neg e]; exact ⟨Or.inl rfl, ⟨fun h => absurd h (by decide), fun h => absurd h e⟩⟩
/-- a level is looked through -/
theorem h_dp110 (I : QI Z σ o r X K) {x z : Int} {n : Nat} (hn : n < 4) {P : Int → Int → Prop} (hR : RcB X K (o + 255) P σ) {w0 : Int × Int} (ha : 0 ≤ w0.1 ∧ w0.1 ≤ 300) (k : Hp → Int → Int → Int → Int → Option (Int × Hp)) : ∃ a : Int × Int, f_X0_deepest_L110 o FU σ z w0.1 w0.2 ((n : Int) + 1) 0 k = k σ z a.1 a.2 ((n : Int) + 1) ∧ UPd ((n : Int) + 1) (fun v => ∃ k t : Nat, (k : Int) < xK X ∧ (t : Int) ≤ kMi K ∧ P k t ∧ shw K k t = v ∧ 0 ≤ v) w0 a := by
  obtain ⟨hO, hx, hZ, hK, hX, hW⟩ := I
  have I : QI Z σ o r X K := ⟨hO, hx, hZ, hK, hX, hW⟩
  have J := I.ci
  have hc := hO.court
  have a0 := hX.1
  have a1 := hX.2.2.1
  have a4 := hX.2.2.2.1
  have a2 := hW.1
  refine loop (S := (Int × Int) × Int) (fun fl q => f_X0_deepest_L110 o fl σ z q.1.1 q.1.2 ((n : Int) + 1) q.2 k) (fun w => ∃ a : Int × Int, w = k σ z a.1 a.2 ((n : Int) + 1) ∧ UPd ((n : Int) + 1) (fun v => ∃ k t : Nat, (k : Int) < xK X ∧ (t : Int) ≤ kMi K ∧ P k t ∧ shw K k t = v ∧ 0 ≤ v) w0 a)
    (fun i q => q.2 = (i : Int) ∧ (0 ≤ q.1.1 ∧ q.1.1 ≤ 300) ∧ UPd ((n : Int) + 1) (fun v => ∃ k t : Nat, k < i ∧ (t : Int) ≤ kMi K ∧ P k t ∧ shw K k t = v ∧ 0 ≤ v) w0 q.1) (xK X).toNat ?_ ?_ (xK X).toNat 0 FU (w0, 0) (by omega) (by rw [FU_eq]; omega) ⟨rfl, ha, (UPd.rf _ _).cg (fun v => ⟨fun h => h.elim, fun ⟨k, t, h, _⟩ => by omega⟩)⟩
  · rintro fl i ⟨a, q⟩ hi ⟨rfl, hb, hu⟩
    dsimp only at hb hu ⊢
    have lp : ∃ a' : Int × Int, f_X0_deepest_L122 o FU σ z a.1 a.2 ((n : Int) + 1) i 0 (fun s41 x2 x3 x4 x5 x6 => f_X0_deepest_L110 o fl s41 x2 x3 x4 x5 (x6 + 1) k) = f_X0_deepest_L110 o fl σ z a'.1 a'.2 ((n : Int) + 1) ((i : Int) + 1) k ∧ (0 ≤ a'.1 ∧ a'.1 ≤ 300) ∧ UPd ((n : Int) + 1) (fun v => ∃ t : Nat, (t : Int) ≤ kMi K ∧ P i t ∧ shw K i t = v ∧ 0 ≤ v) a a' := by
      refine loop (S := (Int × Int) × Int) (fun f q => f_X0_deepest_L122 o f σ z q.1.1 q.1.2 ((n : Int) + 1) i q.2 (fun s41 x2 x3 x4 x5 x6 => f_X0_deepest_L110 o fl s41 x2 x3 x4 x5 (x6 + 1) k)) (fun w => ∃ a' : Int × Int, w = f_X0_deepest_L110 o fl σ z a'.1 a'.2 ((n : Int) + 1) ((i : Int) + 1) k ∧ (0 ≤ a'.1 ∧ a'.1 ≤ 300) ∧ UPd ((n : Int) + 1) (fun v => ∃ t : Nat, (t : Int) ≤ kMi K ∧ P i t ∧ shw K i t = v ∧ 0 ≤ v) a a')
        (fun j q => q.2 = (j : Int) ∧ (0 ≤ q.1.1 ∧ q.1.1 ≤ 300) ∧ UPd ((n : Int) + 1) (fun v => ∃ t : Nat, t < j ∧ P i t ∧ shw K i t = v ∧ 0 ≤ v) a q.1) (kMi K + 1).toNat ?_ ?_ (kMi K + 1).toNat 0 FU (a, 0) (by omega) (by rw [FU_eq]; omega) ⟨rfl, hb, (UPd.rf _ _).cg (fun v => ⟨fun h => h.elim, fun ⟨t, h, _⟩ => by omega⟩)⟩
      · rintro f j ⟨b, q⟩ hj ⟨rfl, hb, hu⟩
        dsimp only at hb hu ⊢
        have hr := hR i j (by omega) (by omega) (by omega) (by omega)
        have hs := shw_le hW (k := i) (t := j) (by omega) (by omega) (by omega) (by omega)
        have nS := n_S hW (k := i) (t := j) (by omega) (by omega) (by omega) (by omega)
        right
        rw [f_X0_deepest_L122]
        by_cases d : ci σ (o + 255 + (i : Int).toNat) j = 1
        · have hP := hr.2.mp d
          by_cases d2 : shw K i j < 0
          · refine ⟨(b, ((j + 1 : Nat) : Int)), ?_, rfl, hb, hu.cg (fun v => ⟨fun ⟨t, h1, h2⟩ => ⟨t, by omega, h2⟩, fun ⟨t, h1, h2, h3, h4⟩ => ⟨t, ?_, h2, h3, h4⟩⟩)⟩
            · simp (disch := omega) only [↓reduceIte, Bool.false_eq_true, nrm_i, ltT, ltF, leT, leF, eqT, eqF, not_true_eq_false, not_false_eq_true, and_self, and_true, true_and, false_and, and_false, or_true, true_or, or_false, false_or, ↓btS, ↓bnS, ↓bdS, ↓jnS, ↓obS, n_W hX hW, n_R hW, n_H hX hW, n_U hW, n_L hW, n_B hW, n_S hW, n_M hX, n_Ms hX, n_P, ↓i_t, ↓i_f, ↓man_t I, ↓man_f I, ↓room_t I, ↓room_f I, ↓mir_t I, ↓mir_f I, ↓pas_t I, ↓pas_f I, ↓h_men I, ↓h_rooms I, ↓h_mirrors I, ↓o_rcv hO, ↓o_gI hO, ↓o_g3 hO, ↓o_g7 hO, ↓o_g8 hO, ↓o_g12 hO, ↓c_ob hc, ↓cb_mi J, ↓c_g0b hc, ↓c_g1b hc, ↓c_g2b hc, ↓c_g3b hc, ↓c_g4b hc, ↓c_r0b hc, ↓c_r1b hc, ↓c_r2b hc, ↓c_r3b hc, ↓c_r4b hc, ↓cb_W J, ↓cb_R J, ↓cb_H J, ↓cb_U J, ↓cb_L J, ↓hb_shows J, ↓hb_menIn J, ↓hb_menShown J, ↓hb_isBroken J, ↓hb_bits, ↓o_g14 hO, ↓o_r254 hO, ↓o_a255 hO, d]; rfl
            · by_cases e : t = j
              · rw [e] at h3; omega
              · omega
          · refine ⟨(if shw K i j < b.1 then (shw K i j, (n : Int) + 1) else b, ((j + 1 : Nat) : Int)), ?_, rfl, ?_, (hu.st (shw K i j)).cg (fun v => ⟨fun h => ?_, fun ⟨t, h1, h2, h3, h4⟩ => ?_⟩)⟩
            · by_cases d3 : shw K i j < b.1
              · simp (disch := omega) only [↓reduceIte, Bool.false_eq_true, nrm_i, ltT, ltF, leT, leF, eqT, eqF, not_true_eq_false, not_false_eq_true, and_self, and_true, true_and, false_and, and_false, or_true, true_or, or_false, false_or, ↓btS, ↓bnS, ↓bdS, ↓jnS, ↓obS, n_W hX hW, n_R hW, n_H hX hW, n_U hW, n_L hW, n_B hW, n_S hW, n_M hX, n_Ms hX, n_P, ↓i_t, ↓i_f, ↓man_t I, ↓man_f I, ↓room_t I, ↓room_f I, ↓mir_t I, ↓mir_f I, ↓pas_t I, ↓pas_f I, ↓h_men I, ↓h_rooms I, ↓h_mirrors I, ↓o_rcv hO, ↓o_gI hO, ↓o_g3 hO, ↓o_g7 hO, ↓o_g8 hO, ↓o_g12 hO, ↓c_ob hc, ↓cb_mi J, ↓c_g0b hc, ↓c_g1b hc, ↓c_g2b hc, ↓c_g3b hc, ↓c_g4b hc, ↓c_r0b hc, ↓c_r1b hc, ↓c_r2b hc, ↓c_r3b hc, ↓c_r4b hc, ↓cb_W J, ↓cb_R J, ↓cb_H J, ↓cb_U J, ↓cb_L J, ↓hb_shows J, ↓hb_menIn J, ↓hb_menShown J, ↓hb_isBroken J, ↓hb_bits, ↓o_g14 hO, ↓o_r254 hO, ↓o_a255 hO, d]; rfl
              · simp (disch := omega) only [↓reduceIte, Bool.false_eq_true, nrm_i, ltT, ltF, leT, leF, eqT, eqF, not_true_eq_false, not_false_eq_true, and_self, and_true, true_and, false_and, and_false, or_true, true_or, or_false, false_or, ↓btS, ↓bnS, ↓bdS, ↓jnS, ↓obS, n_W hX hW, n_R hW, n_H hX hW, n_U hW, n_L hW, n_B hW, n_S hW, n_M hX, n_Ms hX, n_P, ↓i_t, ↓i_f, ↓man_t I, ↓man_f I, ↓room_t I, ↓room_f I, ↓mir_t I, ↓mir_f I, ↓pas_t I, ↓pas_f I, ↓h_men I, ↓h_rooms I, ↓h_mirrors I, ↓o_rcv hO, ↓o_gI hO, ↓o_g3 hO, ↓o_g7 hO, ↓o_g8 hO, ↓o_g12 hO, ↓c_ob hc, ↓cb_mi J, ↓c_g0b hc, ↓c_g1b hc, ↓c_g2b hc, ↓c_g3b hc, ↓c_g4b hc, ↓c_r0b hc, ↓c_r1b hc, ↓c_r2b hc, ↓c_r3b hc, ↓c_r4b hc, ↓cb_W J, ↓cb_R J, ↓cb_H J, ↓cb_U J, ↓cb_L J, ↓hb_shows J, ↓hb_menIn J, ↓hb_menShown J, ↓hb_isBroken J, ↓hb_bits, ↓o_g14 hO, ↓o_r254 hO, ↓o_a255 hO, d]; rfl
            · dsimp only
              split
              · dsimp only; omega
              · exact hb
            · rcases h with ⟨t, h1, h2⟩ | h
              · exact ⟨t, by omega, h2⟩
              · exact ⟨j, by omega, hP, h.symm, by omega⟩
            · by_cases e : t = j
              · rw [e] at h3; exact Or.inr h3.symm
              · exact Or.inl ⟨t, by omega, h2, h3, h4⟩
        · have d0 : ci σ (o + 255 + (i : Int).toNat) j = 0 := by omega
          refine ⟨(b, ((j + 1 : Nat) : Int)), ?_, rfl, hb, hu.cg (fun v => ⟨fun ⟨t, h1, h2⟩ => ⟨t, by omega, h2⟩, fun ⟨t, h1, h2, h3, h4⟩ => ⟨t, ?_, h2, h3, h4⟩⟩)⟩
          · simp (disch := omega) only [↓reduceIte, Bool.false_eq_true, nrm_i, ltT, ltF, leT, leF, eqT, eqF, not_true_eq_false, not_false_eq_true, and_self, and_true, true_and, false_and, and_false, or_true, true_or, or_false, false_or, ↓btS, ↓bnS, ↓bdS, ↓jnS, ↓obS, n_W hX hW, n_R hW, n_H hX hW, n_U hW, n_L hW, n_B hW, n_S hW, n_M hX, n_Ms hX, n_P, ↓i_t, ↓i_f, ↓man_t I, ↓man_f I, ↓room_t I, ↓room_f I, ↓mir_t I, ↓mir_f I, ↓pas_t I, ↓pas_f I, ↓h_men I, ↓h_rooms I, ↓h_mirrors I, ↓o_rcv hO, ↓o_gI hO, ↓o_g3 hO, ↓o_g7 hO, ↓o_g8 hO, ↓o_g12 hO, ↓c_ob hc, ↓cb_mi J, ↓c_g0b hc, ↓c_g1b hc, ↓c_g2b hc, ↓c_g3b hc, ↓c_g4b hc, ↓c_r0b hc, ↓c_r1b hc, ↓c_r2b hc, ↓c_r3b hc, ↓c_r4b hc, ↓cb_W J, ↓cb_R J, ↓cb_H J, ↓cb_U J, ↓cb_L J, ↓hb_shows J, ↓hb_menIn J, ↓hb_menShown J, ↓hb_isBroken J, ↓hb_bits, ↓o_g14 hO, ↓o_r254 hO, ↓o_a255 hO, d0]; rfl
          · by_cases e : t = j
            · rw [e] at h2; exact absurd (hr.2.mpr h2) d
            · omega
      · rintro f ⟨b, q⟩ ⟨rfl, hb, hu⟩
        dsimp only at hb hu ⊢
        refine ⟨b, ?_, hb, hu.cg (fun v => ⟨fun ⟨t, h1, h2⟩ => ⟨t, by omega, h2⟩, fun ⟨t, h1, h2⟩ => ⟨t, by omega, h2⟩⟩)⟩
        rw [f_X0_deepest_L122, o_g7 hO, cb_mi J, nrm_i (by omega) (by omega), nrm_i (by omega) (by omega), if_pos (by omega)]
    obtain ⟨a', e', hb', hu'⟩ := lp
    right
    refine ⟨(a', ((i + 1 : Nat) : Int)), ?_, rfl, hb', (hu.tr hu').cg (fun v => ⟨fun h => ?_, fun ⟨k, t, h1, h2, h3⟩ => ?_⟩)⟩
    · rw [f_X0_deepest_L110, o_rcv hO, h_mirrors I, nrm_i (by omega) (by omega), nrm_i (by omega) (by omega), if_neg (by omega), e']
      rfl
    · rcases h with ⟨k, t, h1, h2⟩ | ⟨t, h2⟩
      · exact ⟨k, t, by omega, h2⟩
      · exact ⟨i, t, by omega, h2⟩
    · by_cases e : k = i
      · rw [e] at h3; exact Or.inr ⟨t, h2, h3⟩
      · exact Or.inl ⟨k, t, by omega, h2, h3⟩
  · rintro fl ⟨a, q⟩ ⟨rfl, hb, hu⟩
    dsimp only at hb hu ⊢
    refine ⟨a, ?_, hu.cg (fun v => ⟨fun ⟨k, t, h1, h2⟩ => ⟨k, t, by omega, h2⟩, fun ⟨k, t, h1, h2⟩ => ⟨k, t, by omega, h2⟩⟩)⟩
    rw [f_X0_deepest_L110, o_rcv hO, h_mirrors I, nrm_i (by omega) (by omega), nrm_i (by omega) (by omega), if_pos (by omega)]
end
